/-! ===== THE PURE LAYER, base lemmas ===== -/
set_option maxRecDepth 100000
def pu_nwk (w : Cond) : Bool := match w with
  | .fieldLinkNest .. => true
  | .methodLinkNest .. => true
  | .castable .. => true
  | .declares .. => true
  | _ => false
theorem pu_nw_k : ∀ w ∈ pu_nw, pu_nwk w = true := by
  intro w hw
  have h : pu_nw.all pu_nwk = true := by rfl
  exact List.all_eq_true.mp h w hw
theorem pu_nw_on {w : Cond} (h : pu_nwk w = true) : w.onTables = true := by
  cases w <;> first | rfl | (simp [pu_nwk] at h)
theorem pu_nw_warm {w : Cond} (hk : pu_nwk w = true) {s U : State} (hW : s.WarmedH U.vm) (h : va_Nw w s) : va_Nw w U := by
  cases w <;> first | exact va_Nw.warmF hW h | exact va_Nw.warmM hW h | exact va_Nw.warmC hW h | exact va_Nw.warmD hW h | (simp [pu_nwk] at hk)
theorem pu_Z_moved {X : px} {u U : State} (hvm : u.vm.Alike U.vm) (h : pu_Z X u) : pu_Z X U := by
  obtain ⟨⟨w2, a1, a2, a3⟩, ⟨w3, b1, b2, b3⟩, ⟨w4, c1, c2, c3⟩, d1, d2, d3, d4, ⟨mi, e1, e2⟩, f1, f2, f3, f4, adK, adV, g1, g2⟩ := h
  exact ⟨⟨w2, a1, a2, a3.moved hvm⟩, ⟨w3, b1, b2.moved hvm, b3.moved hvm⟩, ⟨w4, c1, c2.moved hvm, c3.moved hvm⟩, d1.moved hvm, d2.moved hvm, d3.moved hvm, d4.moved hvm, ⟨mi, e1, e2.moved hvm⟩, f1.moved hvm, f2.moved hvm, f3.moved hvm, f4.moved hvm, adK, adV, g1, g2.moved hvm⟩
theorem pu_G_moved {X : px} {u U : State} (hvm : u.vm.Alike U.vm) (h : pu_G X u) : pu_G X U := by
  obtain ⟨kA, h1, h2⟩ := h
  obtain ⟨k', hk', he⟩ := hvm.2.2 _ _ h1
  exact ⟨k', hk', by rw [he]; exact h2⟩
theorem pu_C_moved {X : px} {s U : State} (hW : s.WarmedH U.vm) (h : pu_C X s) : pu_C X U := by
  obtain ⟨h0, h1, h2, h3, h4⟩ := h
  exact ⟨⟨h0.1, pu_G_moved hW.alike h0.2⟩, va_K.moved hW.alike h1, fun w hw => pu_nw_warm (pu_nw_k w hw) hW (h2 w hw), fun w hw => (h3 w hw).moved hW.alike, pu_Z_moved hW.alike h4⟩
theorem pu_blind {b : Bool} {X : px} {as : List pv} {h : ph} : FrameBlind (fun a U => a = (as.map (pu_v X)).toArray ∧ pu_H b X h U.heap ∧ pu_C X U) := by
  intro a U g mk ⟨h1, h2, h3⟩
  exact ⟨h1, h2, pu_C_moved (s := U) (State.WarmedH.refl U) h3⟩
theorem pu_at_size {X : px} {a : Nat} {σ : psh} {f : Int → Int} {H : Heap} (h : pu_at X a σ f H) : ∃ cell : Cell, H[a]? = some cell ∧ cell.slots.size = σ.2 ∧ cell.vm = .none := by
  obtain ⟨k, n⟩ := σ
  cases k with
  | inl c => obtain ⟨cell, q, h1, -, h3, h4, -⟩ := h; exact ⟨cell, h1, h4, h3⟩
  | inr t => exact ⟨_, h.2, arrV_size _ _ _, rfl⟩
theorem pu_sizes {b : Bool} {X : px} {h : ph} {H : Heap} (hH : pu_H b X h H) (k : Nat) : (H.toList.drop (xZ X + k)).map (·.slots.size) = (h.1.drop k).map (·.2) := by
  obtain ⟨h1, h2, h3, -⟩ := hH
  apply List.ext_getElem?
  intro i
  rw [List.getElem?_map, List.getElem?_map, List.getElem?_drop, List.getElem?_drop, Array.getElem?_toList]
  cases hq : h.1[k + i]? with
  | none =>
    have h4 : h.1.length ≤ k + i := by simpa using hq
    have h5 : H[xZ X + k + i]? = none := by
      apply Array.getElem?_eq_none
      omega
    rw [h5]; rfl
  | some σ =>
    obtain ⟨cell, e1, e2, -⟩ := pu_at_size (h3 (k + i) σ hq)
    rw [Nat.add_assoc, e1]
    simp [e2]
theorem pu_hs_append (g h : List psh) : pu_hs (g ++ h) = pu_hs g + pu_hs h := by simp [pu_hs]
theorem pu_hs_drop {g h : List psh} (hg : g <+: h) : ((h.drop g.length).map (·.2)).sum = pu_hs h - pu_hs g := by
  obtain ⟨t, rfl⟩ := hg
  rw [pu_hs_append, List.drop_left]
  show pu_hs t = _
  omega
theorem pu_hs_le {g h : List psh} (hg : g <+: h) : pu_hs g ≤ pu_hs h := by
  obtain ⟨t, rfl⟩ := hg
  rw [pu_hs_append]
  omega
section PuT
variable {p : Program} {l : Launch} {e : Env} {R : Room} {s : State} {m : MethodId} {args : Array Value} {below : List Frame} {meth : Method} {c : Code} {H : Heap} {locs : List Loc} {cells slots : Nat} {Q : State → Prop} {f : JFrame}
/-- the room used is what the heap says -/
theorem pu_tight {b : Bool} {X : px} {h : ph} {g : List psh} (hH : pu_H b X h H) (hsz : s.heap.size = xZ X + g.length) (hg : g <+: h.1) (k : W p l e R s m args below meth c H locs (h.1.length - g.length) (pu_hs h.1 - pu_hs g) Q f) : W p l e R s m args below meth c H locs cells slots Q f := by
  intro T hT Y
  refine k T hT { Y with same := ?_ }
  obtain ⟨e1, e2, e3, e4, e5, e6⟩ := Y.same
  have hT' : (T.setVm s.vm).heap = H := hT
  have hle := hg.length_le
  have hz := hH.1
  refine ⟨e1, e2, ?_, e4, ?_, e6⟩
  · rw [hT']; omega
  · rw [hT', hsz, pu_sizes hH, pu_hs_drop hg]
    exact Nat.le_refl _
theorem pu_tightX {b : Bool} {X : px} {h : ph} {g : List psh} {q : Addr} (hH : pu_H b X h H) (hsz : s.heap.size = xZ X + g.length) (hg : g <+: h.1) (k : vx_W p l e R s m args below meth c H locs (h.1.length - g.length) (pu_hs h.1 - pu_hs g) Q f q) : vx_W p l e R s m args below meth c H locs cells slots Q f q := by
  intro T hT Y
  refine k T hT { Y with same := ?_ }
  obtain ⟨e1, e2, e3, e4, e5, e6⟩ := Y.same
  have hT' : (T.setVm s.vm).heap = H := hT
  have hle := hg.length_le
  have hz := hH.1
  refine ⟨e1, e2, ?_, e4, ?_, e6⟩
  · rw [hT']; omega
  · rw [hT', hsz, pu_sizes hH, pu_hs_drop hg]
    exact Nat.le_refl _
end PuT
theorem i32_toInt {u : Int} (h : inR u) : (Int32.ofInt u).toInt = u := Int32.toInt_ofInt_of_le (by have := h.1; omega) (by have := h.2; omega)
theorem i32_lt {u v : Int} (hu : inR u) (hv : inR v) : Int32.ofInt u < Int32.ofInt v ↔ u < v := by rw [Int32.lt_iff_toInt_lt, i32_toInt hu, i32_toInt hv]
theorem i32_le {u v : Int} (hu : inR u) (hv : inR v) : Int32.ofInt u ≤ Int32.ofInt v ↔ u ≤ v := by rw [Int32.le_iff_toInt_le, i32_toInt hu, i32_toInt hv]
theorem i32_eq {u v : Int} (hu : inR u) (hv : inR v) : Int32.ofInt u = Int32.ofInt v ↔ u = v := by
  constructor
  · intro h
    have h2 := congrArg Int32.toInt h
    rwa [i32_toInt hu, i32_toInt hv] at h2
  · intro h; rw [h]
theorem i64_toInt {u : Int} (h : inL u) : (Int64.ofInt u).toInt = u := Int64.toInt_ofInt_of_le (by have := h.1; omega) (by have := h.2; omega)
theorem inR_0 : inR 0 := ⟨by decide, by decide⟩
theorem i32_nat {u : Int} (h0 : 0 ≤ u) (h : u < 2147483648) : (Int32.ofInt u).toNatClampNeg = u.toNat := Int32.toNatClampNeg_ofInt_of_le (by omega) (by omega)
theorem i32_in {u : Int} {n : Nat} (h0 : 0 ≤ u) (h : u < n) (hn : n < 2147483648) : ¬ (Int32.ofInt u < 0 ∨ n ≤ (Int32.ofInt u).toNatClampNeg) := by
  rw [i32_nat h0 (by omega)]
  intro hq
  rcases hq with hq | hq
  · have h1 : Int32.ofInt u < Int32.ofInt 0 := hq
    rw [i32_lt ⟨by omega, by omega⟩ inR_0] at h1
    omega
  · omega
