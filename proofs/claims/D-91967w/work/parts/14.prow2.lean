/-! ===== THE PURE LAYER: rows of fields and arrays ===== -/
set_option maxRecDepth 100000
/-- a class by its number: its names, its words -/
def pu_K (c : Nat) (C : String) (T : u_T) (N : Nat) : Prop := pu_cl[c]? = some (C, T, N) ∧ (∀ w ∈ u_ws C T N, w ∈ lw_all) ∧ (∀ k, k < N → parseFieldDescriptor (T k).2.2.1 = some (pu_ft c k)) ∧ (∀ a, a < N → ∀ b, b < N → a ≠ b → (T a).2.1 ≠ (T b).2.1)
theorem pK0 : pu_K 0 RX0 TX0 30 := ⟨rfl, in_X0, tyX0_ok, nmX0⟩
theorem pK1 : pu_K 1 RX1 TX1 5 := ⟨rfl, in_X1, tyX1_ok, nmX1⟩
theorem pK2 : pu_K 2 RX2 TX2 6 := ⟨rfl, in_X2, tyX2_ok, nmX2⟩
theorem pK3 : pu_K 3 RX3 TX3 9 := ⟨rfl, in_X3, tyX3_ok, nmX3⟩
theorem pK4 : pu_K 4 RJ2 TJ2 3 := ⟨rfl, in_J2, tyJ2_ok, nmJ2⟩
theorem pK5 : pu_K 5 RX9 TX9 1 := ⟨rfl, in_X9, tyX9_ok, nmX9⟩
theorem pK6 : pu_K 6 RX5 TX5 1 := ⟨rfl, in_X5, tyX5_ok, nmX5⟩
theorem pK7 : pu_K 7 RX10 TX10 1 := ⟨rfl, in_X10, tyX10_ok, nmX10⟩
theorem pK8 : pu_K 8 RX11 TX11 3 := ⟨rfl, in_X11, tyX11_ok, nmX11⟩
theorem pK9 : pu_K 9 RX8 TX8 3 := ⟨rfl, in_X8, tyX8_ok, nmX8⟩
theorem pK10 : pu_K 10 RX12 TX12 2 := ⟨rfl, in_X12, tyX12_ok, nmX12⟩
theorem pK11 : pu_K 11 RX7 TX7 8 := ⟨rfl, in_X7, tyX7_ok, nmX7⟩
theorem pK12 : pu_K 12 RX6 TX6 60 := ⟨rfl, in_X6, tyX6_ok, nmX6⟩
theorem pu_hs_mem {g : List psh} {k : Nat} {σ : psh} (h : g[k]? = some σ) : σ.2 ≤ pu_hs g := by
  induction g generalizing k with
  | nil => cases h
  | cons q t ih =>
    have e : pu_hs (q :: t) = q.2 + pu_hs t := by simp [pu_hs]
    cases k with
    | zero => cases h; omega
    | succ k =>
      have := ih (k := k) h
      omega
theorem pu_rf_nat (X : px) (n : Nat) : pu_rf X (n : Int) = some (xZ X + n) := by simp [pu_rf]
/-- a cell of a known shape: where it lies -/
theorem pu_cell {b : Bool} {X : px} {h : ph} {H : Heap} {a : Int} {σ : psh} (hs : pu_sh b h a σ) (hH : pu_H b X h H) : ∃ n : Nat, a = n ∧ h.1[n]? = some σ ∧ pu_at X (xZ X + n) σ (h.2 a) H ∧ pu_rf X a = some (xZ X + n) ∧ σ.2 < 2147483648 := by
  have h1 := hs (fun hb => (hH.2.2.2.2.2 hb).1)
  unfold shp at h1
  split at h1
  · rename_i ha
    have e : a = (a.toNat : Int) := by omega
    refine ⟨a.toNat, e, h1, ?_, ?_, ?_⟩
    · have := hH.2.2.1 _ _ h1
      rw [← e] at this
      exact this
    · conv => lhs; rw [e]
      exact pu_rf_nat X _
    · have := pu_hs_mem h1
      have := hH.2.2.2.2.1
      omega
  · cases h1
theorem pu_at_kept {X : px} {a : Nat} {σ : psh} {f : Int → Int} {H H' : Heap} (h : pu_at X a σ f H) (hq : H'[a]? = H[a]?) : pu_at X a σ f H' := by
  obtain ⟨k, n⟩ := σ
  cases k with
  | inl c => obtain ⟨cell, q, h1, h2⟩ := h; exact ⟨cell, q, hq.trans h1, h2⟩
  | inr t => exact ⟨h.1, hq.trans h.2⟩
theorem pu_up_ne {M : Int → Int → Int} {a i v : Int} {x : Int} (h : x ≠ a) : pu_up M a i v x = M x := by
  funext j
  simp [pu_up, h]
theorem pu_H_put {b : Bool} {X : px} {h : ph} {H H' : Heap} {n : Nat} {σ : psh} {i v : Int} (hH : pu_H b X h H) (hn : h.1[n]? = some σ) (hc : pu_nc_ b n i) (hz : H'.size = H.size) (ho : ∀ q, q ≠ xZ X + n → H'[q]? = H[q]?) (ha : pu_at X (xZ X + n) σ (pu_up h.2 n i v n) H') : pu_H b X (h.1, pu_up h.2 n i v) H' := by
  obtain ⟨h1, h2, h3, h4, h5, h6⟩ := hH
  refine ⟨hz.trans h1, fun q hq => (ho q (by omega)).trans (h2 q hq), fun k τ hk => ?_, h4, h5, fun hb => ⟨(h6 hb).1, fun q hq => ?_⟩⟩
  · by_cases hkn : k = n
    · subst hkn
      cases hn.symm.trans hk
      exact ha
    · have hk' : (k : Int) ≠ n := by omega
      show pu_at X (xZ X + k) τ (pu_up h.2 n i v k) H'
      rw [pu_up_ne hk']
      exact pu_at_kept (h3 k τ hk) (ho _ (by omega))
  · have h7 := (h6 hb).2 q hq
    have h8 := hc hb q hq
    show pu_up h.2 n i v q.1 q.2.1 = q.2.2
    unfold pu_up
    rw [if_neg h8]
    exact h7
theorem pu_tys_get (X : px) {t : Nat} (ht : t < 9) : (pu_tys X)[t]? = some (xA X t, pu_ty t) := by
  unfold pu_tys
  rw [List.getElem?_map, List.getElem?_range ht]
  rfl
theorem pu_arrOf {X : px} {s : State} (hC : pu_C X s) {t : Nat} (ht : t < 9) : ArrOfT s (xA X t) (pu_ty t) ∧ va_RA s (xA X t) (pu_ty t) := hC.2.1.2 t _ (pu_tys_get X ht)
theorem pu_arr_put {X : px} {t N n : Nat} {M : Int → Int → Int} {i v : Int} {x : Value} (h0 : 0 ≤ i) (hx : x = pu_cv X (pu_ty t) v) : (arrV (xA X t) N (fun j => pu_cv X (pu_ty t) (M n j))).setSlot i.toNat x = arrV (xA X t) N (fun j => pu_cv X (pu_ty t) (pu_up M n i v n j)) := by
  rw [arrV_store]
  congr 1
  funext j
  by_cases hj : j = i.toNat
  · subst hj
    have e : ((i.toNat : Nat) : Int) = i := by omega
    simp [updV, pu_up, e, hx]
  · have e : ¬ ((j : Int) = i) := by omega
    simp [updV, pu_up, hj, e]
section PuH
variable {b : Bool} {X : px} {y : pmd} {d pc : Nat} {ls : List (Nat × pv)} {st : List pv} {h : ph} {Q : po → ph → Prop}
theorem pu_lo {locs : List Loc} {a i n : Nat} (hlo : ∀ q ∈ locs, xZ X ≤ q.base) (ha : a = xZ X + n) : ∀ q ∈ locs ++ [(⟨a, i⟩ : Loc)], xZ X ≤ q.base := by
  intro q hq
  rcases List.mem_append.mp hq with hq | hq
  · exact hlo q hq
  · rw [List.mem_singleton.mp hq]
    show xZ X ≤ a
    omega
/-- the value of a field -/
theorem pu_getV {p : Program} {e : Env} {s : State} {m : MethodId} {args : Array Value} {below : List Frame} {meth : Method} {c : Code} {H : Heap} {locs : List Loc} {cells slots : Nat} {lsa : Array Slot} {R : Room} {QQ : State → Prop} {rest : List Value} {a : Int} {ci j N index : Nat} {own ref C : String} {T : u_T} (hM : pu_M X y p s m args meth c) (hH : pu_H b X h H) (hK : pu_K ci C T N) (hy : y.1.cls = own) (hj : j < N) (hlink : Cond.fieldLink own index ref (T j).2.1 (T j).2.2.1 ∈ lw_all) (hsame : (T j).1 = ref ∨ Cond.sameField ref (T j).1 (T j).2.1 (T j).2.2.1 ∈ lw_all) (hd : decode y.2.1 pc = .ok (.getfield index, 3)) (hs : pu_sh b h a (.inl ci, N))
    (k : W p (xL X) e R s m args below meth c H locs cells slots QQ (F0 m (pc + 3) lsa (pu_cv X (pu_ft ci j) (h.2 a j) :: rest))) : W p (xL X) e R s m args below meth c H locs cells slots QQ (F0 m pc lsa (va_rf (pu_rf X a) :: rest)) := by
  obtain ⟨n, rfl, h1, ⟨cell, q, q1, q2, q3, q4, q5, q6, q7⟩, hr, -⟩ := pu_cell hs hH
  obtain ⟨hx, hb, -, -, -, hown, -, hts, hC, -⟩ := hM
  obtain ⟨hS, hfc, kC, hkC, hkind⟩ := hC.2.1.1 ci _ hK.1
  obtain ⟨cf, kf, fi, f, hi, hsl⟩ := hS j hj
  rw [hr]
  have hsm : s.fieldFound? ref (T j).2.1 (T j).2.2.1 = some (cf, kf, fi, f) := by
    rcases hsame with e | e
    · rw [← e]; exact hi
    · exact u_same (hts _ e) _ hi
  refine W.getf hx hb (by rw [← hy]; exact hown) (hts _ hlink) hsm (u_facts hfc hkC (u_lays hts hK.2.1 hj) hi).1 q1 (by rw [q3]; exact fun h => by cases h) (v := pu_cv X (pu_ft ci j) (h.2 n j)) ?_ rfl rfl hd k
  rw [hsl]
  exact q7 j hj
theorem pu_getVN {p : Program} {e : Env} {s : State} {m : MethodId} {args : Array Value} {below : List Frame} {meth : Method} {c : Code} {H : Heap} {locs : List Loc} {cells slots : Nat} {lsa : Array Slot} {R : Room} {QQ : State → Prop} {rest : List Value} {a : Int} {ci j N index : Nat} {own ref C host : String} {T : u_T} (hM : pu_M X y p s m args meth c) (hH : pu_H b X h H) (hK : pu_K ci C T N) (hy : y.1.cls = own) (hj : j < N) (hlink : Cond.fieldLinkNest own index ref (T j).2.1 (T j).2.2.1 host ∈ pu_nw) (hsame : (T j).1 = ref) (hd : decode y.2.1 pc = .ok (.getfield index, 3)) (hs : pu_sh b h a (.inl ci, N))
    (k : W p (xL X) e R s m args below meth c H locs cells slots QQ (F0 m (pc + 3) lsa (pu_cv X (pu_ft ci j) (h.2 a j) :: rest))) : W p (xL X) e R s m args below meth c H locs cells slots QQ (F0 m pc lsa (va_rf (pu_rf X a) :: rest)) := by
  obtain ⟨n, rfl, h1, ⟨cell, q, q1, q2, q3, q4, q5, q6, q7⟩, hr, -⟩ := pu_cell hs hH
  obtain ⟨hx, hb, -, -, -, hown, -, hts, hC, -⟩ := hM
  obtain ⟨hS, hfc, kC, hkC, hkind⟩ := hC.2.1.1 ci _ hK.1
  obtain ⟨cf, kf, fi, f, hi, hsl⟩ := hS j hj
  rw [hr]
  refine va_Wgetf hx hb (by rw [← hy]; exact hown) (va_Nw.use rfl (hC.2.2.1 _ hlink)) (hsame ▸ hi) (u_facts hfc hkC (u_lays hts hK.2.1 hj) hi).1 q1 (by rw [q3]; exact fun h => by cases h) (v := pu_cv X (pu_ft ci j) (h.2 n j)) ?_ rfl rfl hd k
  rw [hsl]
  exact q7 j hj
theorem pu_getf {a : Int} {ci j N index : Nat} {own ref C : String} {T : u_T} {v : pv} (hK : pu_K ci C T N) (hy : y.1.cls = own) (hj : j < N) (hlink : Cond.fieldLink own index ref (T j).2.1 (T j).2.2.1 ∈ lw_all) (hsame : (T j).1 = ref ∨ Cond.sameField ref (T j).1 (T j).2.1 (T j).2.2.1 ∈ lw_all) (hv : ∀ X : px, pu_cv X (pu_ft ci j) (h.2 a j) = pu_v X v) (hd : decode y.2.1 pc = .ok (.getfield index, 3)) (hs : pu_sh b h a (.inl ci, N))
    (k : pw b X y d (pc + 3) ls (v :: st) h Q) : pw b X y d pc ls (pR a :: st) h Q := by
  intro p e s m args below meth c H locs cells slots lsa g hM hsz hg hH hlo hl
  refine pu_getV hM hH hK hy hj hlink hsame hd hs ?_
  rw [hv X]
  exact k p e s m args below meth c H locs cells slots lsa g hM hsz hg hH hlo hl
theorem pu_getfN {a : Int} {ci j N index : Nat} {own ref C host : String} {T : u_T} {v : pv} (hK : pu_K ci C T N) (hy : y.1.cls = own) (hj : j < N) (hlink : Cond.fieldLinkNest own index ref (T j).2.1 (T j).2.2.1 host ∈ pu_nw) (hsame : (T j).1 = ref) (hv : ∀ X : px, pu_cv X (pu_ft ci j) (h.2 a j) = pu_v X v) (hd : decode y.2.1 pc = .ok (.getfield index, 3)) (hs : pu_sh b h a (.inl ci, N))
    (k : pw b X y d (pc + 3) ls (v :: st) h Q) : pw b X y d pc ls (pR a :: st) h Q := by
  intro p e s m args below meth c H locs cells slots lsa g hM hsz hg hH hlo hl
  refine pu_getVN hM hH hK hy hj hlink hsame hd hs ?_
  rw [hv X]
  exact k p e s m args below meth c H locs cells slots lsa g hM hsz hg hH hlo hl
/-- a constant field of a permanent cell -/
theorem pu_cons_at {X : px} {h : ph} {H : Heap} (hH : pu_H true X h H) {a j v : Int} (hc : (a, j, v) ∈ pu_cons) : h.2 a j = v := (hH.2.2.2.2.2 rfl).2 _ hc
theorem pu_getc {a v : Int} {ci j N index : Nat} {own ref C : String} {T : u_T} (hK : pu_K ci C T N) (hy : y.1.cls = own) (hj : j < N) (hlink : Cond.fieldLink own index ref (T j).2.1 (T j).2.2.1 ∈ lw_all) (hsame : (T j).1 = ref ∨ Cond.sameField ref (T j).1 (T j).2.1 (T j).2.2.1 ∈ lw_all) (hv : ∀ (X : px) (z : Int), pu_cv X (pu_ft ci j) z = pu_v X (pR z)) (hd : decode y.2.1 pc = .ok (.getfield index, 3)) (hs : pu_sh true h a (.inl ci, N)) (hc : (a, (j : Int), v) ∈ pu_cons)
    (k : pw true X y d (pc + 3) ls (pR v :: st) h Q) : pw true X y d pc ls (pR a :: st) h Q := by
  intro p e s m args below meth c H locs cells slots lsa g hM hsz hg hH hlo hl
  refine pu_getV hM hH hK hy hj hlink hsame hd hs ?_
  rw [hv X, pu_cons_at hH hc]
  exact k p e s m args below meth c H locs cells slots lsa g hM hsz hg hH hlo hl
theorem pu_getcN {a v : Int} {ci j N index : Nat} {own ref C host : String} {T : u_T} (hK : pu_K ci C T N) (hy : y.1.cls = own) (hj : j < N) (hlink : Cond.fieldLinkNest own index ref (T j).2.1 (T j).2.2.1 host ∈ pu_nw) (hsame : (T j).1 = ref) (hv : ∀ (X : px) (z : Int), pu_cv X (pu_ft ci j) z = pu_v X (pR z)) (hd : decode y.2.1 pc = .ok (.getfield index, 3)) (hs : pu_sh true h a (.inl ci, N)) (hc : (a, (j : Int), v) ∈ pu_cons)
    (k : pw true X y d (pc + 3) ls (pR v :: st) h Q) : pw true X y d pc ls (pR a :: st) h Q := by
  intro p e s m args below meth c H locs cells slots lsa g hM hsz hg hH hlo hl
  refine pu_getVN hM hH hK hy hj hlink hsame hd hs ?_
  rw [hv X, pu_cons_at hH hc]
  exact k p e s m args below meth c H locs cells slots lsa g hM hsz hg hH hlo hl
/-- the slots of an object after a write -/
theorem pu_obj_put {a n ci j N : Nat} {σ : psh} {cell : Cell} {q : vw_C} {z : Int} {H' : Heap} (hap : ∀ x y, x < N → y < N → x ≠ y → xI X ci x ≠ xI X ci y) (hj : j < N) (q2 : cell.cls = xC X ci) (q3 : cell.vm = .none) (q4 : cell.slots.size = N) (q5 : pu_cl[ci]? = some q) (q6 : q.2.2 = N) (q7 : ∀ k : Nat, k < N → cell.slots[xI X ci k]? = some (pu_cv X (pu_ft ci k) (h.2 n k))) (e1 : H'[a]? = some (cell.setSlot (xI X ci j) (pu_cv X (pu_ft ci j) z))) : pu_at X a (.inl ci, N) (pu_up h.2 n j z n) H' := by
  refine ⟨_, q, e1, q2, q3, by simp [Cell.setSlot, q4], q5, q6, fun k hk => ?_⟩
  have h8 := t_set (V := fun k => pu_cv X (pu_ft ci k) (h.2 n k)) q7 hap hj (pu_cv X (pu_ft ci j) z) k hk
  rw [h8]
  by_cases hkj : k = j
  · subst hkj; simp [updV, pu_up]
  · have e : ¬ ((k : Int) = j) := by omega
    simp [updV, pu_up, hkj, e]
theorem pu_fits {X : px} {ty : FieldType} {z : Int} (hz : narrow ty (pu_cv X ty z) = pu_cv X ty z) : narrow ty (pu_cv X ty z) = pu_cv X ty z ∧ (fits ty (pu_cv X ty z) = true ∨ True) := ⟨hz, Or.inr trivial⟩
theorem pu_putf {a z : Int} {v : pv} {ci j N index : Nat} {own ref C : String} {T : u_T} (hK : pu_K ci C T N) (hy : y.1.cls = own) (hj : j < N) (hlink : Cond.fieldLink own index ref (T j).2.1 (T j).2.2.1 ∈ lw_all) (hsame : (T j).1 = ref ∨ Cond.sameField ref (T j).1 (T j).2.1 (T j).2.2.1 ∈ lw_all) (hfin : (T j).2.2.2 = false) (hv : ∀ X : px, pu_cv X (pu_ft ci j) z = pu_v X v ∧ narrow (pu_ft ci j) (pu_cv X (pu_ft ci j) z) = pu_cv X (pu_ft ci j) z ∧ fits (pu_ft ci j) (pu_cv X (pu_ft ci j) z) = true) (hd : decode y.2.1 pc = .ok (.putfield index, 3)) (hs : pu_sh b h a (.inl ci, N)) (hc : pu_nc_ b a j)
    (k : pw b X y d (pc + 3) ls st (h.1, pu_up h.2 a j z) Q) : pw b X y d pc ls (v :: pR a :: st) h Q := by
  intro p e s m args below meth c H locs cells slots lsa g hM hsz hg hH hlo hl
  obtain ⟨n, rfl, h1, ⟨cell, q, q1, q2, q3, q4, q5, q6, q7⟩, hr, -⟩ := pu_cell hs hH
  obtain ⟨hx, hb, -, -, -, hown, -, hts, hC, -⟩ := id hM
  obtain ⟨hS, hfc, kC, hkC, hkind⟩ := hC.2.1.1 ci _ hK.1
  obtain ⟨cf, kf, fi, f, hi, hsl⟩ := hS j hj
  have hap := va_apart (own := own) hts hK.2.1 (pu_ft ci) hK.2.2.1 hK.2.2.2 hC.2.1 hK.1
  have hlay := hts _ (hK.2.1 _ (u_in_lay hj))
  unfold u_lay at hlay
  rw [if_neg (by rw [hfin]; decide)] at hlay
  have hst := (u_facts hfc hkC (u_lays hts hK.2.1 hj) hi).1
  obtain ⟨hv1, hv2, hv3⟩ := hv X
  have h6 := u_store hfc hkC hkind hlay hi (hK.2.2.1 j hj) hv2 hv3
  have hsm : s.fieldFound? ref (T j).2.1 (T j).2.2.1 = some (cf, kf, fi, f) := by
    rcases hsame with e | e
    · rw [← e]; exact hi
    · exact u_same (hts _ e) _ hi
  show W _ _ _ _ _ _ _ _ _ _ _ _ _ _ _ (F0 m pc lsa (pu_v X v :: va_rf (pu_rf X n) :: st.map (pu_v X)))
  rw [hr, ← hv1]
  refine W.putK hx hb (f := f) ⟨by rw [← hy]; exact hown, hts _ hlink, ⟨_, _, _, hsm⟩, hst⟩ (by rw [q2]; exact h6) q1 q3 (by rw [hsl]; exact k2_hasslot (q7 j hj)) rfl rfl hd fun H' e1 e2 e3 => ?_
  rw [hsl] at e1 ⊢
  exact k p e s m args below meth c H' _ cells slots lsa g hM hsz hg (pu_H_put hH h1 hc e2 e3 (pu_obj_put (σ := (.inl ci, N)) hap hj q2 q3 q4 q5 q6 q7 e1)) (pu_lo hlo rfl) hl
theorem pu_putfN {a z : Int} {v : pv} {ci j N index : Nat} {own ref C host : String} {T : u_T} (hK : pu_K ci C T N) (hy : y.1.cls = own) (hj : j < N) (hlink : Cond.fieldLinkNest own index ref (T j).2.1 (T j).2.2.1 host ∈ pu_nw) (hsame : (T j).1 = ref) (hfin : (T j).2.2.2 = false) (hv : ∀ X : px, pu_cv X (pu_ft ci j) z = pu_v X v ∧ narrow (pu_ft ci j) (pu_cv X (pu_ft ci j) z) = pu_cv X (pu_ft ci j) z ∧ fits (pu_ft ci j) (pu_cv X (pu_ft ci j) z) = true) (hd : decode y.2.1 pc = .ok (.putfield index, 3)) (hs : pu_sh b h a (.inl ci, N)) (hc : pu_nc_ b a j)
    (k : pw b X y d (pc + 3) ls st (h.1, pu_up h.2 a j z) Q) : pw b X y d pc ls (v :: pR a :: st) h Q := by
  intro p e s m args below meth c H locs cells slots lsa g hM hsz hg hH hlo hl
  obtain ⟨n, rfl, h1, ⟨cell, q, q1, q2, q3, q4, q5, q6, q7⟩, hr, -⟩ := pu_cell hs hH
  obtain ⟨hx, hb, -, -, -, hown, -, hts, hC, -⟩ := id hM
  obtain ⟨hS, hfc, kC, hkC, hkind⟩ := hC.2.1.1 ci _ hK.1
  obtain ⟨cf, kf, fi, f, hi, hsl⟩ := hS j hj
  have hap := va_apart (own := own) hts hK.2.1 (pu_ft ci) hK.2.2.1 hK.2.2.2 hC.2.1 hK.1
  have hlay := hts _ (hK.2.1 _ (u_in_lay hj))
  unfold u_lay at hlay
  rw [if_neg (by rw [hfin]; decide)] at hlay
  have hst := (u_facts hfc hkC (u_lays hts hK.2.1 hj) hi).1
  obtain ⟨hv1, hv2, hv3⟩ := hv X
  have h6 := u_store hfc hkC hkind hlay hi (hK.2.2.1 j hj) hv2 hv3
  show W _ _ _ _ _ _ _ _ _ _ _ _ _ _ _ (F0 m pc lsa (pu_v X v :: va_rf (pu_rf X n) :: st.map (pu_v X)))
  rw [hr, ← hv1]
  refine va_WputK hx hb (f := f) (by rw [← hy]; exact hown) (va_Nw.use rfl (hC.2.2.1 _ hlink)) (hsame ▸ hi) hst (by rw [q2]; exact h6) q1 q3 (by rw [hsl]; exact k2_hasslot (q7 j hj)) rfl rfl hd fun H' e1 e2 e3 => ?_
  rw [hsl] at e1 ⊢
  exact k p e s m args below meth c H' _ cells slots lsa g hM hsz hg (pu_H_put hH h1 hc e2 e3 (pu_obj_put (σ := (.inl ci, N)) hap hj q2 q3 q4 q5 q6 q7 e1)) (pu_lo hlo rfl) hl
/-- a final field in its class's constructor -/
theorem pu_putF {a z : Int} {v : pv} {ci j N index : Nat} {own ref C : String} {T : u_T} (hK : pu_K ci C T N) (hy : y.1.cls = own) (hyn : y.1.name = "<init>") (hj : j < N) (hlink : Cond.fieldLink own index ref (T j).2.1 (T j).2.2.1 ∈ lw_all) (hsame : (T j).1 = ref) (hfin : (T j).2.2.2 = true) (hdecl : (T j).1 = own) (hv : ∀ X : px, pu_cv X (pu_ft ci j) z = pu_v X v ∧ narrow (pu_ft ci j) (pu_cv X (pu_ft ci j) z) = pu_cv X (pu_ft ci j) z ∧ fits (pu_ft ci j) (pu_cv X (pu_ft ci j) z) = true) (hd : decode y.2.1 pc = .ok (.putfield index, 3)) (hs : pu_sh b h a (.inl ci, N)) (hc : pu_nc_ b a j)
    (k : pw b X y d (pc + 3) ls st (h.1, pu_up h.2 a j z) Q) : pw b X y d pc ls (v :: pR a :: st) h Q := by
  intro p e s m args below meth c H locs cells slots lsa g hM hsz hg hH hlo hl
  obtain ⟨n, rfl, h1, ⟨cell, q, q1, q2, q3, q4, q5, q6, q7⟩, hr, -⟩ := pu_cell hs hH
  obtain ⟨hx, hb, -, -, -, hown, hnm, hts, hC, -⟩ := id hM
  obtain ⟨hS, hfc, kC, hkC, hkind⟩ := hC.2.1.1 ci _ hK.1
  obtain ⟨cf, kf, fi, f, hi, hsl⟩ := hS j hj
  have hap := va_apart (own := own) hts hK.2.1 (pu_ft ci) hK.2.2.1 hK.2.2.2 hC.2.1 hK.1
  have hlay := hts _ (hK.2.1 _ (u_in_lay hj))
  unfold u_lay at hlay
  rw [if_pos hfin] at hlay
  have hst := (u_facts hfc hkC (u_lays hts hK.2.1 hj) hi).1
  rw [hy] at hown
  have hcf : m.cls = cf := by
    obtain ⟨_, _, c', _, _, _, -, -, hf', -, -, -, hown2, -⟩ := Cond.laysFinal_spec hlay
    have e1 : c' = cf := by have := hi.symm.trans hf'; simp at this; exact this.1.symm
    rw [hdecl] at hown2
    rw [← e1]; exact Option.some.inj (hown.symm.trans hown2)
  obtain ⟨hv1, hv2, hv3⟩ := hv X
  have h6 := u_fits hfc hkC hkind (Or.inr hlay) hi (hK.2.2.1 j hj) hv2 hv3
  show W _ _ _ _ _ _ _ _ _ _ _ _ _ _ _ (F0 m pc lsa (pu_v X v :: va_rf (pu_rf X n) :: st.map (pu_v X)))
  rw [hr, ← hv1]
  refine W.putFinK hx hb hown (hts _ hlink) (hsame ▸ hi) hst hcf (hnm.trans hyn) (by rw [q2]; exact h6) q1 q3 (by rw [hsl]; exact k2_hasslot (q7 j hj)) rfl rfl hd fun H' e1 e2 e3 => ?_
  rw [hsl] at e1 ⊢
  exact k p e s m args below meth c H' _ cells slots lsa g hM hsz hg (pu_H_put hH h1 hc e2 e3 (pu_obj_put (σ := (.inl ci, N)) hap hj q2 q3 q4 q5 q6 q7 e1)) (pu_lo hlo rfl) hl
end PuH
