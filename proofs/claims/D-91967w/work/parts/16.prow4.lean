/-! ===== THE PURE LAYER: calls ===== -/
set_option maxRecDepth 100000
theorem pu_room_mono {d d' n k : Nat} (h : d ≤ d') : (pu_room d n k).frames ≤ (pu_room d' n k).frames ∧ (pu_room d n k).locals ≤ (pu_room d' n k).locals := ⟨h, Nat.mul_le_mul_left 60 h⟩
section PuC
variable {b : Bool} {X : px} {y : pmd} {d pc : Nat} {ls : List (Nat × pv)} {st : List pv} {h : ph} {Q : po → ph → Prop}
variable {p : Program} {e : Env} {s : State} {m : MethodId} {args : Array Value} {below : List Frame} {meth : Method} {c : Code} {H : Heap} {locs : List Loc} {cells slots : Nat} {lsa : Array Slot} {g : List psh}
theorem pu_initw {C : String} {args' : Array Value} (hini : (Cond.initialized C).before args' s = true) : ∀ (a' : Array Value) (U : State), s.WarmedH U.vm → (Cond.initialized C).before a' U = true :=
  fun a' U hW => word_at hW (Or.inl (by first | rfl | simp [Cond.onTables, Cond.keeps, Cond.steady])) hini
theorem pS_back {y2 : pmd} {d2 : Nat} {as : List pv} {Q2 : po → ph → Prop} (hS : pS b X y2 d2 as h Q2) (hd2 : d2 + 1 ≤ d) (hL : y2.2.2.1 ≤ 41) (hcode : Cond.code y2.1 y2.2.1 y2.2.2.1 y2.2.2.2 ∈ lw_all) (hini : Cond.initialized y2.1.cls ∈ lw_all) (hts : ∀ w ∈ lw_all, w.before args s = true) :
    vx_Back (xL X) (pu_room d g.length (pu_hs g)) p e below s args y2.1 3 8 (PreOf (pu_room d g.length (pu_hs g)) (601024 - h.1.length) (7293034 - pu_hs h.1) (fun a U => a = (as.map (pu_v X)).toArray ∧ pu_H b X h U.heap ∧ pu_C X U)) (PostOf (pu_Qc b X h.1 Q2) (601024 - h.1.length) (7293034 - pu_hs h.1) (fun q => xZ X ≤ q)) (pu_Post (pu_XC b X h.1 Q2) (601024 - h.1.length) (7293034 - pu_hs h.1) (fun q => xZ X ≤ q)) := by
  refine pu_back (bytes := y2.2.1) (maxL := y2.2.2.1) (ret := y2.2.2.2) hS pu_blind rfl rfl hd2 ?_ (pay_in hts (lw_meth hcode)) List.mem_cons_self (pu_initw (hts _ hini))
  show 8 + (y2.2.2.1 + 11) + 60 * d2 ≤ 60 * d
  omega
/-- what is asked at a call -/
theorem pu_pre {as : List pv} {T : State} (hT : T.heap = H) (hH : pu_H b X h H) (hsz : s.heap.size = xZ X + g.length) (hg : g <+: h.1) (hC : pu_C X s) {al : Array Value} (hal : al = (as.map (pu_v X)).toArray) : ∀ vm₁, s.WarmedH vm₁ → PreOf (pu_room d g.length (pu_hs g)) (601024 - h.1.length) (7293034 - pu_hs h.1) (fun a U => a = (as.map (pu_v X)).toArray ∧ pu_H b X h U.heap ∧ pu_C X U) ⟨T.setVm vm₁, locs, h.1.length - g.length, pu_hs h.1 - pu_hs g⟩ al := by
  intro vm₁ hW
  have hle := hg.length_le
  have hsl := pu_hs_le hg
  have h1 := hH.2.2.2.1
  have h2 := hH.2.2.2.2.1
  refine ⟨?_, ?_, hal, ?_, ?_⟩
  · show h.1.length - g.length + (601024 - h.1.length) ≤ 601024 - g.length
    omega
  · show pu_hs h.1 - pu_hs g + (7293034 - pu_hs h.1) ≤ 7293034 - pu_hs g
    omega
  · show pu_H b X h T.heap
    rw [hT]; exact hH
  · exact pu_C_moved (s := s) hW hC
/-- a call's two ends, and how it goes on -/
theorem pu_cont {y2 : pmd} {as : List pv} {Q2 : po → ph → Prop} {T : State} {st0 : List Value} {al : Array Value} (hM : pu_M X y p s m args meth c) (hsz : s.heap.size = xZ X + g.length) (hg : g <+: h.1) (hlo : ∀ q ∈ locs, xZ X ≤ q.base) (hl : lv_has lsa y.2.2.1 (pu_ls X ls))
    (kn : ∀ (r : Option pv) (h' : ph), h.1 <+: h'.1 → Q2 (.inl r) h' → pw b X y d (pc + 3) ls (r.toList ++ st) h' Q) (kx : ∀ (z : Int) (h' : ph), h.1 <+: h'.1 → Q2 (.inr z) h' → Q (.inr z) h' ∧ y.1 ≠ yX0_read)
    (hcall : (∃ (v : Option Value) (vm₁ : Vm) (B : Pt), s.WarmedH vm₁ ∧ Stand p (xL X) e (pu_room d g.length (pu_hs g)) s m args below meth c B.U B.locs B.cells B.slots ∧ (PostOf (pu_Qc b X h.1 Q2) (601024 - h.1.length) (7293034 - pu_hs h.1) (fun q => xZ X ≤ q)) ⟨T.setVm vm₁, locs, h.1.length - g.length, pu_hs h.1 - pu_hs g⟩ al v B ∧
      ∀ target, Steps p.tables e below (B.U.setTop { F0 m pc lsa st0 with pc := pc + 3, stack := v.toList ++ st.map (pu_v X) }) target → Steps p.tables e below (T.setTop (F0 m pc lsa st0)) target) ∨
    (∃ (q : Addr) (vm₁ : Vm) (B : Pt), s.WarmedH vm₁ ∧ Stand p (xL X) e (pu_room d g.length (pu_hs g)) s m args below meth c B.U B.locs B.cells B.slots ∧ (pu_Post (pu_XC b X h.1 Q2) (601024 - h.1.length) (7293034 - pu_hs h.1) (fun q => xZ X ≤ q)) ⟨T.setVm vm₁, locs, h.1.length - g.length, pu_hs h.1 - pu_hs g⟩ al q B ∧
      Steps p.tables e below (T.setTop (F0 m pc lsa st0)) ((B.U.setTop { F0 m pc lsa st0 with stack := st.map (pu_v X) }).pushFrame (.throwing q)))) :
    ∃ t, Steps p.tables e below (T.setTop (F0 m pc lsa st0)) t ∧ pu_MQ below (pu_Qc b X g Q) (pu_XC b X g Q) args s (601024 - g.length) (7293034 - pu_hs g) (fun q => xZ X ≤ q) t := by
  rcases hcall with ⟨v, vm₁, ⟨U', ls', cc, sl⟩, hW₁, Y', ⟨g', mk, t, L, e1, e2, hq, hl', hL, hc, hs⟩, hst⟩ | ⟨q, vm₁, ⟨U', ls', cc, sl⟩, hW₁, Y', ⟨g', mk, t, L, E, ce, e1, e2, hx, hce, hcv, hcl, hl', hL, hc, hs⟩, hst⟩
  · obtain ⟨r, h', hv, hH', hp', hQ2⟩ := hq
    have hv : v = r.map (pu_v X) := by cases hv; rfl
    dsimp only at Y' hl' hc hs hst e1 e2
    subst hl'
    have k9 := kn r h' hp' hQ2 p e s m args below meth c t.heap (locs ++ L) cc sl lsa g hM hsz (hg.trans hp') hH' (fun q hq' => by
      rcases List.mem_append.mp hq' with h1 | h1
      · exact hlo q h1
      · exact hL q h1) hl
    have e9 : (r.toList ++ st).map (pu_v X) = v.toList ++ st.map (pu_v X) := by
      rw [hv, List.map_append]
      cases r <;> rfl
    rw [e9] at k9
    obtain ⟨t', a1, b1⟩ := k9 U' e1 Y'
    exact ⟨t', hst t' a1, b1⟩
  · obtain ⟨z, h', hqz, hz, hH', hp', hQ2⟩ := hx
    dsimp only at Y' hl' hc hs hst e1 e2
    subst hl'
    have hcl' : s.vm.findClass E = some ce.cls := vx_cls (T := T) hW₁ hcl
    have hle := (hg.trans hp').length_le
    have hsl := pu_hs_le (hg.trans hp')
    have h1 := hH'.2.2.2.1
    have h2 := hH'.2.2.2.2.1
    have k8 : vx_W p (xL X) e (pu_room d g.length (pu_hs g)) s m args below meth c t.heap (locs ++ L) (h'.1.length - g.length) (pu_hs h'.1 - pu_hs g) (pu_MQ below (pu_Qc b X g Q) (pu_XC b X g Q) args s (601024 - g.length) (7293034 - pu_hs g) (fun q => xZ X ≤ q)) (F0 m pc lsa (st.map (pu_v X))) q := by
      refine pu_out (E := E) (ce := ce) (fun x hx => absurd hx (fun hx => hM.2.2.2.2.2.2.2.2.2.2 (kx z h' hp' hQ2).2 x hx)) hM.2.2.2.2.1 hce hcv hcl' (fun u hu _ => ⟨z, h', hqz, hz, by rw [hu]; exact hH', hg.trans hp', (kx z h' hp' hQ2).1⟩) (fun q hq' => by
        rcases List.mem_append.mp hq' with h1 | h1
        · exact hlo q h1
        · exact hL q h1) ?_ ?_
      · omega
      · omega
    obtain ⟨t', a1, b1⟩ := pu_tightX hH' hsz (hg.trans hp') k8 U' e1 Y'
    exact ⟨t', hst.trans a1, b1⟩
end PuC
section PuD
variable {b : Bool} {X : px} {y : pmd} {d pc : Nat} {ls : List (Nat × pv)} {st : List pv} {h : ph} {Q : po → ph → Prop}
/-- what a call asks of the callee: depth, locals, words -/
def pu_cw (y2 : pmd) (d2 d n : Nat) : Prop := d2 + 1 ≤ d ∧ y2.2.2.1 ≤ 41 ∧ Cond.code y2.1 y2.2.1 y2.2.2.1 y2.2.2.2 ∈ lw_all ∧ Cond.initialized y2.1.cls ∈ lw_all ∧ (y2.1.cls ≠ "java/lang/invoke/MethodHandle" ∧ y2.1.cls ≠ "java/lang/invoke/VarHandle") ∧ (parseMethodDescriptor y2.1.desc).map (fun d => d.parameters.length) = some n
theorem pu_cw_len {y2 : pmd} {d2 n : Nat} (hw : pu_cw y2 d2 d n) {as : List Value} (ha : as.length = n) : ∀ sig, parseMethodDescriptor y2.1.desc = some sig → as.length = sig.parameters.length := by
  intro sig hsig
  have h1 := hw.2.2.2.2.2
  rw [hsig] at h1
  have h2 : sig.parameters.length = n := Option.some.inj h1
  omega
def pu_cat (st : List pv) : Nat := (st.map fun v => if isL v then 2 else 1).sum
theorem pu_cat_eq (X : px) (st : List pv) : ((st.map (pu_v X)).map fun v => v.category).sum = pu_cat st := by
  induction st with
  | nil => rfl
  | cons v t ih =>
    have e : (pu_v X v).category = if isL v then 2 else 1 := by
      rcases v with z | z | z
      · rfl
      · rfl
      · exact va_rf_cat _
    simp only [List.map_cons, List.sum_cons, pu_cat] at ih ⊢
    rw [e, ih]
theorem pu_recv {p : Program} {s : State} {m : MethodId} {args : Array Value} {meth : Method} {c : Code} {H : Heap} {C : String} {T : u_T} {N ci n : Nat} {a : Int} (hM : pu_M X y p s m args meth c) (hH : pu_H b X h H) (hcl : pu_cl[ci]? = some (C, T, N)) (hs : pu_sh b h a (.inl ci, n)) : ∃ (q : Nat) (cell : Cell), pu_rf X a = some q ∧ H[q]? = some cell ∧ cell.vm.isStatics = false ∧ s.vm.findClass C = some cell.cls := by
  obtain ⟨n9, rfl, h1, ⟨cell, q, q1, q2, q3, -⟩, hr, -⟩ := pu_cell hs hH
  exact ⟨_, cell, hr, q1, by rw [q3]; rfl, by rw [q2]; exact (hM.2.2.2.2.2.2.2.2.1.2.1.1 ci _ hcl).2.1⟩
/-- invokevirtual of a method that its own class declares (private ones too) -/
theorem pu_callV {y2 : pmd} {d2 n index ci n2 N : Nat} {own C : String} {T : u_T} {a : Int} {as : List pv} {Q2 : po → ph → Prop} (hw : pu_cw y2 d2 d n) (hy : y.1.cls = own) (hlink : Cond.methodLink own index y2.1 ∈ lw_all) (hinst : Cond.instanceMethod y2.1 ∈ lw_all) (hsel : Cond.selects C y2.1 y2.1 ∈ lw_all) (hcl : pu_cl[ci]? = some (C, T, N)) (ha : as.length = n) (hst : Nat.ble (pu_cat st) 8 = true) (hd : decode y.2.1 pc = .ok (.invokevirtual index, 3)) (hs : pu_sh b h a (.inl ci, n2)) (hS : pS b X y2 d2 (pR a :: as) h Q2)
    (kn : ∀ (r : Option pv) (h' : ph), h.1 <+: h'.1 → Q2 (.inl r) h' → pw b X y d (pc + 3) ls (r.toList ++ st) h' Q) (kx : ∀ (z : Int) (h' : ph), h.1 <+: h'.1 → Q2 (.inr z) h' → Q (.inr z) h' ∧ y.1 ≠ yX0_read) : pw b X y d pc ls (as.reverse ++ pR a :: st) h Q := by
  intro p e s m args below meth c H locs cells slots lsa g hM hsz hg hH hlo hl
  refine pu_tight hH hsz hg ?_
  intro T9 hT Y
  obtain ⟨q, cell, hr, r1, r2, r3⟩ := pu_recv hM hH hcl hs
  have hts := hM.2.2.2.2.2.2.2.1
  have e0 : (as.reverse ++ pR a :: st).map (pu_v X) = (as.map (pu_v X)).reverse ++ Value.ref q :: st.map (pu_v X) := by
    rw [List.map_append, List.map_reverse, List.map_cons]
    show _ ++ va_rf (pu_rf X a) :: _ = _
    rw [hr]
    rfl
  rw [e0]
  exact pu_cont (y2 := y2) (as := pR a :: as) hM hsz hg hlo hl kn kx (vx_callV Y hM.1 (own := own) (C := C) (index := index) (y := y2.1) (bytes := y2.2.1) (maxL := y2.2.2.1) (ret := y2.2.2.2) (by rw [← hy]; exact hM.2.2.2.2.2.1) (hts _ hlink) (hts _ hinst) (hts _ hsel) (hts _ hw.2.2.1) hw.2.2.2.2.1 (pS_back hS hw.1 hw.2.1 hw.2.2.1 hw.2.2.2.1 hts) (by rw [hT]; exact r1) r2 r3 (g := F0 m pc lsa ((as.map (pu_v X)).reverse ++ Value.ref q :: st.map (pu_v X))) rfl (by rw [hM.2.2.1]; exact hl.1) (argsL := as.map (pu_v X)) (rest := st.map (pu_v X)) (pu_cw_len hw (by simpa using ha)) rfl (by show 2 * 0 + _ ≤ _; rw [pu_cat_eq]; have := Nat.le_of_ble_eq_true hst; omega) (by rw [hM.2.1]; exact hd) (pu_pre (as := pR a :: as) hT hH hsz hg hM.2.2.2.2.2.2.2.2.1 (by show _ = (va_rf (pu_rf X a) :: _).toArray; rw [hr]; rfl)))
/-- of a nest mate -/
theorem pu_callVN {y2 : pmd} {d2 n index ci n2 N : Nat} {own C host : String} {T : u_T} {a : Int} {as : List pv} {Q2 : po → ph → Prop} (hw : pu_cw y2 d2 d n) (hy : y.1.cls = own) (hlink : Cond.methodLinkNest own index y2.1 host ∈ pu_nw) (hinst : Cond.instanceMethod y2.1 ∈ lw_all) (hsel : Cond.selects C y2.1 y2.1 ∈ lw_all) (hcl : pu_cl[ci]? = some (C, T, N)) (ha : as.length = n) (hst : Nat.ble (pu_cat st) 8 = true) (hd : decode y.2.1 pc = .ok (.invokevirtual index, 3)) (hs : pu_sh b h a (.inl ci, n2)) (hS : pS b X y2 d2 (pR a :: as) h Q2)
    (kn : ∀ (r : Option pv) (h' : ph), h.1 <+: h'.1 → Q2 (.inl r) h' → pw b X y d (pc + 3) ls (r.toList ++ st) h' Q) (kx : ∀ (z : Int) (h' : ph), h.1 <+: h'.1 → Q2 (.inr z) h' → Q (.inr z) h' ∧ y.1 ≠ yX0_read) : pw b X y d pc ls (as.reverse ++ pR a :: st) h Q := by
  intro p e s m args below meth c H locs cells slots lsa g hM hsz hg hH hlo hl
  refine pu_tight hH hsz hg ?_
  intro T9 hT Y
  obtain ⟨q, cell, hr, r1, r2, r3⟩ := pu_recv hM hH hcl hs
  have hts := hM.2.2.2.2.2.2.2.1
  have e0 : (as.reverse ++ pR a :: st).map (pu_v X) = (as.map (pu_v X)).reverse ++ Value.ref q :: st.map (pu_v X) := by
    rw [List.map_append, List.map_reverse, List.map_cons]
    show _ ++ va_rf (pu_rf X a) :: _ = _
    rw [hr]
    rfl
  rw [e0]
  exact pu_cont (y2 := y2) (as := pR a :: as) hM hsz hg hlo hl kn kx (vx_callVN Y hM.1 (own := own) (C := C) (index := index) (y := y2.1) (bytes := y2.2.1) (maxL := y2.2.2.1) (ret := y2.2.2.2) (by rw [← hy]; exact hM.2.2.2.2.2.1) (va_Nw.use rfl (hM.2.2.2.2.2.2.2.2.1.2.2.1 _ hlink)) (hts _ hinst) (hts _ hsel) (hts _ hw.2.2.1) hw.2.2.2.2.1 (pS_back hS hw.1 hw.2.1 hw.2.2.1 hw.2.2.2.1 hts) (by rw [hT]; exact r1) r2 r3 (g := F0 m pc lsa ((as.map (pu_v X)).reverse ++ Value.ref q :: st.map (pu_v X))) rfl (by rw [hM.2.2.1]; exact hl.1) (argsL := as.map (pu_v X)) (rest := st.map (pu_v X)) (pu_cw_len hw (by simpa using ha)) rfl (by show 2 * 0 + _ ≤ _; rw [pu_cat_eq]; have := Nat.le_of_ble_eq_true hst; omega) (by rw [hM.2.1]; exact hd) (pu_pre (as := pR a :: as) hT hH hsz hg hM.2.2.2.2.2.2.2.2.1 (by show _ = (va_rf (pu_rf X a) :: _).toArray; rw [hr]; rfl)))
/-- invokevirtual x, whose class selects y2 -/
theorem pu_callU {y2 : pmd} {x2 : MethodName} {d2 n index ci n2 N : Nat} {own C : String} {T : u_T} {a : Int} {as : List pv} {Q2 : po → ph → Prop} (hw : pu_cw y2 d2 d n) (hy : y.1.cls = own) (hlink : Cond.methodLink own index x2 ∈ lw_all) (hsame : Cond.sameMethod x2.cls x2.cls x2.name x2.desc ∈ lw_all) (hdecl : Cond.declares x2 ∈ pu_nw) (howner : x2.cls ≠ "java/lang/invoke/MethodHandle" ∧ x2.cls ≠ "java/lang/invoke/VarHandle") (hdesc : x2.desc = y2.1.desc) (hinst : Cond.instanceMethod y2.1 ∈ lw_all) (hsel : Cond.selects C x2 y2.1 ∈ lw_all) (hcl : pu_cl[ci]? = some (C, T, N)) (ha : as.length = n) (hst : Nat.ble (pu_cat st) 8 = true) (hd : decode y.2.1 pc = .ok (.invokevirtual index, 3)) (hs : pu_sh b h a (.inl ci, n2)) (hS : pS b X y2 d2 (pR a :: as) h Q2)
    (kn : ∀ (r : Option pv) (h' : ph), h.1 <+: h'.1 → Q2 (.inl r) h' → pw b X y d (pc + 3) ls (r.toList ++ st) h' Q) (kx : ∀ (z : Int) (h' : ph), h.1 <+: h'.1 → Q2 (.inr z) h' → Q (.inr z) h' ∧ y.1 ≠ yX0_read) : pw b X y d pc ls (as.reverse ++ pR a :: st) h Q := by
  intro p e s m args below meth c H locs cells slots lsa g hM hsz hg hH hlo hl
  refine pu_tight hH hsz hg ?_
  intro T9 hT Y
  obtain ⟨q, cell, hr, r1, r2, r3⟩ := pu_recv hM hH hcl hs
  have hts := hM.2.2.2.2.2.2.2.1
  have e0 : (as.reverse ++ pR a :: st).map (pu_v X) = (as.map (pu_v X)).reverse ++ Value.ref q :: st.map (pu_v X) := by
    rw [List.map_append, List.map_reverse, List.map_cons]
    show _ ++ va_rf (pu_rf X a) :: _ = _
    rw [hr]
    rfl
  rw [e0]
  exact pu_cont (y2 := y2) (as := pR a :: as) hM hsz hg hlo hl kn kx (vx_callVU Y hM.1 (own := own) (C := C) (owner := x2.cls) (index := index) (x := x2) (y := y2.1) (bytes := y2.2.1) (maxL := y2.2.2.1) (ret := y2.2.2.2) (by rw [← hy]; exact hM.2.2.2.2.2.1) (hts _ hlink) (hts _ hsame) (va_Decl.abs (hM.2.2.2.2.2.2.2.2.1.2.2.1 _ hdecl)) howner (hts _ hsel) (hts _ hinst) (hts _ hw.2.2.1) (pS_back hS hw.1 hw.2.1 hw.2.2.1 hw.2.2.2.1 hts) (by rw [hT]; exact r1) r2 r3 (g := F0 m pc lsa ((as.map (pu_v X)).reverse ++ Value.ref q :: st.map (pu_v X))) rfl (by rw [hM.2.2.1]; exact hl.1) (argsL := as.map (pu_v X)) (rest := st.map (pu_v X)) (by rw [hdesc]; exact pu_cw_len hw (by simpa using ha)) rfl (by show 2 * 0 + _ ≤ _; rw [pu_cat_eq]; have := Nat.le_of_ble_eq_true hst; omega) (by rw [hM.2.1]; exact hd) (pu_pre (as := pR a :: as) hT hH hsz hg hM.2.2.2.2.2.2.2.2.1 (by show _ = (va_rf (pu_rf X a) :: _).toArray; rw [hr]; rfl)))
/-- invokestatic -/
theorem pu_callS {y2 : pmd} {d2 n index : Nat} {own : String} {as : List pv} {Q2 : po → ph → Prop} (hw : pu_cw y2 d2 d n) (hy : y.1.cls = own) (hlink : Cond.methodLink own index y2.1 ∈ lw_all) (hstat : Cond.static y2.1 ∈ lw_all) (ha : as.length = n) (hst : Nat.ble (pu_cat st) 8 = true) (hd : decode y.2.1 pc = .ok (.invokestatic index, 3)) (hS : pS b X y2 d2 as h Q2)
    (kn : ∀ (r : Option pv) (h' : ph), h.1 <+: h'.1 → Q2 (.inl r) h' → pw b X y d (pc + 3) ls (r.toList ++ st) h' Q) (kx : ∀ (z : Int) (h' : ph), h.1 <+: h'.1 → Q2 (.inr z) h' → Q (.inr z) h' ∧ y.1 ≠ yX0_read) : pw b X y d pc ls (as.reverse ++ st) h Q := by
  intro p e s m args below meth c H locs cells slots lsa g hM hsz hg hH hlo hl
  refine pu_tight hH hsz hg ?_
  intro T9 hT Y
  have hts := hM.2.2.2.2.2.2.2.1
  have e0 : (as.reverse ++ st).map (pu_v X) = (as.map (pu_v X)).reverse ++ st.map (pu_v X) := by
    rw [List.map_append, List.map_reverse]
  rw [e0]
  exact pu_cont (y2 := y2) (as := as) hM hsz hg hlo hl kn kx (vx_callS Y hM.1 (own := own) (index := index) (y := y2.1) (bytes := y2.2.1) (maxL := y2.2.2.1) (ret := y2.2.2.2) (by rw [← hy]; exact hM.2.2.2.2.2.1) (hts _ hlink) (hts _ hstat) (hts _ hw.2.2.2.1) (hts _ hw.2.2.1) hw.2.2.2.2.1 (pS_back hS hw.1 hw.2.1 hw.2.2.1 hw.2.2.2.1 hts) (g := F0 m pc lsa ((as.map (pu_v X)).reverse ++ st.map (pu_v X))) rfl (by rw [hM.2.2.1]; exact hl.1) (argsL := as.map (pu_v X)) (rest := st.map (pu_v X)) (pu_cw_len hw (by simpa using ha)) rfl (by show 2 * 0 + _ ≤ _; rw [pu_cat_eq]; have := Nat.le_of_ble_eq_true hst; omega) (by rw [hM.2.1]; exact hd) (pu_pre (as := as) hT hH hsz hg hM.2.2.2.2.2.2.2.2.1 rfl))
theorem pu_callSN {y2 : pmd} {d2 n index : Nat} {own host : String} {as : List pv} {Q2 : po → ph → Prop} (hw : pu_cw y2 d2 d n) (hy : y.1.cls = own) (hlink : Cond.methodLinkNest own index y2.1 host ∈ pu_nw) (hstat : Cond.static y2.1 ∈ lw_all) (ha : as.length = n) (hst : Nat.ble (pu_cat st) 8 = true) (hd : decode y.2.1 pc = .ok (.invokestatic index, 3)) (hS : pS b X y2 d2 as h Q2)
    (kn : ∀ (r : Option pv) (h' : ph), h.1 <+: h'.1 → Q2 (.inl r) h' → pw b X y d (pc + 3) ls (r.toList ++ st) h' Q) (kx : ∀ (z : Int) (h' : ph), h.1 <+: h'.1 → Q2 (.inr z) h' → Q (.inr z) h' ∧ y.1 ≠ yX0_read) : pw b X y d pc ls (as.reverse ++ st) h Q := by
  intro p e s m args below meth c H locs cells slots lsa g hM hsz hg hH hlo hl
  refine pu_tight hH hsz hg ?_
  intro T9 hT Y
  have hts := hM.2.2.2.2.2.2.2.1
  have e0 : (as.reverse ++ st).map (pu_v X) = (as.map (pu_v X)).reverse ++ st.map (pu_v X) := by
    rw [List.map_append, List.map_reverse]
  rw [e0]
  exact pu_cont (y2 := y2) (as := as) hM hsz hg hlo hl kn kx (vx_callSN Y hM.1 (own := own) (index := index) (y := y2.1) (bytes := y2.2.1) (maxL := y2.2.2.1) (ret := y2.2.2.2) (by rw [← hy]; exact hM.2.2.2.2.2.1) (va_Nw.use rfl (hM.2.2.2.2.2.2.2.2.1.2.2.1 _ hlink)) (hts _ hstat) (hts _ hw.2.2.2.1) (hts _ hw.2.2.1) hw.2.2.2.2.1 (pS_back hS hw.1 hw.2.1 hw.2.2.1 hw.2.2.2.1 hts) (g := F0 m pc lsa ((as.map (pu_v X)).reverse ++ st.map (pu_v X))) rfl (by rw [hM.2.2.1]; exact hl.1) (argsL := as.map (pu_v X)) (rest := st.map (pu_v X)) (pu_cw_len hw (by simpa using ha)) rfl (by show 2 * 0 + _ ≤ _; rw [pu_cat_eq]; have := Nat.le_of_ble_eq_true hst; omega) (by rw [hM.2.1]; exact hd) (pu_pre (as := as) hT hH hsz hg hM.2.2.2.2.2.2.2.2.1 rfl))
/-- invokespecial <init> -/
theorem pu_callI {y2 : pmd} {d2 n index : Nat} {own : String} {σ : psh} {a : Int} {as : List pv} {Q2 : po → ph → Prop} (hw : pu_cw y2 d2 d n) (hy2 : y2.1.name = "<init>") (hv2 : y2.2.2.2 = none) (hy : y.1.cls = own) (hlink : Cond.methodLink own index y2.1 ∈ lw_all) (hinst : Cond.instanceMethod y2.1 ∈ lw_all) (ha : as.length = n) (hst : Nat.ble (pu_cat st) 8 = true) (hd : decode y.2.1 pc = .ok (.invokespecial index, 3)) (hs : pu_sh b h a σ) (hS : pS b X y2 d2 (pR a :: as) h Q2)
    (kn : ∀ (r : Option pv) (h' : ph), h.1 <+: h'.1 → Q2 (.inl r) h' → pw b X y d (pc + 3) ls (r.toList ++ st) h' Q) (kx : ∀ (z : Int) (h' : ph), h.1 <+: h'.1 → Q2 (.inr z) h' → Q (.inr z) h' ∧ y.1 ≠ yX0_read) : pw b X y d pc ls (as.reverse ++ pR a :: st) h Q := by
  intro p e s m args below meth c H locs cells slots lsa g hM hsz hg hH hlo hl
  refine pu_tight hH hsz hg ?_
  intro T9 hT Y
  obtain ⟨q, -, -, -, hr, -⟩ := pu_cell hs hH
  have hts := hM.2.2.2.2.2.2.2.1
  have e0 : (as.reverse ++ pR a :: st).map (pu_v X) = (as.map (pu_v X)).reverse ++ Value.ref (xZ X + q) :: st.map (pu_v X) := by
    rw [List.map_append, List.map_reverse, List.map_cons]
    show _ ++ va_rf (pu_rf X a) :: _ = _
    rw [hr]
    rfl
  rw [e0]
  have hcode := hts _ hw.2.2.1
  rw [hv2] at hcode
  exact pu_cont (y2 := y2) (as := pR a :: as) hM hsz hg hlo hl kn kx (vx_callI Y hM.1 (own := own) (index := index) (y := y2.1) (bytes := y2.2.1) (maxL := y2.2.2.1) (by rw [← hy]; exact hM.2.2.2.2.2.1) hy2 (hts _ hlink) (hts _ hinst) hcode hw.2.2.2.2.1 (pS_back hS hw.1 hw.2.1 hw.2.2.1 hw.2.2.2.1 hts) (g := F0 m pc lsa ((as.map (pu_v X)).reverse ++ Value.ref (xZ X + q) :: st.map (pu_v X))) rfl (by rw [hM.2.2.1]; exact hl.1) (argsL := as.map (pu_v X)) (rest := st.map (pu_v X)) (pu_cw_len hw (by simpa using ha)) rfl (by show 2 * 0 + _ ≤ _; rw [pu_cat_eq]; have := Nat.le_of_ble_eq_true hst; omega) (by rw [hM.2.1]; exact hd) (pu_pre (as := pR a :: as) hT hH hsz hg hM.2.2.2.2.2.2.2.2.1 (by show _ = (va_rf (pu_rf X a) :: _).toArray; rw [hr]; rfl)))
theorem pu_callIN {y2 : pmd} {d2 n index : Nat} {own host : String} {σ : psh} {a : Int} {as : List pv} {Q2 : po → ph → Prop} (hw : pu_cw y2 d2 d n) (hy2 : y2.1.name = "<init>") (hv2 : y2.2.2.2 = none) (hy : y.1.cls = own) (hlink : Cond.methodLinkNest own index y2.1 host ∈ pu_nw) (hinst : Cond.instanceMethod y2.1 ∈ lw_all) (ha : as.length = n) (hst : Nat.ble (pu_cat st) 8 = true) (hd : decode y.2.1 pc = .ok (.invokespecial index, 3)) (hs : pu_sh b h a σ) (hS : pS b X y2 d2 (pR a :: as) h Q2)
    (kn : ∀ (r : Option pv) (h' : ph), h.1 <+: h'.1 → Q2 (.inl r) h' → pw b X y d (pc + 3) ls (r.toList ++ st) h' Q) (kx : ∀ (z : Int) (h' : ph), h.1 <+: h'.1 → Q2 (.inr z) h' → Q (.inr z) h' ∧ y.1 ≠ yX0_read) : pw b X y d pc ls (as.reverse ++ pR a :: st) h Q := by
  intro p e s m args below meth c H locs cells slots lsa g hM hsz hg hH hlo hl
  refine pu_tight hH hsz hg ?_
  intro T9 hT Y
  obtain ⟨q, -, -, -, hr, -⟩ := pu_cell hs hH
  have hts := hM.2.2.2.2.2.2.2.1
  have e0 : (as.reverse ++ pR a :: st).map (pu_v X) = (as.map (pu_v X)).reverse ++ Value.ref (xZ X + q) :: st.map (pu_v X) := by
    rw [List.map_append, List.map_reverse, List.map_cons]
    show _ ++ va_rf (pu_rf X a) :: _ = _
    rw [hr]
    rfl
  rw [e0]
  have hcode := hts _ hw.2.2.1
  rw [hv2] at hcode
  exact pu_cont (y2 := y2) (as := pR a :: as) hM hsz hg hlo hl kn kx (vx_callIN Y hM.1 (own := own) (index := index) (y := y2.1) (bytes := y2.2.1) (maxL := y2.2.2.1) (by rw [← hy]; exact hM.2.2.2.2.2.1) hy2 (va_Nw.use rfl (hM.2.2.2.2.2.2.2.2.1.2.2.1 _ hlink)) (hts _ hinst) hcode hw.2.2.2.2.1 (pS_back hS hw.1 hw.2.1 hw.2.2.1 hw.2.2.2.1 hts) (g := F0 m pc lsa ((as.map (pu_v X)).reverse ++ Value.ref (xZ X + q) :: st.map (pu_v X))) rfl (by rw [hM.2.2.1]; exact hl.1) (argsL := as.map (pu_v X)) (rest := st.map (pu_v X)) (pu_cw_len hw (by simpa using ha)) rfl (by show 2 * 0 + _ ≤ _; rw [pu_cat_eq]; have := Nat.le_of_ble_eq_true hst; omega) (by rw [hM.2.1]; exact hd) (pu_pre (as := pR a :: as) hT hH hsz hg hM.2.2.2.2.2.2.2.2.1 (by show _ = (va_rf (pu_rf X a) :: _).toArray; rw [hr]; rfl)))
/-- where the arguments lie -/
def lar (i : Nat) (as : List pv) : List (Nat × pv) := match as with
  | [] => []
  | v :: t => (i, v) :: lar (match isL v with | true => i + 2 | false => i + 1) t
def lan (as : List pv) : Nat := match as with
  | [] => 0
  | v :: t => (match isL v with | true => 2 | false => 1) + lan t
theorem pu_v_cat2 (X : px) (v : pv) : (pu_v X v).category = match isL v with | true => 2 | false => 1 := by
  rcases v with z | z | z
  · rfl
  · rfl
  · exact va_rf_cat _
theorem lar_eq (X : px) (as : List pv) (i : Nat) : lv_args i (as.map (pu_v X)) = pu_ls X (lar i as) := by
  induction as generalizing i with
  | nil => rfl
  | cons v t ih =>
    have e := pu_v_cat2 X v
    simp only [List.map_cons, lv_args, lar, pu_ls, List.map_cons]
    rw [ih]
    congr 2
    rw [e]
    cases isL v <;> rfl
theorem lan_eq (X : px) (as : List pv) : (lg_sl (as.map (pu_v X))).length = lan as := by
  induction as with
  | nil => rfl
  | cons v t ih =>
    have e := pu_v_cat2 X v
    unfold lg_sl at ih ⊢
    simp only [List.map_cons, List.flatMap_cons, List.length_append, lan]
    rw [ih]
    congr 1
    cases hv : isL v <;> rw [hv] at e <;> simp [e]
/-- a method's contract out of its body -/
theorem pS_of {as : List pv} (hne : y.1 ≠ yX0_read) (hpl : plainName y.1.cls = true) (hmax : Nat.ble (lan as) y.2.2.1 = true) (k : pw b X y d 0 (lar 0 as) [] h Q) : pS b X y d as h Q := by
  refine pu_ofW (cc := y.2.1) (maxL := y.2.2.1) (ret := y.2.2.2) hpl rfl ?_
  intro p e s m args below meth c s₁ B hml hex hv
  obtain ⟨rfl, hH, hC⟩ := hv
  have hts := atoms_spec (ws := pu_ws y) B.pre
  have hts : ∀ w ∈ lw_all, w.before _ s = true := fun w h => hts w (List.mem_cons_of_mem _ h)
  have hown : s.vm.findClass y.1.cls = some m.cls := findClass_of_methodNamed B.named
  have hnm : meth.name = y.1.name := (name_of_methodNamed B.named B.method).1
  have hl := lv_entry (as.map (pu_v X)) (n := y.2.2.1) (by rw [lan_eq]; exact Nat.le_of_ble_eq_true hmax)
  rw [lar_eq] at hl
  rw [lg_entry_eq]
  exact k p e s m _ below meth c s.heap [] 0 0 _ h.1 ⟨B.exec, B.bytes, hml, B.returns, B.notSynchronized, hown, hnm, hts, hC, fun h => absurd h hne, fun _ => hex⟩ hH.1 (List.prefix_refl _) hH (fun q hq => absurd hq List.not_mem_nil) hl
/-- more room does no harm; a weaker end -/
theorem pS_mono {as : List pv} {Q2 : po → ph → Prop} (hS : pS b X y d as h Q2) (hQ : ∀ o h', h.1 <+: h'.1 → Q2 o h' → Q o h') : pS b X y d as h Q := by
  intro p e ha hc hk s m args below hf happ hpre _
  obtain ⟨k, o, h1, h2, h3, hq⟩ := hS p e ha hc hk s m args below hf happ hpre trivial
  refine ⟨k, o, h1, h2, h3, ?_⟩
  rcases hq with ⟨⟨r, h', q1, q2, q3, q4⟩, hL⟩ | ⟨q, ho, E, ce, L, ⟨z, h', x1, x2, x3, x4, x5⟩, hr⟩
  · exact Or.inl ⟨⟨r, h', q1, q2, q3, hQ _ _ q3 q4⟩, hL⟩
  · exact Or.inr ⟨q, ho, E, ce, L, ⟨z, h', x1, x2, x3, x4, hQ _ _ x4 x5⟩, hr⟩
end PuD
