/-! ===== new int[201][7]: one outer array, 201 rows behind it ===== -/
set_option maxRecDepth 100000
section Mu
/-- the outer array when i rows are in -/
def mu_out (c : ClassId) (h0 i : Nat) : Cell := arrV c 201 (fun j => if j < i then Value.ref (h0 + 1 + j) else .null)
def mu_row (c : ClassId) : Cell := arrV c 7 (fun _ => Value.int 0)
def mu_st (s : State) (c comp : ClassId) : Nat → State
  | 0 => s.pushCell (mu_out c s.heap.size 0)
  | i + 1 => ((mu_st s c comp i).pushCell (mu_row comp)).setCell s.heap.size (mu_out c s.heap.size (i + 1))
theorem mu_out_set (c : ClassId) (h0 i : Nat) : (mu_out c h0 i).setSlot i (.ref (h0 + 1 + i)) = mu_out c h0 (i + 1) := by
  unfold mu_out
  rw [arrV_store]
  congr 1
  funext j
  unfold updV
  by_cases h : j = i
  · subst h; simp
  · rw [if_neg h]
    show (if j < i then Value.ref (h0 + 1 + j) else Value.null) = _
    by_cases h2 : j < i
    · rw [if_pos h2, if_pos (by omega)]
    · rw [if_neg h2, if_neg (by omega)]
theorem mu_facts (s : State) (c comp : ClassId) : ∀ i, (mu_st s c comp i).heap.size = s.heap.size + 1 + i ∧ (mu_st s c comp i).heap[s.heap.size]? = some (mu_out c s.heap.size i) ∧ (mu_st s c comp i).vm = s.vm ∧ (mu_st s c comp i).slotsUsed = s.slotsUsed + 201 + i * 7
  | 0 => by
    have e : (mu_out c s.heap.size 0).slots.size = 201 := arrV_size _ _ _
    refine ⟨by simp [mu_st, State.pushCell], by simp [mu_st, State.pushCell], rfl, ?_⟩
    show s.slotsUsed + (mu_out c s.heap.size 0).slots.size = _
    rw [e]
  | i + 1 => by
    obtain ⟨h1, h2, h3, h4⟩ := mu_facts s c comp i
    have e : (mu_row comp).slots.size = 7 := arrV_size _ _ _
    have hlt : s.heap.size < ((mu_st s c comp i).pushCell (mu_row comp)).heap.size := by rw [size_pushCell, h1]; omega
    refine ⟨?_, heapAt_setCell_self _ hlt, h3, ?_⟩
    · show (((mu_st s c comp i).pushCell (mu_row comp)).setCell s.heap.size _).heap.size = _
      rw [size_setCell, size_pushCell, h1]; omega
    · show (mu_st s c comp i).slotsUsed + (mu_row comp).slots.size = _
      rw [h4, e]; omega
theorem mu_old (s : State) (c comp : ClassId) {a : Nat} (ha : a < s.heap.size) : ∀ i, (mu_st s c comp i).heap[a]? = s.heap[a]?
  | 0 => by simp [mu_st, State.pushCell, Array.getElem?_push, Nat.ne_of_lt ha]
  | i + 1 => by
    have h1 := (mu_facts s c comp i).1
    show (((mu_st s c comp i).pushCell (mu_row comp)).setCell s.heap.size _).heap[a]? = _
    rw [heapAt_setCell_ne _ (show s.heap.size ≠ a by omega)]
    have : ((mu_st s c comp i).pushCell (mu_row comp)).heap[a]? = (mu_st s c comp i).heap[a]? := by
      simp [State.pushCell, Array.getElem?_push]
      intro h; omega
    rw [this]
    exact mu_old s c comp ha i
theorem mu_rows (s : State) (c comp : ClassId) : ∀ i j, j < i → (mu_st s c comp i).heap[s.heap.size + 1 + j]? = some (mu_row comp)
  | 0, j, h => by omega
  | i + 1, j, h => by
    have h1 := (mu_facts s c comp i).1
    show (((mu_st s c comp i).pushCell (mu_row comp)).setCell s.heap.size _).heap[s.heap.size + 1 + j]? = _
    rw [heapAt_setCell_ne _ (show s.heap.size ≠ s.heap.size + 1 + j by omega)]
    have e : ((mu_st s c comp i).pushCell (mu_row comp)).heap[s.heap.size + 1 + j]? = if s.heap.size + 1 + j = (mu_st s c comp i).heap.size then some (mu_row comp) else (mu_st s c comp i).heap[s.heap.size + 1 + j]? := by
      simp [State.pushCell, Array.getElem?_push]
    rw [e, h1]
    by_cases hj : j = i
    · rw [if_pos (by omega)]
    · rw [if_neg (by omega)]
      exact mu_rows s c comp i j (by omega)
theorem mu_top (s : State) (f : JFrame) (c comp : ClassId) : ∀ i, mu_st (s.setTop f) c comp i = (mu_st s c comp i).setTop f
  | 0 => rfl
  | i + 1 => by
    show ((mu_st (s.setTop f) c comp i).pushCell _).setCell s.heap.size _ = _
    rw [mu_top s f c comp i]
    rfl
variable {E : CtlPost} {e : Env} {d : Bool} {acts : List Action} {s : State}
theorem mu_new {c comp : ClassId} {k : Class} {ty : FieldType} {len : Nat} {init : Value} (hk : s.vm.classes[c]? = some k) (hkind : k.kind = .array comp ty)
    (h1 : ¬ len > e.platform.arrayLengthLimit) (h2 : ¬ len * componentBytes ty > e.platform.maxHeapBytes) (hf : fits ty init = true) (hdef : init.isDefault = true) {Q : Addr → Pre}
    (h3 : s.heap.size < e.platform.maxCells) (h4 : s.slotsUsed + len ≤ e.platform.maxSlots) (hq : Q s.heap.size d acts (s.pushCell (arrV c len (fun _ => init)))) : wp (Jvm.newArray c len init) Q E e d acts s := by
  rw [← arrV_rep] at hq
  have g1 : ∀ i v, (Array.replicate len init)[i]? = some v → s.fitsSlot c .none i v = true := by
    intro i v hv
    simp only [Array.getElem?_replicate] at hv
    split at hv
    · cases hv; simp [State.fitsSlot, State.slotType?, hk, hkind, hf]
    · cases hv
  have g2 : allocActs (Array.replicate len init) s.heap.size acts = acts := by
    have : ((Array.replicate len init).all (·.isDefault)) = true := by
      rw [Array.all_replicate]; split <;> simp [hdef]
    unfold allocActs; rw [if_pos this]
  simp only [Jvm.newArray, Jvm.arrayFits, wp_bind', W.ask, W.ite, h1, if_false, wp_pure', W.theClass, hk, hkind, h2, W.alloc, W.stop, Option.some.injEq, exists_eq_left', Array.size_replicate, g2]
  rw [if_neg (by omega)]
  exact ⟨h3, h4, g1, hq⟩
theorem mu_make {c comp cc : ClassId} {k kc : Class} (hk : s.vm.classes[c]? = some k) (hkind : k.kind = .array comp (.array .int)) (hkc : s.vm.classes[comp]? = some kc) (hkindc : kc.kind = .array cc .int)
    (hl : 201 ≤ e.platform.arrayLengthLimit) (hh : 201 * 8 ≤ e.platform.maxHeapBytes) (hc : s.heap.size + 202 ≤ e.platform.maxCells) (hs : s.slotsUsed + 1608 ≤ e.platform.maxSlots)
    {Q : Addr → Pre} (hq : ∀ d' acts', Q s.heap.size d' acts' (mu_st s c comp 201)) : wp (multianewarray.make c [201, 7]) Q E e d acts s := by
  have n1 : ¬ (201 : Int32) < 0 := by decide
  have n2 : ¬ (7 : Int32) < 0 := by decide
  have t1 : (201 : Int32).toNatClampNeg = 201 := by decide
  have t2 : (7 : Int32).toNatClampNeg = 7 := by decide
  have b1 : componentBytes (.array .int) ≤ 8 := by decide
  have b2 : componentBytes .int ≤ 8 := by decide
  have hfind : ([(7 : Int32)].find? (· < 0)) = none := by decide
  rw [multianewarray.make]
  simp only [wp_bind', W.ite, n1, if_false, wp_pure', W.theClass, hk, hkind, Option.some.injEq, exists_eq_left', t1]
  refine mu_new hk hkind (by omega) (by omega) rfl rfl (by omega) (by omega) ?_
  simp only [hfind]
  rw [ite_self, wp_bind', Std.Legacy.Range.forIn_eq_forIn_range']
  have hsz : ([:201] : Std.Legacy.Range).size = 201 := by simp [Std.Legacy.Range.size]
  rw [hsz]
  show wp (forIn (List.range' 0 201 1) PUnit.unit _) _ E e d acts _
  refine wp_forIn_inv (fun rest s' => ∃ i, i ≤ 201 ∧ rest = List.range' i (201 - i) ∧ s' = mu_st s c comp i) _ _ ⟨0, Nat.zero_le _, rfl, ?_⟩ ?_ ?_
  · show _ = s.pushCell (mu_out c s.heap.size 0)
    congr 1
  · rintro x rest s' d' acts' Q' ⟨i, hi, hl', rfl⟩ hnext
    have hlt : i < 201 := by
      rcases Nat.lt_or_ge i 201 with h | h
      · exact h
      · rw [show 201 - i = 0 from by omega] at hl'; simp at hl'
    obtain ⟨rfl, hrest⟩ : x = i ∧ rest = List.range' (i + 1) (201 - (i + 1)) := by
      rw [show 201 - i = (201 - (i + 1)) + 1 from by omega, List.range'_succ] at hl'
      exact ⟨(List.cons.inj hl').1, (List.cons.inj hl').2⟩
    obtain ⟨f1, f2, f3, f4⟩ := mu_facts s c comp x
    simp only [wp_bind']
    have hmk : ∀ {Q9 : Addr → Pre} {d9 : Bool} {acts9 : List Action}, Q9 (mu_st s c comp x).heap.size d9 acts9 ((mu_st s c comp x).pushCell (mu_row comp)) → wp (multianewarray.make comp [7]) Q9 E e d9 acts9 (mu_st s c comp x) := by
      intro Q9 d9 acts9 h9
      rw [multianewarray.make]
      simp only [wp_bind', W.ite, n2, if_false, wp_pure', W.theClass, f3, hkc, hkindc, Option.some.injEq, exists_eq_left', t2]
      exact mu_new (by rw [f3]; exact hkc) hkindc (by omega) (by omega) rfl rfl (by rw [f1]; omega) (by rw [f4]; omega) h9
    refine hmk ?_
    have hlt0 : s.heap.size < (mu_st s c comp x).heap.size := by rw [f1]; omega
    simp only [wp_bind', W.writeLoc, wp_pure']
    refine ⟨mu_out c s.heap.size x, by rw [State.heap_pushCell_of_lt (h := hlt0)]; exact f2, by simp [mu_out, arrV], by rw [show (mu_out c s.heap.size x).slots.size = 201 from arrV_size _ _ _]; exact hlt, ?_, hnext _ _ _ ⟨x + 1, hlt, hrest, ?_⟩⟩
    · show State.fitsSlot _ c .none x _ = true
      simp [State.fitsSlot, State.slotType?, State.pushCell, f3, hk, hkind, fits]
    · rw [f1, mu_out_set]; rfl
  · rintro s' d' acts' ⟨i, hi, hl', rfl⟩
    have hiN : i = 201 := by
      rcases Nat.lt_or_ge i 201 with h | h
      · rw [show 201 - i = (201 - (i + 1)) + 1 from by omega, List.range'_succ] at hl'; cases hl'
      · omega
    subst hiN
    simp only [wp_pure']
    exact hq _ _
end Mu
section Mv
variable {p : Program} {l : Launch} {e : Env} {R : Room} {s : State} {m : MethodId} {args : Array Value} {below : List Frame} {meth : Method} {c : Code} {T : State} {locs : List Loc} {cells slots : Nat}
theorem mu_stand (X : Stand p l e R s m args below meth c T locs cells slots) (cA comp : ClassId) : ∀ i, Stand p l e R s m args below meth c (mu_st T cA comp i) (locs ++ (List.range i).map fun j => ⟨T.heap.size, j⟩) (cells + 1 + i) (slots + 201 + i * 7)
  | 0 => by
    have h := X.pushed (mu_out cA T.heap.size 0)
    rw [show (mu_out cA T.heap.size 0).slots.size = 201 from arrV_size _ _ _] at h
    simpa [mu_st] using h
  | i + 1 => by
    have Xi := mu_stand X cA comp i
    obtain ⟨f1, f2, f3, f4⟩ := mu_facts T cA comp i
    have hlt0 : T.heap.size < (mu_st T cA comp i).heap.size := by rw [f1]; omega
    have hcell : ((mu_st T cA comp i).pushCell (mu_row comp)).heap[T.heap.size]? = some (mu_out cA T.heap.size i) := by rw [State.heap_pushCell_of_lt (h := hlt0)]; exact f2
    have h := (Xi.pushed (mu_row comp)).stored hcell i (.ref (T.heap.size + 1 + i))
    rw [show (mu_row comp).slots.size = 7 from arrV_size _ _ _, mu_out_set] at h
    have e2 : (locs ++ (List.range (i + 1)).map fun j => (⟨T.heap.size, j⟩ : Loc)) = (locs ++ (List.range i).map fun j => (⟨T.heap.size, j⟩ : Loc)) ++ [⟨T.heap.size, i⟩] := by simp [List.range_succ, List.append_assoc]
    rw [e2, show slots + 201 + (i + 1) * 7 = slots + 201 + i * 7 + 7 from by omega]
    exact h
theorem mu_step (X : Stand p l e R s m args below meth c T locs cells slots) (hexec : p.tables.exec = Jvm.exec) {own : String} {index : Nat} {cA comp cc : ClassId} {kA kC : Class}
    (hown : s.vm.findClass own = some m.cls) (hclink : (Cond.classLink own index "[[I").before args s = true) (hA : s.vm.findClass "[[I" = some cA) (hkA : s.vm.classes[cA]? = some kA) (hkindA : kA.kind = .array comp (.array .int)) (hkC : s.vm.classes[comp]? = some kC) (hkindC : kC.kind = .array cc .int)
    {g : JFrame} (hg : g.method = m) (hdg : decode c.code g.pc = .ok (.multianewarray index 2, 4)) {rest : List Value} (hstack : g.stack = .int 7 :: .int 201 :: rest)
    (hcells : cells + 202 ≤ R.cells) (hslots : slots + 1608 ≤ R.slots) :
    ∃ vm₁ : Vm, Stand p l e R s m args below meth c (mu_st (T.setVm vm₁) cA comp 201) (locs ++ (List.range 201).map fun j => ⟨T.heap.size, j⟩) (cells + 1 + 201) (slots + 201 + 201 * 7) ∧
      ∀ target, Steps p.tables e below ((mu_st (T.setVm vm₁) cA comp 201).setTop { g with pc := g.pc + 4, stack := .ref T.heap.size :: rest }) target → Steps p.tables e below (T.setTop g) target := by
  subst hg
  have hpl : e.platform.magicAccessors = ({} : Platform).magicAccessors := by rw [X.admits.platform]
  obtain ⟨c0, hfc0, hcl⟩ := Cond.classLink_spec hown hclink e.platform hpl
  cases hA.symm.trans hfc0
  obtain ⟨hg₁, hwarm₁, hready₁⟩ := State.classEntry (e := e) X.warmed hcl
  generalize T.vm.noted g.method.cls index (.cls cA) = vm₁ at hg₁ hwarm₁ hready₁
  have hal : s.vm.Alike vm₁ := hwarm₁.alike
  obtain ⟨kA₁, hkA₁, heA⟩ := hal.2.2 _ _ hkA
  obtain ⟨kC₁, hkC₁, heC⟩ := hal.2.2 _ _ hkC
  have hkindA₁ : kA₁.kind = .array comp (.array .int) := by rw [heA]; exact hkindA
  have hkindC₁ : kC₁.kind = .array cc .int := by rw [heC]; exact hkindC
  have X₁ := X.noted hwarm₁
  obtain ⟨hr1, hr2⟩ := X.roomAbove hcells hslots
  refine ⟨vm₁, mu_stand X₁ cA comp 201, fun target hrest => ?_⟩
  have hl1 : 201 ≤ e.platform.arrayLengthLimit := by rw [Launch.admits_arrayLengthLimit X.admits]; omega
  have hh1 : 201 * 8 ≤ e.platform.maxHeapBytes := by rw [Launch.admits_maxHeapBytes X.admits]; omega
  jvm_step X.here [hexec, hdg]
  simp only [multianewarray.sem, wp_bind', W.resolveClassAt_links (State.method?_setTop g X.here.top) hg₁]
  rw [W.popN, if_neg (by decide)]
  refine ⟨g, State.topJava?_setTop' (s := T.setVm vm₁) g X.here.top, [.int 201, .int 7], rest, rfl, hstack, ?_⟩
  simp only [List.mapM_cons, List.mapM_nil, wp_bind', wp_pure']
  refine mu_make (k := kA₁) (kc := kC₁) hkA₁ hkindA₁ hkC₁ hkindC₁ hl1 hh1 (by show T.heap.size + 202 ≤ _; omega) (by show T.slotsUsed + 1608 ≤ _; omega) (fun d' acts' => ?_)
  have XF := mu_stand X₁ cA comp 201
  have eS : ((T.setTop g).setVm vm₁).setTop { g with stack := rest } = (T.setVm vm₁).setTop { g with stack := rest } := by
    show ((T.setVm vm₁).setTop g).setTop _ = _
    rw [State.setTop_setTop]
  rw [eS, mu_top]
  simp only [wp_bind', W.mark, W.pushRef, State.topJava?_setTop' _ XF.here.top, Option.some.injEq, exists_eq_left', State.setTop_setTop, State.heap_setTop]
  intro acts
  simp [jvm, XF.here.top]
  exact hrest
end Mv
section Mw
variable {b : Bool} {X : px} {y : pmd} {d pc : Nat} {ls : List (Nat × pv)} {st : List pv} {S : List psh} {M : pM} {Q : po → ph → Prop}
/-- several new cells behind the others -/
theorem pu_H_app {S2 : List psh} {M2 : pM} {H H' : Heap} (hH : pu_H b X (S, M) H) (hz : H'.size = H.size + S2.length) (ho : ∀ q : Nat, q < H.size → H'[q]? = H[q]?) (hM : ∀ (a : Nat) (i : Int), a < S.length → M2 a i = M a i) (ha : ∀ (i : Nat) (σ : psh), S2[i]? = some σ → pu_at X (xZ X + (S.length + i)) σ (M2 ((S.length + i : Nat) : Int)) H') (hn : S.length + S2.length ≤ 601024) (hs : pu_hs S + pu_hs S2 ≤ 7293034) : pu_H b X (S ++ S2, M2) H' := by
  obtain ⟨h1, h2, h3, h4, h5, h6⟩ := hH
  have h1 : H.size = xZ X + S.length := h1
  refine ⟨?_, fun q hq => (ho q (by omega)).trans (h2 q hq), fun a σ hk => ?_, ?_, ?_, fun hb => ⟨(h6 hb).1.trans (List.prefix_append _ _), fun q hq => ?_⟩⟩
  · show H'.size = xZ X + (S ++ S2).length
    rw [hz, h1, List.length_append]; omega
  · have hk : (S ++ S2)[a]? = some σ := hk
    by_cases hlt : a < S.length
    · rw [List.getElem?_append_left hlt] at hk
      have e9 : M2 a = M a := funext fun i => hM a i hlt
      show pu_at X (xZ X + a) σ (M2 a) H'
      rw [e9]
      exact pu_at_kept (h3 a σ hk) (ho _ (by omega))
    · rw [List.getElem?_append_right (by omega)] at hk
      have := ha _ _ hk
      rw [show S.length + (a - S.length) = a by omega] at this
      exact this
  · show (S ++ S2).length ≤ 601024
    rw [List.length_append]; exact hn
  · show pu_hs (S ++ S2) ≤ 7293034
    rw [pu_hs_append]; exact hs
  · have h7 := (h6 hb).2 q hq
    have h8 := pu_cons_lt q hq
    have h9 := (h6 hb).1.length_le
    rw [pu_perm_len] at h9
    have h9 : 288 ≤ S.length := h9
    have h10 : 0 ≤ q.1 := by
      have hall : pu_cons.all (fun q => decide (0 ≤ q.1)) = true := by decide +kernel
      exact of_decide_eq_true (List.all_eq_true.mp hall q hq)
    obtain ⟨a, ha1⟩ : ∃ a : Nat, q.1 = a := ⟨q.1.toNat, by omega⟩
    show M2 q.1 q.2.1 = q.2.2
    rw [ha1, hM a _ (by omega), ← ha1]
    exact h7
def mu_S : List psh := (.inr 8, 201) :: List.replicate 201 (.inr 0, 7)
def mu_M (M : pM) (n : Int) : pM := fun x j => if x = n then n + 1 + j else if n < x ∧ x < n + 202 then 0 else M x j
theorem mu_S_len : mu_S.length = 202 := by decide
theorem mu_S_hs : pu_hs mu_S = 1608 := by decide +kernel
theorem mu_S_at {i : Nat} {σ : psh} (h : mu_S[i]? = some σ) : (i = 0 ∧ σ = (.inr 8, 201)) ∨ (∃ j, i = j + 1 ∧ j < 201 ∧ σ = (.inr 0, 7)) := by
  unfold mu_S at h
  cases i with
  | zero => left; exact ⟨rfl, (Option.some.inj h).symm⟩
  | succ j =>
    right
    rw [List.getElem?_cons_succ, List.getElem?_replicate] at h
    split at h
    · rename_i hj
      exact ⟨j, rfl, hj, (Option.some.inj h).symm⟩
    · cases h
theorem arrV_congr {cA : ClassId} {n : Nat} {f g : Nat → Value} (h : ∀ j, j < n → f j = g j) : arrV cA n f = arrV cA n g := by
  unfold arrV
  congr 1
  apply Array.ext
  · simp
  · intro i h1 h2
    have hi : i < n := by simpa using h1
    simp only [Array.getElem_ofFn]
    exact h i hi
theorem mu_outer {n : Nat} : mu_out (xA X 8) (xZ X + n) 201 = arrV (xA X 8) 201 (fun j => pu_cv X (pu_ty 8) (mu_M M n n j)) := by
  unfold mu_out
  refine arrV_congr (fun i hi => ?_)
  rw [if_pos hi]
  show _ = va_rf (pu_rf X (mu_M M n n i))
  have e : mu_M M n n i = ((n + 1 + i : Nat) : Int) := by
    unfold mu_M
    rw [if_pos rfl]
    omega
  rw [e, pu_rf_nat]
  show Value.ref _ = Value.ref _
  congr 1
  exact (by intro a b c; omega : ∀ a b c : Nat, a + b + 1 + c = a + (b + 1 + c)) _ _ _
theorem mu_inner {n j : Nat} (hj : j < 201) : mu_row (xA X 0) = arrV (xA X 0) 7 (fun i => pu_cv X (pu_ty 0) (mu_M M n ((n + (j + 1) : Nat) : Int) i)) := by
  unfold mu_row
  congr 1
  funext i
  have e : mu_M M n ((n + (j + 1) : Nat) : Int) i = 0 := by
    unfold mu_M
    rw [if_neg (by omega), if_pos (by omega)]
  rw [e]
  rfl
theorem pu_multi {own : String} {index : Nat} (hy : y.1.cls = own) (hcl : Cond.classLink own index "[[I" ∈ lw_all) (hd : decode y.2.1 pc = .ok (.multianewarray index 2, 4)) (hn : S.length + 202 ≤ 601024) (hs : pu_hs S + 1608 ≤ 7293034)
    (k : pw b X y d (pc + 4) ls (pR S.length :: st) (S ++ mu_S, mu_M M S.length) Q) : pw b X y d pc ls (pI 7 :: pI 201 :: st) (S, M) Q := by
  intro p e s m args below meth c H locs cells slots lsa g hM hsz hg hH hlo hl
  refine pu_tight hH hsz hg ?_
  intro T hT Y
  have hts := hM.2.2.2.2.2.2.2.1
  have hC := hM.2.2.2.2.2.2.2.2.1
  have hle : g.length ≤ S.length := hg.length_le
  have hsl : pu_hs g ≤ pu_hs S := pu_hs_le hg
  obtain ⟨kA, hkA, hkindA⟩ := hC.1.2
  obtain ⟨-, kC, hkC, cc, hkindC⟩ := (pu_arrOf hC (t := 0) (by decide)).1 0 (fun _ => .null)
  have hA : s.vm.findClass "[[I" = some (xA X 8) := (pu_arrOf hC (t := 8) (by decide)).2
  obtain ⟨vm₁, Y', st9⟩ := mu_step (comp := xA X 0) Y hM.1 (own := own) (index := index) (by rw [← hy]; exact hM.2.2.2.2.2.1) (hts _ hcl) hA hkA hkindA hkC hkindC (g := F0 m pc lsa ((pI 7 :: pI 201 :: st).map (pu_v X))) rfl (by rw [hM.2.1]; exact hd) (rest := st.map (pu_v X)) rfl (by show S.length - _ + _ ≤ 601024 - _; omega) (by show pu_hs S - _ + _ ≤ 7293034 - _; omega)
  have hTz : T.heap.size = xZ X + S.length := by rw [hT]; exact hH.1
  have hTz' : (T.setVm vm₁).heap.size = xZ X + S.length := hTz
  obtain ⟨f1, f2, f3, f4⟩ := mu_facts (T.setVm vm₁) (xA X 8) (xA X 0) 201
  have hold : ∀ q : Nat, q < H.size → (mu_st (T.setVm vm₁) (xA X 8) (xA X 0) 201).heap[q]? = H[q]? := fun q hq => by
    rw [mu_old (T.setVm vm₁) (xA X 8) (xA X 0) (a := q) (by show q < T.heap.size; rw [hT]; exact hq) 201]
    show T.heap[q]? = _
    rw [hT]
  have hHz : H.size = xZ X + S.length := hH.1
  have hH1 : pu_H b X (S ++ mu_S, mu_M M S.length) (mu_st (T.setVm vm₁) (xA X 8) (xA X 0) 201).heap := by
    refine pu_H_app hH ?_ hold (fun a i ha => ?_) (fun i σ hi => ?_) (by rw [mu_S_len]; exact hn) (by rw [mu_S_hs]; exact hs)
    · rw [f1, hTz', mu_S_len, hHz]
    · unfold mu_M
      rw [if_neg (by omega), if_neg (by omega)]
    · rcases mu_S_at hi with ⟨rfl, rfl⟩ | ⟨j, rfl, hj, rfl⟩
      · refine ⟨by decide, ?_⟩
        rw [hTz'] at f2
        rw [Nat.add_zero, f2, mu_outer (M := M)]
      · refine ⟨by decide, ?_⟩
        have h9 := mu_rows (T.setVm vm₁) (xA X 8) (xA X 0) 201 j hj
        rw [hTz'] at h9
        rw [show xZ X + (S.length + (j + 1)) = xZ X + S.length + 1 + j by omega, h9, mu_inner (M := M) (n := S.length) hj]
  have k9 := k p e s m args below meth c _ (locs ++ (List.range 201).map fun j => (⟨T.heap.size, j⟩ : Loc)) (S.length - g.length + 1 + 201) (pu_hs S - pu_hs g + 201 + 201 * 7) lsa g hM hsz (hg.trans (List.prefix_append _ _)) hH1 (fun q hq => by
    rcases List.mem_append.mp hq with h9 | h9
    · exact hlo q h9
    · obtain ⟨z, -, hz⟩ := List.mem_map.mp h9
      rw [← hz]
      show xZ X ≤ T.heap.size
      omega) hl
  have hr : pu_rf X (S.length : Int) = some T.heap.size := by rw [pu_rf_nat, hTz]
  have k9 : W p (xL X) e (pu_room d g.length (pu_hs g)) s m args below meth c (mu_st (T.setVm vm₁) (xA X 8) (xA X 0) 201).heap (locs ++ (List.range 201).map fun j => (⟨T.heap.size, j⟩ : Loc)) (S.length - g.length + 1 + 201) (pu_hs S - pu_hs g + 201 + 201 * 7) (pu_MQ below (pu_Qc b X g Q) (pu_XC b X g Q) args s (601024 - g.length) (7293034 - pu_hs g) (fun q => xZ X ≤ q)) (F0 m (pc + 4) lsa (va_rf (pu_rf X S.length) :: st.map (pu_v X))) := k9
  rw [hr] at k9
  obtain ⟨t, a1, b1⟩ := k9 _ rfl Y'
  exact ⟨t, st9 t a1, b1⟩
end Mw
