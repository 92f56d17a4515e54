/-! ===== how ladders stand in the component's heap ===== -/
set_option maxRecDepth 100000
/-- an element: kind, leg, a, b -/
abbrev elt : Type := Int × Int × Int × Int
def el (L : List elt) (i : Int) : elt := L.getD i.toNat (0, 0, 0, 1)
def mb : List elt → Int
  | [] => 0
  | e :: L => (if e.1 = 3 then 1 else 0) + mb L
theorem mb_app (L L' : List elt) : mb (L ++ L') = mb L + mb L' := by
  induction L with
  | nil => simp [mb]
  | cons e L ih => simp only [List.cons_append, mb, ih]; omega
theorem mb_bd (L : List elt) : 0 ≤ mb L ∧ mb L ≤ L.length := by
  induction L with
  | nil => simp [mb]
  | cons e L ih => simp only [mb, List.length_cons]; split <;> omega
def okE (n : Int) (e : elt) : Prop := 0 ≤ e.2.1 ∧ e.2.1 + 2 ≤ n ∧ (((e.1 = 0 ∨ e.1 = 1 ∨ e.1 = 2) ∧ e.2.2.1 = 0 ∧ e.2.2.2 = 1) ∨ (e.1 = 3 ∧ 0 ≤ e.2.2.1 ∧ e.2.2.1 ≤ e.2.2.2 ∧ 1 ≤ e.2.2.2 ∧ e.2.2.2 ≤ 4))
def okL (n : Int) (L : List elt) : Prop := 2 ≤ n ∧ n ≤ 7 ∧ L.length ≤ 200 ∧ mb L ≤ 20 ∧ ∀ e ∈ L, okE n e
theorem el_mem {L : List elt} {i : Int} (h1 : 0 ≤ i) (h2 : i < L.length) : el L i ∈ L := by
  unfold el
  rw [List.getD_eq_getElem?_getD, List.getElem?_eq_getElem (by omega), Option.getD_some]
  exact List.getElem_mem _
theorem okL.at {n : Int} {L : List elt} {i : Int} (h : okL n L) (h1 : 0 ≤ i) (h2 : i < L.length) : okE n (el L i) := h.2.2.2.2 _ (el_mem h1 h2)
theorem el_app {L L' : List elt} {i : Int} (h1 : 0 ≤ i) (h2 : i < L.length) : el (L ++ L') i = el L i := by
  unfold el
  rw [List.getD_eq_getElem?_getD, List.getD_eq_getElem?_getD, List.getElem?_append_left (by omega)]
theorem el_app2 {L L' : List elt} {i : Int} (h1 : (L.length : Int) ≤ i) : el (L ++ L') i = el L' (i - L.length) := by
  unfold el
  rw [List.getD_eq_getElem?_getD, List.getD_eq_getElem?_getD, List.getElem?_append_right (by omega)]
  congr 2
  omega
theorem at_app {L L' : List Int} {i : Int} (h1 : 0 ≤ i) (h2 : i < L.length) : at0 (L ++ L') i = at0 L i := by
  unfold at0
  rw [List.getD_eq_getElem?_getD, List.getD_eq_getElem?_getD, List.getElem?_append_left (by omega)]
theorem at_app2 {L L' : List Int} {i : Int} (h1 : (L.length : Int) ≤ i) : at0 (L ++ L') i = at0 L' (i - L.length) := by
  unfold at0
  rw [List.getD_eq_getElem?_getD, List.getD_eq_getElem?_getD, List.getElem?_append_right (by omega)]
  congr 2
  omega
theorem shq_lt {S : List psh} {a : Int} {σ : psh} (h : shq S a = some σ) : 0 ≤ a ∧ a < S.length := by
  unfold shq at h
  split at h
  · have := (List.getElem?_eq_some_iff.1 h).1
    omega
  · cases h
theorem shq_new {S : List psh} {σ : psh} : shq (S ++ [σ]) (S.length : Int) = some σ := by
  unfold shq
  rw [if_pos (by omega)]
  simp
theorem shq_app {S S' : List psh} {a : Int} {σ : psh} (h : shq S a = some σ) : shq (S ++ S') a = some σ := shq_pre (List.prefix_append _ _) h
/-- an ArrayList with so many cells -/
def AL (S : List psh) (M : pM) (a : Int) (l : List Int) (c : Int) : Prop := shq S a = some (.inl 4, 3) ∧ M a 2 = l.length ∧ ((M a 1 = -4 ∧ l = [] ∧ c = 0) ∨ ∃ n : Nat, c = n ∧ shq S (M a 1) = some (.inr 5, n) ∧ 0 < n ∧ n ≤ 300 ∧ l.length ≤ n ∧ ∀ i : Int, 0 ≤ i → i < l.length → M (M a 1) i = at0 l i)
theorem AL.cap {S : List psh} {M : pM} {a c : Int} {l : List Int} (h : AL S M a l c) : 0 ≤ c ∧ c ≤ 300 ∧ (l.length : Int) ≤ c := by
  obtain ⟨_, _, h | ⟨n, h1, h2, h3, h4, h5, h6⟩⟩ := h
  · obtain ⟨_, h, h'⟩ := h
    subst h
    subst h'
    simp
  · omega
theorem AL.fr {S S' : List psh} {M M' : pM} {a c : Int} {l : List Int} (h : AL S M a l c) (hs : S <+: S') (h1 : M' a = M a) (h2 : M a 1 ≠ -4 → M' (M a 1) = M (M a 1)) : AL S' M' a l c := by
  obtain ⟨a1, a2, a3⟩ := h
  refine ⟨shq_pre hs a1, by rw [h1]; exact a2, ?_⟩
  rw [h1]
  rcases a3 with h | ⟨n, b1, b2, b3, b4, b5, b6⟩
  · exact Or.inl h
  · have := (shq_lt b2).1
    refine Or.inr ⟨n, b1, shq_pre hs b2, b3, b4, b5, ?_⟩
    rw [h2 (by omega)]
    exact b6
/-- more room is taken: so many cells, so many slots -/
def grw (S S' : List psh) (c s : Int) : Prop := S <+: S' ∧ (S'.length : Int) ≤ S.length + c ∧ (pu_hs S' : Int) ≤ pu_hs S + s
theorem grw.refl (S : List psh) : grw S S 0 0 := ⟨List.prefix_refl _, by omega, by omega⟩
theorem grw.trans {S S1 S2 : List psh} {c s c' s' : Int} (a : grw S S1 c s) (b : grw S1 S2 c' s') : grw S S2 (c + c') (s + s') := ⟨a.1.trans b.1, by have := a.2.1; have := b.2.1; omega, by have := a.2.2; have := b.2.2; omega⟩
theorem grw.le {S S1 : List psh} {c s c' s' : Int} (a : grw S S1 c s) (h1 : c ≤ c') (h2 : s ≤ s') : grw S S1 c' s' := ⟨a.1, by have := a.2.1; omega, by have := a.2.2; omega⟩
theorem hs_app {S : List psh} {σ : psh} : pu_hs (S ++ [σ]) = pu_hs S + σ.2 := by
  unfold pu_hs
  simp [List.map_append, List.sum_append]
theorem grw_one {S : List psh} {σ : psh} : grw S (S ++ [σ]) 1 σ.2 := ⟨List.prefix_append _ _, by simp, by rw [hs_app]; omega⟩
/-- there is room -/
def RM (S : List psh) (c s : Int) : Prop := (S.length : Int) + c ≤ 601024 ∧ (pu_hs S : Int) + s ≤ 7293034
theorem RM.grw {S S' : List psh} {c s c' s' : Int} (h : RM S c s) (g : grw S S' c' s') : RM S' (c - c') (s - s') := ⟨by have := h.1; have := g.2.1; omega, by have := h.2; have := g.2.2; omega⟩
theorem RM.le {S : List psh} {c s c' s' : Int} (h : RM S c s) (h1 : c' ≤ c) (h2 : s' ≤ s) : RM S c' s' := ⟨by have := h.1; omega, by have := h.2; omega⟩
theorem z_ne {M : pM} {a v x : Int} (h : x ≠ a) : pu_z M a v x = M x := by
  funext j
  unfold pu_z
  rw [if_neg h]
theorem z_at {M : pM} {a v j : Int} : pu_z M a v a j = v := by unfold pu_z; rw [if_pos rfl]
theorem zo_ne {M : pM} {a x : Int} {c : Nat} (h : x ≠ a) : pu_zo M a c x = M x := by
  funext j
  unfold pu_zo
  rw [if_neg h]
theorem zo_at {M : pM} {a j : Int} {c : Nat} : pu_zo M a c a j = pu_df c j := by unfold pu_zo; rw [if_pos rfl]
section
variable {X : px} {b : Bool}
theorem j_size {S : List psh} {M : pM} {F : Int → pM → Prop} {a c : Int} {l : List Int} (h : AL S M a l c) (k : F l.length M) : pNi b X mJ2_size 1 [pR a] S M F := by
  refine eJ2_size (bJ2_size_0 ⟨h.1, ?_⟩)
  rw [h.2.1]
  exact k
theorem j_check {S : List psh} {M : pM} {F : Int → pM → Prop} {i n : Int} (h1 : 0 ≤ i) (h2 : i < n) (hn : n < 2147483648) (k : F i M) : pNi b X mJ13_checkIndex 2 [pI i, pI n] S M F := by
  refine eJ13_checkIndex (bJ13_checkIndex_0 (eJ5_checkIndex (bJ5_checkIndex_0 ?_)))
  ((repeat' (first | (with_reducible apply And.intro) | (with_reducible intro _ e; subst e) | (with_reducible intro _))) <;> (try (first | omega | (with_reducible assumption))))
theorem j_get {S : List psh} {M : pM} {F : Int → pM → Prop} {a i c : Int} {l : List Int} (h : AL S M a l c) (h1 : 0 ≤ i) (h2 : i < l.length) (k : F (at0 l i) M) : pNr b X mJ2_get 3 [pR a, pI i] S M F := by
  have hc := h.cap
  refine eJ2_get (bJ2_get_0 ⟨h.1, ?_⟩)
  rw [h.2.1]
  refine j_check h1 h2 (by omega) ⟨h.1, eJ2_elementData (bJ2_elementData_0 ⟨h.1, ?_⟩)⟩
  obtain ⟨a1, a2, a3⟩ := h
  rcases a3 with h | ⟨n, b1, b2, b3, b4, b5, b6⟩
  · obtain ⟨_, h, _⟩ := h
    subst h
    simp at h2
    omega
  · refine ⟨n, b2, h1, by omega, ?_⟩
    rw [b6 i h1 h2]
    exact k
end
