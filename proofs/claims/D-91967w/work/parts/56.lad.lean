/-! ===== steps, ladders, the component's state ===== -/
set_option maxRecDepth 100000
def StepR (S : List psh) (M : pM) (r : Int) (e : elt) : Prop := 288 ≤ r ∧ M r 0 = e.2.1 ∧ ((e.1 = 0 ∧ shq S r = some (.inl 5, 1)) ∨ (e.1 = 1 ∧ shq S r = some (.inl 6, 1)) ∨ (e.1 = 2 ∧ shq S r = some (.inl 7, 1)) ∨ (e.1 = 3 ∧ shq S r = some (.inl 8, 3) ∧ M r 1 = e.2.2.1 ∧ M r 2 = e.2.2.2))
theorem StepR.is {S : List psh} {M : pM} {r : Int} {e : elt} (h : StepR S M r e) : isStep S r := by
  obtain ⟨_, _, h | h | h | h⟩ := h
  · exact Or.inl h.2
  · exact Or.inr (Or.inl h.2)
  · exact Or.inr (Or.inr (Or.inl h.2))
  · exact Or.inr (Or.inr (Or.inr h.2.1))
theorem StepR.lt {S : List psh} {M : pM} {r : Int} {e : elt} (h : StepR S M r e) : r < S.length := by
  obtain ⟨_, _, h | h | h | h⟩ := h
  · exact (shq_lt h.2).2
  · exact (shq_lt h.2).2
  · exact (shq_lt h.2).2
  · exact (shq_lt h.2.1).2
theorem StepR.nar {S : List psh} {M : pM} {r : Int} {e : elt} {n : Nat} (h : StepR S M r e) : shq S r ≠ some (.inr 5, n) := by
  obtain ⟨_, _, h | h | h | h⟩ := h
  · rw [h.2]; intro z; cases z
  · rw [h.2]; intro z; cases z
  · rw [h.2]; intro z; cases z
  · rw [h.2.1]; intro z; cases z
theorem StepR.fr {S S' : List psh} {M M' : pM} {r : Int} {e : elt} (h : StepR S M r e) (hs : S <+: S') (hm : M' r = M r) : StepR S' M' r e := by
  obtain ⟨h1, h2, h3⟩ := h
  refine ⟨h1, by rw [hm]; exact h2, ?_⟩
  rw [hm]
  rcases h3 with h | h | h | h
  · exact Or.inl ⟨h.1, shq_pre hs h.2⟩
  · exact Or.inr (Or.inl ⟨h.1, shq_pre hs h.2⟩)
  · exact Or.inr (Or.inr (Or.inl ⟨h.1, shq_pre hs h.2⟩))
  · exact Or.inr (Or.inr (Or.inr ⟨h.1, shq_pre hs h.2.1, h.2.2⟩))
/-- which of four a step is -/
theorem StepR.d {S : List psh} {M : pM} {r : Int} {e : elt} {A B C D : Prop} (h : StepR S M r e) (k0 : e.1 = 0 → A) (k1 : e.1 = 1 → B) (k2 : e.1 = 2 → C) (k3 : e.1 = 3 → D) : isStep S r ∧ (shq S r = some (.inl 5, 1) → A) ∧ (shq S r = some (.inl 6, 1) → B) ∧ (shq S r = some (.inl 7, 1) → C) ∧ (shq S r = some (.inl 8, 3) → D) := by
  refine ⟨h.is, ?_⟩
  obtain ⟨_, _, h | h | h | h⟩ := h
  · exact ⟨fun _ => k0 h.1, fun z => (by rw [h.2] at z; cases z), fun z => (by rw [h.2] at z; cases z), fun z => (by rw [h.2] at z; cases z)⟩
  · exact ⟨fun z => (by rw [h.2] at z; cases z), fun _ => k1 h.1, fun z => (by rw [h.2] at z; cases z), fun z => (by rw [h.2] at z; cases z)⟩
  · exact ⟨fun z => (by rw [h.2] at z; cases z), fun z => (by rw [h.2] at z; cases z), fun _ => k2 h.1, fun z => (by rw [h.2] at z; cases z)⟩
  · exact ⟨fun z => (by rw [h.2.1] at z; cases z), fun z => (by rw [h.2.1] at z; cases z), fun z => (by rw [h.2.1] at z; cases z), fun _ => k3 h.1⟩
section
variable {X : px} {b : Bool}
theorem d_sort {S : List psh} {M0 M : pM} {r : Int} {e : elt} {G : Int → pM → Prop} (h : StepR S M0 r e) (k : G e.1 M) : isStep S r ∧ (shq S r = some (.inl 5, 1) → pNi b X mX9_sort 1 [pR r] S M G) ∧ (shq S r = some (.inl 6, 1) → pNi b X mX5_sort 1 [pR r] S M G) ∧ (shq S r = some (.inl 7, 1) → pNi b X mX10_sort 1 [pR r] S M G) ∧ (shq S r = some (.inl 8, 3) → pNi b X mX11_sort 1 [pR r] S M G) := by
  refine h.d (fun z => ?_) (fun z => ?_) (fun z => ?_) (fun z => ?_) <;> rw [z] at k
  · exact eX9_sort (bX9_sort_0 k)
  · exact eX5_sort (bX5_sort_0 k)
  · exact eX10_sort (bX10_sort_0 k)
  · exact eX11_sort (bX11_sort_0 k)
end
/-- whether two change -/
def chg (e : elt) (x y t : Int) : Int := if e.1 = 0 ∨ (e.1 = 1 ∧ y < x) ∨ (e.1 = 2 ∧ x < y) ∨ (e.1 = 3 ∧ t ≠ 0) then 1 else 0
section
variable {X : px} {b : Bool}
theorem d_changes {S : List psh} {M0 M : pM} {r x y t : Int} {e : elt} {G : Int → pM → Prop} (h : StepR S M0 r e) (hx : inR x) (hy : inR y) (ht : inR t) (k : G (chg e x y t) M) : isStep S r ∧ (shq S r = some (.inl 5, 1) → pNi b X mX9_changes 1 [pR r, pI x, pI y, pI t] S M G) ∧ (shq S r = some (.inl 6, 1) → pNi b X mX5_changes 1 [pR r, pI x, pI y, pI t] S M G) ∧ (shq S r = some (.inl 7, 1) → pNi b X mX10_changes 2 [pR r, pI x, pI y, pI t] S M G) ∧ (shq S r = some (.inl 8, 3) → pNi b X mX11_changes 2 [pR r, pI x, pI y, pI t] S M G) := by
  have d := h.d (A := True) (B := True) (C := shq S r = some (.inl 7, 1)) (D := shq S r = some (.inl 8, 3)) (fun _ => trivial) (fun _ => trivial) (fun z => by obtain ⟨_, _, h | h | h | h⟩ := h <;> first | omega | exact h.2) (fun z => by obtain ⟨_, _, h | h | h | h⟩ := h <;> first | omega | exact h.2.1)
  refine h.d (fun z => ?_) (fun z => ?_) (fun z => ?_) (fun z => ?_)
  · unfold chg at k
    rw [if_pos (Or.inl z)] at k
    exact eX9_changes (bX9_changes_0 k)
  · refine eX5_changes (bX5_changes_0 ⟨hx, hy, fun c => ?_, fun c => ?_⟩)
    · unfold chg at k
      rw [if_neg (by omega)] at k
      exact k
    · unfold chg at k
      rw [if_pos (by omega)] at k
      exact k
  · have hs : shq S r = some (.inl 7, 1) := by obtain ⟨_, _, h | h | h | h⟩ := h <;> first | omega | exact h.2
    refine eX10_changes (bX10_changes_0 ⟨hs, eX5_changes (bX5_changes_0 ⟨hy, hx, fun c => ⟨by omega, by omega, ?_⟩, fun c => ⟨by omega, by omega, ?_⟩⟩)⟩)
    · unfold chg at k
      rw [if_neg (by omega)] at k
      exact k
    · unfold chg at k
      rw [if_pos (by omega)] at k
      exact k
  · have hs : shq S r = some (.inl 8, 3) := by obtain ⟨_, _, h | h | h | h⟩ := h <;> first | omega | exact h.2.1
    refine eX11_changes (bX11_changes_0 ⟨ht, fun c => ?_, fun c => ⟨hs, eX9_changes (bX9_changes_0 ⟨by constructor <;> decide, fun c => by omega, fun _ => ?_⟩)⟩⟩)
    · unfold chg at k
      rw [if_neg (by omega)] at k
      exact k
    · unfold chg at k
      rw [if_pos (by omega)] at k
      exact k
end
/-- the list of steps at s; z: the one array that may change -/
def StsR (z : Int) (S : List psh) (M : pM) (s : Int) (L : List elt) (c sz mbs : Int) : Prop := ∃ l : List Int, 288 ≤ s ∧ shq S s = some (.inl 9, 3) ∧ 288 ≤ M s 0 ∧ AL S M (M s 0) l c ∧ (M (M s 0) 1 = -4 ∨ (288 ≤ M (M s 0) 1 ∧ M (M s 0) 1 ≠ z)) ∧ l.length = L.length ∧ (∀ i : Int, 0 ≤ i → i < L.length → StepR S M (at0 l i) (el L i)) ∧ M s 1 = sz ∧ M s 2 = mbs
def LadR (z : Int) (S : List psh) (M : pM) (r n : Int) (L : List elt) : Prop := 288 ≤ r ∧ shq S r = some (.inl 10, 2) ∧ M r 0 = n ∧ ∃ c, StsR z S M (M r 1) L c L.length (mb L)
/-- what stands stays -/
def frH (z : Int) (S : List psh) (M : pM) (S' : List psh) (M' : pM) : Prop := S <+: S' ∧ ∀ x : Int, 288 ≤ x → x < S.length → x ≠ z → M' x = M x
theorem frH.refl (z : Int) (S : List psh) (M : pM) : frH z S M S M := ⟨List.prefix_refl _, fun _ _ _ _ => rfl⟩
theorem pre_len {S S' : List psh} (h : S <+: S') : (S.length : Int) ≤ S'.length := by have := h.length_le; omega
theorem frH.trans {z : Int} {S S1 S2 : List psh} {M M1 M2 : pM} (a : frH z S M S1 M1) (b : frH z S1 M1 S2 M2) : frH z S M S2 M2 := ⟨a.1.trans b.1, fun x h1 h2 h3 => (b.2 x h1 (by have := pre_len a.1; omega) h3).trans (a.2 x h1 h2 h3)⟩
theorem StsR.fr {z : Int} {S S' : List psh} {M M' : pM} {s c sz mbs : Int} {L : List elt} (hz : ∀ n : Nat × Nat, shq S z = some (.inl n.1, n.2) → False) (h : StsR z S M s L c sz mbs) (f : frH z S M S' M') : StsR z S' M' s L c sz mbs := by
  obtain ⟨l, a1, a2, a3, a4, a5, a6, a7, a8, a9⟩ := h
  have ns : s ≠ z := fun q => hz (9, 3) (by rw [← q]; exact a2)
  have na : M s 0 ≠ z := fun q => hz (4, 3) (by rw [← q]; exact a4.1)
  have es := f.2 s a1 (shq_lt a2).2 ns
  have ea := f.2 (M s 0) a3 (shq_lt a4.1).2 na
  refine ⟨l, a1, shq_pre f.1 a2, by rw [es]; exact a3, ?_, ?_, a6, fun i p q => ?_, by rw [es]; exact a8, by rw [es]; exact a9⟩
  · rw [es]
    refine a4.fr f.1 ea (fun q => ?_)
    rcases a5 with y | y
    · exact absurd y q
    · obtain ⟨_, _, w | ⟨n, _, w, _⟩⟩ := a4
      · exact absurd w.1 q
      · exact f.2 _ y.1 (shq_lt w).2 y.2
  · rw [es, ea]; exact a5
  · have st := a7 i p q
    refine st.fr f.1 (f.2 _ st.1 st.lt (fun w => ?_))
    obtain ⟨_, _, h | h | h | h⟩ := st
    · exact hz (5, 1) (by rw [← w]; exact h.2)
    · exact hz (6, 1) (by rw [← w]; exact h.2)
    · exact hz (7, 1) (by rw [← w]; exact h.2)
    · exact hz (8, 3) (by rw [← w]; exact h.2.1)
theorem LadR.fr {z : Int} {S S' : List psh} {M M' : pM} {r n : Int} {L : List elt} (hz : ∀ n : Nat × Nat, shq S z = some (.inl n.1, n.2) → False) (h : LadR z S M r n L) (f : frH z S M S' M') : LadR z S' M' r n L := by
  obtain ⟨a1, a2, a3, c, a4⟩ := h
  have nr : r ≠ z := fun q => hz (10, 2) (by rw [← q]; exact a2)
  have er := f.2 r a1 (shq_lt a2).2 nr
  refine ⟨a1, shq_pre f.1 a2, by rw [er]; exact a3, c, ?_⟩
  rw [er]
  exact a4.fr hz f
theorem StsR.z {z z' : Int} {S : List psh} {M : pM} {s c sz mbs : Int} {L : List elt} (h : StsR z S M s L c sz mbs) (hz : (S.length : Int) ≤ z') : StsR z' S M s L c sz mbs := by
  obtain ⟨l, a1, a2, a3, a4, a5, a6, a7, a8, a9⟩ := h
  refine ⟨l, a1, a2, a3, a4, ?_, a6, a7, a8, a9⟩
  rcases a5 with y | y
  · exact Or.inl y
  · obtain ⟨_, _, w | ⟨n, _, w, _⟩⟩ := a4
    · exact Or.inl w.1
    · exact Or.inr ⟨y.1, by have := (shq_lt w).2; omega⟩
theorem LadR.z {z z' : Int} {S : List psh} {M : pM} {r n : Int} {L : List elt} (h : LadR z S M r n L) (hz : (S.length : Int) ≤ z') : LadR z' S M r n L := by
  obtain ⟨a1, a2, a3, c, a4⟩ := h
  exact ⟨a1, a2, a3, c, a4.z hz⟩
def lad (Ls : List (Int × List elt)) (t : Int) : Int × List elt := Ls.getD t.toNat (2, [])
/-- the component's ladders -/
def CH (S : List psh) (M : pM) (Ls : List (Int × List elt)) : Prop := ∃ (l : List Int) (c : Int), 288 ≤ S.length ∧ AL S M 19 l c ∧ (M 19 1 = -4 ∨ 288 ≤ M 19 1) ∧ l.length = Ls.length ∧ Ls.length ≤ 6 ∧ (∀ t : Int, 0 ≤ t → t < Ls.length → LadR (M 19 1) S M (at0 l t) (lad Ls t).1 (lad Ls t).2) ∧ ∀ p ∈ Ls, okL p.1 p.2
theorem CH.z {S : List psh} {M : pM} {Ls : List (Int × List elt)} (h : CH S M Ls) : ∀ n : Nat × Nat, shq S (M 19 1) = some (.inl n.1, n.2) → False := by
  obtain ⟨l, c, _, a1, _⟩ := h
  intro n q
  obtain ⟨_, _, w | ⟨n, _, w, _⟩⟩ := a1
  · have := shq_lt q; omega
  · rw [w] at q; cases q
theorem lad_mem {Ls : List (Int × List elt)} {t : Int} (h1 : 0 ≤ t) (h2 : t < Ls.length) : lad Ls t ∈ Ls := by
  unfold lad
  rw [List.getD_eq_getElem?_getD, List.getElem?_eq_getElem (by omega), Option.getD_some]
  exact List.getElem_mem _
theorem CH.ok {S : List psh} {M : pM} {Ls : List (Int × List elt)} {t : Int} (h : CH S M Ls) (h1 : 0 ≤ t) (h2 : t < Ls.length) : okL (lad Ls t).1 (lad Ls t).2 := by
  obtain ⟨l, c, _, _, _, _, _, _, a⟩ := h
  exact a _ (lad_mem h1 h2)
theorem CH.fr {S S' : List psh} {M M' : pM} {Ls : List (Int × List elt)} (h : CH S M Ls) (h19 : M' 19 = M 19) (hz : M 19 1 ≠ -4 → M' (M 19 1) = M (M 19 1)) (f : frH (M 19 1) S M S' M') : CH S' M' Ls := by
  have zz := h.z
  obtain ⟨l, c, a0, a1, a2, a3, a4, a5, a6⟩ := h
  refine ⟨l, c, by have := pre_len f.1; omega, a1.fr f.1 h19 hz, by rw [h19]; exact a2, a3, a4, fun t p q => ?_, a6⟩
  rw [h19]
  exact (a5 t p q).fr zz f
section
variable {X : px}
theorem c_isLadder {S : List psh} {M : pM} {Ls : List (Int × List elt)} {F : Int → pM → Prop} {t : Int} (h : CH S M Ls) (ht : inR t) (k1 : 0 ≤ t → t < Ls.length → F 1 M) (k0 : ¬ (0 ≤ t ∧ t < Ls.length) → F 0 M) : pNi true X mX0_isLadder 2 [pR 0, pI t] S M F := by
  obtain ⟨l, c, a0, a1, a2, a3, a4, _⟩ := h
  refine eX0_isLadder (bX0_isLadder_0 (j_size a1 (c_within ht (by constructor <;> decide) (by constructor <;> omega) (fun p q => ⟨by omega, by omega, k1 p (by omega)⟩) (fun p => ⟨by omega, by omega, k0 (by omega)⟩))))
theorem c_get {b : Bool} {S : List psh} {M : pM} {Ls : List (Int × List elt)} {F : Int → pM → Prop} {t : Int} (h : CH S M Ls) (h1 : 0 ≤ t) (h2 : t < Ls.length) (k : ∀ r, LadR (M 19 1) S M r (lad Ls t).1 (lad Ls t).2 → okL (lad Ls t).1 (lad Ls t).2 → shq S r = some (.inl 10, 2) → F r M) : pNr b X mJ2_get 3 [pR 19, pI t] S M F := by
  have ok := h.ok h1 h2
  obtain ⟨l, c, a0, a1, a2, a3, a4, a5, _⟩ := h
  exact j_get a1 h1 (by omega) (k _ (a5 t h1 h2) ok (a5 t h1 h2).2.1)
theorem l_size {b : Bool} {S : List psh} {M : pM} {F : Int → pM → Prop} {z r n : Int} {L : List elt} (h : LadR z S M r n L) (k : F L.length M) : pNi b X mX12_size 2 [pR r] S M F := by
  obtain ⟨a1, a2, a3, c, l, b1, b2, b3, b4, b5, b6, b7, b8, b9⟩ := h
  refine eX12_size (bX12_size_0 ⟨a2, b2, b4.1, j_size b4 ?_⟩)
  rw [b6]
  exact k
theorem l_at {b : Bool} {S : List psh} {M : pM} {F : Int → pM → Prop} {z r n i : Int} {L : List elt} (h : LadR z S M r n L) (h1 : 0 ≤ i) (h2 : i < L.length) (k : ∀ q, StepR S M q (el L i) → F q M) : pNr b X mX12_at 4 [pR r, pI i] S M F := by
  obtain ⟨a1, a2, a3, c, l, b1, b2, b3, b4, b5, b6, b7, b8, b9⟩ := h
  have st := b7 i h1 h2
  exact eX12_at (bX12_at_0 ⟨a2, b2, b4.1, j_get b4 h1 (by omega) ⟨st.is, k _ st⟩⟩)
/-- the usual way to a ladder's list -/
theorem LadR.w {z : Int} {S : List psh} {M : pM} {r n : Int} {L : List elt} (h : LadR z S M r n L) : shq S r = some (.inl 10, 2) ∧ shq S (M r 1) = some (.inl 9, 3) ∧ shq S (M (M r 1) 0) = some (.inl 4, 3) ∧ M r 0 = n ∧ M (M r 1) 2 = mb L := by
  obtain ⟨a1, a2, a3, c, l, b1, b2, b3, b4, b5, b6, b7, b8, b9⟩ := h
  exact ⟨a2, b2, b4.1, a3, b9⟩
theorem l_lsize {b : Bool} {S : List psh} {M : pM} {F : Int → pM → Prop} {z r n : Int} {L : List elt} (h : LadR z S M r n L) (k : F L.length M) : pNi b X mJ2_size 1 [pR (M (M r 1) 0)] S M F := by
  obtain ⟨a1, a2, a3, c, l, b1, b2, b3, b4, b5, b6, b7, b8, b9⟩ := h
  refine j_size b4 ?_
  rw [b6]
  exact k
theorem l_get {b : Bool} {S : List psh} {M : pM} {F : Int → pM → Prop} {z r n i : Int} {L : List elt} (h : LadR z S M r n L) (h1 : 0 ≤ i) (h2 : i < L.length) (k : ∀ q, StepR S M q (el L i) → F q M) : pNr b X mJ2_get 3 [pR (M (M r 1) 0), pI i] S M F := by
  obtain ⟨a1, a2, a3, c, l, b1, b2, b3, b4, b5, b6, b7, b8, b9⟩ := h
  exact j_get b4 h1 (by omega) (k _ (b7 i h1 h2))
end
