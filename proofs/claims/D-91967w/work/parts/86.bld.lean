/-! ===== steps that are being laid ===== -/
set_option maxRecDepth 100000
def StB (β : Int) (S : List psh) (M : pM) (s : Int) (L : List elt) (c sz mbs : Int) : Prop := ∃ l : List Int, 288 ≤ β ∧ β ≤ s ∧ shq S s = some (.inl 9, 3) ∧ β ≤ M s 0 ∧ AL S M (M s 0) l c ∧ (M (M s 0) 1 = -4 ∨ β ≤ M (M s 0) 1) ∧ l.length = L.length ∧ (∀ i : Int, 0 ≤ i → i < L.length → StepR S M (at0 l i) (el L i)) ∧ M s 1 = sz ∧ M s 2 = mbs
/-- nothing below changes -/
def frU (β : Int) (S : List psh) (M : pM) (S' : List psh) (M' : pM) : Prop := S <+: S' ∧ ∀ x : Int, 0 ≤ x → x < β → M' x = M x
theorem frU.refl (β : Int) (S : List psh) (M : pM) : frU β S M S M := ⟨List.prefix_refl _, fun _ _ _ => rfl⟩
theorem frU.trans {β : Int} {S S1 S2 : List psh} {M M1 M2 : pM} (a : frU β S M S1 M1) (b : frU β S1 M1 S2 M2) : frU β S M S2 M2 := ⟨a.1.trans b.1, fun x p q => (b.2 x p q).trans (a.2 x p q)⟩
theorem frU.le {β γ : Int} {S S1 : List psh} {M M1 : pM} (a : frU β S M S1 M1) (h : γ ≤ β) : frU γ S M S1 M1 := ⟨a.1, fun x p q => a.2 x p (by omega)⟩
theorem StB.w {β : Int} {S : List psh} {M : pM} {s c sz mbs : Int} {L : List elt} (h : StB β S M s L c sz mbs) : 288 ≤ β ∧ β ≤ s ∧ s < S.length ∧ shq S s = some (.inl 9, 3) ∧ shq S (M s 0) = some (.inl 4, 3) ∧ M s 1 = sz ∧ M s 2 = mbs ∧ 0 ≤ c ∧ c ≤ 300 ∧ (L.length : Int) ≤ c := by
  obtain ⟨l, a0, a1, a2, a3, a4, a5, a6, a7, a8, a9⟩ := h
  have := a4.cap
  exact ⟨a0, a1, (shq_lt a2).2, a2, a4.1, a8, a9, this.1, this.2.1, by omega⟩
theorem StB.fr {β : Int} {S S' : List psh} {M M' : pM} {s c sz mbs : Int} {L : List elt} (h : StB β S M s L c sz mbs) (hs : S <+: S') (hm : ∀ x : Int, 288 ≤ x → x < S.length → M' x = M x) : StB β S' M' s L c sz mbs := by
  obtain ⟨l, a0, a1, a2, a3, a4, a5, a6, a7, a8, a9⟩ := h
  have es := hm s (by omega) (shq_lt a2).2
  have ea := hm (M s 0) (by omega) (shq_lt a4.1).2
  refine ⟨l, a0, a1, shq_pre hs a2, by rw [es]; exact a3, ?_, by rw [es, ea]; exact a5, a6, fun i p q => (a7 i p q).fr hs (hm _ (a7 i p q).1 (a7 i p q).lt), by rw [es]; exact a8, by rw [es]; exact a9⟩
  rw [es]
  refine a4.fr hs ea (fun q => ?_)
  obtain ⟨_, _, w | ⟨n, _, w, _⟩⟩ := a4
  · exact absurd w.1 q
  · exact hm _ (by rcases a5 with y | y; exact absurd y q; omega) (shq_lt w).2
theorem StB.le {β γ : Int} {S : List psh} {M : pM} {s c sz mbs : Int} {L : List elt} (h : StB β S M s L c sz mbs) (h1 : 288 ≤ γ) (h2 : γ ≤ β) : StB γ S M s L c sz mbs := by
  obtain ⟨l, a0, a1, a2, a3, a4, a5, a6, a7, a8, a9⟩ := h
  exact ⟨l, h1, by omega, a2, by omega, a4, by omega, a6, a7, a8, a9⟩
theorem el_snoc {L : List elt} {e : elt} : el (L ++ [e]) L.length = e := by
  rw [el_app2 (Int.le_refl _), Int.sub_self]
  rfl
section
variable {X : px} {b : Bool}
theorem s_new {S : List psh} {M : pM} {F : List psh → pM → Prop} (h288 : 288 ≤ S.length) (rm : RM S 2 6) (k : ∀ M', StB S.length (S ++ [(.inl 9, 3)] ++ [(.inl 4, 3)]) M' S.length [] 0 0 0 → (∀ x : Int, x < S.length → M' x = M x) → F (S ++ [(.inl 9, 3)] ++ [(.inl 4, 3)]) M') : pAv b X mX8_init 5 [pR S.length] (S ++ [(.inl 9, 3)]) (pu_zo M S.length 9) F := by
  obtain ⟨rm1, rm2⟩ := rm
  have sh9 : shq (S ++ [(.inl 9, 3)]) (S.length : Int) = some (.inl 9, 3) := shq_new
  have len1 : ((S ++ [((.inl 9, 3) : psh)]).length : Int) = S.length + 1 := by simp
  refine eX8_init (bX8_init_0 ⟨⟨_, sh9⟩, by simp; omega, by rw [hs_app]; omega, fun r4 S5 M6 e4 e5 e6 => ?_⟩)
  rw [len1] at e4
  subst e4
  subst e5
  have sh9' : shq (S ++ [(.inl 9, 3)] ++ [(.inl 4, 3)]) (S.length : Int) = some (.inl 9, 3) := shq_app sh9
  have sh4 : shq (S ++ [(.inl 9, 3)] ++ [(.inl 4, 3)]) ((S.length : Int) + 1) = some (.inl 4, 3) := by rw [← len1]; exact shq_new
  refine ⟨⟨_, sh4⟩, eJ2_init (bJ2_init_0 ⟨⟨_, sh4⟩, eJ1_init (bJ1_init_0 ⟨⟨_, sh4⟩, eJ0_init (bJ0_init_0 ?_)⟩)⟩)⟩
  refine ⟨⟨_, sh4⟩, sh4, nc_hi (by omega), fun M3 e3 => ⟨sh4, nc_hi (by omega), fun M7 e7 => ⟨sh9', nc_hi (by omega), fun M9 e9 => ?_⟩⟩⟩
  rw [len1] at e6
  have m0 : M9 S.length 0 = S.length + 1 := by rw [e9, up_same]
  have m9 : ∀ j, j ≠ 0 → M9 S.length j = pu_df 9 j := fun j hj => by rw [e9, up_oi hj, e7, up_ne (by omega), e3, up_ne (by omega), e6, zo_ne (by omega), zo_at]
  have a1 : M9 (S.length + 1) 1 = -4 := by rw [e9, up_ne (by omega), e7, up_same]
  have a2 : M9 (S.length + 1) 2 = 0 := by rw [e9, up_ne (by omega), e7, up_oi (by decide), e3, up_oi (by decide), e6, zo_at, df_4_2]
  refine k M9 ⟨[], by omega, Int.le_refl _, sh9', by rw [m0]; omega, by rw [m0]; exact ⟨sh4, a2, Or.inl ⟨a1, rfl, rfl⟩⟩, by rw [m0]; exact Or.inl a1, rfl, fun i p q => by simp at q; omega, by rw [m9 1 (by decide), df_9_1], by rw [m9 2 (by decide), df_9_2]⟩ (fun x hx => ?_)
  rw [e9, up_ne (by omega), e7, up_ne (by omega), e3, up_ne (by omega), e6, zo_ne (by omega), zo_ne (by omega)]
/-- counts go no further -/
def cap5 (x : Int) : Int := min x 100000
theorem s_add22 {S : List psh} {M M0 : pM} {F : List psh → pM → Prop} {β s r c sz mbs : Int} {L : List elt} {e : elt} (h : StB β S M s L c sz mbs) (h1 : 0 ≤ sz ∧ sz ≤ 100000) (h2 : 0 ≤ mbs ∧ mbs ≤ 100000) (st : StepR S M0 r e) (hk : e.1 = 0 ∨ e.1 = 1 ∨ e.1 = 2 ∨ e.1 = 3) (k : ∀ M', StB β S M' s L c (cap5 (sz + 1)) (if e.1 = 3 then cap5 (mbs + 1) else mbs) → (∀ y, y ≠ s → M' y = M y) → F S M') : wX8_add_22 b X F s r S M := by
  obtain ⟨l, a0, a1, a2, a3, a4, a5, a6, a7, a8, a9⟩ := h
  have sa : s ≠ M s 0 := fun w => by
    have a41 := a4.1
    rw [← w, a2] at a41
    cases a41
  have se : s ≠ M (M s 0) 1 := fun w => by
    rcases a4.2.2 with z | ⟨n, _, z, _⟩
    · omega
    · rw [← w, a2] at z; cases z
  have step : ∀ M' : pM, (∀ y, y ≠ s → M' y = M y) → M' s 0 = M s 0 → StB β S M' s L c (M' s 1) (M' s 2) := by
    intro M' f0 f1
    refine ⟨l, a0, a1, a2, by rw [f1]; exact a3, by rw [f1]; exact a4.fr (List.prefix_refl _) (f0 _ (fun w => sa w.symm)) (fun _ => f0 _ (fun w => se w.symm)), by rw [f1, f0 _ (fun w => sa w.symm)]; exact a5, a6, fun i p q => ?_, rfl, rfl⟩
    have st' := a7 i p q
    refine st'.fr (List.prefix_refl _) (f0 _ (fun w => ?_))
    obtain ⟨_, _, y | y | y | y⟩ := st'
    · rw [w, a2] at y; cases y.2
    · rw [w, a2] at y; cases y.2
    · rw [w, a2] at y; cases y.2
    · rw [w, a2] at y; cases y.2.1
  refine bX8_add_22 ?_
  rw [a8]
  refine ⟨a2, by constructor <;> omega, a2, nc_hi (by omega), fun M3 e3 => ?_⟩
  have f3 : ∀ y, y ≠ s → M3 y = M y := fun y hy => by rw [e3, up_ne hy]
  have m2 : M3 s 2 = mbs := by rw [e3, up_oi (by decide)]; exact a9
  have m1 : M3 s 1 = cap5 (sz + 1) := by rw [e3, up_same]; rfl
  have m0 : M3 s 0 = M s 0 := by rw [e3, up_oi (by decide)]
  refine d_sort (G := fun r7 M8 => inR r7 ∧ (r7 ≠ 3 → F S M8) ∧ (r7 = 3 → (shq S s = some (.inl 9, 3)) ∧ (inR ((M8 s 2) + 1)) ∧ (shq S s = some (.inl 9, 3)) ∧ (pu_nc_ b s 2) ∧ (∀ M12 : pM, M12 = pu_up M8 s 2 (min ((M8 s 2) + 1) 100000) → F S M12))) st ?_
  rw [m2]
  refine ⟨by constructor <;> omega, fun ne => ?_, fun eq => ⟨a2, by constructor <;> omega, a2, nc_hi (by omega), fun M12 e12 => ?_⟩⟩
  · have := step M3 f3 m0
    rw [m1, m2] at this
    rw [if_neg ne] at k
    exact k M3 this f3
  · have := step M12 (fun y hy => by rw [e12, up_ne hy]; exact f3 y hy) (by rw [e12, up_oi (by decide)]; exact m0)
    rw [show M12 s 1 = cap5 (sz + 1) by rw [e12, up_oi (by decide)]; exact m1, show M12 s 2 = cap5 (mbs + 1) by rw [e12, up_same]; rfl] at this
    rw [if_pos eq] at k
    exact k M12 this (fun y hy => by rw [e12, up_ne hy]; exact f3 y hy)
/-- the list alone grows -/
theorem s_push {S : List psh} {M : pM} {F : Int → List psh → pM → Prop} {β s r c sz mbs : Int} {L : List elt} {e : elt} (h : StB β S M s L c sz mbs) (hL : L.length < 200) (hS : β ≤ S.length) (st : StepR S M r e) (rm : RM S 1 300) (k : ∀ S' M' c', StB β S' M' s (L ++ [e]) c' sz mbs → c ≤ c' → grw S S' (c' - c) (4 * (c' - c)) → (∀ y : Int, 0 ≤ y → y < S.length → y ≠ M s 0 → y ≠ M (M s 0) 1 → M' y = M y) → M' s 0 = M s 0 → (M' (M s 0) 1 = M (M s 0) 1 ∨ M' (M s 0) 1 = S.length) → F 1 S' M') : pAi b X mJ2_add 7 [pR (M s 0), pR r] S M F := by
  obtain ⟨l, a0, a1, a2, a3, a4, a5, a6, a7, a8, a9⟩ := h
  have hsl := (shq_lt a2).2
  have sa : s ≠ M s 0 := fun w => by
    have a41 := a4.1
    rw [← w, a2] at a41
    cases a41
  have se : s ≠ M (M s 0) 1 := fun w => by
    rcases a4.2.2 with z | ⟨n, _, z, _⟩
    · omega
    · rw [← w, a2] at z; cases z
  have notA : ∀ q x, StepR S M q x → q ≠ M s 0 ∧ q ≠ M (M s 0) 1 := by
    intro q x sq
    refine ⟨fun w => ?_, fun w => ?_⟩
    · have a41 := a4.1
      rw [← w] at a41
      obtain ⟨_, _, y | y | y | y⟩ := sq
      · rw [a41] at y; cases y.2
      · rw [a41] at y; cases y.2
      · rw [a41] at y; cases y.2
      · rw [a41] at y; cases y.2.1
    · rcases a4.2.2 with z | ⟨n, _, z, _⟩
      · have := sq.1; omega
      · exact sq.nar (n := n) (by rw [w]; exact z)
  refine j_add a4 (by omega) (fun i => nc_hi (by omega)) (by omega) (by omega) (Or.inl st.is) (fun i p q => Or.inl (a7 i p (by omega)).is) rm (fun S' M' c' al cc g f m1 => ?_)
  have fs : M' s = M s := f s hsl sa se
  have stf : ∀ q x, StepR S M q x → StepR S' M' q x := fun q x sq => sq.fr g.1 (f q sq.lt (notA q x sq).1 (notA q x sq).2)
  refine k S' M' c' ⟨l ++ [r], a0, a1, shq_pre g.1 a2, by rw [fs]; exact a3, by rw [fs]; exact al, ?_, by simp [a6], fun i p q => ?_, by rw [fs]; exact a8, by rw [fs]; exact a9⟩ cc g (fun y _ y1 y2 y3 => f y y1 y2 y3) (by rw [fs]) m1
  · rw [fs]
    rcases m1 with w | w
    · rw [w]; exact a5
    · exact Or.inr (by rw [w]; exact hS)
  · simp at q
    by_cases d : i = L.length
    · rw [d, el_snoc, at_app2 (by omega)]
      have : at0 [r] ((L.length : Int) - l.length) = r := by rw [a6, Int.sub_self]; rfl
      rw [this]
      exact stf r e st
    · rw [at_app p (by omega), el_app p (by omega)]
      exact stf _ _ (a7 i p (by omega))
theorem s_add {S : List psh} {M : pM} {F : List psh → pM → Prop} {β s r c sz mbs : Int} {L : List elt} {e : elt} (h : StB β S M s L c sz mbs) (hL : L.length ≤ 200) (hS : β ≤ S.length) (h1 : 0 ≤ sz ∧ sz ≤ 100000) (h2 : 0 ≤ mbs ∧ mbs ≤ 100000) (st : StepR S M r e) (rm : RM S 1 300) (k : ∀ S' M' c', StB β S' M' s (if L.length < 200 then L ++ [e] else L) c' (cap5 (sz + 1)) (if e.1 = 3 then cap5 (mbs + 1) else mbs) → c ≤ c' → grw S S' (c' - c) (4 * (c' - c)) → frU β S M S' M' → F S' M') : pAv b X mX8_add 8 [pR s, pR r] S M F := by
  have hk : e.1 = 0 ∨ e.1 = 1 ∨ e.1 = 2 ∨ e.1 = 3 := by obtain ⟨_, _, y | y | y | y⟩ := st <;> omega
  have h0 := h
  obtain ⟨l, a0, a1, a2, a3, a4, a5, a6, a7, a8, a9⟩ := h
  refine eX8_add (bX8_add_0 ⟨a2, a4.1, j_size a4 ⟨by constructor <;> omega, fun w => ?_, fun w => ⟨a2, a4.1, s_push h0 (by omega) hS st rm (fun S' M' c' st' cc g f m0 _ hp => ?_)⟩⟩⟩)
  · refine s_add22 h0 h1 h2 st hk (fun M' st' f' => ?_)
    have := k S M' c ?_ (Int.le_refl _) (by rw [Int.sub_self]; exact grw.refl _) ⟨List.prefix_refl _, fun x p q => f' x (by omega)⟩
    · exact this
    · rw [if_neg (by omega)]; exact st'
  · refine s_add22 st' h1 h2 (st.fr g.1 (f r (by have := st.1; omega) st.lt ?_ ?_)) hk (fun M2 st2 f2 => ?_)
    · intro w
      have a41 := a4.1
      rw [← w] at a41
      obtain ⟨_, _, y | y | y | y⟩ := st
      · rw [a41] at y; cases y.2
      · rw [a41] at y; cases y.2
      · rw [a41] at y; cases y.2
      · rw [a41] at y; cases y.2.1
    · intro w
      rcases a4.2.2 with z | ⟨n, _, z, _⟩
      · have := st.1; omega
      · exact st.nar (n := n) (by rw [w]; exact z)
    · have := k S' M2 c' ?_ cc g ⟨g.1, fun x p q => ?_⟩
      · exact this
      · rw [if_pos (by omega)]; exact st2
      · rw [f2 x (by omega)]
        exact f x p (by omega) (by omega) (by rcases a5 with y | y <;> omega)
end
