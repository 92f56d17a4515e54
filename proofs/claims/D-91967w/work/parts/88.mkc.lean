/-! ===== turned steps, changed, comes ===== -/
set_option maxRecDepth 100000
section
variable {X : px} {b : Bool}
theorem x4_init {S : List psh} {M : pM} {F : pM → Prop} {r x : Int} (h : 288 ≤ r) (hs : isStep S r) (hσ : ∃ σ, shq S r = some σ) (k : F (pu_up M r 0 x)) : pNv b X mX4_init 2 [pR r, pI x] S M F := eX4_init (bX4_init_0 ⟨hσ, hs, nc_hi h, fun M2 e => by rw [e]; exact k⟩)
theorem n_step {S : List psh} {M : pM} {x : Int} {c m : Nat} (h288 : 288 ≤ S.length) (hm : m ≤ 3) : (∀ x', x' ≠ (S.length : Int) → pu_up (pu_zo M S.length c) S.length 0 x x' = M x') ∧ grw S (S ++ [(.inl c, m)]) 1 3 := by
  refine ⟨fun x' hx => by rw [up_ne hx, zo_ne hx], (grw_one (S := S) (σ := (.inl c, m))).le (by decide) ?_⟩
  show (m : Int) ≤ 3
  omega
theorem step_new {S : List psh} {M : pM} {e : elt} {σ : psh} (h288 : 288 ≤ S.length) (h0 : M S.length 0 = e.2.1) (h : (e.1 = 0 ∧ σ = (.inl 5, 1)) ∨ (e.1 = 1 ∧ σ = (.inl 6, 1)) ∨ (e.1 = 2 ∧ σ = (.inl 7, 1)) ∨ (e.1 = 3 ∧ σ = (.inl 8, 3) ∧ M S.length 1 = e.2.2.1 ∧ M S.length 2 = e.2.2.2)) : StepR (S ++ [σ]) M S.length e := by
  refine ⟨by omega, h0, ?_⟩
  rcases h with w | w | w | w
  · exact Or.inl ⟨w.1, by rw [w.2]; exact shq_new⟩
  · exact Or.inr (Or.inl ⟨w.1, by rw [w.2]; exact shq_new⟩)
  · exact Or.inr (Or.inr (Or.inl ⟨w.1, by rw [w.2]; exact shq_new⟩))
  · exact Or.inr (Or.inr (Or.inr ⟨w.1, by rw [w.2.1]; exact shq_new, w.2.2⟩))
/-- new steps -/
theorem n_rung {S : List psh} {M : pM} {F : pM → Prop} {x : Int} (h288 : 288 ≤ S.length) (k : ∀ M', StepR (S ++ [(.inl 5, 1)]) M' S.length (0, x, 0, 1) → (∀ y, y ≠ (S.length : Int) → M' y = M y) → F M') : pNv b X mX9_init 3 [pR S.length, pI x] (S ++ [(.inl 5, 1)]) (pu_zo M S.length 5) F := by
  refine eX9_init (bX9_init_0 ⟨⟨_, shq_new⟩, x4_init (by omega) (Or.inl shq_new) ⟨_, shq_new⟩ (k _ (step_new h288 up_same (Or.inl ⟨rfl, rfl⟩)) (fun y hy => by rw [up_ne hy, zo_ne hy]))⟩)
theorem n_gate {S : List psh} {M : pM} {F : pM → Prop} {x : Int} (h288 : 288 ≤ S.length) (k : ∀ M', StepR (S ++ [(.inl 6, 1)]) M' S.length (1, x, 0, 1) → (∀ y, y ≠ (S.length : Int) → M' y = M y) → F M') : pNv b X mX5_init 3 [pR S.length, pI x] (S ++ [(.inl 6, 1)]) (pu_zo M S.length 6) F := by
  refine eX5_init (bX5_init_0 ⟨⟨_, shq_new⟩, x4_init (by omega) (Or.inr (Or.inl shq_new)) ⟨_, shq_new⟩ (k _ (step_new h288 up_same (Or.inr (Or.inl ⟨rfl, rfl⟩))) (fun y hy => by rw [up_ne hy, zo_ne hy]))⟩)
theorem n_back {S : List psh} {M : pM} {F : pM → Prop} {x : Int} (h288 : 288 ≤ S.length) (k : ∀ M', StepR (S ++ [(.inl 7, 1)]) M' S.length (2, x, 0, 1) → (∀ y, y ≠ (S.length : Int) → M' y = M y) → F M') : pNv b X mX10_init 4 [pR S.length, pI x] (S ++ [(.inl 7, 1)]) (pu_zo M S.length 7) F := by
  refine eX10_init (bX10_init_0 ⟨⟨_, shq_new⟩, eX5_init (bX5_init_0 ⟨⟨_, shq_new⟩, x4_init (by omega) (Or.inr (Or.inr (Or.inl shq_new))) ⟨_, shq_new⟩ (k _ (step_new h288 up_same (Or.inr (Or.inr (Or.inl ⟨rfl, rfl⟩)))) (fun y hy => by rw [up_ne hy, zo_ne hy]))⟩)⟩)
theorem n_maybe {S : List psh} {M : pM} {F : pM → Prop} {x y z : Int} (h288 : 288 ≤ S.length) (k : ∀ M', StepR (S ++ [(.inl 8, 3)]) M' S.length (3, x, y, z) → (∀ w, w ≠ (S.length : Int) → M' w = M w) → F M') : pNv b X mX11_init 4 [pR S.length, pI x, pI y, pI z] (S ++ [(.inl 8, 3)]) (pu_zo M S.length 8) F := by
  refine eX11_init (bX11_init_0 ⟨⟨_, shq_new⟩, eX9_init (bX9_init_0 ⟨⟨_, shq_new⟩, x4_init (by omega) (Or.inr (Or.inr (Or.inr shq_new))) ⟨_, shq_new⟩ ⟨shq_new, nc_hi (by omega), fun M3 e3 => ⟨shq_new, nc_hi (by omega), fun M6 e6 => ?_⟩⟩⟩)⟩)
  refine k M6 (step_new h288 ?_ (Or.inr (Or.inr (Or.inr ⟨rfl, rfl, ?_, ?_⟩)))) (fun w hw => by rw [e6, up_ne hw, e3, up_ne hw, up_ne hw, zo_ne hw])
  · rw [e6, up_oi (by decide), e3, up_oi (by decide), up_same]
  · rw [e6, up_oi (by decide), e3, up_same]
  · rw [e6, up_same]
theorem StepR.ab {S : List psh} {M : pM} {r : Int} {e e' : elt} (h : StepR S M r e) (h1 : e'.1 = e.1) (h2 : e'.2.1 = e.2.1) (h3 : e.1 ≠ 3) : StepR S M r e' := by
  obtain ⟨a, c, w | w | w | w⟩ := h
  · exact ⟨a, by rw [h2]; exact c, Or.inl ⟨by rw [h1]; exact w.1, w.2⟩⟩
  · exact ⟨a, by rw [h2]; exact c, Or.inr (Or.inl ⟨by rw [h1]; exact w.1, w.2⟩)⟩
  · exact ⟨a, by rw [h2]; exact c, Or.inr (Or.inr (Or.inl ⟨by rw [h1]; exact w.1, w.2⟩))⟩
  · exact absurd w.1 h3
theorem d_turned {S : List psh} {M : pM} {r n : Int} {e : elt} {G : Int → List psh → pM → Prop} (h : StepR S M r e) (h288 : 288 ≤ S.length) (rm : RM S 1 3) (k : ∀ S' M', grw S S' 1 3 → StepR S' M' S.length (turnE n e) → (∀ x, x ≠ (S.length : Int) → M' x = M x) → S'.length = S.length + 1 → G S.length S' M') : isStep S r ∧ (shq S r = some (.inl 5, 1) → pAr b X mX9_turned 4 [pR r, pI n] S M (fun r8 S9 M10 => S <+: S9 → G r8 S9 M10)) ∧ (shq S r = some (.inl 6, 1) → pAr b X mX5_turned 5 [pR r, pI n] S M (fun r8 S9 M10 => S <+: S9 → G r8 S9 M10)) ∧ (shq S r = some (.inl 7, 1) → pAr b X mX10_turned 4 [pR r, pI n] S M (fun r8 S9 M10 => S <+: S9 → G r8 S9 M10)) ∧ (shq S r = some (.inl 8, 3) → pAr b X mX11_turned 5 [pR r, pI n] S M (fun r8 S9 M10 => S <+: S9 → G r8 S9 M10)) := by
  obtain ⟨rm1, rm2⟩ := rm
  have hlt := h.lt
  have hne : r ≠ (S.length : Int) := by omega
  refine ⟨h.is, fun w => ?_, fun w => ?_, fun w => ?_, fun w => ?_⟩
  · have e0 : e.1 = 0 := by
      obtain ⟨_, _, y | y | y | y⟩ := h
      · exact y.1
      · rw [w] at y; cases y.2
      · rw [w] at y; cases y.2
      · rw [w] at y; cases y.2.1
    refine eX9_turned (bX9_turned_0 ⟨by omega, by omega, fun r3 S4 M5 e3 e4 e5 => ?_⟩)
    subst e3; subst e4; subst e5
    rw [zo_ne hne, h.2.1]
    refine ⟨shq_app w, ⟨_, shq_new⟩, n_rung h288 (fun M' st f _ => k _ M' ((grw_one (S := S) (σ := (.inl 5, 1))).le (by decide) (by decide)) (st.ab ?_ rfl (by simp)) f (by simp))⟩
    unfold turnE
    simp [e0]
  · have e0 : e.1 = 1 := by
      obtain ⟨_, _, y | y | y | y⟩ := h
      · rw [w] at y; cases y.2
      · exact y.1
      · rw [w] at y; cases y.2
      · rw [w] at y; cases y.2.1
    refine eX5_turned (bX5_turned_0 ⟨by omega, by omega, fun r3 S4 M5 e3 e4 e5 => ?_⟩)
    subst e3; subst e4; subst e5
    rw [zo_ne hne, h.2.1]
    refine ⟨shq_app w, ⟨_, shq_new⟩, n_back h288 (fun M' st f _ => k _ M' ((grw_one (S := S) (σ := (.inl 7, 1))).le (by decide) (by decide)) (st.ab ?_ rfl (by simp)) f (by simp))⟩
    unfold turnE
    simp [e0]
  · have e0 : e.1 = 2 := by
      obtain ⟨_, _, y | y | y | y⟩ := h
      · rw [w] at y; cases y.2
      · rw [w] at y; cases y.2
      · exact y.1
      · rw [w] at y; cases y.2.1
    refine eX10_turned (bX10_turned_0 ⟨by omega, by omega, fun r3 S4 M5 e3 e4 e5 => ?_⟩)
    subst e3; subst e4; subst e5
    rw [zo_ne hne, h.2.1]
    refine ⟨shq_app w, ⟨_, shq_new⟩, n_gate h288 (fun M' st f _ => k _ M' ((grw_one (S := S) (σ := (.inl 6, 1))).le (by decide) (by decide)) (st.ab ?_ rfl (by simp)) f (by simp))⟩
    unfold turnE
    simp [e0]
  · have e0 : e.1 = 3 ∧ M r 1 = e.2.2.1 ∧ M r 2 = e.2.2.2 := by
      obtain ⟨_, _, y | y | y | y⟩ := h
      · rw [w] at y; cases y.2
      · rw [w] at y; cases y.2
      · rw [w] at y; cases y.2
      · exact ⟨y.1, y.2.2⟩
    refine eX11_turned (bX11_turned_0 ⟨by omega, by omega, fun r3 S4 M5 e3 e4 e5 => ?_⟩)
    subst e3; subst e4; subst e5
    rw [zo_ne hne, h.2.1, e0.2.1, e0.2.2]
    refine ⟨shq_app w, shq_app w, shq_app w, ⟨_, shq_new⟩, n_maybe h288 (fun M' st f _ => k _ M' ((grw_one (S := S) (σ := (.inl 8, 3))).le (by decide) (by decide)) ?_ f (by simp))⟩
    have : turnE n e = (3, n - 2 - e.2.1, e.2.2.1, e.2.2.2) := by unfold turnE; simp [e0.1]
    rw [this]
    exact st
end
/-- upside, turned -/
def chL (up tu n : Int) (L : List elt) : List elt := (if up = 0 then L else L.reverse).map (fun e => if tu = 0 then e else turnE n e)
theorem chL_len {up tu n : Int} {L : List elt} : (chL up tu n L).length = L.length := by
  unfold chL
  rw [List.length_map]
  by_cases c : up = 0
  · rw [if_pos c]
  · rw [if_neg c, List.length_reverse]
theorem el_map {f : elt → elt} {L : List elt} {i : Int} (h0 : 0 ≤ i) (h1 : i < L.length) : el (L.map f) i = f (el L i) := by
  unfold el
  rw [List.getD_eq_getElem?_getD, List.getD_eq_getElem?_getD, List.getElem?_map, List.getElem?_eq_getElem (by omega)]
  rfl
theorem el_rev {L : List elt} {i : Int} (h0 : 0 ≤ i) (h1 : i < L.length) : el L.reverse i = el L (L.length - 1 - i) := by
  unfold el
  rw [List.getD_eq_getElem?_getD, List.getD_eq_getElem?_getD, List.getElem?_reverse (by omega)]
  congr 2
  omega
theorem el_chL {up tu n : Int} {L : List elt} {i : Int} (h0 : 0 ≤ i) (h1 : i < L.length) : el (chL up tu n L) i = (if tu = 0 then el L (if up = 0 then i else L.length - 1 - i) else turnE n (el L (if up = 0 then i else L.length - 1 - i))) := by
  unfold chL
  by_cases c : up = 0
  · rw [if_pos c, if_pos c, el_map h0 h1]
  · rw [if_neg c, if_neg c, el_map h0 (by simpa using h1), el_rev h0 h1]
section
variable {X : px} {b : Bool}
theorem s_changed {S : List psh} {M : pM} {F : Int → List psh → pM → Prop} {o co sz mbs up tu n : Int} {L : List elt} (ho : StB 288 S M o L co sz mbs) (hL : L.length ≤ 200) (hup : inR up) (htu : inR tu) (rm : RM S 600 2400) (k : ∀ S' M' c', StB S.length S' M' S.length (chL up tu n L) c' sz mbs → grw S S' 502 1806 → (∀ x : Int, 0 ≤ x → x < S.length → M' x = M x) → F S.length S' M') : pAr b X mX8_changed 8 [pR o, pI up, pI tu, pI n] S M F := by
  have how := ho.w
  have h288 : 288 ≤ S.length := by omega
  have rmo := rm
  obtain ⟨rm1, rm2⟩ := rm
  refine eX8_changed (bX8_changed_0 ⟨by omega, by omega, fun r3 S4 M5 e3 e4 e5 => ?_⟩)
  subst e3; subst e4; subst e5
  refine ⟨⟨_, shq_new⟩, s_new h288 (rmo.le (by decide) (by decide)) (fun M1 st1 f1 hp => ?_)⟩
  generalize hS1 : S ++ [((.inl 9, 3) : psh)] ++ [((.inl 4, 3) : psh)] = S1 at *
  have g1 : grw S S1 2 6 := by
    rw [← hS1]
    exact ((grw_one (S := S) (σ := (.inl 9, 3))).trans grw_one).le (by decide) (by decide)
  have om : ∀ (S2 : List psh) (M2 : pM), S <+: S2 → (∀ x : Int, 0 ≤ x → x < S.length → M2 x = M x) → StB 288 S2 M2 o L co sz mbs := fun S2 M2 hs f => ho.fr hs (fun x p q => f x (by omega) q)
  have o1 := om S1 M1 g1.1 (fun x _ q => f1 x q)
  have ow1 := o1.w
  refine ⟨ow1.2.2.2.1, ow1.2.2.2.2.1, o1.len ?_⟩
  have loop : ∀ (m : Nat) (i : Int) (S2 : List psh) (M2 : pM) (c2 : Int), i + m = L.length → 0 ≤ i → StB S.length S2 M2 S.length ((chL up tu n L).take i.toNat) c2 0 0 → S <+: S2 → (S2.length : Int) ≤ S.length + 2 + i + c2 → (pu_hs S2 : Int) ≤ pu_hs S + 6 + 3 * i + 4 * c2 → (∀ x : Int, 0 ≤ x → x < S.length → M2 x = M x) → wX8_changed_21 b X F o up tu n S.length L.length i S2 M2 := by
    intro m
    induction m with
    | zero =>
      intro i S2 M2 c2 q1 q2 st2 hp2 l2 h2 f2
      have o2 := om S2 M2 hp2 f2
      have ow := o2.w
      have sw := st2.w
      refine bX8_changed_21 ⟨by constructor <;> omega, by constructor <;> omega, fun _ => ⟨ow.2.2.2.1, sw.2.2.2.1, nc_hi (by omega), fun M4 e4 => ?_⟩, fun y => by omega⟩
      have os : o ≠ (S.length : Int) := by have := how.2.2.1; omega
      have m4o : M4 o = M2 o := by rw [e4, up_ne os]
      rw [m4o, ow.2.2.2.2.2.2.1]
      rw [ow.2.2.2.2.2.1] at e4
      refine ⟨ow.2.2.2.1, sw.2.2.2.1, nc_hi (by omega), fun M8 e8 => ?_⟩
      have fy : ∀ y, y ≠ (S.length : Int) → M8 y = M2 y := fun y hy => by rw [e8, up_ne hy, e4, up_ne hy]
      have n0 : M8 S.length 0 = M2 S.length 0 := by rw [e8, up_oi (by decide), e4, up_oi (by decide)]
      have n1 : M8 S.length 1 = sz := by rw [e8, up_oi (by decide), e4, up_same]
      have n2 : M8 S.length 2 = mbs := by rw [e8, up_same]
      refine k S2 M8 c2 ?_ ⟨hp2, by have := sw.2.2.2.2.2.2.2.2.1; omega, by have := sw.2.2.2.2.2.2.2.2.1; omega⟩ (fun x p q => by rw [fy x (by omega)]; exact f2 x p q)
      rw [List.take_of_length_le (by rw [chL_len]; omega)] at st2
      obtain ⟨l, a0, a1, a2, a3, a4, a5, a6, a7, a8, a9⟩ := st2
      have sa : (S.length : Int) ≠ M2 S.length 0 := fun w => by
        have a41 := a4.1
        rw [← w, a2] at a41
        cases a41
      have se : (S.length : Int) ≠ M2 (M2 S.length 0) 1 := fun w => by
        rcases a4.2.2 with z | ⟨n, _, z, _⟩
        · omega
        · rw [← w, a2] at z; cases z
      refine ⟨l, a0, a1, a2, by rw [n0]; exact a3, by rw [n0]; exact a4.fr (List.prefix_refl _) (fy _ (fun w => sa w.symm)) (fun _ => fy _ (fun w => se w.symm)), by rw [n0, fy _ (fun w => sa w.symm)]; exact a5, a6, fun i p q => ?_, n1, n2⟩
      have st' := a7 i p q
      refine st'.fr (List.prefix_refl _) (fy _ (fun w => ?_))
      obtain ⟨_, _, y | y | y | y⟩ := st'
      · rw [w, a2] at y; cases y.2
      · rw [w, a2] at y; cases y.2
      · rw [w, a2] at y; cases y.2
      · rw [w, a2] at y; cases y.2.1
    | succ m ih =>
      intro i S2 M2 c2 q1 q2 st2 hp2 l2 h2 f2
      have o2 := om S2 M2 hp2 f2
      have ow := o2.w
      have sw := st2.w
      have c3 := sw.2.2.2.2.2.2.2.2.1
      have i1 : i < L.length := by omega
      have ec := el_chL (up := up) (tu := tu) (n := n) q2 i1
      have tl : ((chL up tu n L).take i.toNat).length < 200 := by rw [List.length_take, chL_len]; omega
      have push : ∀ (r : Int) (S3 : List psh) (M3 : pM), S2 <+: S3 → (S3.length : Int) ≤ S2.length + 1 → (pu_hs S3 : Int) ≤ pu_hs S2 + 3 → StepR S3 M3 r (el (chL up tu n L) i) → (∀ x : Int, x < S2.length → M3 x = M2 x) → M3 S.length 0 = M2 S.length 0 → wX8_changed_76 b X F o up tu n S.length L.length i (M2 S.length 0) r S3 M3 := by
        intro r S3 M3 hp3 l3 h3 st f3 m30
        have st3 : StB S.length S3 M3 S.length ((chL up tu n L).take i.toNat) c2 0 0 := st2.fr hp3 (fun x _ q => f3 x q)
        have sw3 := st3.w
        rw [← m30]
        refine bX8_changed_76 ⟨sw3.2.2.2.2.1, s_push st3 tl (by omega) st ⟨by omega, by omega⟩ (fun S4 M4 c4 st4 cc4 g4 f4 _ _ hp4 => ?_)⟩
        refine ih (i + 1) S4 M4 c4 (by omega) (by omega) ?_ (hp2.trans (hp3.trans g4.1)) (by have := g4.2.1; omega) (by have := g4.2.2; omega) (fun x p q => ?_)
        · rw [take_snoc q2 (by rw [chL_len]; exact i1)]
          exact st4
        · obtain ⟨l, a0, a1, a2, a3, a4, a5, _⟩ := st3
          rw [f4 x p (by have := pre_len hp2; have := pre_len hp3; omega) (by omega) (by rcases a5 with y | y <;> omega), f3 x (by have := pre_len hp2; omega)]
          exact f2 x p q
      have g48 : ∀ j : Int, j = (if up = 0 then i else L.length - 1 - i) → wX8_changed_48 b X F o up tu n S.length L.length i (M2 o 0) j S2 M2 := by
        intro j hj
        have j0 : 0 ≤ j ∧ j < L.length := by subst hj; split <;> omega
        refine bX8_changed_48 ⟨ow.2.2.2.2.1, o2.get j0.1 j0.2 (fun q st => ⟨st.is, sw.2.2.2.1, htu, fun z => ?_, fun z => ?_⟩)⟩
        · rw [if_pos z, ← hj] at ec
          exact push q S2 M2 (List.prefix_refl _) (by omega) (by omega) (by rw [ec]; exact st) (fun _ _ => rfl) rfl
        · rw [if_neg z, ← hj] at ec
          refine d_turned (G := fun r8 S9 M10 => wX8_changed_76 b X F o up tu n S.length L.length i (M2 S.length 0) r8 S9 M10) st (by have := pre_len hp2; omega) ⟨by omega, by omega⟩ (fun S3 M3 g3 st3 f3 _ => push S2.length S3 M3 g3.1 (by have := g3.2.1; omega) (by have := g3.2.2; omega) (by rw [ec]; exact st3) (fun x hx => f3 x (by omega)) (by rw [f3 _ (by have := sw.2.2.1; omega)]))
      refine bX8_changed_21 ⟨by constructor <;> omega, by constructor <;> omega, fun y => by omega, fun _ => ⟨ow.2.2.2.1, hup, fun z => g48 i (by rw [if_pos z]), fun z => g48 _ (by rw [if_neg z])⟩⟩
  exact loop L.length 0 S1 M1 0 (by omega) (by omega) (by simpa using st1) g1.1 (by have := g1.2.1; omega) (by have := g1.2.2; omega) (fun x _ q => f1 x q)
end
