/-! ===== log, annul ===== -/
set_option maxRecDepth 100000
theorem up_cong {M M' : pM} {a i v : Int} (h : M' a = M a) : pu_up M' a i v a = pu_up M a i v a := by
  funext j
  by_cases c : j = i
  · rw [c, up_same, up_same]
  · rw [up_oi c, up_oi c, h]
theorem lgc_app {Lg : List (Int × Int × Int)} {g : Int × Int × Int} {k : Int} (h0 : 0 ≤ k) (h1 : k < Lg.length) : lgc (Lg ++ [g]) k = lgc Lg k := by
  unfold lgc
  rw [List.getD_eq_getElem?_getD, List.getD_eq_getElem?_getD, List.getElem?_append_left (by omega)]
theorem lgc_new {Lg : List (Int × Int × Int)} {g : Int × Int × Int} : lgc (Lg ++ [g]) Lg.length = g := by
  unfold lgc
  rw [List.getD_eq_getElem?_getD, List.getElem?_append_right (by omega)]
  simp
def lgC (σ : sgm) (t x l : Int) : Prop := σ.2.1.length ≠ 40 ∧ 0 ≤ t ∧ t < σ.1.length ∧ 0 ≤ x ∧ x < (lad σ.1 t).1 ∧ 0 ≤ l ∧ l < (lad σ.1 t).1
noncomputable def q_log (σ : sgm) (t x l : Int) : Int := @ite _ (lgC σ t x l) (Classical.propDecidable _) (σ.2.1.length : Int) (-1)
noncomputable def s_log (σ : sgm) (t x l : Int) : sgm := @ite _ (lgC σ t x l) (Classical.propDecidable _) (σ.1, σ.2.1 ++ [(t, x, l)], σ.2.2.1, σ.2.2.2) σ
def anC (σ : sgm) (g : Int) : Prop := σ.2.1.length ≠ 40 ∧ 0 ≤ g ∧ g < σ.2.1.length ∧ (lgc σ.2.1 g).1 ≠ -1
noncomputable def q_annul (σ : sgm) (g : Int) : Int := @ite _ (anC σ g) (Classical.propDecidable _) (σ.2.1.length : Int) (-1)
noncomputable def s_annul (σ : sgm) (g : Int) : sgm := @ite _ (anC σ g) (Classical.propDecidable _) (σ.1, σ.2.1 ++ [(-1, g, 0)], σ.2.2.1, σ.2.2.2) σ
theorem okG_app {Ls : List (Int × List elt)} {Lg : List (Int × Int × Int)} {g : Int × Int × Int} (h : okG Ls Lg) (h40 : Lg.length ≠ 40) (hg : (g.1 = -1 ∧ 0 ≤ g.2.1 ∧ g.2.1 < Lg.length) ∨ (0 ≤ g.1 ∧ g.1 < Ls.length ∧ 0 ≤ g.2.1 ∧ g.2.1 < (lad Ls g.1).1 ∧ 0 ≤ g.2.2 ∧ g.2.2 < (lad Ls g.1).1)) : okG Ls (Lg ++ [g]) := by
  have := h.1
  refine ⟨by simp; omega, fun k a b => ?_⟩
  simp at b
  by_cases c : k = Lg.length
  · rw [c, lgc_new]
    exact hg
  · rw [lgc_app a (by omega)]
    exact h.2 k a (by omega)
theorem ok_log {σ : sgm} {t x l : Int} (h : okS σ) : okS (s_log σ t x l) := by
  unfold s_log
  by_cases c : lgC σ t x l
  · rw [if_pos c]
    obtain ⟨c1, c2⟩ := c
    exact ⟨h.1, h.2.1, okG_app h.2.2.1 c1 (Or.inr c2), h.2.2.2⟩
  · rw [if_neg c]; exact h
theorem ok_annul {σ : sgm} {g : Int} (h : okS σ) : okS (s_annul σ g) := by
  unfold s_annul
  by_cases c : anC σ g
  · rw [if_pos c]
    obtain ⟨c1, c2, c3, c4⟩ := c
    exact ⟨h.1, h.2.1, okG_app h.2.2.1 c1 (Or.inl ⟨rfl, c2, c3⟩), h.2.2.2⟩
  · rw [if_neg c]; exact h
section
variable {X : px} {S : List psh} {M : pM} {σ : sgm}
theorem c_log_op {F : Int → pM → Prop} {t x l : Int} (ht : inR t) (hx : inR x) (hl : inR l) (cp : CP S M σ) (ok : okS σ) (k : ∀ M', CP S M' (s_log σ t x l) → (∀ x, 241 ≤ x → M' x = M x) → F (q_log σ t x l) M') : pNi true X mX0_log 5 [pR 0, pI t, pI x, pI l] S M F := by
  have h40 := ok.2.2.1.1
  have h6 := ok.1
  have bad : ¬ lgC σ t x l → F (-1) M := fun z => by
    have := k M (by unfold s_log; rw [if_neg z]; exact cp) (fun _ _ => rfl)
    unfold q_log at this
    rw [if_neg z] at this
    exact this
  obtain ⟨sc, ch, lg, tp, pl⟩ := cp
  refine eX0_log (bX0_log_0 ?_)
  rw [lg.1]
  refine ⟨by constructor <;> omega, fun z => bad (fun y => by have := y.1; omega), fun z => ?_⟩
  refine c_isNumber ht hx ch (fun a b x0 x1 => ⟨by constructor <;> decide, fun z => by omega, fun _ => ?_⟩) (fun h => ⟨by constructor <;> decide, fun _ => bad (fun y => h ⟨y.2.1, y.2.2.1, y.2.2.2.1, y.2.2.2.2.1⟩), fun z => by omega⟩)
  refine c_isNumber ht hl ch (fun _ _ l0 l1 => ⟨by constructor <;> decide, fun _ => ?_, fun z => by omega⟩) (fun h => ⟨by constructor <;> decide, fun z => by omega, fun _ => bad (fun y => h ⟨y.2.1, y.2.2.1, y.2.2.2.2.2.1, y.2.2.2.2.2.2⟩)⟩)
  have n7 := (ok.at a b).2.1
  rw [i2bb_id (by omega) (by omega), i2bb_id (by omega) (by omega), i2bb_id (by omega) (by omega), lg.1]
  refine ⟨by omega, by omega, by omega, by omega, fun M12 e12 => ?_⟩
  have z12 : M12 0 17 = σ.2.1.length := by rw [e12, up_ne (by decide)]; exact lg.1
  rw [z12]
  refine ⟨by omega, by omega, by omega, by omega, fun M17 e17 => ?_⟩
  have z17 : M17 0 17 = σ.2.1.length := by rw [e17, up_ne (by decide)]; exact z12
  rw [z17]
  refine ⟨by omega, by omega, by omega, by omega, fun M22 e22 M23 e23 => ?_⟩
  have z22 : M22 0 17 = σ.2.1.length := by rw [e22, up_ne (by decide)]; exact z17
  rw [z22] at e23
  have z23 : M23 0 17 = σ.2.1.length + 1 := by rw [e23, up_same]
  rw [z23]
  have C : lgC σ t x l := ⟨by omega, a, b, x0, x1, l0, l1⟩
  have oth : ∀ y, y ≠ 0 → y ≠ 25 → y ≠ 26 → y ≠ 27 → M23 y = M y := fun y y0 y1 y2 y3 => by rw [e23, up_ne y0, e22, up_ne y3, e17, up_ne y2, e12, up_ne y1]
  have fld : ∀ j, j ≠ 17 → M23 0 j = M 0 j := fun j hj => by rw [e23, up_oi hj, e22, up_ne (by decide), e17, up_ne (by decide), e12, up_ne (by decide)]
  have := k M23 ?_ (fun y hy => oth y (by omega) (by omega) (by omega) (by omega))
  · unfold q_log at this
    rw [if_pos C] at this
    rw [show ((σ.2.1.length : Int) + 1 - 1) = σ.2.1.length by omega]
    exact this
  · unfold s_log
    rw [if_pos C]
    refine ⟨sc.fr (fun j hj => fld j (by omega)) (fun y hy => oth y (by omega) (by omega) (by omega) (by omega)), ?_, ⟨by rw [z23]; simp, fun q q0 q1 => ?_⟩, ?_, by rw [fld 10 (by decide)]; exact pl⟩
    · have ch' := ch
      obtain ⟨ll, cc, b0, b1, b2, _⟩ := ch
      refine ch'.fr (oth 19 (by decide) (by decide) (by decide) (by decide)) (fun qq => ?_) ⟨List.prefix_refl _, fun y p _ _ => oth y (by omega) (by omega) (by omega) (by omega)⟩
      rcases b2 with y | y
      · exact absurd y qq
      · exact oth _ (by omega) (by omega) (by omega) (by omega)
    · simp at q1
      have v25 : M23 25 = pu_up M 25 σ.2.1.length t 25 := by rw [e23, up_ne (by decide), e22, up_ne (by decide), e17, up_ne (by decide), e12]
      have v26 : M23 26 = pu_up M 26 σ.2.1.length x 26 := by
        rw [e23, up_ne (by decide), e22, up_ne (by decide), e17]
        exact up_cong (by rw [e12, up_ne (by decide)])
      have v27 : M23 27 = pu_up M 27 σ.2.1.length l 27 := by
        rw [e23, up_ne (by decide), e22]
        exact up_cong (by rw [e17, up_ne (by decide), e12, up_ne (by decide)])
      rw [v25, v26, v27]
      by_cases c : q = σ.2.1.length
      · rw [c, lgc_new, up_same, up_same, up_same]
        exact ⟨rfl, rfl, fun _ => rfl⟩
      · rw [lgc_app q0 (by omega), up_oi c, up_oi c, up_oi c]
        exact lg.2 q q0 (by omega)
    · unfold CTp
      rw [oth 11 (by decide) (by decide) (by decide) (by decide), oth 12 (by decide) (by decide) (by decide) (by decide)]
      exact tp
theorem c_annul_op {F : Int → pM → Prop} {g : Int} (hg : inR g) (cp : CP S M σ) (ok : okS σ) (k : ∀ M', CP S M' (s_annul σ g) → (∀ x, 241 ≤ x → M' x = M x) → F (q_annul σ g) M') : pNi true X mX0_annul 2 [pR 0, pI g] S M F := by
  have h40 := ok.2.2.1.1
  have h6 := ok.1
  have bad : ¬ anC σ g → F (-1) M := fun z => by
    have := k M (by unfold s_annul; rw [if_neg z]; exact cp) (fun _ _ => rfl)
    unfold q_annul at this
    rw [if_neg z] at this
    exact this
  obtain ⟨sc, ch, lg, tp, pl⟩ := cp
  refine eX0_annul (bX0_annul_0 ?_)
  rw [lg.1]
  refine ⟨by constructor <;> omega, fun z => bad (fun y => by have := y.1; omega), fun z => ?_⟩
  refine c_within hg (by constructor <;> decide) (by constructor <;> omega) (fun g0 g1 => ⟨by constructor <;> decide, fun z => by omega, fun _ => ?_⟩) (fun h => ⟨by constructor <;> decide, fun _ => bad (fun y => by have := y.2; omega), fun z => by omega⟩)
  have lgg := (lg.2 g g0 (by omega)).1
  have okg := ok.2.2.1.2 g g0 (by omega)
  rw [lgg, lg.1]
  refine ⟨g0, by omega, by constructor <;> omega, fun ne => ⟨by omega, by omega, fun M10 e10 => ?_⟩, fun e => bad (fun y => y.2.2.2 e)⟩
  have z10 : M10 0 17 = σ.2.1.length := by rw [e10, up_ne (by decide)]; exact lg.1
  rw [z10, i2bb_id (by omega) (by omega)]
  refine ⟨by omega, by omega, by omega, by omega, fun M15 e15 M16 e16 => ?_⟩
  have z15 : M15 0 17 = σ.2.1.length := by rw [e15, up_ne (by decide)]; exact z10
  rw [z15] at e16
  have z16 : M16 0 17 = σ.2.1.length + 1 := by rw [e16, up_same]
  rw [z16]
  have C : anC σ g := ⟨by omega, g0, by omega, ne⟩
  have oth : ∀ y, y ≠ 0 → y ≠ 25 → y ≠ 26 → M16 y = M y := fun y y0 y1 y2 => by rw [e16, up_ne y0, e15, up_ne y2, e10, up_ne y1]
  have fld : ∀ j, j ≠ 17 → M16 0 j = M 0 j := fun j hj => by rw [e16, up_oi hj, e15, up_ne (by decide), e10, up_ne (by decide)]
  have := k M16 ?_ (fun y hy => oth y (by omega) (by omega) (by omega))
  · unfold q_annul at this
    rw [if_pos C] at this
    rw [show ((σ.2.1.length : Int) + 1 - 1) = σ.2.1.length by omega]
    exact this
  · unfold s_annul
    rw [if_pos C]
    refine ⟨sc.fr (fun j hj => fld j (by omega)) (fun y hy => oth y (by omega) (by omega) (by omega)), ?_, ⟨by rw [z16]; simp, fun q q0 q1 => ?_⟩, ?_, by rw [fld 10 (by decide)]; exact pl⟩
    · have ch' := ch
      obtain ⟨ll, cc, b0, b1, b2, _⟩ := ch
      refine ch'.fr (oth 19 (by decide) (by decide) (by decide)) (fun qq => ?_) ⟨List.prefix_refl _, fun y p _ _ => oth y (by omega) (by omega) (by omega)⟩
      rcases b2 with y | y
      · exact absurd y qq
      · exact oth _ (by omega) (by omega) (by omega)
    · simp at q1
      have v25 : M16 25 = pu_up M 25 σ.2.1.length (-1) 25 := by rw [e16, up_ne (by decide), e15, up_ne (by decide), e10]
      have v26 : M16 26 = pu_up M 26 σ.2.1.length g 26 := by
        rw [e16, up_ne (by decide), e15]
        exact up_cong (by rw [e10, up_ne (by decide)])
      rw [oth 27 (by decide) (by decide) (by decide), v25, v26]
      by_cases c : q = σ.2.1.length
      · rw [c, lgc_new, up_same, up_same]
        exact ⟨rfl, rfl, fun z => absurd rfl z⟩
      · rw [lgc_app q0 (by omega), up_oi c, up_oi c]
        exact lg.2 q q0 (by omega)
    · unfold CTp
      rw [oth 11 (by decide) (by decide) (by decide), oth 12 (by decide) (by decide) (by decide)]
      exact tp
theorem tw_log_op {F : Int → pM → Prop} {t x l : Int} (ht : inR t) (hx : inR x) (hl : inR l) (ti : TI M σ) (ok : okS σ) (k : ∀ M', TI M' (s_log σ t x l) → (∀ x, x ≤ 240 ∨ 288 ≤ x → M' x = M x) → F (q_log σ t x l) M') : pNi true X mX6_log 2 [pR 241, pI t, pI x, pI l] S M F := by
  have h40 := ok.2.2.1.1
  have h6 := ok.1
  have bad : ¬ lgC σ t x l → F (-1) M := fun z => by
    have := k M (by unfold s_log; rw [if_neg z]; exact ti) (fun _ _ => rfl)
    unfold q_log at this
    rw [if_neg z] at this
    exact this
  obtain ⟨tt, th, lg, tp, pl⟩ := ti
  refine eX6_log (bX6_log_0 ?_)
  rw [lg.1]
  refine ⟨by constructor <;> omega, fun z => bad (fun y => by have := y.1; omega), fun z => ?_⟩
  refine tw_isLadder ht th ok (fun a b => ⟨by constructor <;> decide, fun z => by omega, fun _ => ?_⟩) (fun h => ⟨by constructor <;> decide, fun _ => bad (fun y => h ⟨y.2.1, y.2.2.1⟩), fun z => by omega⟩)
  refine tw_isNumber th ok a b hx (fun x0 x1 => ⟨by constructor <;> decide, fun z => by omega, fun _ => ?_⟩) (fun h => ⟨by constructor <;> decide, fun _ => bad (fun y => h ⟨y.2.2.2.1, y.2.2.2.2.1⟩), fun z => by omega⟩)
  refine tw_isNumber th ok a b hl (fun l0 l1 => ⟨by constructor <;> decide, fun _ => ?_, fun z => by omega⟩) (fun h => ⟨by constructor <;> decide, fun z => by omega, fun _ => bad (fun y => h ⟨y.2.2.2.2.2.1, y.2.2.2.2.2.2⟩)⟩)
  rw [lg.1]
  refine ⟨by omega, by omega, fun M13 e13 => ?_⟩
  have z13 : M13 241 7 = σ.2.1.length := by rw [e13, up_ne (by decide)]; exact lg.1
  rw [z13]
  refine ⟨by omega, by omega, fun M16 e16 => ?_⟩
  have z16 : M16 241 7 = σ.2.1.length := by rw [e16, up_ne (by decide)]; exact z13
  rw [z16]
  refine ⟨by omega, by omega, fun M19 e19 => ?_⟩
  have z19 : M19 241 7 = σ.2.1.length := by rw [e19, up_ne (by decide)]; exact z16
  rw [z19]
  refine ⟨by omega, by omega, fun M22 e22 M23 e23 => ?_⟩
  have z22 : M22 241 7 = σ.2.1.length := by rw [e22, up_ne (by decide)]; exact z19
  rw [z22] at e23
  have z23 : M23 241 7 = σ.2.1.length + 1 := by rw [e23, up_same]
  rw [z23]
  have C : lgC σ t x l := ⟨by omega, a, b, x0, x1, l0, l1⟩
  have oth : ∀ y, y ≠ 241 → y ≠ 248 → y ≠ 249 → y ≠ 250 → y ≠ 251 → M23 y = M y := fun y y0 y1 y2 y3 y4 => by rw [e23, up_ne y0, e22, up_ne y4, e19, up_ne y3, e16, up_ne y2, e13, up_ne y1]
  have fld : ∀ j, j ≠ 7 → M23 241 j = M 241 j := fun j hj => by rw [e23, up_oi hj, e22, up_ne (by decide), e19, up_ne (by decide), e16, up_ne (by decide), e13, up_ne (by decide)]
  have := k M23 ?_ (fun y hy => oth y (by omega) (by omega) (by omega) (by omega) (by omega))
  · unfold q_log at this
    rw [if_pos C] at this
    rw [show ((σ.2.1.length : Int) + 1 - 1) = σ.2.1.length by omega]
    exact this
  · unfold s_log
    rw [if_pos C]
    refine ⟨?_, ?_, ⟨by rw [z23]; simp, fun q q0 q1 => ?_⟩, ?_, by rw [fld 21 (by decide)]; exact pl⟩
    · rcases tt with z | ⟨n, z1, z2, z3⟩
      · exact Or.inl (by rw [fld 38 (by decide)]; exact z)
      · exact Or.inr ⟨n, z1, z2, z3.fr (fld 38 (by decide)) (fld 39 (by decide)) (fun x p q => oth x (by omega) (by omega) (by omega) (by omega) (by omega))⟩
    · unfold THl
      rw [fld 0 (by decide), oth 242 (by decide) (by decide) (by decide) (by decide) (by decide), oth 243 (by decide) (by decide) (by decide) (by decide) (by decide), oth 244 (by decide) (by decide) (by decide) (by decide) (by decide), oth 245 (by decide) (by decide) (by decide) (by decide) (by decide), oth 246 (by decide) (by decide) (by decide) (by decide) (by decide), oth 247 (by decide) (by decide) (by decide) (by decide) (by decide)]
      exact th
    · simp at q1
      have v48 : M23 248 = pu_up M 248 σ.2.1.length t 248 := by rw [e23, up_ne (by decide), e22, up_ne (by decide), e19, up_ne (by decide), e16, up_ne (by decide), e13]
      have v49 : M23 249 = pu_up M 249 σ.2.1.length x 249 := by
        rw [e23, up_ne (by decide), e22, up_ne (by decide), e19, up_ne (by decide), e16]
        funext j
        by_cases c : j = σ.2.1.length
        · rw [c, up_same, up_same]
        · rw [up_oi c, up_oi c, e13, up_ne (by decide)]
      have v50 : M23 250 = pu_up M 250 σ.2.1.length l 250 := by
        rw [e23, up_ne (by decide), e22, up_ne (by decide), e19]
        funext j
        by_cases c : j = σ.2.1.length
        · rw [c, up_same, up_same]
        · rw [up_oi c, up_oi c, e16, up_ne (by decide), e13, up_ne (by decide)]
      have v51 : M23 251 = pu_up M 251 σ.2.1.length (-1) 251 := by
        rw [e23, up_ne (by decide), e22]
        funext j
        by_cases c : j = σ.2.1.length
        · rw [c, up_same, up_same]
        · rw [up_oi c, up_oi c, e19, up_ne (by decide), e16, up_ne (by decide), e13, up_ne (by decide)]
      rw [v48, v49, v50, v51]
      by_cases c : q = σ.2.1.length
      · rw [c, lgc_new, up_same, up_same, up_same, up_same]
        exact ⟨rfl, fun _ => ⟨rfl, rfl, rfl⟩, fun z => by omega⟩
      · rw [lgc_app q0 (by omega), up_oi c, up_oi c, up_oi c, up_oi c]
        exact lg.2 q q0 (by omega)
    · unfold TTp
      rw [fld 12 (by decide), oth 252 (by decide) (by decide) (by decide) (by decide) (by decide)]
      exact tp
theorem tw_annul_op {F : Int → pM → Prop} {g : Int} (hg : inR g) (ti : TI M σ) (ok : okS σ) (k : ∀ M', TI M' (s_annul σ g) → (∀ x, x ≤ 240 ∨ 288 ≤ x → M' x = M x) → F (q_annul σ g) M') : pNi true X mX6_annul 1 [pR 241, pI g] S M F := by
  have h40 := ok.2.2.1.1
  have h6 := ok.1
  have bad : ¬ anC σ g → F (-1) M := fun z => by
    have := k M (by unfold s_annul; rw [if_neg z]; exact ti) (fun _ _ => rfl)
    unfold q_annul at this
    rw [if_neg z] at this
    exact this
  obtain ⟨tt, th, lg, tp, pl⟩ := ti
  refine eX6_annul (bX6_annul_0 ?_)
  rw [lg.1]
  refine ⟨by constructor <;> omega, fun z => bad (fun y => by have := y.1; omega), fun z => ⟨hg, fun y => bad (fun w => by have := w.2; omega), fun g0 => ⟨hg, by constructor <;> omega, fun y => bad (fun w => by have := w.2; omega), fun g1 => ?_⟩⟩⟩
  obtain ⟨l1, l2, l3⟩ := lg.2 g g0 (by omega)
  have okg := ok.2.2.1.2 g g0 (by omega)
  have v : ((lgc σ.2.1 g).1 = -1 ∧ 0 ≤ M 251 g ∧ M 251 g < 40) ∨ ((lgc σ.2.1 g).1 ≠ -1 ∧ M 251 g = -1) := by
    rcases okg with w | w
    · left
      have := l3 w.1
      omega
    · right
      exact ⟨by omega, (l2 (by omega)).2.2⟩
  refine ⟨g0, by omega, by constructor <;> omega, fun neg => ⟨by omega, by omega, fun M10 e10 => ?_⟩, fun pos => bad (fun y => by have := y.2.2.2; omega)⟩
  have z10 : M10 241 7 = σ.2.1.length := by rw [e10, up_ne (by decide)]; exact lg.1
  rw [z10]
  refine ⟨by omega, by omega, fun M13 e13 M14 e14 => ?_⟩
  have z13 : M13 241 7 = σ.2.1.length := by rw [e13, up_ne (by decide)]; exact z10
  rw [z13] at e14
  have z14 : M14 241 7 = σ.2.1.length + 1 := by rw [e14, up_same]
  rw [z14]
  have C : anC σ g := ⟨by omega, g0, by omega, by omega⟩
  have oth : ∀ y, y ≠ 241 → y ≠ 248 → y ≠ 251 → M14 y = M y := fun y y0 y1 y2 => by rw [e14, up_ne y0, e13, up_ne y2, e10, up_ne y1]
  have fld : ∀ j, j ≠ 7 → M14 241 j = M 241 j := fun j hj => by rw [e14, up_oi hj, e13, up_ne (by decide), e10, up_ne (by decide)]
  have := k M14 ?_ (fun y hy => oth y (by omega) (by omega) (by omega))
  · unfold q_annul at this
    rw [if_pos C] at this
    rw [show ((σ.2.1.length : Int) + 1 - 1) = σ.2.1.length by omega]
    exact this
  · unfold s_annul
    rw [if_pos C]
    refine ⟨?_, ?_, ⟨by rw [z14]; simp, fun q q0 q1 => ?_⟩, ?_, by rw [fld 21 (by decide)]; exact pl⟩
    · rcases tt with z | ⟨n, z1, z2, z3⟩
      · exact Or.inl (by rw [fld 38 (by decide)]; exact z)
      · exact Or.inr ⟨n, z1, z2, z3.fr (fld 38 (by decide)) (fld 39 (by decide)) (fun x p q => oth x (by omega) (by omega) (by omega))⟩
    · unfold THl
      rw [fld 0 (by decide), oth 242 (by decide) (by decide) (by decide), oth 243 (by decide) (by decide) (by decide), oth 244 (by decide) (by decide) (by decide), oth 245 (by decide) (by decide) (by decide), oth 246 (by decide) (by decide) (by decide), oth 247 (by decide) (by decide) (by decide)]
      exact th
    · simp at q1
      have v48 : M14 248 = pu_up M 248 σ.2.1.length (-1) 248 := by rw [e14, up_ne (by decide), e13, up_ne (by decide), e10]
      have v51 : M14 251 = pu_up M 251 σ.2.1.length g 251 := by
        rw [e14, up_ne (by decide), e13]
        funext j
        by_cases c : j = σ.2.1.length
        · rw [c, up_same, up_same]
        · rw [up_oi c, up_oi c, e10, up_ne (by decide)]
      rw [v48, v51, oth 249 (by decide) (by decide) (by decide), oth 250 (by decide) (by decide) (by decide)]
      by_cases c : q = σ.2.1.length
      · rw [c, lgc_new, up_same, up_same]
        exact ⟨rfl, fun z => absurd rfl z, fun _ => rfl⟩
      · rw [lgc_app q0 (by omega), up_oi c, up_oi c]
        exact lg.2 q q0 (by omega)
    · unfold TTp
      rw [fld 12 (by decide), oth 252 (by decide) (by decide) (by decide)]
      exact tp
end
