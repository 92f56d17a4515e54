/-! ===== the component's distances: the whole ===== -/
set_option maxRecDepth 100000
/-- between two looks: r (or -1) is the nearest that is not done -/
def SEL (n : Nat) (o sl s r : Int) (f d : Int → Int) : Prop := CI n o sl s f ∧ (∀ u, 0 ≤ u → u < FF n o → (d u = 0 ∨ d u = 1) ∧ (d u ≠ 0 → f u ≠ 2147483647 ∧ rlx n o sl f u)) ∧ (∀ u v, 0 ≤ u → u < FF n o → d u ≠ 0 → 0 ≤ v → v < FF n o → d v = 0 → f v ≠ 2147483647 → f u ≤ f v) ∧ ((r = -1 ∧ ∀ v, 0 ≤ v → v < FF n o → d v = 0 → f v = 2147483647) ∨ (0 ≤ r ∧ r < FF n o ∧ d r = 0 ∧ f r ≠ 2147483647 ∧ ∀ v, 0 ≤ v → v < FF n o → d v = 0 → f v ≠ 2147483647 → f r ≤ f v))
def dn (d : Int → Int) (v : Int) : Bool := decide (d v ≠ 0)
theorem SEL_dst {n : Nat} {o sl s : Int} {f d : Int → Int} (a : 0 ≤ o) (b : o < fac n) (hs0 : 0 ≤ s) (hs1 : s < FF n o) (h : SEL n o sl s (-1) f d) : dst (EG n o sl) s f := by
  obtain ⟨c1, c2, c3, c4⟩ := h
  have c5 : ∀ v, 0 ≤ v → v < FF n o → f v ≠ 2147483647 → d v ≠ 0 := by
    intro v p q z y
    rcases c4 with x | x
    · exact z (x.2 v p q y)
    · omega
  refine (dst_of (fun v => 0 ≤ v ∧ v < FF n o ∧ f v ≠ 2147483647) ⟨⟨hs0, hs1, by rw [c1.1]; decide⟩, c1.1⟩ (fun v h => ((c1.2 v h.1 h.2.1).2 h.2.2).2) (fun u v w hu e => ?_)).2
  have vb := EG_bd a b e
  have := ((c2 u hu.1 hu.2.1).2 (c5 u hu.1 hu.2.1 hu.2.2)).2 v w e
  exact ⟨⟨vb.1, vb.2, this.1⟩, this.2⟩
section
variable {X : px} {S : List psh}
theorem c_goes149 {F : pM → Prop} {n : Nat} {o sl s : Int} {M : pM} (hn : n ≤ 7) (h8 : FF n o ≤ 800) (ci : CI n o sl s (M 8)) (dd : ∀ u, 0 ≤ u → u < FF n o → M 10 u = 0 ∨ M 10 u = 1) (k : ∀ r, ((r = -1 ∧ ∀ v, 0 ≤ v → v < FF n o → M 10 v = 0 → M 8 v = 2147483647) ∨ (0 ≤ r ∧ r < FF n o ∧ M 10 r = 0 ∧ M 8 r ≠ 2147483647 ∧ ∀ v, 0 ≤ v → v < FF n o → M 10 v = 0 → M 8 v ≠ 2147483647 → M 8 r ≤ M 8 v)) → wX0_goesFrom_61 X F o sl (FF n o) (iv n o) r S M) : ∀ (m : Nat) (i r : Int), i + m = FF n o → 0 ≤ i → ((r = -1 ∧ ∀ v, 0 ≤ v → v < i → M 10 v = 0 → M 8 v = 2147483647) ∨ (0 ≤ r ∧ r < FF n o ∧ M 10 r = 0 ∧ M 8 r ≠ 2147483647 ∧ ∀ v, 0 ≤ v → v < i → M 10 v = 0 → M 8 v ≠ 2147483647 → M 8 r ≤ M 8 v)) → wX0_goesFrom_149 X F o sl (FF n o) (iv n o) r i S M := by
  have rng : ∀ v, 0 ≤ v → v < FF n o → 0 ≤ M 8 v ∧ M 8 v ≤ 2147483647 := by
    intro v p1 p2
    have := ci.2 v p1 p2
    have hc := cnt_bd (p := finI (M 8)) (FF n o).toNat 0
    by_cases c : M 8 v = 2147483647
    · omega
    · have := (this.2 c).1
      omega
  intro m
  induction m with
  | zero =>
    intro i r q1 q2 q
    have e : i = FF n o := by omega
    subst e
    refine bX0_goesFrom_149 ?_
    ((repeat' (first | (with_reducible apply And.intro) | (with_reducible intro _ e; subst e) | (with_reducible intro _))) <;> (try (first | omega | (with_reducible assumption))))
    exact k r q
  | succ m ih =>
    intro i r q1 q2 q
    have ri := rng i q2 (by omega)
    have di := dd i q2 (by omega)
    have skip : (M 10 i ≠ 0 ∨ M 8 i = 2147483647 ∨ (r ≠ -1 ∧ M 8 r ≤ M 8 i)) → wX0_goesFrom_205 X F o sl (FF n o) (iv n o) r i S M := by
      intro z
      refine bX0_goesFrom_205 (ih (i + 1) r (by omega) (by omega) (q.imp (fun x => ⟨x.1, fun v a b c => ?_⟩) (fun x => ⟨x.1, x.2.1, x.2.2.1, x.2.2.2.1, fun v a b c d => ?_⟩)))
      · by_cases e : v = i
        · subst e; omega
        · exact x.2 v a (by omega) c
      · by_cases e : v = i
        · subst e; omega
        · exact x.2.2.2.2 v a (by omega) c d
    have take : M 10 i = 0 → M 8 i ≠ 2147483647 → (r = -1 ∨ M 8 i < M 8 r) → wX0_goesFrom_201 X F o sl (FF n o) (iv n o) i S M := by
      intro z1 z2 z3
      refine bX0_goesFrom_201 (bX0_goesFrom_205 (ih (i + 1) i (by omega) (by omega) (Or.inr ⟨q2, by omega, z1, z2, fun v a b c d => ?_⟩)))
      by_cases e : v = i
      · subst e; omega
      · rcases q with x | x
        · exact absurd (x.2 v a (by omega) c) d
        · have := x.2.2.2.2 v a (by omega) c d
          omega
    by_cases hr : r = -1
    · subst hr
      refine bX0_goesFrom_149 ?_
      ((repeat' (first | (with_reducible apply And.intro) | (with_reducible intro _ e; subst e) | (with_reducible intro _))) <;> (try (first | omega | (with_reducible assumption))))
      · exact skip (by omega)
      · exact skip (by omega)
      · exact take (by omega) (by omega) (by omega)
    · have rb : 0 ≤ r ∧ r < FF n o := by
        rcases q with x | x
        · exact absurd x.1 hr
        · exact ⟨x.1, x.2.1⟩
      have rr := rng r rb.1 rb.2
      refine bX0_goesFrom_149 ?_
      ((repeat' (first | (with_reducible apply And.intro) | (with_reducible intro _ e; subst e) | (with_reducible intro _))) <;> (try (first | omega | (with_reducible assumption))))
      · exact skip (by omega)
      · exact skip (by omega)
      · exact skip (by omega)
      · exact take (by omega) (by omega) (by omega)
theorem c_goes61 {F : pM → Prop} {n : Nat} {o sl s : Int} {M0 : pM} (h2 : 2 ≤ n) (hn : n ≤ 7) (a : 0 ≤ o) (b : o < fac n) (h8 : FF n o ≤ 800) (hs0 : 0 ≤ s) (hs1 : s < FF n o) (hsl : sl = 0 ∨ sl = 1) (t0 : TabC n M0) (wo : WO n o M0) (k : ∀ M : pM, frG M0 M → LC M → WB M → dst (EG n o sl) s (M 8) → F M) : ∀ (m : Nat) (r : Int) (M : pM), (FF n o) - cnt (dn (M 10)) 0 (FF n o).toNat < m → frG M0 M → LC M → WB M → SEL n o sl s r (M 8) (M 10) → wX0_goesFrom_61 X F o sl (FF n o) (iv n o) r S M := by
  have hF := FF_bd hn o
  have hI0 := iv_nonneg (n := n) (v := o)
  intro m
  induction m with
  | zero => intro r M q; have := cnt_bd (p := dn (M 10)) (FF n o).toNat 0; omega
  | succ m ih =>
    intro r M q fr l w sel
    have sel' := sel
    obtain ⟨c1, c2, c3, c4⟩ := sel'
    rcases c4 with ⟨c5, c6⟩ | ⟨r0, r1, c5, c6, c7⟩
    · subst c5
      refine bX0_goesFrom_61 ?_
      ((repeat' (first | (with_reducible apply And.intro) | (with_reducible intro _ e; subst e) | (with_reducible intro _))) <;> (try (first | omega | (with_reducible assumption))))
      exact k M fr l w (SEL_dst a b hs0 hs1 sel)
    · have hadd := cnt_add (p := dn (M 10)) (q := dn (pu_up M 10 r 1 10)) (x := r) (by unfold dn; simp [c5]) (by unfold dn; simp [up_same]) (fun j hj => by unfold dn; rw [up_oi hj]) (FF n o).toNat 0 r0 (by omega)
      refine bX0_goesFrom_61 ?_
      ((repeat' (first | (with_reducible apply And.intro) | (with_reducible intro _ e; subst e) | (with_reducible intro _))) <;> (try (first | omega | (with_reducible assumption))))
      generalize hM1 : pu_up M 10 r 1 = M1 at *
      have f1 : ∀ x, x ≠ 10 → M1 x = M x := fun x hx => by rw [← hM1, up_ne hx]
      have d1 : M1 10 r = 1 := by rw [← hM1, up_same]
      have d2 : ∀ x, x ≠ r → M1 10 x = M 10 x := fun x hx => by rw [← hM1, up_oi hx]
      have g1 : frG M M1 := by rw [← hM1]; exact frG_of10
      have e8 : M1 8 = M 8 := f1 8 (by decide)
      have pr : PR n o sl s r (M1 8) (M1 10) := by
        rw [e8]
        refine ⟨c1, by omega, fun u p q z => ?_, fun v p q z y => ?_, fun u p q z y => ?_⟩
        · by_cases e : u = r
          · subst e
            exact ⟨Int.le_refl _, c6⟩
          · rw [d2 u e] at z
            exact ⟨c3 u r p q z r0 r1 c5 c6, ((c2 u p q).2 z).1⟩
        · have e : v ≠ r := fun e => by subst e; omega
          rw [d2 v e] at z
          exact c7 v p q z y
        · rw [d2 u y] at z
          exact ((c2 u p q).2 z).2
      refine c_goes78 (M0 := M1) h2 hn a b h8 hs0 hs1 hsl r0 r1 ((fr.trans g1).tab t0) ((fr.trans g1).wo wo) (fun M2 f2 l2 w2 e10 pr2 rx => ?_) (iv n o).toNat 0 M1 (by omega) (by omega) (frG.refl _) (l.fr (by rw [f1 0 (by decide)]) (f1 5 (by decide))) (w.fr (f1 6 (by decide))) rfl pr (fun j j0 j1 => by omega)
      have dv : ∀ u, 0 ≤ u → u < FF n o → M2 10 u = 0 ∨ M2 10 u = 1 := by
        intro u p q
        rw [e10]
        by_cases e : u = r
        · subst e; exact Or.inr d1
        · rw [d2 u e]; exact (c2 u p q).1
      refine c_goes149 hn h8 pr2.1 dv (fun r' hr' => ?_) (FF n o).toNat 0 (-1) (by omega) (by omega) (Or.inl ⟨rfl, fun v p q => by omega⟩)
      refine ih r' M2 (by rw [e10]; omega) (fr.trans (g1.trans f2)) l2 w2 ⟨pr2.1, fun u p q => ⟨dv u p q, fun z => ⟨(pr2.2.2.1 u p q z).2, ?_⟩⟩, fun u v p q z p' q' z' y => ?_, hr'⟩
      · by_cases e : u = r
        · subst e; exact rx
        · exact pr2.2.2.2.2 u p q z e
      · have h3 := (pr2.2.2.1 u p q z).1
        have h4 := pr2.2.2.2.1 v p' q' z' y
        omega
end
