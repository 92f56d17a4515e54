/-! ===== turns and moves ===== -/
set_option maxRecDepth 100000
/-- the distance -/
noncomputable def DD (n : Nat) (o sl s v : Int) : Int := Classical.epsilon (fun d => ∃ f, dst (EG n o sl) s f ∧ d = f v)
theorem DD_eq {n : Nat} {o sl s v : Int} {f : Int → Int} (hn : n ≤ 7) (a : 0 ≤ o) (b : o < fac n) (u0 : 0 ≤ s) (u1 : s < FF n o) (v0 : 0 ≤ v) (v1 : v < FF n o) (h : dst (EG n o sl) s f) : f v = DD n o sl s v := by
  have : ∃ f, dst (EG n o sl) s f ∧ DD n o sl s v = f v := Classical.epsilon_spec (p := fun d => ∃ f, dst (EG n o sl) s f ∧ d = f v) ⟨f v, f, h, rfl⟩
  obtain ⟨g, g1, g2⟩ := this
  obtain ⟨m, c, w⟩ := conn (sl := sl) hn a b u0 u1 v0 v1
  rw [g2]
  exact dst_uni h g1 w
noncomputable def q_led (n o r s sl : Int) : Int := @ite _ (isO n o ∧ 0 ≤ r ∧ r < FF n.toNat o ∧ 0 ≤ s ∧ s < FF n.toNat o) (Classical.propDecidable _) (if 800 < FF n.toNat o then -2 else DD n.toNat o sl r s) (-1)
theorem frG.C {M M' : pM} (a : frG M M') : frC M M' := ⟨fun x h => a.1 x (by omega) (by omega) (by omega) (by omega) (by omega) (by omega), fun j h => a.2 j (by omega)⟩
theorem frG.nw {M M' : pM} (a : frG M M') (h : NW M) : NW M' := h.fr (a.2 15 (by decide)) (a.2 16 (by decide))
section
variable {X : px} {S : List psh}
theorem c_goesFrom {F : pM → Prop} {n : Nat} {o sl s : Int} {M : pM} (h2 : 2 ≤ n) (hn : n ≤ 7) (a : 0 ≤ o) (b : o < fac n) (h8 : FF n o ≤ 800) (hs0 : 0 ≤ s) (hs1 : s < FF n o) (hsl : sl = 0 ∨ sl = 1) (t : TabC n M) (l : LC M) (wb : WB M) (wo : WO n o M) (k : ∀ M' : pM, frG M M' → LC M' → WB M' → dst (EG n o sl) s (M' 8) → F M') : pNv true X mX0_goesFrom 27 [pR 0, pI o, pI s, pI sl] S M F := by
  have hF := FF_bd hn o
  have hI := iv_21 (n := n) (v := o) hn
  have hI0 := iv_nonneg (n := n) (v := o)
  refine eX0_goesFrom (bX0_goesFrom_0 (c_lf h2 hn a b t l (fun M1 f1 l1 => ?_)))
  have t1 := f1.tab t
  refine c_inv hn t1 a b ?_
  have loop : ∀ (m : Nat) (i : Int) (M' : pM), i + m = FF n o → 0 ≤ i → frG M M' → LC M' → WB M' → (∀ v, 0 ≤ v → v < i → M' 8 v = 2147483647 ∧ M' 10 v = 0) → wX0_goesFrom_21 X F o s sl (FF n o) (iv n o) i S M' := by
    intro m
    induction m with
    | zero =>
      intro i M' q1 q2 fr lc w q
      have e : i = FF n o := by omega
      subst e
      refine bX0_goesFrom_21 ?_
      ((repeat' (first | (with_reducible apply And.intro) | (with_reducible intro _ e; subst e) | (with_reducible intro _))) <;> (try (first | omega | (with_reducible assumption))))
      generalize hM2 : pu_up M' 8 s 0 = M2 at *
      have e8 : M2 8 s = 0 := by rw [← hM2, up_same]
      have e8' : ∀ v, 0 ≤ v → v < FF n o → v ≠ s → M2 8 v = 2147483647 := fun v p p' z => by rw [← hM2, up_oi z]; exact (q v p p').1
      have e10 : ∀ v, 0 ≤ v → v < FF n o → M2 10 v = 0 := fun v p p' => by rw [← hM2, up_ne (by decide)]; exact (q v p p').2
      have c1 : 0 ≤ cnt (finI (M2 8)) 0 (FF n o).toNat - 1 := by
        have := cnt_add (p := fun _ => false) (q := fun j => decide (j = s)) (x := s) rfl (by simp) (fun j hj => by simp [hj]) (FF n o).toNat 0 hs0 (by omega)
        have e2 := cnt_congr (p := finI (M2 8)) (q := fun j => decide (j = s)) (FF n o).toNat 0 (fun j s1 s2 => by
          unfold finI
          by_cases d : j = s
          · subst d
            rw [e8]
            simp
          · rw [e8' j s1 (by omega) d]
            simp [d])
        have := (cnt_bd (p := fun _ => false) (FF n o).toNat 0).1
        omega
      refine c_goes61 (M0 := M) h2 hn a b h8 hs0 hs1 hsl t wo k (FF n o + 1).toNat s M2 ?_ (fr.trans (by rw [← hM2]; exact frG_of8)) (lc.fr (by rw [← hM2, up_ne (by decide)]) (by rw [← hM2, up_ne (by decide)])) (w.fr (by rw [← hM2, up_ne (by decide)])) ⟨⟨e8, fun v p p' => ?_⟩, fun u p p' => ⟨Or.inl (e10 u p p'), fun z => absurd (e10 u p p') z⟩, fun u v p p' z => absurd (e10 u p p') z, Or.inr ⟨hs0, hs1, e10 s hs0 hs1, by rw [e8]; decide, fun v p p' _ z => ?_⟩⟩
      · have := (cnt_bd (p := dn (M2 10)) (FF n o).toNat 0).1
        omega
      · by_cases c : v = s
        · subst c
          rw [e8]
          exact ⟨by omega, fun _ => ⟨c1, 0, rfl, rfl⟩⟩
        · rw [e8' v p p' c]
          exact ⟨by omega, fun z => absurd rfl z⟩
      · by_cases c : v = s
        · subst c
          exact Int.le_refl _
        · exact absurd (e8' v p p' c) z
    | succ m ih =>
      intro i M' q1 q2 fr lc w q
      refine bX0_goesFrom_21 ?_
      ((repeat' (first | (with_reducible apply And.intro) | (with_reducible intro _ e; subst e) | (with_reducible intro _))) <;> (try (first | omega | (with_reducible assumption))))
      refine ih (i + 1) _ (by omega) (by omega) (fr.trans (frG_of8.trans frG_of10)) (lc.fr (by rw [up_ne (by decide), up_ne (by decide)]) (by rw [up_ne (by decide), up_ne (by decide)])) (w.fr (by rw [up_ne (by decide), up_ne (by decide)])) (fun v p p' => ?_)
      rw [up_ne (show (8 : Int) ≠ 10 by decide)]
      by_cases c : v = i
      · subst c
        exact ⟨up_same, up_same⟩
      · rw [up_oi c, up_oi c, up_ne (show (10 : Int) ≠ 8 by decide)]
        exact q v p (by omega)
  exact loop (FF n o).toNat 0 M1 (by omega) (by omega) f1.W.G (l1.C h2 hn) (wb.fr (f1.1 6 (by decide) (by decide) (by decide))) (fun v p p' => by omega)
theorem c_led {F : Int → pM → Prop} {n o r s sl : Int} {M : pM} (hn : inR n) (ho : inR o) (hr : inR r) (hs : inR s) (hsl : sl = 0 ∨ sl = 1) (sc : SC M) (k : ∀ M', frC M M' → SC M' → F (q_led n o r s sl) M') : pNi true X mX0_led 28 [pR 0, pI n, pI o, pI r, pI s, pI sl] S M F := by
  refine eX0_led (bX0_led_0 (c_isOrder hn ho sc (fun N h2 h7 e a b M1 f1 t1 => ?_) (fun hno M1 f1 t1 => ?_)))
  · subst e
    have s1 := sc.of14 f1 (t1.C h2 h7)
    have hO := isO_nat h2 h7 a b
    have hF := FF_bd h7 o
    have bad : ∀ M' : pM, frC M1 M' → SC M' → ¬ (0 ≤ r ∧ r < FF N o ∧ 0 ≤ s ∧ s < FF N o) → F (-1) M' := fun M' f s h => by
      have := k M' ((fr14_C f1).trans f) s
      unfold q_led at this
      rw [Int.toNat_natCast, if_neg (fun z => h z.2)] at this
      exact this
    ((repeat' (first | (with_reducible apply And.intro) | (with_reducible intro _ e; subst e) | (with_reducible intro _))) <;> (try (first | omega | (with_reducible assumption))))
    · exact bad M1 (frC.refl _) s1 (by omega)
    · exact bad M1 (frC.refl _) s1 (by omega)
    · refine c_lf h2 h7 a b t1 s1.2.1 (fun M2 f2 l2 => ?_)
      have t2 := f2.tab t1
      have s2 : SC M2 := s1.ofL h2 h7 f2 t2 (l2.C h2 h7)
      ((repeat' (first | (with_reducible apply And.intro) | (with_reducible intro _ e; subst e) | (with_reducible intro _))) <;> (try (first | omega | (with_reducible assumption))))
      · exact bad M2 f2.W.C s2 (by omega)
      · refine c_lf h2 h7 a b t2 s2.2.1 (fun M3 f3 l3 => ?_)
        have t3 := f3.tab t2
        have s3 : SC M3 := s2.ofL h2 h7 f3 t3 (l3.C h2 h7)
        ((repeat' (first | (with_reducible apply And.intro) | (with_reducible intro _ e; subst e) | (with_reducible intro _))) <;> (try (first | omega | (with_reducible assumption))))
        · refine c_laysWords h2 h7 a b t3 s3.2.1 s3.2.2.2 (fun h8 M4 f4 l4 w4 wo4 => ?_) (fun h8 M4 f4 l4 w4 => ?_)
          · ((repeat' (first | (with_reducible apply And.intro) | (with_reducible intro _ e; subst e) | (with_reducible intro _))) <;> (try (first | omega | (with_reducible assumption))))
            refine c_goesFrom h2 h7 a b h8 (by omega) (by omega) hsl (f4.tab t3) l4 w4 wo4 (fun M5 f5 l5 w5 d5 => ?_)
            ((repeat' (first | (with_reducible apply And.intro) | (with_reducible intro _ e; subst e) | (with_reducible intro _))) <;> (try (first | omega | (with_reducible assumption))))
            have := k M5 ((fr14_C f1).trans (f2.W.C.trans (f3.W.C.trans (f4.C.trans f5.C)))) ⟨(f5.tab (f4.tab t3)).C h2 h7, l5, f5.nw (f4.nw s3.2.2.1), w5⟩
            unfold q_led at this
            rw [Int.toNat_natCast, if_pos ⟨hO, by omega, by omega, by omega, by omega⟩, if_neg (by omega), ← DD_eq h7 a b (by omega) (by omega) (by omega) (by omega) d5] at this
            exact this
          · ((repeat' (first | (with_reducible apply And.intro) | (with_reducible intro _ e; subst e) | (with_reducible intro _))) <;> (try (first | omega | (with_reducible assumption))))
            have := k M4 ((fr14_C f1).trans (f2.W.C.trans (f3.W.C.trans f4.C))) ⟨(f4.tab t3).C h2 h7, l4, f4.nw s3.2.2.1, w4⟩
            unfold q_led at this
            rw [Int.toNat_natCast, if_pos ⟨hO, by omega, by omega, by omega, by omega⟩, if_pos (by omega)] at this
            exact this
        · exact bad M3 (f2.W.C.trans f3.W.C) s3 (by omega)
  · ((repeat' (first | (with_reducible apply And.intro) | (with_reducible intro _ e; subst e) | (with_reducible intro _))) <;> (try (first | omega | (with_reducible assumption))))
    have := k M1 (fr14_C f1) (sc.of14 f1 t1)
    unfold q_led at this
    rw [if_neg (fun z => hno z.1)] at this
    exact this
theorem c_turns_op {F : Int → pM → Prop} {n o r s : Int} {M : pM} (hn : inR n) (ho : inR o) (hr : inR r) (hs : inR s) (sc : SC M) (k : ∀ M', frC M M' → SC M' → F (q_led n o r s 0) M') : pNi true X mX0_turns 29 [pR 0, pI n, pI o, pI r, pI s] S M F :=
  eX0_turns (bX0_turns_0 (c_led hn ho hr hs (Or.inl rfl) sc k))
theorem c_moves_op {F : Int → pM → Prop} {n o r s : Int} {M : pM} (hn : inR n) (ho : inR o) (hr : inR r) (hs : inR s) (sc : SC M) (k : ∀ M', frC M M' → SC M' → F (q_led n o r s 1) M') : pNi true X mX0_moves 29 [pR 0, pI n, pI o, pI r, pI s] S M F :=
  eX0_moves (bX0_moves_0 (c_led hn ho hr hs (Or.inr rfl) sc k))
theorem tw_steps {F : Int → pM → Prop} {n o r s sl : Int} {M : pM} (hn : inR n) (ho : inR o) (hr : inR r) (hs : inR s) (hsl : sl = 0 ∨ sl = 1) (tt : TT M) (k : ∀ M', frT M M' → TT M' → F (q_led n o r s sl) M') : pNi true X mX6_steps 5 [pR 241, pI n, pI o, pI r, pI s, pI sl] S M F := by
  refine eX6_steps (bX6_steps_0 (tw_isOrder hn ho (fun N h2 h7 e a b => ?_) (fun hno => ?_)))
  · subst e
    have hf := fac_le h7
    have hO := isO_nat h2 h7 a b
    have hF := FF_bd h7 o
    ((repeat' (first | (with_reducible apply And.intro) | (with_reducible intro _ e; subst e) | (with_reducible intro _))) <;> (try (first | omega | (with_reducible assumption))))
    refine tw_layT h2 h7 tt (fun M1 f1 t1 => ?_)
    have bad : ¬ (0 ≤ r ∧ r < FF N o ∧ 0 ≤ s ∧ s < FF N o) → F (-1) M1 := fun h => by
      have := k M1 f1 (t1.T h2 h7)
      unfold q_led at this
      rw [Int.toNat_natCast, if_neg (fun z => h z.2)] at this
      exact this
    rw [t1.2.2.2.2.2.2 o a b]
    ((repeat' (first | (with_reducible apply And.intro) | (with_reducible intro _ e; subst e) | (with_reducible intro _))) <;> (try (first | omega | (with_reducible assumption))))
    · exact bad (by omega)
    · exact bad (by omega)
    · exact bad (by omega)
    · refine tw_graph h2 h7 a b (by omega) t1 (fun M2 f2 g2 => ?_)
      have t2 : TabT N M2 := t1.fr (by rw [f2 241 (by decide) (by decide) (by decide)]) (by rw [f2 241 (by decide) (by decide) (by decide)]) (fun x p q => f2 x (by omega) (by omega) (by omega))
      rw [t2.2.2.2.2.2.2 o a b]
      ((repeat' (first | (with_reducible apply And.intro) | (with_reducible intro _ e; subst e) | (with_reducible intro _))) <;> (try (first | omega | (with_reducible assumption))))
      refine tw_distances h7 a b (by omega) (by omega) (by omega) hsl g2 (fun M3 f3 d3 => ?_)
      ((repeat' (first | (with_reducible apply And.intro) | (with_reducible intro _ e; subst e) | (with_reducible intro _))) <;> (try (first | omega | (with_reducible assumption))))
      have := k M3 (f1.trans ⟨fun x h => by rw [f3 x (by omega), f2 x (by omega) (by omega) (by omega)], fun j _ => by rw [f3 241 (by decide), f2 241 (by decide) (by decide) (by decide)]⟩) ((t2.fr (by rw [f3 241 (by decide)]) (by rw [f3 241 (by decide)]) (fun x p q => f3 x (by omega))).T h2 h7)
      unfold q_led at this
      rw [Int.toNat_natCast, if_pos ⟨hO, by omega, by omega, by omega, by omega⟩, if_neg (by omega), ← DD_eq h7 a b (by omega) (by omega) (by omega) (by omega) d3] at this
      exact this
    · have := k M1 f1 (t1.T h2 h7)
      unfold q_led at this
      rw [Int.toNat_natCast, if_pos ⟨hO, by omega, by omega, by omega, by omega⟩, if_pos (by omega)] at this
      exact this
    · exact bad (by omega)
  · ((repeat' (first | (with_reducible apply And.intro) | (with_reducible intro _ e; subst e) | (with_reducible intro _))) <;> (try (first | omega | (with_reducible assumption))))
    have := k M (frT.refl _) tt
    unfold q_led at this
    rw [if_neg (fun z => hno z.1)] at this
    exact this
theorem tw_turns_op {F : Int → pM → Prop} {n o r s : Int} {M : pM} (hn : inR n) (ho : inR o) (hr : inR r) (hs : inR s) (tt : TT M) (k : ∀ M', frT M M' → TT M' → F (q_led n o r s 0) M') : pNi true X mX6_turns 6 [pR 241, pI n, pI o, pI r, pI s] S M F :=
  eX6_turns (bX6_turns_0 (tw_steps hn ho hr hs (Or.inl rfl) tt k))
theorem tw_moves_op {F : Int → pM → Prop} {n o r s : Int} {M : pM} (hn : inR n) (ho : inR o) (hr : inR r) (hs : inR s) (tt : TT M) (k : ∀ M', frT M M' → TT M' → F (q_led n o r s 1) M') : pNi true X mX6_moves 6 [pR 241, pI n, pI o, pI r, pI s] S M F :=
  eX6_moves (bX6_moves_0 (tw_steps hn ho hr hs (Or.inr rfl) tt k))
end
