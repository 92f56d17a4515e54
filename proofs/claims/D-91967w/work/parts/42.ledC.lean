/-! ===== the component's words laid out, slides and turns ===== -/
set_option maxRecDepth 100000
/-- store, row, word, words have changed -/
def frK (M M' : pM) : Prop := (∀ x, x ≠ 0 → x ≠ 4 → x ≠ 5 → x ≠ 6 → x ≠ 7 → M' x = M x) ∧ (∀ j, j ≠ 2 → M' 0 j = M 0 j)
theorem frK.refl (M : pM) : frK M M := ⟨fun _ _ _ _ _ _ => rfl, fun _ _ => rfl⟩
theorem frK.trans {M M1 M2 : pM} (a : frK M M1) (b : frK M1 M2) : frK M M2 := ⟨fun x h1 h2 h3 h4 h5 => (b.1 x h1 h2 h3 h4 h5).trans (a.1 x h1 h2 h3 h4 h5), fun j h => (b.2 j h).trans (a.2 j h)⟩
theorem frW.K {M M' : pM} (a : frW M M') : frK M M' := ⟨fun x h1 h2 h3 h4 _ => a.1 x h1 h2 h3 h4, a.2⟩
theorem frK.tab {n : Nat} {M M' : pM} (a : frK M M') (t : TabC n M) : TabC n M' := t.fr (a.1 1 (by decide) (by decide) (by decide) (by decide) (by decide)) (a.1 2 (by decide) (by decide) (by decide) (by decide) (by decide)) (a.1 3 (by decide) (by decide) (by decide) (by decide) (by decide))
theorem frK.C {M M' : pM} (a : frK M M') : frC M M' := ⟨fun x h => a.1 x (by omega) (by omega) (by omega) (by omega) (by omega), fun j h => a.2 j (by omega)⟩
theorem frK.nw {M M' : pM} (a : frK M M') (h : NW M) : NW M' := h.fr (a.2 15 (by decide)) (a.2 16 (by decide))
section
variable {X : px} {S : List psh}
theorem c_laysWords {F : Int → pM → Prop} {n : Nat} {o : Int} {M : pM} (h2 : 2 ≤ n) (hn : n ≤ 7) (a : 0 ≤ o) (b : o < fac n) (t : TabC n M) (l : LC M) (wb : WB M) (k1 : FF n o ≤ 800 → ∀ M', frK M M' → LC M' → WB M' → WO n o M' → F 1 M') (k0 : 800 < FF n o → ∀ M', frK M M' → LC M' → WB M' → F 0 M') : pNi true X mX0_laysWords 26 [pR 0, pI o] S M F := by
  have hF := FF_bd hn o
  have hI := iv_21 (n := n) (v := o) hn
  refine eX0_laysWords (bX0_laysWords_0 (c_lf h2 hn a b t l (fun M1 f1 l1 => ?_)))
  have wb1 : WB M1 := wb.fr (f1.1 6 (by decide) (by decide) (by decide))
  ((repeat' (first | (with_reducible apply And.intro) | (with_reducible intro _ e; subst e) | (with_reducible intro _))) <;> (try (first | omega | (with_reducible assumption))))
  · refine c_lf h2 hn a b (f1.tab t) (l1.C h2 hn) (fun M2 f2 l2 => ?_)
    have f12 := f1.trans f2
    have loop : ∀ (m : Nat) (r : Int) (M3 : pM), r + m = FF n o → 0 ≤ r → frK M M3 → LC M3 → WB M3 → (∀ r' : Int, 0 ≤ r' → r' < r → ∀ i : Int, 0 ≤ i → i < 21 → (-128 ≤ M3 7 (21 * r' + i) ∧ M3 7 (21 * r' + i) < 128) ∧ (i < iv n o → M3 7 (21 * r' + i) = at0 (wd n o r') i)) → wX0_laysWords_23 X F o (FF n o) r S M3 := by
      intro m
      induction m with
      | zero =>
        intro r M3 q1 q2 f3 l3 w3 o3
        refine bX0_laysWords_23 ?_
        ((repeat' (first | (with_reducible apply And.intro) | (with_reducible intro _ e; subst e) | (with_reducible intro _))) <;> (try (first | omega | (with_reducible assumption))))
        exact k1 (by omega) M3 f3 l3 w3 (fun r' p q => o3 r' p (by omega))
      | succ m ih =>
        intro r M3 q1 q2 f3 l3 w3 o3
        have hw := wd_ok (r := r) a b q2 (by omega)
        have hlen := vld_len hw.1
        refine bX0_laysWords_23 ?_
        ((repeat' (first | (with_reducible apply And.intro) | (with_reducible intro _ e; subst e) | (with_reducible intro _))) <;> (try (first | omega | (with_reducible assumption))))
        refine c_unranks h2 hn a b hw.1 hw.2 (f3.tab t) l3 (fun M4 f4 l4 g4 g5 => ?_)
        have w4 : WB M4 := w3.word (vld_lets hw.1) hn g4 g5
        refine ⟨by omega, by omega, fun i p q => by rw [Int.zero_add]; exact w4 i p q, ?_⟩
        intro M5 e5
        subst e5
        have fc : ∀ x, x ≠ 7 → pu_cpy M4 6 0 7 (21 * r) 21 x = M4 x := fun x hx => cpy_ne hx
        refine ih (r + 1) _ (by omega) (by omega) (f3.trans (f4.K.trans ⟨fun x p1 p2 p3 p4 p5 => fc x p5, fun j _ => by rw [fc 0 (by decide)]⟩)) (l4.fr (by rw [fc 0 (by decide)]) (fc 5 (by decide))) (w4.fr (fc 6 (by decide))) (fun r' p q i p1 p2 => ?_)
        by_cases e : r' = r
        · subst e
          rw [cpy_in (by omega) (by omega), show (0 : Int) + (21 * r' + i - 21 * r') = i by omega]
          exact ⟨w4 i p1 p2, fun hi => g4 i p1 (by omega)⟩
        · rw [cpy_out (by omega), f4.1 7 (by decide) (by decide) (by decide) (by decide)]
          exact o3 r' p (by omega) i p1 p2
    exact loop (FF n o).toNat 0 M2 (by omega) (by omega) f12.W.K (l2.C h2 hn) (wb.fr (f12.1 6 (by decide) (by decide) (by decide))) (fun r' p q => by omega)
  · exact k0 (by omega) M1 f1.W.K (l1.C h2 hn) wb1
theorem c_ledAt {F : Int → pM → Prop} {n : Nat} {o r i d : Int} {M : pM} (h2 : 2 ≤ n) (hn : n ≤ 7) (a : 0 ≤ o) (b : o < fac n) (h8 : FF n o ≤ 800) (hr0 : 0 ≤ r) (hr1 : r < FF n o) (hi : 0 ≤ i) (hi1 : i + 1 < iv n o) (hd : d = 0 ∨ d = 1) (t : TabC n M) (l : LC M) (wo : WO n o M) (k : ∀ M', frW M M' → LC M' → WB M' → F (if d = 0 then sld n o r i else trn n o r i) M') : pNi true X mX0_ledAt 26 [pR 0, pI o, pI r, pI i, pI (iv n o), pI d] S M F := by
  have hI := iv_21 (n := n) (v := o) hn
  have hw := wd_ok (r := r) a b hr0 hr1
  have hlen := vld_len hw.1
  have wor := wo r hr0 hr1
  have hlt := vld_lets hw.1
  have hlet : ∀ x : Int, 0 ≤ x → x < iv n o → 0 ≤ at0 (wd n o r) x ∧ at0 (wd n o r) x < 7 := fun x p q => by
    have := hlt _ (at0_mem (l := wd n o r) p (by omega))
    omega
  refine eX0_ledAt (bX0_ledAt_0 ⟨by omega, by omega, fun j p q => (wor j p q).1, ?_⟩)
  intro M1 e1
  have fc : ∀ x, x ≠ 6 → M1 x = M x := fun x hx => by rw [e1]; exact cpy_ne hx
  have m6 : ∀ x : Int, 0 ≤ x → x < 21 → M1 6 x = M 7 (21 * r + x) := fun x p q => by rw [e1, cpy_in p (by omega)]; congr 1; omega
  have m6w : ∀ x : Int, 0 ≤ x → x < iv n o → M1 6 x = at0 (wd n o r) x := fun x p q => by rw [m6 x p (by omega)]; exact (wor x p (by omega)).2 q
  clear e1
  have f1 : frW M M1 := ⟨fun x _ _ _ p => fc x p, fun j _ => by rw [fc 0 (by decide)]⟩
  have l1 : LC M1 := l.fr (by rw [fc 0 (by decide)]) (fc 5 (by decide))
  have w1 : WB M1 := fun x p q => by rw [m6 x p q]; exact (wor x p q).1
  have b0 := hlet i hi (by omega)
  have b1 := hlet (i + 1) (by omega) hi1
  have e0 := m6w i hi (by omega)
  have e1 := m6w (i + 1) (by omega) hi1
  have ap : (if M1 6 i - M1 6 (i + 1) < 0 then -(M1 6 i - M1 6 (i + 1)) else M1 6 i - M1 6 (i + 1)) = apt (at0 (wd n o r) i) (at0 (wd n o r) (i + 1)) := by
    rw [e0, e1]
    unfold apt
    split <;> split <;> omega
  have apb : 0 ≤ apt (at0 (wd n o r) i) (at0 (wd n o r) (i + 1)) ∧ apt (at0 (wd n o r) i) (at0 (wd n o r) (i + 1)) < 7 := by
    unfold apt
    split <;> omega
  have kb : ∀ M', frW M1 M' → LC M' → WB M' → F (if d = 0 then sld n o r i else trn n o r i) M' := fun M' p q s => k M' (f1.trans p) q s
  have t1 := f1.tab t
  have fin : ∀ (w : List Int) (M2 : pM), vld n o w → w.length = (wd n o r).length → (∀ x, x ≠ 6 → M2 x = M1 x) → (∀ x : Int, 0 ≤ x → x < w.length → M2 6 x = at0 w x) → (∀ x : Int, w.length ≤ x → M2 6 x = M1 6 x) → (if d = 0 then sld n o r i else trn n o r i) = rnk n o w → wX0_ledAt_185 X F o S M2 := by
    intro w M2 v2 ln f2 g2 g3 ee
    have fw : frW M1 M2 := ⟨fun x _ _ _ p => f2 x p, fun j _ => by rw [f2 0 (by decide)]⟩
    have w2 : WB M2 := w1.word (vld_lets v2) hn g2 g3
    refine bX0_ledAt_185 (c_ranked h2 hn a b v2 (fw.tab t1) (l1.fr (by rw [f2 0 (by decide)]) (f2 5 (by decide))) g2 (fun M3 f3 l3 => ?_))
    rw [← ee]
    exact kb M3 (fw.trans f3.W) l3 (w2.fr (f3.1 6 (by decide) (by decide) (by decide)))
  rw [ap]
  rcases hd with hd | hd
  · subst hd
    rw [if_pos rfl] at *
    ((repeat' (first | (with_reducible apply And.intro) | (with_reducible intro _ e; subst e) | (with_reducible intro _))) <;> (try (first | omega | (with_reducible assumption))))
    · refine fin (slW (wd n o r) i) _ (slW_vld hw.1 hi (by omega) (by omega)) (seg_len _ _ _) (fun x hx => by rw [up_ne hx, up_ne hx]) (fun x p q => ?_) (fun x p => ?_) ?_
      · unfold slW at q
        rw [seg_len] at q
        rw [at0_slW p q]
        unfold slf
        by_cases c1 : x = i + 1
        · subst c1
          rw [up_same, if_neg (by omega), if_pos rfl, e0]
        · by_cases c2 : x = i
          · subst c2
            rw [up_oi c1, up_same, if_pos rfl, e1]
          · rw [up_oi c1, up_oi c2, if_neg c2, if_neg c1, m6w x p (by omega)]
      · unfold slW at p
        rw [seg_len] at p
        rw [up_oi (by omega), up_oi (by omega)]
      · unfold sld
        rw [if_pos ⟨by omega, by omega⟩]
    · have := kb M1 (frW.refl _) l1 w1
      unfold sld at this
      rw [if_neg (by omega)] at this
      exact this
  · subst hd
    have hne : ¬ (1 : Int) = 0 := by decide
    rw [if_neg hne] at *
    have bad : ¬ (i + 2 < iv n o ∧ at0 (wd n o r) i = at0 (wd n o r) (i + 2) ∧ apt (at0 (wd n o r) i) (at0 (wd n o r) (i + 1)) = 1) → F (-1) M1 := fun h => by
      have := kb M1 (frW.refl _) l1 w1
      unfold trn at this
      rw [if_neg h] at this
      exact this
    by_cases hi2 : i + 2 < iv n o
    · have e2 := m6w (i + 2) (by omega) hi2
      have b2 := hlet (i + 2) (by omega) hi2
      ((repeat' (first | (with_reducible apply And.intro) | (with_reducible intro _ e; subst e) | (with_reducible intro _))) <;> (try (first | omega | (with_reducible assumption))))
      · exact bad (by omega)
      · rw [up_oi (by omega), up_same]; omega
      · rw [up_oi (by omega), up_same]; omega
      · refine fin (tnW (wd n o r) i) _ (tnW_vld hw.1 hi (by omega) (by omega) (by omega)) (seg_len _ _ _) (fun x hx => by rw [up_ne hx, up_ne hx, up_ne hx]) (fun x p q => ?_) (fun x p => ?_) ?_
        · unfold tnW at q
          rw [seg_len] at q
          rw [at0_tnW p q]
          unfold tnf
          by_cases c0 : x = i + 2
          · subst c0
            rw [up_same, up_oi (by omega), up_same, if_neg (by omega), if_neg (by omega), if_pos rfl, e1]
          · by_cases c1 : x = i + 1
            · subst c1
              rw [up_oi c0, up_same, if_neg (by omega), if_pos rfl, e0]
            · by_cases c2 : x = i
              · subst c2
                rw [up_oi c0, up_oi c1, up_same, if_pos rfl, e1]
              · rw [up_oi c0, up_oi c1, up_oi c2, if_neg c2, if_neg c1, if_neg c0, m6w x p (by omega)]
        · unfold tnW at p
          rw [seg_len] at p
          rw [up_oi (by omega), up_oi (by omega), up_oi (by omega)]
        · unfold trn
          rw [if_pos ⟨by omega, by omega, by omega⟩]
      · exact bad (by omega)
    · ((repeat' (first | (with_reducible apply And.intro) | (with_reducible intro _ e; subst e) | (with_reducible intro _))) <;> (try (first | omega | (with_reducible assumption))))
      exact bad (by omega)
end
