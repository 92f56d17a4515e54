/-! ===== the twin's graph of least ladders ===== -/
set_option maxRecDepth 100000
theorem sld_trn {n : Nat} {o r i : Int} (h : 0 ≤ sld n o r i) : trn n o r i = -1 := by
  unfold sld at h
  unfold trn
  split at h
  · rename_i q
    rw [if_neg (by omega)]
  · omega
/-- where the graph leads -/
noncomputable def ldT (n : Nat) (o r i : Int) : Int := if 0 ≤ sld n o r i then sld n o r i else trn n o r i
noncomputable def isT (n : Nat) (o r i : Int) : Int := if 0 ≤ trn n o r i then 1 else 0
def GO (n : Nat) (o : Int) (M : pM) : Prop := ∀ r : Int, 0 ≤ r → r < FF n o → ∀ i : Int, 0 ≤ i → i < 21 → M 278 (21 * r + i) = ldT n o r i ∧ M 279 (21 * r + i) = isT n o r i
section
variable {X : px} {S : List psh}
theorem tw_apart {F : Int → pM → Prop} {a b : Int} {M : pM} (ha : inR a) (hb : inR b) (k : F (apt a b) M) : pNi true X mX6_apart 1 [pI a, pI b] S M F := by
  refine eX6_apart (bX6_apart_0 ?_)
  unfold apt at k
  ((repeat' (first | (with_reducible apply And.intro) | (with_reducible intro _ e; subst e) | (with_reducible intro _))) <;> (try (first | omega | (with_reducible assumption))))
  · rename_i c
    split at k
    · exact k
    · rw [show b - a = a - b by omega]; exact k
  · rename_i c
    rw [if_neg (by omega)] at k
    exact k
theorem tw_graph {F : pM → Prop} {n : Nat} {o : Int} {M : pM} (h2 : 2 ≤ n) (hn : n ≤ 7) (a : 0 ≤ o) (b : o < fac n) (h8 : FF n o ≤ 800) (t : TabT n M) (k : ∀ M' : pM, (∀ x, x ≠ 275 → x ≠ 278 → x ≠ 279 → M' x = M x) → GO n o M' → F M') : pNv true X mX6_graph 4 [pR 241, pI n, pI o] S M F := by
  have hf := fac_le hn
  have hF := FF_bd hn o
  have hI := iv_21 (n := n) (v := o) hn
  have hI0 := iv_nonneg (n := n) (v := o)
  refine eX6_graph (bX6_graph_0 ?_)
  rw [t.2.2.2.2.2.2 o a b, t.2.2.2.1 o a b]
  refine ⟨by omega, by omega, by omega, by omega, ?_⟩
  -- all cells ahead of c are right
  have loop : ∀ (m : Nat) (r : Int) (M1 : pM), r + m = FF n o → 0 ≤ r → (∀ x, x ≠ 275 → x ≠ 278 → x ≠ 279 → M1 x = M x) → (∀ r' : Int, 0 ≤ r' → r' < r → ∀ i : Int, 0 ≤ i → i < 21 → M1 278 (21 * r' + i) = ldT n o r' i ∧ M1 279 (21 * r' + i) = isT n o r' i) → wX6_graph_19 X F n o (FF n o) (iv n o) r S M1 := by
    intro m
    induction m with
    | zero =>
      intro r M1 q1 q2 f1 g1
      refine bX6_graph_19 ?_
      ((repeat' (first | (with_reducible apply And.intro) | (with_reducible intro _ e; subst e) | (with_reducible intro _))) <;> (try (first | omega | (with_reducible assumption))))
      exact k M1 f1 (fun r' p q => g1 r' p (by omega))
    | succ m ih =>
      intro r M1 q1 q2 f1 g1
      have hw := wd_ok (r := r) a b q2 (by omega)
      have hlen := vld_len hw.1
      have hlt := vld_lets hw.1
      have hlet : ∀ x : Int, 0 ≤ x → x < iv n o → 0 ≤ at0 (wd n o r) x ∧ at0 (wd n o r) x < 7 := fun x p q => by
        have := hlt _ (at0_mem (l := wd n o r) p (by omega))
        omega
      refine bX6_graph_19 ?_
      ((repeat' (first | (with_reducible apply And.intro) | (with_reducible intro _ e; subst e) | (with_reducible intro _))) <;> (try (first | omega | (with_reducible assumption))))
      have inner : ∀ (c : Nat) (i : Int) (M2 : pM), i + c = 21 → 0 ≤ i → (∀ x, x ≠ 275 → x ≠ 278 → x ≠ 279 → M2 x = M x) → (∀ r' : Int, 0 ≤ r' → r' < r → ∀ i : Int, 0 ≤ i → i < 21 → M2 278 (21 * r' + i) = ldT n o r' i ∧ M2 279 (21 * r' + i) = isT n o r' i) → (∀ j : Int, 0 ≤ j → j < i → M2 278 (21 * r + j) = ldT n o r j ∧ M2 279 (21 * r + j) = isT n o r j) → wX6_graph_28 X F n o (FF n o) (iv n o) r i S M2 := by
        intro c
        induction c with
        | zero =>
          intro i M2 p1 p2 f2 g2 g3
          refine bX6_graph_28 ?_
          ((repeat' (first | (with_reducible apply And.intro) | (with_reducible intro _ e; subst e) | (with_reducible intro _))) <;> (try (first | omega | (with_reducible assumption))))
          refine ih (r + 1) M2 (by omega) (by omega) f2 (fun r' s1 s2 j s3 s4 => ?_)
          by_cases e : r' = r
          · subst e
            exact g3 j s3 (by omega)
          · exact g2 r' s1 (by omega) j s3 s4
        | succ c ihc =>
          intro i M2 p1 p2 f2 g2 g3
          have next : ∀ M3 : pM, (∀ x, x ≠ 275 → x ≠ 278 → x ≠ 279 → M3 x = M2 x) → (∀ x, x ≠ 21 * r + i → M3 278 x = M2 278 x ∧ M3 279 x = M2 279 x) → M3 278 (21 * r + i) = ldT n o r i → M3 279 (21 * r + i) = isT n o r i → wX6_graph_302 X F n o (FF n o) (iv n o) r i S M3 := by
            intro M3 s1 s2 s3 s4
            refine bX6_graph_302 (ihc (i + 1) M3 (by omega) (by omega) (fun x u1 u2 u3 => (s1 x u1 u2 u3).trans (f2 x u1 u2 u3)) (fun r' u1 u2 j u3 u4 => ?_) (fun j u1 u2 => ?_))
            · rw [(s2 (21 * r' + j) (by omega)).1, (s2 (21 * r' + j) (by omega)).2]
              exact g2 r' u1 u2 j u3 u4
            · by_cases e : j = i
              · subst e
                exact ⟨s3, s4⟩
              · rw [(s2 (21 * r + j) (by omega)).1, (s2 (21 * r + j) (by omega)).2]
                exact g3 j u1 (by omega)
          refine bX6_graph_28 ?_
          ((repeat' (first | (with_reducible apply And.intro) | (with_reducible intro _ e; subst e) | (with_reducible intro _))) <;> (try (first | omega | (with_reducible assumption))))
          generalize hM3 : pu_up (pu_up M2 278 (21 * r + i) (-1)) 279 (21 * r + i) 0 = M3
          have f3 : ∀ x, x ≠ 278 → x ≠ 279 → M3 x = M2 x := fun x u v => by rw [← hM3, up_ne v, up_ne u]
          have c3 : M3 278 (21 * r + i) = -1 := by rw [← hM3, up_ne (by decide), up_same]
          have d3 : M3 279 (21 * r + i) = 0 := by rw [← hM3, up_same]
          have e3 : ∀ x, x ≠ 21 * r + i → M3 278 x = M2 278 x ∧ M3 279 x = M2 279 x := fun x u => by rw [← hM3, up_ne (show (278 : Int) ≠ 279 by decide), up_oi u, up_oi u, up_ne (by decide)]; exact ⟨rfl, rfl⟩
          have tfr : ∀ M' : pM, (∀ x, x ≠ 275 → x ≠ 278 → x ≠ 279 → M' x = M x) → TabT n M' := fun M' u => t.fr (by rw [u 241 (by decide) (by decide) (by decide)]) (by rw [u 241 (by decide) (by decide) (by decide)]) (fun x p q => u x (by omega) (by omega) (by omega))
          have t3 : TabT n M3 := tfr M3 (fun x u v w => (f3 x v w).trans (f2 x u v w))
          refine tw_unrank h2 hn a b hw.1 hw.2 t3 (fun M4 f4 g4 => ?_)
          have c4 : M4 278 (21 * r + i) = -1 := by rw [f4 278 (by decide)]; exact c3
          have d4 : M4 279 (21 * r + i) = 0 := by rw [f4 279 (by decide)]; exact d3
          have e4 : ∀ x, x ≠ 21 * r + i → M4 278 x = M2 278 x ∧ M4 279 x = M2 279 x := fun x u => by rw [f4 278 (by decide), f4 279 (by decide)]; exact e3 x u
          have f4' : ∀ x, x ≠ 275 → x ≠ 278 → x ≠ 279 → M4 x = M2 x := fun x u v w => (f4 x u).trans (f3 x v w)
          have t4 : TabT n M4 := tfr M4 (fun x u v w => (f4' x u v w).trans (f2 x u v w))
          -- no way from here
          have none : ¬ (i + 1 < iv n o ∧ 2 ≤ apt (at0 (wd n o r) i) (at0 (wd n o r) (i + 1))) → ¬ (i + 2 < iv n o ∧ at0 (wd n o r) i = at0 (wd n o r) (i + 2) ∧ apt (at0 (wd n o r) i) (at0 (wd n o r) (i + 1)) = 1) → wX6_graph_302 X F n o (FF n o) (iv n o) r i S M4 := by
            intro z1 z2
            refine next M4 f4' e4 ?_ ?_
            · rw [c4]; unfold ldT sld trn; rw [if_neg z1, if_neg z2, if_neg (by decide)]
            · rw [d4]; unfold isT trn; rw [if_neg z2, if_neg (by decide)]
          have turns : ¬ (i + 1 < iv n o ∧ 2 ≤ apt (at0 (wd n o r) i) (at0 (wd n o r) (i + 1))) → wX6_graph_163 X F n o (FF n o) (iv n o) r i S M4 := by
            intro z1
            refine bX6_graph_163 ?_
            by_cases hi2 : i + 2 < iv n o
            · have l0 := hlet i p2 (by omega)
              have l1 := hlet (i + 1) (by omega) (by omega)
              have l2 := hlet (i + 2) (by omega) hi2
              rw [g4 i p2 (by omega), g4 (i + 2) (by omega) (by omega), g4 (i + 1) (by omega) (by omega)]
              have ab : 0 ≤ apt (at0 (wd n o r) i) (at0 (wd n o r) (i + 1)) ∧ apt (at0 (wd n o r) i) (at0 (wd n o r) (i + 1)) < 7 := by unfold apt; split <;> omega
              ((repeat' (first | (with_reducible apply And.intro) | (with_reducible intro _ e; subst e) | (with_reducible intro _))) <;> (try (first | omega | (with_reducible assumption))))
              · exact none z1 (by omega)
              · refine tw_apart (by constructor <;> omega) (by constructor <;> omega) ?_
                rw [g4 i p2 (by omega), g4 (i + 1) (by omega) (by omega)]
                ((repeat' (first | (with_reducible apply And.intro) | (with_reducible intro _ e; subst e) | (with_reducible intro _))) <;> (try (first | omega | (with_reducible assumption))))
                · exact none z1 (by omega)
                · have vt := tnW_vld hw.1 p2 (by omega) (by omega) (by omega)
                  have vb := rnk_bd a b vt
                  refine tw_rankOf h2 hn a b vt (t4.fr (by rw [up_ne (by decide), up_ne (by decide), up_ne (by decide)]) (by rw [up_ne (by decide), up_ne (by decide), up_ne (by decide)]) (fun x u v => by rw [up_ne (by omega), up_ne (by omega), up_ne (by omega)])) (fun x u v => ?_) ?_
                  · unfold tnW at v
                    rw [seg_len] at v
                    rw [at0_tnW u v]
                    unfold tnf
                    by_cases c1 : x = i + 1
                    · subst c1
                      rw [up_same, if_neg (by omega), if_pos rfl]
                    · by_cases c0 : x = i + 2
                      · subst c0
                        rw [up_oi (by omega), up_same, up_oi (by omega), g4 (i + 1) (by omega) (by omega), if_neg (by omega), if_neg (by omega), if_pos rfl]
                      · by_cases c2 : x = i
                        · subst c2
                          rw [up_oi c1, up_oi c0, up_same, if_pos rfl]
                        · rw [up_oi c1, up_oi c0, up_oi c2, if_neg c2, if_neg c1, if_neg c0]
                          exact g4 x u (by omega)
                  · have et : trn n o r i = rnk n o (tnW (wd n o r) i) := by unfold trn; rw [if_pos ⟨by omega, by omega, by omega⟩]
                    have es : sld n o r i = -1 := by unfold sld; rw [if_neg z1]
                    ((repeat' (first | (with_reducible apply And.intro) | (with_reducible intro _ e; subst e) | (with_reducible intro _))) <;> (try (first | omega | (with_reducible assumption))))
                    refine next _ (fun x u v w => by rw [up_ne w, up_ne v, up_ne u, up_ne u, up_ne u]; exact f4' x u v w) (fun x u => ?_) ?_ ?_
                    · rw [up_ne (show (278 : Int) ≠ 279 by decide), up_oi u, up_oi u, up_ne (show (278 : Int) ≠ 275 by decide), up_ne (show (278 : Int) ≠ 275 by decide), up_ne (show (278 : Int) ≠ 275 by decide), up_ne (show (279 : Int) ≠ 278 by decide), up_ne (show (279 : Int) ≠ 275 by decide), up_ne (show (279 : Int) ≠ 275 by decide), up_ne (show (279 : Int) ≠ 275 by decide)]
                      exact e4 x u
                    · rw [up_ne (by decide), up_same]
                      unfold ldT
                      rw [es, if_neg (by decide), et]
                    · rw [up_same]
                      unfold isT
                      rw [et, if_pos vb.1]
            · ((repeat' (first | (with_reducible apply And.intro) | (with_reducible intro _ e; subst e) | (with_reducible intro _))) <;> (try (first | omega | (with_reducible assumption))))
              exact none z1 (by omega)
          by_cases hi1 : i + 1 < iv n o
          · have l0 := hlet i p2 (by omega)
            have l1 := hlet (i + 1) (by omega) hi1
            have ab : 0 ≤ apt (at0 (wd n o r) i) (at0 (wd n o r) (i + 1)) ∧ apt (at0 (wd n o r) i) (at0 (wd n o r) (i + 1)) < 7 := by unfold apt; split <;> omega
            rw [g4 i p2 (by omega), g4 (i + 1) (by omega) (by omega)]
            ((repeat' (first | (with_reducible apply And.intro) | (with_reducible intro _ e; subst e) | (with_reducible intro _))) <;> (try (first | omega | (with_reducible assumption))))
            refine tw_apart (by constructor <;> omega) (by constructor <;> omega) ?_
            rw [g4 i p2 (by omega), g4 (i + 1) (by omega) (by omega)]
            ((repeat' (first | (with_reducible apply And.intro) | (with_reducible intro _ e; subst e) | (with_reducible intro _))) <;> (try (first | omega | (with_reducible assumption))))
            · exact turns (by omega)
            · have vt := slW_vld hw.1 p2 (by omega) (by omega)
              have vb := rnk_bd a b vt
              refine tw_rankOf h2 hn a b vt (t4.fr (by rw [up_ne (by decide), up_ne (by decide)]) (by rw [up_ne (by decide), up_ne (by decide)]) (fun x u v => by rw [up_ne (by omega), up_ne (by omega)])) (fun x u v => ?_) ?_
              · unfold slW at v
                rw [seg_len] at v
                rw [at0_slW u v]
                unfold slf
                by_cases c1 : x = i + 1
                · subst c1
                  rw [up_same, if_neg (by omega), if_pos rfl]
                · by_cases c2 : x = i
                  · subst c2
                    rw [up_oi c1, up_same, if_pos rfl]
                  · rw [up_oi c1, up_oi c2, if_neg c2, if_neg c1]
                    exact g4 x u (by omega)
              · have es : sld n o r i = rnk n o (slW (wd n o r) i) := by unfold sld; rw [if_pos ⟨by omega, by omega⟩]
                have et := sld_trn (n := n) (o := o) (r := r) (i := i) (by omega)
                ((repeat' (first | (with_reducible apply And.intro) | (with_reducible intro _ e; subst e) | (with_reducible intro _))) <;> (try (first | omega | (with_reducible assumption))))
                refine next _ (fun x u v w => by rw [up_ne v, up_ne u, up_ne u]; exact f4' x u v w) (fun x u => ?_) ?_ ?_
                · rw [up_oi u, up_ne (show (278 : Int) ≠ 275 by decide), up_ne (show (278 : Int) ≠ 275 by decide), up_ne (show (279 : Int) ≠ 278 by decide), up_ne (show (279 : Int) ≠ 275 by decide), up_ne (show (279 : Int) ≠ 275 by decide)]
                  exact e4 x u
                · rw [up_same]
                  unfold ldT
                  rw [es, if_pos vb.1]
                · rw [up_ne (by decide), up_ne (by decide), up_ne (by decide), d4]
                  unfold isT
                  rw [et, if_neg (by decide)]
          · ((repeat' (first | (with_reducible apply And.intro) | (with_reducible intro _ e; subst e) | (with_reducible intro _))) <;> (try (first | omega | (with_reducible assumption))))
            exact turns (by omega)
      exact inner 21 0 M1 (by omega) (by omega) f1 g1 (fun j u v => by omega)
  exact loop (FF n o).toNat 0 M (by omega) (by omega) (fun _ _ _ _ => rfl) (fun r' p q => by omega)
end
