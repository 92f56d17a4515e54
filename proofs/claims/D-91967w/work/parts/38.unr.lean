/-! ===== ranks and words: both sides ===== -/
set_option maxRecDepth 100000
/-- the store, the row and the word in hand have changed -/
def frW (M M' : pM) : Prop := (∀ x, x ≠ 0 → x ≠ 4 → x ≠ 5 → x ≠ 6 → M' x = M x) ∧ (∀ j, j ≠ 2 → M' 0 j = M 0 j)
theorem frW.refl (M : pM) : frW M M := ⟨fun _ _ _ _ _ => rfl, fun _ _ => rfl⟩
theorem frW.trans {M M1 M2 : pM} (a : frW M M1) (b : frW M1 M2) : frW M M2 := ⟨fun x h1 h2 h3 h4 => (b.1 x h1 h2 h3 h4).trans (a.1 x h1 h2 h3 h4), fun j h => (b.2 j h).trans (a.2 j h)⟩
theorem frL.W {M M' : pM} (a : frL M M') : frW M M' := ⟨fun x h1 h2 h3 _ => a.1 x h1 h2 h3, a.2⟩
theorem frW.tab {n : Nat} {M M' : pM} (a : frW M M') (t : TabC n M) : TabC n M' := t.fr (a.1 1 (by decide) (by decide) (by decide) (by decide)) (a.1 2 (by decide) (by decide) (by decide) (by decide)) (a.1 3 (by decide) (by decide) (by decide) (by decide))
theorem LV.C {n : Nat} {M : pM} (h2 : 2 ≤ n) (hn : n ≤ 7) (l : LV n M) : LC M := Or.inr ⟨n, h2, hn, l⟩
theorem LC.fr {M M' : pM} (l : LC M) (h0 : M' 0 2 = M 0 2) (h5 : M' 5 = M 5) : LC M' := by
  rcases l with e | ⟨n, a, b, c⟩
  · exact Or.inl (h0.trans e)
  · exact Or.inr ⟨n, a, b, by unfold LV; rw [h0, h5]; exact c⟩
theorem LV.fr {n : Nat} {M M' : pM} (l : LV n M) (h0 : M' 0 2 = M 0 2) (h5 : M' 5 = M 5) : LV n M' := by
  unfold LV; rw [h0, h5]; exact l
theorem iv_21 {n : Nat} {v : Int} (hn : n ≤ 7) : iv n v ≤ 21 := by
  have h1 := iv_le (n := n) (v := v)
  have h2 : (n : Int) * (n - 1) ≤ 42 := by
    have : n = 0 ∨ n = 1 ∨ n = 2 ∨ n = 3 ∨ n = 4 ∨ n = 5 ∨ n = 6 ∨ n = 7 := by omega
    rcases this with e | e | e | e | e | e | e | e <;> subst e <;> decide
  omega
section
variable {X : px} {S : List psh}
theorem c_lf {n : Nat} {v : Int} {M : pM} {F : Int → pM → Prop} (h2 : 2 ≤ n) (hn : n ≤ 7) (hv0 : 0 ≤ v) (hv1 : v < fac n) (t : TabC n M) (l : LC M) (k : ∀ M' : pM, frL M M' → LV n M' → F (FF n v) M') : pNl true X mX0_leastsFrom 24 [pR 0, pI v] S M F :=
  c_leastsFrom h2 hn (iv n v).toNat v 24 M F (by have := iv_nonneg (n := n) (v := v); omega) (by have := iv_21 (n := n) (v := v) hn; omega) hv0 hv1 t l k
theorem c_unranks9 {n : Nat} {F : pM → Prop} (h2 : 2 ≤ n) (hn : n ≤ 7) : ∀ (w : List Int) (v i : Int) (M : pM), 0 ≤ v → v < fac n → vld n v w → 0 ≤ i → i + w.length ≤ 21 → TabC n M → LC M → (∀ M' : pM, frW M M' → LC M' → (∀ x, x < i ∨ i + w.length ≤ x → M' 6 x = M 6 x) → (∀ x : Int, 0 ≤ x → x < w.length → M' 6 (i + x) = at0 w x) → F M') → wX0_unranks_9 X F (rnk n v w) v i S M := by
  have hf := fac_le hn
  intro w
  induction w with
  | nil =>
    intro v i M a b h c d t l k
    have h : v = 0 := h
    subst h
    refine bX0_unranks_9 ?_
    ((repeat' (first | (with_reducible apply And.intro) | (with_reducible intro _ e; subst e) | (with_reducible intro _))) <;> (try (first | omega | (with_reducible assumption))))
    exact k M (frW.refl _) l (fun _ _ => rfl) (fun x p q => by simp at q; omega)
  | cons k0 w ih =>
    intro v i M a b h c d t l k
    have hv := nb_ne h.1 h.2.1 h.2.2.1
    have hlen := vld_len h
    obtain ⟨h1, h2', h3, h4⟩ := h
    have hb := rn_bd (n := n) (v := v) h1 h2'
    have hr := rnk_bd hb.1 hb.2 h4
    simp only [List.length_cons] at d
    refine bX0_unranks_9 ?_
    ((repeat' (first | (with_reducible apply And.intro) | (with_reducible intro _ e; subst e) | (with_reducible intro _))) <;> (try (first | omega | (with_reducible assumption))))
    have loop : ∀ (m : Nat) (j : Int) (M1 : pM), j + m = k0 → 0 ≤ j → frL M M1 → LC M1 → wX0_unranks_17 X F (rnk n v (k0 :: w) - bsum n v j) v i j S M1 := by
      intro m
      induction m with
      | zero =>
        intro j M1 q1 q2 f1 l1
        have e : j = k0 := by omega
        subst e
        have t1 := f1.tab t
        refine bX0_unranks_17 ?_
        refine c_can hn t1 a b q2 h2' (fun _ => ?_) (fun hc => absurd h3 hc)
        ((repeat' (first | (with_reducible apply And.intro) | (with_reducible intro _ e; subst e) | (with_reducible intro _))) <;> (try (first | omega | (with_reducible assumption))))
        refine c_ren h2 hn t1 a b q2 h2' (fun M2 a2 => ?_)
        have f2 := f1.trans (frL_of4 a2)
        refine c_lf h2 hn hb.1 hb.2 (f2.tab t) (l1.fr (by rw [a2 0 (by decide)]) (a2 5 (by decide))) (fun M3 a3 l3 => ?_)
        have f3 := f2.trans a3
        have hF := FF_bd hn (rn n v j)
        have e2 : rnk n v (j :: w) - bsum n v j = rnk n (rn n v j) w := by simp only [rnk]; omega
        rw [e2]
        refine bX0_unranks_50 ?_
        rw [i2bb_id (by omega) (by omega)]
        ((repeat' (first | (with_reducible apply And.intro) | (with_reducible intro _ e; subst e) | (with_reducible intro _))) <;> (try (first | omega | (with_reducible assumption))))
        have t4 : TabC n (pu_up M3 6 i j) := (f3.tab t).fr (up_ne (by decide)) (up_ne (by decide)) (up_ne (by decide))
        refine c_ren h2 hn t4 a b q2 h2' (fun M5 a5 => ?_)
        have f4 : frW M M5 := ⟨fun x p1 p2 p3 p4 => by rw [a5 x p2, up_ne p4, f3.1 x p1 p2 p3], fun x p => by rw [a5 0 (by decide), up_ne (by decide), f3.2 x p]⟩
        refine ih (rn n v j) (i + 1) M5 hb.1 hb.2 h4 (by omega) (by omega) (f4.tab t) (LC.fr (l3.C h2 hn) (by rw [a5 0 (by decide), up_ne (by decide)]) (by rw [a5 5 (by decide), up_ne (by decide)])) (fun M6 g1 g2 g3 g4 => k M6 (f4.trans g1) g2 (fun x hx => ?_) (fun x p q => ?_))
        · simp only [List.length_cons] at hx
          rw [g3 x (by omega), a5 6 (by decide), up_oi (by omega), f3.1 6 (by decide) (by decide) (by decide)]
        · simp only [List.length_cons] at q
          by_cases z : x = 0
          · subst z
            rw [Int.add_zero, g3 i (by omega), a5 6 (by decide), up_same]
            rfl
          · have := g4 (x - 1) (by omega) (by omega)
            rw [show i + 1 + (x - 1) = i + x by omega] at this
            rw [this]
            unfold at0
            rw [show x.toNat = (x - 1).toNat + 1 by omega, List.getD_cons_succ]
      | succ m ihm =>
        intro j M1 q1 q2 f1 l1
        have t1 := f1.tab t
        have hbs := bsum_step (n := n) (v := v) (k := j) q2
        have hbm := bsum_mono (n := n) (v := v) (a := j + 1) (b := k0) (by omega) (by omega)
        have hbn := bsum_nn (n := n) (v := v) (k := j)
        have hbd := rnk_bd a b (show vld n v (k0 :: w) from ⟨h1, h2', h3, h4⟩)
        have hFv := FF_bd hn v
        have e2 : rnk n v (k0 :: w) = bsum n v k0 + rnk n (rn n v k0) w := rfl
        refine bX0_unranks_17 ?_
        refine c_can hn t1 a b q2 (by omega) (fun hnb => ?_) (fun hnb => ?_)
        · rw [if_pos hnb] at hbs
          ((repeat' (first | (with_reducible apply And.intro) | (with_reducible intro _ e; subst e) | (with_reducible intro _))) <;> (try (first | omega | (with_reducible assumption))))
          refine c_ren h2 hn t1 a b q2 (by omega) (fun M2 a2 => ?_)
          have f2 := f1.trans (frL_of4 a2)
          have hb2 := rn_bd (n := n) (v := v) q2 (show j + 1 < n by omega)
          refine c_lf h2 hn hb2.1 hb2.2 (f2.tab t) (l1.fr (by rw [a2 0 (by decide)]) (a2 5 (by decide))) (fun M3 a3 l3 => ?_)
          have hF := FF_bd hn (rn n v j)
          refine bX0_unranks_50 ?_
          ((repeat' (first | (with_reducible apply And.intro) | (with_reducible intro _ e; subst e) | (with_reducible intro _))) <;> (try (first | omega | (with_reducible assumption))))
          have := ihm (j + 1) M3 (by omega) (by omega) (f2.trans a3) (l3.C h2 hn)
          rw [hbs] at this
          rw [show rnk n v (k0 :: w) - bsum n v j - FF n (rn n v j) = rnk n v (k0 :: w) - (bsum n v j + FF n (rn n v j)) by omega]
          exact this
        · rw [if_neg hnb] at hbs
          ((repeat' (first | (with_reducible apply And.intro) | (with_reducible intro _ e; subst e) | (with_reducible intro _))) <;> (try (first | omega | (with_reducible assumption))))
          refine bX0_unranks_50 ?_
          ((repeat' (first | (with_reducible apply And.intro) | (with_reducible intro _ e; subst e) | (with_reducible intro _))) <;> (try (first | omega | (with_reducible assumption))))
          have := ihm (j + 1) M1 (by omega) (by omega) f1 l1
          rw [hbs] at this
          rw [show rnk n v (k0 :: w) - bsum n v j - 0 = rnk n v (k0 :: w) - (bsum n v j + 0) by omega]
          exact this
    have := loop k0.toNat 0 M (by omega) (by omega) (frL.refl _) l
    rw [show bsum n v 0 = 0 from rfl, Int.sub_zero] at this
    exact this
theorem c_unranks {n : Nat} {F : pM → Prop} {w : List Int} {v r : Int} {M : pM} (h2 : 2 ≤ n) (hn : n ≤ 7) (a : 0 ≤ v) (b : v < fac n) (h : vld n v w) (hr : rnk n v w = r) (t : TabC n M) (l : LC M) (k : ∀ M' : pM, frW M M' → LC M' → (∀ x : Int, 0 ≤ x → x < w.length → M' 6 x = at0 w x) → (∀ x : Int, w.length ≤ x → M' 6 x = M 6 x) → F M') : pNv true X mX0_unranks 25 [pR 0, pI v, pL r] S M F := by
  have hlen := vld_len h
  have := iv_21 (n := n) (v := v) hn
  subst hr
  refine eX0_unranks (bX0_unranks_0 (c_unranks9 h2 hn w v 0 M a b h (by omega) (by omega) t l (fun M' g1 g2 g3 g4 => k M' g1 g2 (fun x p q => ?_) (fun x p => g3 x (by omega)))))
  have := g4 x p q
  rwa [Int.zero_add] at this
theorem c_ranked8 {n : Nat} {F : Int → pM → Prop} (h2 : 2 ≤ n) (hn : n ≤ 7) : ∀ (w : List Int) (v i x : Int) (M : pM), 0 ≤ v → v < fac n → vld n v w → 0 ≤ i → i + w.length ≤ 21 → TabC n M → LC M → (∀ x : Int, 0 ≤ x → x < w.length → M 6 (i + x) = at0 w x) → (∀ M' : pM, frL M M' → LC M' → F (x + rnk n v w) M') → wX0_ranked_8 X F x v i S M := by
  have hf := fac_le hn
  intro w
  induction w with
  | nil =>
    intro v i x M a b h c d t l hw k
    have h : v = 0 := h
    subst h
    refine bX0_ranked_8 ?_
    ((repeat' (first | (with_reducible apply And.intro) | (with_reducible intro _ e; subst e) | (with_reducible intro _))) <;> (try (first | omega | (with_reducible assumption))))
    have := k M (frL.refl _) l
    simp only [rnk, Int.add_zero] at this
    exact this
  | cons k0 w ih =>
    intro v i x M a b h c d t l hw k
    have hv := nb_ne h.1 h.2.1 h.2.2.1
    obtain ⟨h1, h2', h3, h4⟩ := h
    have hb := rn_bd (n := n) (v := v) h1 h2'
    simp only [List.length_cons] at d
    have hw0 : M 6 i = k0 := by
      have := hw 0 (by omega) (by simp)
      rw [Int.add_zero] at this
      exact this
    refine bX0_ranked_8 ?_
    ((repeat' (first | (with_reducible apply And.intro) | (with_reducible intro _ e; subst e) | (with_reducible intro _))) <;> (try (first | omega | (with_reducible assumption))))
    have loop : ∀ (m : Nat) (j : Int) (M1 : pM), j + m = k0 → 0 ≤ j → frL M M1 → LC M1 → wX0_ranked_16 X F (x + bsum n v j) v i j S M1 := by
      intro m
      induction m with
      | zero =>
        intro j M1 q1 q2 f1 l1
        have e : j = k0 := by omega
        subst e
        have t1 := f1.tab t
        have e6 : M1 6 i = j := by rw [f1.1 6 (by decide) (by decide) (by decide)]; exact hw0
        refine bX0_ranked_16 ?_
        rw [e6]
        ((repeat' (first | (with_reducible apply And.intro) | (with_reducible intro _ e; subst e) | (with_reducible intro _))) <;> (try (first | omega | (with_reducible assumption))))
        refine c_ren h2 hn t1 a b q2 h2' (fun M2 a2 => ?_)
        have f2 := f1.trans (frL_of4 a2)
        refine ih (rn n v j) (i + 1) _ M2 hb.1 hb.2 h4 (by omega) (by omega) (f2.tab t) (l1.fr (by rw [a2 0 (by decide)]) (a2 5 (by decide))) (fun y p q => ?_) (fun M3 g1 g2 => ?_)
        · have := hw (y + 1) (by omega) (by simp only [List.length_cons]; omega)
          rw [f2.1 6 (by decide) (by decide) (by decide), show i + 1 + y = i + (y + 1) by omega, this]
          unfold at0
          rw [show (y + 1).toNat = y.toNat + 1 by omega, List.getD_cons_succ]
        · have := k M3 (f2.trans g1) g2
          simp only [rnk] at this
          rwa [← Int.add_assoc] at this
      | succ m ihm =>
        intro j M1 q1 q2 f1 l1
        have t1 := f1.tab t
        have hbs := bsum_step (n := n) (v := v) (k := j) q2
        have e6 : M1 6 i = k0 := by rw [f1.1 6 (by decide) (by decide) (by decide)]; exact hw0
        refine bX0_ranked_16 ?_
        rw [e6]
        ((repeat' (first | (with_reducible apply And.intro) | (with_reducible intro _ e; subst e) | (with_reducible intro _))) <;> (try (first | omega | (with_reducible assumption))))
        refine c_can hn t1 a b q2 (by omega) (fun hnb => ?_) (fun hnb => ?_)
        · rw [if_pos hnb] at hbs
          ((repeat' (first | (with_reducible apply And.intro) | (with_reducible intro _ e; subst e) | (with_reducible intro _))) <;> (try (first | omega | (with_reducible assumption))))
          refine c_ren h2 hn t1 a b q2 (by omega) (fun M2 a2 => ?_)
          have f2 := f1.trans (frL_of4 a2)
          have hb2 := rn_bd (n := n) (v := v) q2 (show j + 1 < n by omega)
          refine c_lf h2 hn hb2.1 hb2.2 (f2.tab t) (l1.fr (by rw [a2 0 (by decide)]) (a2 5 (by decide))) (fun M3 a3 l3 => ?_)
          have := ihm (j + 1) M3 (by omega) (by omega) (f2.trans a3) (l3.C h2 hn)
          rw [hbs, ← Int.add_assoc] at this
          exact bX0_ranked_60 this
        · rw [if_neg hnb] at hbs
          ((repeat' (first | (with_reducible apply And.intro) | (with_reducible intro _ e; subst e) | (with_reducible intro _))) <;> (try (first | omega | (with_reducible assumption))))
          have := ihm (j + 1) M1 (by omega) (by omega) f1 l1
          rw [hbs, Int.add_zero] at this
          exact bX0_ranked_60 this
    have := loop k0.toNat 0 M (by omega) (by omega) (frL.refl _) l
    rw [show bsum n v 0 = 0 from rfl, Int.add_zero] at this
    exact this
theorem c_ranked {n : Nat} {F : Int → pM → Prop} {w : List Int} {v : Int} {M : pM} (h2 : 2 ≤ n) (hn : n ≤ 7) (a : 0 ≤ v) (b : v < fac n) (h : vld n v w) (t : TabC n M) (l : LC M) (hw : ∀ x : Int, 0 ≤ x → x < w.length → M 6 x = at0 w x) (k : ∀ M' : pM, frL M M' → LC M' → F (rnk n v w) M') : pNl true X mX0_ranked 25 [pR 0, pI v] S M F := by
  have hlen := vld_len h
  have := iv_21 (n := n) (v := v) hn
  refine eX0_ranked (bX0_ranked_0 (c_ranked8 h2 hn w v 0 0 M a b h (by omega) (by omega) t l (fun x p q => by rw [Int.zero_add]; exact hw x p q) (fun M' g1 g2 => ?_)))
  rw [Int.zero_add]
  exact k M' g1 g2
end
