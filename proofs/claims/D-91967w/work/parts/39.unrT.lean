/-! ===== ranks and words: the twin ===== -/
set_option maxRecDepth 100000
theorem TabT.fr {n : Nat} {M M' : pM} (t : TabT n M) (h38 : M' 241 38 = M 241 38) (h39 : M' 241 39 = M 241 39) (h : ∀ x, 269 ≤ x → x ≤ 273 → M' x = M x) : TabT n M' := by
  unfold TabT
  rw [h38, h39, h 269 (by decide) (by decide), h 270 (by decide) (by decide), h 271 (by decide) (by decide), h 272 (by decide) (by decide), h 273 (by decide) (by decide)]
  exact t
theorem TabT.row {n : Nat} {M : pM} (t : TabT n M) {v : Int} (h1 : 0 ≤ v) (h2 : v < fac n) : ∀ i : Int, 0 ≤ i → i < n → M 269 (7 * v + i) = dg n v i := fun i a b => t.2.2.1 v i h1 h2 a b
section
variable {X : px} {S : List psh}
theorem tw_near {F : Int → pM → Prop} {n : Nat} {v j : Int} {M : pM} (hn : n ≤ 7) (t : TabT n M) (h1 : 0 ≤ v) (h2 : v < fac n) (h3 : 0 ≤ j) (h4 : j + 1 < n) (k1 : nb n v j → F 1 M) (k0 : ¬ nb n v j → F 0 M) : pNi true X mX6_isNearer 2 [pR 241, pI n, pI v, pI j] S M F := by
  have hf := fac_le hn
  have a := pl_ok (n := n) (v := v) h3 (show j < n by omega)
  have b := pl_ok (n := n) (v := v) (show 0 ≤ j + 1 by omega) h4
  have hrF : isF n (fun i => M 269 (7 * v + i)) := by
    have : seg (fun i => M 269 (7 * v + i)) 0 n = seg (dg n v) 0 n := seg_congr n 0 (fun i p q => t.row h1 h2 i p (by omega))
    show isP n _
    rw [this]
    exact dg_F
  exact t_isNearer hn h1 (by omega) hrF a.1 a.2.1 (by rw [t.row h1 h2 _ a.1 a.2.1, a.2.2]) b.1 b.2.1 (by rw [t.row h1 h2 _ b.1 b.2.1, b.2.2]) k1 (fun h => k0 (by show ¬ (pl n v (j + 1) < pl n v j); omega))
theorem tw_unrank17 {n : Nat} {F : pM → Prop} {c : Int} (h2 : 2 ≤ n) (hn : n ≤ 7) : ∀ (w : List Int) (v i : Int) (M : pM), 0 ≤ v → v < fac n → vld n v w → 0 ≤ i → i + w.length = c → c ≤ 21 → TabT n M → (∀ M' : pM, (∀ x, x ≠ 275 → M' x = M x) → (∀ x, x < i → M' 275 x = M 275 x) → (∀ x : Int, 0 ≤ x → x < w.length → M' 275 (i + x) = at0 w x) → F M') → wX6_unrank_17 X F n v (rnk n v w) c i S M := by
  have hf := fac_le hn
  intro w
  induction w with
  | nil =>
    intro v i M a b h p d e t k
    simp only [List.length_nil] at d
    refine bX6_unrank_17 ?_
    ((repeat' (first | (with_reducible apply And.intro) | (with_reducible intro _ e; subst e) | (with_reducible intro _))) <;> (try (first | omega | (with_reducible assumption))))
    exact k M (fun _ _ => rfl) (fun _ _ => rfl) (fun x p q => by simp at q; omega)
  | cons k0 w ih =>
    intro v i M a b h p d e t k
    obtain ⟨h1, h2', h3, h4⟩ := h
    have hb := rn_bd (n := n) (v := v) h1 h2'
    have hr := rnk_bd hb.1 hb.2 h4
    have hbd := rnk_bd a b (show vld n v (k0 :: w) from ⟨h1, h2', h3, h4⟩)
    have hFv := FF_bd hn v
    simp only [List.length_cons] at d
    refine bX6_unrank_17 ?_
    ((repeat' (first | (with_reducible apply And.intro) | (with_reducible intro _ e; subst e) | (with_reducible intro _))) <;> (try (first | omega | (with_reducible assumption))))
    have fin : ∀ r1, r1 = rnk n (rn n v k0) w → ∀ f, f = (1 : Int) → wX6_unrank_30 X F n v r1 c i k0 f S M := by
      intro r1 hr1 f hf1
      subst hr1
      subst hf1
      refine bX6_unrank_30 ?_
      ((repeat' (first | (with_reducible apply And.intro) | (with_reducible intro _ e; subst e) | (with_reducible intro _))) <;> (try (first | omega | (with_reducible assumption))))
      have t2 : TabT n (pu_up M 275 i k0) := t.fr (by rw [up_ne (by decide)]) (by rw [up_ne (by decide)]) (fun x p1 p2 => up_ne (by omega))
      rw [t2.2.2.2.2.2.1 v k0 a b h1 h2']
      refine ih (rn n v k0) (i + 1) _ hb.1 hb.2 h4 (by omega) (by omega) e t2 (fun M6 g1 g3 g4 => k M6 (fun x hx => by rw [g1 x hx, up_ne hx]) (fun x hx => ?_) (fun x p q => ?_))
      · rw [g3 x (by omega), up_oi (by omega)]
      · simp only [List.length_cons] at q
        by_cases z : x = 0
        · subst z
          rw [Int.add_zero, g3 i (by omega), up_same]
          rfl
        · have := g4 (x - 1) (by omega) (by omega)
          rw [show i + 1 + (x - 1) = i + x by omega] at this
          rw [this]
          unfold at0
          rw [show x.toNat = (x - 1).toNat + 1 by omega, List.getD_cons_succ]
    have loop : ∀ (m : Nat) (j : Int), j + m = k0 → 0 ≤ j → wX6_unrank_30 X F n v (rnk n v (k0 :: w) - bsum n v j) c i j 0 S M := by
      intro m
      induction m with
      | zero =>
        intro j q1 q2
        have ej : j = k0 := by omega
        subst ej
        have hF := FF_bd hn (rn n v j)
        have e2 : rnk n v (j :: w) - bsum n v j = rnk n (rn n v j) w := by simp only [rnk]; omega
        rw [e2]
        refine bX6_unrank_30 ?_
        ((repeat' (first | (with_reducible apply And.intro) | (with_reducible intro _ e; subst e) | (with_reducible intro _))) <;> (try (first | omega | (with_reducible assumption))))
        refine tw_near hn t a b q2 h2' (fun _ => ?_) (fun hc => absurd h3 hc)
        rw [t.2.2.2.2.2.1 v j a b h1 h2', t.2.2.2.2.2.2 _ hb.1 hb.2]
        ((repeat' (first | (with_reducible apply And.intro) | (with_reducible intro _ e; subst e) | (with_reducible intro _))) <;> (try (first | omega | (with_reducible assumption))))
        refine bX6_unrank_80 ?_
        ((repeat' (first | (with_reducible apply And.intro) | (with_reducible intro _ e; subst e) | (with_reducible intro _))) <;> (try (first | omega | (with_reducible assumption))))
        refine bX6_unrank_94 ?_
        ((repeat' (first | (with_reducible apply And.intro) | (with_reducible intro _ e; subst e) | (with_reducible intro _))) <;> (try (first | omega | (with_reducible assumption))))
        exact fin _ rfl 1 rfl
      | succ m ihm =>
        intro j q1 q2
        have hbs := bsum_step (n := n) (v := v) (k := j) q2
        have hbm := bsum_mono (n := n) (v := v) (a := j + 1) (b := k0) (by omega) (by omega)
        have hbn := bsum_nn (n := n) (v := v) (k := j)
        have e2 : rnk n v (k0 :: w) = bsum n v k0 + rnk n (rn n v k0) w := rfl
        have hb2 := rn_bd (n := n) (v := v) q2 (show j + 1 < n by omega)
        have hF := FF_bd hn (rn n v j)
        have next := ihm (j + 1) (by omega) (by omega)
        refine bX6_unrank_30 ?_
        ((repeat' (first | (with_reducible apply And.intro) | (with_reducible intro _ e; subst e) | (with_reducible intro _))) <;> (try (first | omega | (with_reducible assumption))))
        refine tw_near hn t a b q2 (by omega) (fun hnb => ?_) (fun hnb => ?_)
        · rw [if_pos hnb] at hbs
          rw [t.2.2.2.2.2.1 v j a b q2 (by omega), t.2.2.2.2.2.2 _ hb2.1 hb2.2]
          ((repeat' (first | (with_reducible apply And.intro) | (with_reducible intro _ e; subst e) | (with_reducible intro _))) <;> (try (first | omega | (with_reducible assumption))))
          refine bX6_unrank_80 ?_
          ((repeat' (first | (with_reducible apply And.intro) | (with_reducible intro _ e; subst e) | (with_reducible intro _))) <;> (try (first | omega | (with_reducible assumption))))
          refine bX6_unrank_94 ?_
          ((repeat' (first | (with_reducible apply And.intro) | (with_reducible intro _ e; subst e) | (with_reducible intro _))) <;> (try (first | omega | (with_reducible assumption))))
          rw [hbs] at next
          rw [show rnk n v (k0 :: w) - bsum n v j - FF n (rn n v j) = rnk n v (k0 :: w) - (bsum n v j + FF n (rn n v j)) by omega]
          exact next
        · rw [if_neg hnb] at hbs
          ((repeat' (first | (with_reducible apply And.intro) | (with_reducible intro _ e; subst e) | (with_reducible intro _))) <;> (try (first | omega | (with_reducible assumption))))
          refine bX6_unrank_94 ?_
          ((repeat' (first | (with_reducible apply And.intro) | (with_reducible intro _ e; subst e) | (with_reducible intro _))) <;> (try (first | omega | (with_reducible assumption))))
          rw [hbs, Int.add_zero] at next
          exact next
    have := loop k0.toNat 0 (by omega) (by omega)
    rw [show bsum n v 0 = 0 from rfl, Int.sub_zero] at this
    exact this
theorem tw_unrank {n : Nat} {F : pM → Prop} {w : List Int} {v r : Int} {M : pM} (h2 : 2 ≤ n) (hn : n ≤ 7) (a : 0 ≤ v) (b : v < fac n) (h : vld n v w) (hr : rnk n v w = r) (t : TabT n M) (k : ∀ M' : pM, (∀ x, x ≠ 275 → M' x = M x) → (∀ x : Int, 0 ≤ x → x < w.length → M' 275 x = at0 w x) → F M') : pNv true X mX6_unrank 3 [pR 241, pI n, pI v, pL r] S M F := by
  have hf := fac_le hn
  have hlen := vld_len h
  have := iv_21 (n := n) (v := v) hn
  subst hr
  refine eX6_unrank (bX6_unrank_0 ?_)
  rw [t.2.2.2.1 v a b]
  ((repeat' (first | (with_reducible apply And.intro) | (with_reducible intro _ e; subst e) | (with_reducible intro _))) <;> (try (first | omega | (with_reducible assumption))))
  refine tw_unrank17 h2 hn w v 0 M a b h (by omega) (by omega) (by omega) t (fun M' g1 _ g4 => k M' g1 (fun x p q => ?_))
  have := g4 x p q
  rwa [Int.zero_add] at this
theorem tw_rankOf16 {n : Nat} {F : Int → pM → Prop} {c : Int} {M : pM} (h2 : 2 ≤ n) (hn : n ≤ 7) (t : TabT n M) : ∀ (w : List Int) (v i x : Int), 0 ≤ v → v < fac n → vld n v w → 0 ≤ i → i + w.length = c → c ≤ 21 → (∀ x : Int, 0 ≤ x → x < w.length → M 275 (i + x) = at0 w x) → F (x + rnk n v w) M → wX6_rankOf_16 X F n v x c i S M := by
  have hf := fac_le hn
  intro w
  induction w with
  | nil =>
    intro v i x a b h p d e hw k
    simp only [List.length_nil] at d
    refine bX6_rankOf_16 ?_
    ((repeat' (first | (with_reducible apply And.intro) | (with_reducible intro _ e; subst e) | (with_reducible intro _))) <;> (try (first | omega | (with_reducible assumption))))
    simp only [rnk, Int.add_zero] at k
    exact k
  | cons k0 w ih =>
    intro v i x a b h p d e hw k
    obtain ⟨h1, h2', h3, h4⟩ := h
    have hb := rn_bd (n := n) (v := v) h1 h2'
    simp only [List.length_cons] at d
    have hw0 : M 275 i = k0 := by
      have := hw 0 (by omega) (by simp)
      rw [Int.add_zero] at this
      exact this
    refine bX6_rankOf_16 ?_
    ((repeat' (first | (with_reducible apply And.intro) | (with_reducible intro _ e; subst e) | (with_reducible intro _))) <;> (try (first | omega | (with_reducible assumption))))
    have loop : ∀ (m : Nat) (j : Int), j + m = k0 → 0 ≤ j → wX6_rankOf_26 X F n v (x + bsum n v j) c i j S M := by
      intro m
      induction m with
      | zero =>
        intro j q1 q2
        have ej : j = k0 := by omega
        subst ej
        refine bX6_rankOf_26 ?_
        rw [hw0, t.2.2.2.2.2.1 v j a b h1 h2']
        ((repeat' (first | (with_reducible apply And.intro) | (with_reducible intro _ e; subst e) | (with_reducible intro _))) <;> (try (first | omega | (with_reducible assumption))))
        refine ih (rn n v j) (i + 1) _ hb.1 hb.2 h4 (by omega) (by omega) e (fun y p q => ?_) ?_
        · have := hw (y + 1) (by omega) (by simp only [List.length_cons]; omega)
          rw [show i + 1 + y = i + (y + 1) by omega, this]
          unfold at0
          rw [show (y + 1).toNat = y.toNat + 1 by omega, List.getD_cons_succ]
        · simp only [rnk] at k
          rwa [← Int.add_assoc] at k
      | succ m ihm =>
        intro j q1 q2
        have hbs := bsum_step (n := n) (v := v) (k := j) q2
        have hb2 := rn_bd (n := n) (v := v) q2 (show j + 1 < n by omega)
        have next := ihm (j + 1) (by omega) (by omega)
        refine bX6_rankOf_26 ?_
        rw [hw0]
        ((repeat' (first | (with_reducible apply And.intro) | (with_reducible intro _ e; subst e) | (with_reducible intro _))) <;> (try (first | omega | (with_reducible assumption))))
        refine tw_near hn t a b q2 (by omega) (fun hnb => ?_) (fun hnb => ?_)
        · rw [if_pos hnb] at hbs
          rw [t.2.2.2.2.2.1 v j a b q2 (by omega), t.2.2.2.2.2.2 _ hb2.1 hb2.2]
          ((repeat' (first | (with_reducible apply And.intro) | (with_reducible intro _ e; subst e) | (with_reducible intro _))) <;> (try (first | omega | (with_reducible assumption))))
          rw [hbs, ← Int.add_assoc] at next
          exact bX6_rankOf_71 next
        · rw [if_neg hnb] at hbs
          ((repeat' (first | (with_reducible apply And.intro) | (with_reducible intro _ e; subst e) | (with_reducible intro _))) <;> (try (first | omega | (with_reducible assumption))))
          rw [hbs, Int.add_zero] at next
          exact bX6_rankOf_71 next
    have := loop k0.toNat 0 (by omega) (by omega)
    rw [show bsum n v 0 = 0 from rfl, Int.add_zero] at this
    exact this
theorem tw_rankOf {n : Nat} {F : Int → pM → Prop} {w : List Int} {v : Int} {M : pM} (h2 : 2 ≤ n) (hn : n ≤ 7) (a : 0 ≤ v) (b : v < fac n) (h : vld n v w) (t : TabT n M) (hw : ∀ x : Int, 0 ≤ x → x < w.length → M 275 x = at0 w x) (k : F (rnk n v w) M) : pNl true X mX6_rankOf 3 [pR 241, pI n, pI v] S M F := by
  have hf := fac_le hn
  have hlen := vld_len h
  have := iv_21 (n := n) (v := v) hn
  refine eX6_rankOf (bX6_rankOf_0 ?_)
  rw [t.2.2.2.1 v a b]
  ((repeat' (first | (with_reducible apply And.intro) | (with_reducible intro _ e; subst e) | (with_reducible intro _))) <;> (try (first | omega | (with_reducible assumption))))
  refine tw_rankOf16 h2 hn t w v 0 0 a b h (by omega) (by omega) (by omega) (fun x p q => by rw [Int.zero_add]; exact hw x p q) ?_
  rw [Int.zero_add]
  exact k
end
