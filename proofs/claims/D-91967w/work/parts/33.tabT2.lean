/-! ===== the twin's tables: lay ===== -/
set_option maxRecDepth 100000
theorem fac_le {n : Nat} (h : n ≤ 7) : fac n ≤ 5040 := by
  have : n = 0 ∨ n = 1 ∨ n = 2 ∨ n = 3 ∨ n = 4 ∨ n = 5 ∨ n = 6 ∨ n = 7 := by omega
  rcases this with e | e | e | e | e | e | e | e <;> subst e <;> decide
theorem FF_bd {n : Nat} (hn : n ≤ 7) (v : Int) : 0 ≤ FF n v ∧ FF n v ≤ 21936950640377856 := by
  have h := LF_bd hn (iv n v).toNat v
  refine ⟨h.1, Int.le_trans h.2 ?_⟩
  have h1 := iv_le (n := n) (v := v)
  have h2 : (n : Int) * (n - 1) ≤ 42 := by
    have : n = 0 ∨ n = 1 ∨ n = 2 ∨ n = 3 ∨ n = 4 ∨ n = 5 ∨ n = 6 ∨ n = 7 := by omega
    rcases this with e | e | e | e | e | e | e | e <;> subst e <;> decide
  have h3 : (iv n v).toNat ≤ 21 := by omega
  have h4 : (6 : Nat) ^ (iv n v).toNat ≤ 6 ^ 21 := Nat.pow_le_pow_right (by decide) h3
  have e : (6 : Int) ^ (iv n v).toNat = ((6 ^ (iv n v).toNat : Nat) : Int) := by simp
  rw [e]
  have : ((6 ^ (iv n v).toNat : Nat) : Int) ≤ ((6 ^ 21 : Nat) : Int) := Int.ofNat_le.mpr h4
  exact Int.le_trans this (by decide)
/-- the tables stand, for n legs -/
def TabT (n : Nat) (M : pM) : Prop := M 241 38 = n ∧ M 241 39 = fac n ∧ (∀ v i : Int, 0 ≤ v → v < fac n → 0 ≤ i → i < n → M 269 (7 * v + i) = dg n v i) ∧ (∀ v : Int, 0 ≤ v → v < fac n → M 272 v = iv n v) ∧ (∀ v k : Int, 0 ≤ v → v < fac n → 0 ≤ k → k + 1 < n → M 270 (6 * v + k) = sw n v k) ∧ (∀ v k : Int, 0 ≤ v → v < fac n → 0 ≤ k → k + 1 < n → M 271 (6 * v + k) = rn n v k) ∧ (∀ v : Int, 0 ≤ v → v < fac n → M 273 v = FF n v)
section
variable {X : px} {S : List psh}
theorem t_lay54 {F : pM → Prop} {n : Nat} {v : Int} {M : pM} (hn : n ≤ 7) (h0 : 0 ≤ v) (h1 : v < 5040) (k : pNv true X mX6_goOn 2 [pR 241, pI n] S (ovr M 269 (7 * v) (7 * v + n) (fun x => M 274 (x - 7 * v))) (fun M3 => wX6_lay_44 X F n (v + 1) S M3)) : ∀ (m : Nat) (i : Int), i + m = n → 0 ≤ i → wX6_lay_54 X F n v i S (ovr M 269 (7 * v) (7 * v + i) (fun x => M 274 (x - 7 * v))) := by
  intro m
  induction m with
  | zero =>
    intro i q1 q2
    have e : i = n := by omega
    subst e
    refine bX6_lay_54 ?_
    ((repeat' (first | (with_reducible apply And.intro) | (with_reducible intro _ e; subst e) | (with_reducible intro _))) <;> (try (first | omega | (with_reducible assumption))))
  | succ m ih =>
    intro i q1 q2
    refine bX6_lay_54 ?_
    ((repeat' (first | (with_reducible apply And.intro) | (with_reducible intro _ e; subst e) | (with_reducible intro _))) <;> (try (first | omega | (with_reducible assumption))))
    rw [ovr_step (by omega) (by rw [ovr_ne (by decide)]; congr 1; omega), show 7 * v + i + 1 = 7 * v + (i + 1) by omega]
    exact ih (i + 1) (by omega) (by omega)
theorem t_lay44 {F : pM → Prop} {n : Nat} {M0 : pM} (h2 : 2 ≤ n) (hn : n ≤ 7) (k : ∀ M : pM, (∀ x, x ≠ 269 → x ≠ 274 → M x = M0 x) → (∀ v i : Int, 0 ≤ v → v < fac n → 0 ≤ i → i < n → M 269 (7 * v + i) = dg n v i) → wX6_lay_95 X F n 0 S M) (h39 : M0 241 39 = fac n) : ∀ (m : Nat) (v : Int) (M : pM), v + m = fac n → 0 ≤ v → (∀ x, x ≠ 269 → x ≠ 274 → M x = M0 x) → (∀ u i : Int, 0 ≤ u → u < v → 0 ≤ i → i < n → M 269 (7 * u + i) = dg n u i) → isF n (M 274) → (v < fac n → rk (seg (M 274) 0 n) = v) → wX6_lay_44 X F n v S M := by
  have hf := fac_le hn
  intro m
  induction m with
  | zero =>
    intro v M q1 q2 q3 q4 q5 q6
    have e := q3 241 (by decide) (by decide)
    rw [← e] at h39
    refine bX6_lay_44 ?_
    ((repeat' (first | (with_reducible apply And.intro) | (with_reducible intro _ e; subst e) | (with_reducible intro _))) <;> (try (first | omega | (with_reducible assumption))))
    exact k M q3 (fun u i a b c d => q4 u i a (by omega) c d)
  | succ m ih =>
    intro v M q1 q2 q3 q4 q5 q6
    have e := q3 241 (by decide) (by decide)
    have h39' := h39
    rw [← e] at h39'
    refine bX6_lay_44 ?_
    ((repeat' (first | (with_reducible apply And.intro) | (with_reducible intro _ e; subst e) | (with_reducible intro _))) <;> (try (first | omega | (with_reducible assumption))))
    have hg := q6 (by omega)
    have := t_lay54 (X := X) (S := S) (F := F) (M := M) hn q2 (by omega) (?_) n 0 (by omega) (by omega)
    · rwa [ovr_nil (by omega)] at this
    · have e2 : ovr M 269 (7 * v) (7 * v + n) (fun x => M 274 (x - 7 * v)) 274 = M 274 := ovr_ne (by decide)
      refine t_goOn h2 hn (by rw [e2]; exact q5) (fun M' a1 a2 a3 => ?_)
      rw [e2] at a3
      refine ih (v + 1) M' (by omega) (by omega) (fun x b1 b2 => ?_) (fun u i b1 b2 b3 b4 => ?_) a2 (fun b => ?_)
      · rw [a1 x b2, ovr_ne b1, q3 x b1 b2]
      · rw [a1 269 (by decide)]
        by_cases e3 : u = v
        · subst e3
          rw [ovr_in (by omega) (by omega), show 7 * u + i - 7 * u = i by omega]
          exact dg_of q5 hg b3 b4
        · rw [ovr_out (by omega)]
          exact q4 u i b1 (by omega) b3 b4
      · rw [a3 (by omega), hg]
theorem t_lay120 {F : pM → Prop} {n : Nat} {M : pM} {v i : Int} (hn : n ≤ 7) (h0 : 0 ≤ v) (h1 : v < 5040) (hi : 0 ≤ i) (hr : ∀ j : Int, 0 ≤ j → j < n → inR (M 269 (7 * v + j))) : ∀ (m : Nat) (x j : Int), j + m = n → i < j → wX6_lay_108 X F n v (x + cl (M 269 (7 * v + i)) (seg (fun j => M 269 (7 * v + j)) j m)) (i + 1) S M → wX6_lay_120 X F n v x i j S M := by
  intro m
  induction m with
  | zero =>
    intro x j q1 q2 k
    refine bX6_lay_120 ?_
    ((repeat' (first | (with_reducible apply And.intro) | (with_reducible intro _ e; subst e) | (with_reducible intro _))) <;> (try (first | omega | (with_reducible assumption))))
    simpa [seg, cl] using k
  | succ m ih =>
    intro x j q1 q2 k
    have e1 := hr j (by omega) (by omega)
    have e2 := hr i (by omega) (by omega)
    refine bX6_lay_120 ?_
    ((repeat' (first | (with_reducible apply And.intro) | (with_reducible intro _ e; subst e) | (with_reducible intro _))) <;> (try (first | omega | (with_reducible assumption))))
    · refine bX6_lay_159 (ih _ _ (by omega) (by omega) ?_)
      simp only [seg, cl] at k
      rw [if_neg (by omega)] at k
      simpa [Int.add_assoc] using k
    · refine bX6_lay_159 (ih _ _ (by omega) (by omega) ?_)
      simp only [seg, cl] at k
      rw [if_pos (by omega)] at k
      simpa [Int.add_assoc] using k
theorem t_lay108 {F : pM → Prop} {n : Nat} {M : pM} {v : Int} (hn : n ≤ 7) (h0 : 0 ≤ v) (h1 : v < 5040) (hr : ∀ j : Int, 0 ≤ j → j < n → inR (M 269 (7 * v + j))) : ∀ (m : Nat) (x i : Int), i + m = n → 0 ≤ i → wX6_lay_183 X F n v 0 S (pu_up M 272 v (x + inv (seg (fun j => M 269 (7 * v + j)) i m))) → wX6_lay_108 X F n v x i S M := by
  intro m
  induction m with
  | zero =>
    intro x j q1 q2 k
    refine bX6_lay_108 ?_
    ((repeat' (first | (with_reducible apply And.intro) | (with_reducible intro _ e; subst e) | (with_reducible intro _))) <;> (try (first | omega | (with_reducible assumption))))
    simpa [seg, inv] using k
  | succ m ih =>
    intro x i q1 q2 k
    refine bX6_lay_108 ?_
    ((repeat' (first | (with_reducible apply And.intro) | (with_reducible intro _ e; subst e) | (with_reducible intro _))) <;> (try (first | omega | (with_reducible assumption))))
    refine t_lay120 hn h0 h1 q2 hr m _ _ (by omega) (by omega) (ih _ _ (by omega) (by omega) ?_)
    simp only [seg, inv] at k
    simpa [Int.add_assoc] using k
theorem t_lay183 {F : pM → Prop} {n : Nat} {M0 : pM} {v : Int} (h2 : 2 ≤ n) (hn : n ≤ 7) (h0 : 0 ≤ v) (h1 : v < fac n) (hrow : ∀ i : Int, 0 ≤ i → i < n → M0 269 (7 * v + i) = dg n v i) (k : ∀ M : pM, (∀ x, x ≠ 270 → x ≠ 271 → x ≠ 274 → M x = M0 x) → (∀ x, x < 6 * v ∨ 6 * v + n - 1 ≤ x → M 270 x = M0 270 x ∧ M 271 x = M0 271 x) → (∀ k : Int, 0 ≤ k → k + 1 < n → M 270 (6 * v + k) = sw n v k ∧ M 271 (6 * v + k) = rn n v k) → wX6_lay_95 X F n (v + 1) S M) : ∀ (m : Nat) (i : Int) (M : pM), i + m = n - 1 → 0 ≤ i → (∀ x, x ≠ 270 → x ≠ 271 → x ≠ 274 → M x = M0 x) → (∀ x, x < 6 * v ∨ 6 * v + n - 1 ≤ x → M 270 x = M0 270 x ∧ M 271 x = M0 271 x) → (∀ k : Int, 0 ≤ k → k < i → M 270 (6 * v + k) = sw n v k ∧ M 271 (6 * v + k) = rn n v k) → wX6_lay_183 X F n v i S M := by
  have hf := fac_le hn
  intro m
  induction m with
  | zero =>
    intro i M q1 q2 q3 q4 q5
    refine bX6_lay_183 ?_
    ((repeat' (first | (with_reducible apply And.intro) | (with_reducible intro _ e; subst e) | (with_reducible intro _))) <;> (try (first | omega | (with_reducible assumption))))
    exact k M q3 q4 (fun k a b => q5 k a (by omega))
  | succ m ih =>
    intro i M q1 q2 q3 q4 q5
    have hd := dg_F (n := n) (v := v)
    have e269 : M 269 = M0 269 := q3 269 (by decide) (by decide) (by decide)
    have pi := pl_ok (n := n) (v := v) (x := i) q2 (by omega)
    have pi1 := pl_ok (n := n) (v := v) (x := i + 1) (by omega) (by omega)
    have pne := pl_ne (n := n) (v := v) (k := i) q2 (by omega)
    refine bX6_lay_183 ?_
    ((repeat' (first | (with_reducible apply And.intro) | (with_reducible intro _ e; subst e) | (with_reducible intro _))) <;> (try (first | omega | (with_reducible assumption))))
    refine t_takeOrder hn h0 (by omega) (t_swapHand (by omega) (by omega) (by omega) (by omega) ?_)
    have hA : ∀ x : Int, 0 ≤ x → x < n → pu_up (pu_up (ovr M 274 0 n (fun i => M 269 (7 * v + i))) 274 i (ovr M 274 0 n (fun i => M 269 (7 * v + i)) 274 (i + 1))) 274 (i + 1) (ovr M 274 0 n (fun i => M 269 (7 * v + i)) 274 i) 274 x = swf (dg n v) i x := by
      intro x a b
      unfold swf tr
      by_cases c1 : x = i + 1
      · subst c1
        rw [up_same, ovr_in (by omega) (by omega), e269, hrow _ (by omega) (by omega), if_neg (by omega), if_pos rfl]
      · by_cases c2 : x = i
        · subst c2
          rw [up_oi (by omega), up_same, ovr_in (by omega) (by omega), e269, hrow _ (by omega) (by omega), if_pos rfl]
        · rw [up_oi c1, up_oi c2, ovr_in (by omega) (by omega), e269, hrow _ (by omega) (by omega), if_neg c2, if_neg c1]
    have hAb := hd.sw q2 (show i + 1 < n by omega)
    refine t_numberOf hn (fun j a b => ?_) ?_
    · rw [hA j a b]
      have := hAb.bd a b
      constructor <;> omega
    have eA : rk (seg (pu_up (pu_up (ovr M 274 0 n (fun i => M 269 (7 * v + i))) 274 i (ovr M 274 0 n (fun i => M 269 (7 * v + i)) 274 (i + 1))) 274 (i + 1) (ovr M 274 0 n (fun i => M 269 (7 * v + i)) 274 i) 274) 0 n) = sw n v i := by
      unfold sw
      congr 1
      exact seg_congr n 0 (fun j a b => hA j a (by omega))
    rw [eA]
    generalize hM1 : pu_up (pu_up (ovr M 274 0 n (fun i => M 269 (7 * v + i))) 274 i (ovr M 274 0 n (fun i => M 269 (7 * v + i)) 274 (i + 1))) 274 (i + 1) (ovr M 274 0 n (fun i => M 269 (7 * v + i)) 274 i) = M1
    have f1 : ∀ x, x ≠ 274 → M1 x = M x := by
      intro x hx
      rw [← hM1, up_ne hx, up_ne hx, ovr_ne hx]
    ((repeat' (first | (with_reducible apply And.intro) | (with_reducible intro _ e; subst e) | (with_reducible intro _))) <;> (try (first | omega | (with_reducible assumption))))
    generalize hM2 : pu_up M1 270 (6 * v + i) (sw n v i) = M2
    have f2 : M2 269 = M0 269 := by rw [← hM2, up_ne (by decide), f1 269 (by decide), e269]
    refine t_takeOrder hn h0 (by omega) ?_
    generalize hM3 : ovr M2 274 0 n (fun i => M2 269 (7 * v + i)) = M3
    have f3 : M3 269 = M0 269 := by rw [← hM3, ovr_ne (by decide), f2]
    have hrF : isF n (fun i => M3 269 (7 * v + i)) := by
      have : seg (fun i => M3 269 (7 * v + i)) 0 n = seg (dg n v) 0 n := seg_congr n 0 (fun j a b => by rw [f3]; exact hrow j a (by omega))
      show isP n _
      rw [this]
      exact hd
    refine t_placeOf (p := pl n v i) hn h0 (by omega) hrF pi.1 pi.2.1 (by rw [f3, hrow _ pi.1 pi.2.1, pi.2.2]) ?_
    refine t_placeOf (p := pl n v (i + 1)) hn h0 (by omega) hrF pi1.1 pi1.2.1 (by rw [f3, hrow _ pi1.1 pi1.2.1, pi1.2.2]) ?_
    refine t_swapHand (by omega) (by omega) (by omega) (by omega) ?_
    have h3 : ∀ x : Int, 0 ≤ x → x < n → M3 274 x = dg n v x := by
      intro x a b
      rw [← hM3, ovr_in a b, f2, hrow x a b]
    have hB : ∀ x : Int, 0 ≤ x → x < n → pu_up (pu_up M3 274 (pl n v i) (M3 274 (pl n v (i + 1)))) 274 (pl n v (i + 1)) (M3 274 (pl n v i)) 274 x = ren (dg n v) i x := by
      intro x a b
      unfold ren tr
      by_cases c1 : x = pl n v (i + 1)
      · subst c1
        rw [up_same, h3 _ pi.1 pi.2.1, pi.2.2, pi1.2.2, if_neg (by omega), if_pos rfl]
      · by_cases c2 : x = pl n v i
        · subst c2
          rw [up_oi c1, up_same, h3 _ pi1.1 pi1.2.1, pi1.2.2, pi.2.2, if_pos rfl]
        · rw [up_oi c1, up_oi c2, h3 x a b, if_neg (fun e => c2 ?_), if_neg (fun e => c1 ?_)]
          · exact hd.inj a b pi1.1 pi1.2.1 (e.trans pi1.2.2.symm)
          · exact hd.inj a b pi.1 pi.2.1 (e.trans pi.2.2.symm)
    have hBb := hd.ren q2 (show i + 1 < n by omega)
    refine t_numberOf hn (fun j a b => ?_) ?_
    · rw [hB j a b]
      have := hBb.bd a b
      constructor <;> omega
    have eB : rk (seg (pu_up (pu_up M3 274 (pl n v i) (M3 274 (pl n v (i + 1)))) 274 (pl n v (i + 1)) (M3 274 (pl n v i)) 274) 0 n) = rn n v i := by
      unfold rn
      congr 1
      exact seg_congr n 0 (fun j a b => hB j a (by omega))
    rw [eB]
    generalize hM4 : pu_up (pu_up M3 274 (pl n v i) (M3 274 (pl n v (i + 1)))) 274 (pl n v (i + 1)) (M3 274 (pl n v i)) = M4
    have f4 : ∀ x, x ≠ 274 → M4 x = M2 x := by
      intro x hx
      rw [← hM4, up_ne hx, up_ne hx, ← hM3, ovr_ne hx]
    ((repeat' (first | (with_reducible apply And.intro) | (with_reducible intro _ e; subst e) | (with_reducible intro _))) <;> (try (first | omega | (with_reducible assumption))))
    refine ih (i + 1) _ (by omega) (by omega) (fun x a b c => ?_) (fun x a => ?_) (fun j a b => ?_)
    · rw [up_ne b, f4 x c, ← hM2, up_ne a, f1 x c, q3 x a b c]
    · have := q4 x a
      refine ⟨?_, ?_⟩
      · rw [up_ne (by decide), f4 270 (by decide), ← hM2, up_oi (by omega), f1 270 (by decide)]
        exact this.1
      · rw [up_oi (by omega), f4 271 (by decide), ← hM2, up_ne (by decide), f1 271 (by decide)]
        exact this.2
    · by_cases c : j = i
      · subst c
        refine ⟨?_, ?_⟩
        · rw [up_ne (by decide), f4 270 (by decide), ← hM2, up_same]
        · rw [up_same]
      · have := q5 j a (by omega)
        refine ⟨?_, ?_⟩
        · rw [up_ne (by decide), f4 270 (by decide), ← hM2, up_oi (by omega), f1 270 (by decide)]
          exact this.1
        · rw [up_oi (by omega), f4 271 (by decide), ← hM2, up_ne (by decide), f1 271 (by decide)]
          exact this.2
end
