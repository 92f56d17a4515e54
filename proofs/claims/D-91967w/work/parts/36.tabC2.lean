/-! ===== the component's orders: of ===== -/
set_option maxRecDepth 100000
def TabC (n : Nat) (M : pM) : Prop := M 1 0 = n ∧ M 1 1 = fac n ∧ (∀ v i : Int, 0 ≤ v → v < fac n → 0 ≤ i → i < n → M 2 (7 * v + i) = dg n v i) ∧ (∀ v k : Int, 0 ≤ v → v < fac n → 0 ≤ k → k + 1 < n → M 3 (6 * v + k) = sw n v k)
def TC (M : pM) : Prop := M 1 0 = 0 ∨ ∃ n : Nat, 2 ≤ n ∧ n ≤ 7 ∧ TabC n M
section
variable {X : px} {S : List psh}
theorem c_of21 {F : pM → Prop} {n : Nat} {M0 : pM} (hn : n ≤ 7) (h0 : M0 1 0 = n) (k : wX1_of_47 X F 0 S (pu_up M0 1 1 (fac n))) : ∀ (m i : Nat), i + m = n → wX1_of_21 X F (i + 1) S (pu_up M0 1 1 (fac i)) := by
  intro m
  induction m with
  | zero =>
    intro i q1
    have e : i = n := by omega
    subst e
    refine bX1_of_21 ?_
    rw [up_oi (by decide), h0]
    ((repeat' (first | (with_reducible apply And.intro) | (with_reducible intro _ e; subst e) | (with_reducible intro _))) <;> (try (first | omega | (with_reducible assumption))))
  | succ m ih =>
    intro i q1
    refine bX1_of_21 ?_
    rw [up_oi (by decide), h0, up_same, fac_st]
    ((repeat' (first | (with_reducible apply And.intro) | (with_reducible intro _ e; subst e) | (with_reducible intro _))) <;> (try (first | omega | (with_reducible assumption))))
    have e3 : pu_up (pu_up M0 1 1 (fac i)) 1 1 (fac (i + 1)) = pu_up M0 1 1 (fac (i + 1)) := by
      funext x j
      unfold pu_up
      split <;> rfl
    rw [e3]
    exact ih (i + 1) (by omega)
theorem c_of47 {F : pM → Prop} {n : Nat} {M : pM} (hn : n ≤ 7) (h0 : M 1 0 = n) (k : wX1_of_71 X F 0 S (ovr M 4 0 n (fun x => x))) : ∀ (m : Nat) (i : Int), i + m = n → 0 ≤ i → wX1_of_47 X F i S (ovr M 4 0 i (fun x => x)) := by
  intro m
  induction m with
  | zero =>
    intro i q1 q2
    have e : i = n := by omega
    subst e
    refine bX1_of_47 ?_
    rw [ovr_ne (by decide), h0]
    ((repeat' (first | (with_reducible apply And.intro) | (with_reducible intro _ e; subst e) | (with_reducible intro _))) <;> (try (first | omega | (with_reducible assumption))))
  | succ m ih =>
    intro i q1 q2
    refine bX1_of_47 ?_
    rw [ovr_ne (by decide), h0, i2bb_id (by omega) (by omega)]
    ((repeat' (first | (with_reducible apply And.intro) | (with_reducible intro _ e; subst e) | (with_reducible intro _))) <;> (try (first | omega | (with_reducible assumption))))
    rw [ovr_step (by omega) rfl]
    exact ih (i + 1) (by omega) (by omega)
theorem c_of81 {F : pM → Prop} {n : Nat} {v : Int} {M : pM} (hn : n ≤ 7) (h0 : M 1 0 = n) (hp : isF n (M 4)) (hv0 : 0 ≤ v) (hv1 : v < 5040) (k : pNv true X mX1_next 2 [pR 1] S (ovr M 2 (7 * v) (7 * v + n) (fun x => M 4 (x - 7 * v))) (fun M3 => wX1_of_71 X F (v + 1) S M3)) : ∀ (m : Nat) (i : Int), i + m = n → 0 ≤ i → wX1_of_81 X F v i S (ovr M 2 (7 * v) (7 * v + i) (fun x => M 4 (x - 7 * v))) := by
  intro m
  induction m with
  | zero =>
    intro i q1 q2
    have e : i = n := by omega
    subst e
    refine bX1_of_81 ?_
    rw [ovr_ne (show (1 : Int) ≠ 2 by decide), h0]
    ((repeat' (first | (with_reducible apply And.intro) | (with_reducible intro _ e; subst e) | (with_reducible intro _))) <;> (try (first | omega | (with_reducible assumption))))
  | succ m ih =>
    intro i q1 q2
    have d := hp.bd q2 (show i < n by omega)
    refine bX1_of_81 ?_
    rw [ovr_ne (show (1 : Int) ≠ 2 by decide), h0, ovr_ne (show (4 : Int) ≠ 2 by decide)]
    ((repeat' (first | (with_reducible apply And.intro) | (with_reducible intro _ e; subst e) | (with_reducible intro _))) <;> (try (first | omega | (with_reducible assumption))))
    rw [ovr_step (by omega) (by congr 1; omega), show 7 * v + i + 1 = 7 * v + (i + 1) by omega]
    exact ih (i + 1) (by omega) (by omega)
theorem c_of71 {F : pM → Prop} {n : Nat} {M0 : pM} (h2 : 2 ≤ n) (hn : n ≤ 7) (h0 : M0 1 0 = n) (h1 : M0 1 1 = fac n) (k : ∀ M : pM, (∀ x, x ≠ 2 → x ≠ 4 → M x = M0 x) → (∀ v i : Int, 0 ≤ v → v < fac n → 0 ≤ i → i < n → M 2 (7 * v + i) = dg n v i) → wX1_of_124 X F 0 S M) : ∀ (m : Nat) (v : Int) (M : pM), v + m = fac n → 0 ≤ v → (∀ x, x ≠ 2 → x ≠ 4 → M x = M0 x) → (∀ u i : Int, 0 ≤ u → u < v → 0 ≤ i → i < n → M 2 (7 * u + i) = dg n u i) → isF n (M 4) → (v < fac n → rk (seg (M 4) 0 n) = v) → wX1_of_71 X F v S M := by
  have hf := fac_le hn
  intro m
  induction m with
  | zero =>
    intro v M q1 q2 q3 q4 q5 q6
    have e := q3 1 (by decide) (by decide)
    refine bX1_of_71 ?_
    rw [e, h1]
    ((repeat' (first | (with_reducible apply And.intro) | (with_reducible intro _ e; subst e) | (with_reducible intro _))) <;> (try (first | omega | (with_reducible assumption))))
    exact k M q3 (fun u i a b c d => q4 u i a (by omega) c d)
  | succ m ih =>
    intro v M q1 q2 q3 q4 q5 q6
    have e := q3 1 (by decide) (by decide)
    have e0 : M 1 0 = n := by rw [e]; exact h0
    refine bX1_of_71 ?_
    rw [e, h1]
    ((repeat' (first | (with_reducible apply And.intro) | (with_reducible intro _ e; subst e) | (with_reducible intro _))) <;> (try (first | omega | (with_reducible assumption))))
    have hg := q6 (by omega)
    have := c_of81 (X := X) (S := S) (F := F) (M := M) hn e0 q5 q2 (by omega) (?_) n 0 (by omega) (by omega)
    · rwa [ovr_nil (by omega)] at this
    · have e2 : ovr M 2 (7 * v) (7 * v + n) (fun x => M 4 (x - 7 * v)) 4 = M 4 := ovr_ne (by decide)
      refine c_next h2 hn (by rw [ovr_ne (by decide)]; exact e0) (by rw [e2]; exact q5) (fun M' a1 a2 a3 => ?_)
      rw [e2] at a3
      refine ih (v + 1) M' (by omega) (by omega) (fun x b1 b2 => ?_) (fun u i b1 b2 b3 b4 => ?_) a2 (fun b => ?_)
      · rw [a1 x b2, ovr_ne b1, q3 x b1 b2]
      · rw [a1 2 (by decide)]
        by_cases e3 : u = v
        · subst e3
          rw [ovr_in (by omega) (by omega), show 7 * u + i - 7 * u = i by omega]
          exact dg_of q5 hg b3 b4
        · rw [ovr_out (by omega)]
          exact q4 u i b1 (by omega) b3 b4
      · rw [a3 (by omega), hg]
theorem c_of134 {F : pM → Prop} {n : Nat} {M0 : pM} {v : Int} (h2 : 2 ≤ n) (hn : n ≤ 7) (h0 : M0 1 0 = n) (hv0 : 0 ≤ v) (hv1 : v < fac n) (hrow : ∀ i : Int, 0 ≤ i → i < n → M0 2 (7 * v + i) = dg n v i) (k : ∀ M : pM, (∀ x, x ≠ 3 → x ≠ 4 → M x = M0 x) → (∀ x, x < 6 * v → M 3 x = M0 3 x) → (∀ k : Int, 0 ≤ k → k + 1 < n → M 3 (6 * v + k) = sw n v k) → wX1_of_124 X F (v + 1) S M) : ∀ (m : Nat) (i : Int) (M : pM), i + m = n - 1 → 0 ≤ i → (∀ x, x ≠ 3 → x ≠ 4 → M x = M0 x) → (∀ x, x < 6 * v → M 3 x = M0 3 x) → (∀ k : Int, 0 ≤ k → k < i → M 3 (6 * v + k) = sw n v k) → wX1_of_134 X F v i S M := by
  have hf := fac_le hn
  intro m
  induction m with
  | zero =>
    intro i M q1 q2 q3 q4 q5
    have e := q3 1 (by decide) (by decide)
    refine bX1_of_134 ?_
    rw [e, h0]
    ((repeat' (first | (with_reducible apply And.intro) | (with_reducible intro _ e; subst e) | (with_reducible intro _))) <;> (try (first | omega | (with_reducible assumption))))
    exact k M q3 q4 (fun k a b => q5 k a (by omega))
  | succ m ih =>
    intro i M q1 q2 q3 q4 q5
    have e := q3 1 (by decide) (by decide)
    have e2 := q3 2 (by decide) (by decide)
    have hb := sw_bd (n := n) (v := v) (k := i) q2 (by omega)
    refine bX1_of_134 ?_
    rw [e, h0]
    ((repeat' (first | (with_reducible apply And.intro) | (with_reducible intro _ e; subst e) | (with_reducible intro _))) <;> (try (first | omega | (with_reducible assumption))))
    refine c_swapped h2 hn (by rw [e]; exact h0) hv0 (by omega) q2 (by omega) (fun j a b => by rw [e2]; exact hrow j a b) (fun M1 a1 => ?_)
    rw [i2ss_id (by omega) (by omega)]
    ((repeat' (first | (with_reducible apply And.intro) | (with_reducible intro _ e; subst e) | (with_reducible intro _))) <;> (try (first | omega | (with_reducible assumption))))
    refine ih (i + 1) _ (by omega) (by omega) (fun x b1 b2 => ?_) (fun x b1 => ?_) (fun j b1 b2 => ?_)
    · rw [up_ne b1, a1 x b2, q3 x b1 b2]
    · rw [up_oi (by omega), a1 3 (by decide), q4 x b1]
    · by_cases c : j = i
      · subst c
        exact up_same
      · rw [up_oi (by omega), a1 3 (by decide)]
        exact q5 j b1 (by omega)
theorem c_of124 {F : pM → Prop} {n : Nat} {M0 : pM} (h2 : 2 ≤ n) (hn : n ≤ 7) (h0 : M0 1 0 = n) (h1 : M0 1 1 = fac n) (hrow : ∀ v i : Int, 0 ≤ v → v < fac n → 0 ≤ i → i < n → M0 2 (7 * v + i) = dg n v i) (k : ∀ M : pM, (∀ x, x ≠ 3 → x ≠ 4 → M x = M0 x) → (∀ v k : Int, 0 ≤ v → v < fac n → 0 ≤ k → k + 1 < n → M 3 (6 * v + k) = sw n v k) → F M) : ∀ (m : Nat) (v : Int) (M : pM), v + m = fac n → 0 ≤ v → (∀ x, x ≠ 3 → x ≠ 4 → M x = M0 x) → (∀ u k : Int, 0 ≤ u → u < v → 0 ≤ k → k + 1 < n → M 3 (6 * u + k) = sw n u k) → wX1_of_124 X F v S M := by
  have hf := fac_le hn
  intro m
  induction m with
  | zero =>
    intro v M q1 q2 q3 q4
    have e := q3 1 (by decide) (by decide)
    refine bX1_of_124 ?_
    rw [e, h1]
    ((repeat' (first | (with_reducible apply And.intro) | (with_reducible intro _ e; subst e) | (with_reducible intro _))) <;> (try (first | omega | (with_reducible assumption))))
    exact k M q3 (fun u i a b c d => q4 u i a (by omega) c d)
  | succ m ih =>
    intro v M q1 q2 q3 q4
    have e := q3 1 (by decide) (by decide)
    have e2 := q3 2 (by decide) (by decide)
    refine bX1_of_124 ?_
    rw [e, h1]
    ((repeat' (first | (with_reducible apply And.intro) | (with_reducible intro _ e; subst e) | (with_reducible intro _))) <;> (try (first | omega | (with_reducible assumption))))
    refine c_of134 (M0 := M) h2 hn (by rw [e]; exact h0) q2 (by omega) (fun i a b => by rw [e2]; exact hrow v i q2 (by omega) a b) (fun M' a1 a2 a3 => ih (v + 1) M' (by omega) (by omega) (fun x b1 b2 => by rw [a1 x b1 b2, q3 x b1 b2]) (fun u j b1 b2 b3 b4 => ?_)) (n - 1) 0 M (by omega) (by omega) (fun _ _ _ => rfl) (fun _ _ => rfl) (fun j a b => by omega)
    by_cases c : u = v
    · subst c
      exact a3 j b3 b4
    · rw [a2 _ (by omega)]
      exact q4 u j b1 (by omega) b3 b4
theorem c_of {F : pM → Prop} {n : Nat} {M : pM} (h2 : 2 ≤ n) (hn : n ≤ 7) (ht : TC M) (k : ∀ M' : pM, (∀ x, x < 1 ∨ 4 < x → M' x = M x) → TabC n M' → F M') : pNv true X mX1_of 3 [pR 1, pI n] S M F := by
  have hf := fac_le hn
  have hfp := fac_pos n
  have hl : inR (M 1 0) := by
    rcases ht with e | ⟨n', a, b, t⟩
    · rw [e]; constructor <;> decide
    · rw [t.1]; constructor <;> omega
  refine eX1_of (bX1_of_0 ?_)
  ((repeat' (first | (with_reducible apply And.intro) | (with_reducible intro _ e; subst e) | (with_reducible intro _))) <;> (try (first | omega | (with_reducible assumption))))
  · have h1 := c_of21 (X := X) (S := S) (F := F) (n := n) (M0 := pu_up M 1 0 n) hn up_same ?_ (n - 1) 1 (by omega)
    · exact h1
    generalize hM1 : pu_up (pu_up M 1 0 n) 1 1 (fac n) = M1
    have a1 : M1 1 1 = fac n := by rw [← hM1, up_same]
    have a0 : M1 1 0 = n := by rw [← hM1, up_oi (by decide), up_same]
    have ax : ∀ x, x ≠ 1 → M1 x = M x := fun x b => by rw [← hM1, up_ne b, up_ne b]
    have h47 := c_of47 (X := X) (S := S) (F := F) (n := n) (M := M1) hn a0 ?_ n 0 (by omega) (by omega)
    · rwa [ovr_nil (by omega)] at h47
    have eid : ∀ j : Int, 0 ≤ j → j < n → ovr M1 4 0 n (fun x => x) 4 j = j := fun j b c => ovr_in b c
    have eids : seg (ovr M1 4 0 n (fun x => x) 4) 0 n = idl n := seg_congr n 0 (fun j b c => eid j b (by omega))
    refine c_of71 (M0 := ovr M1 4 0 n (fun x => x)) h2 hn (by rw [ovr_ne (by decide)]; exact a0) (by rw [ovr_ne (by decide)]; exact a1) (fun M2 b1 b2 => ?_) (fac n).toNat 0 _ (by omega) (by omega) (fun _ _ _ => rfl) (fun u i c1 c2 => by omega) (by unfold isF; rw [eids]; exact isP_id n) (fun _ => by rw [eids]; exact rk_idl n)
    have b11 : M2 1 = M1 1 := by rw [b1 1 (by decide) (by decide), ovr_ne (by decide)]
    refine c_of124 (M0 := M2) h2 hn (by rw [b11]; exact a0) (by rw [b11]; exact a1) b2 (fun M3 c1 c2 => ?_) (fac n).toNat 0 _ (by omega) (by omega) (fun _ _ _ => rfl) (fun u i c1 c2 => by omega)
    have c11 : M3 1 = M1 1 := by rw [c1 1 (by decide) (by decide), b11]
    refine k M3 (fun x e => ?_) ⟨by rw [c11]; exact a0, by rw [c11]; exact a1, ?_, c2⟩
    · rw [c1 x (by omega) (by omega), b1 x (by omega) (by omega), ovr_ne (by omega), ax x (by omega)]
    · rw [c1 2 (by decide) (by decide)]
      exact b2
  · rename_i e
    rcases ht with z | ⟨n', a, b, t⟩
    · omega
    · have : n' = n := by have := t.1; omega
      subst this
      exact k M (fun _ _ => rfl) t
end
