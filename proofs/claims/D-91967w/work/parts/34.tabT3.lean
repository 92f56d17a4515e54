/-! ===== the twin's tables: lay, least ladders ===== -/
set_option maxRecDepth 100000
section
variable {X : px} {S : List psh}
theorem t_lay95 {F : pM → Prop} {n : Nat} {M0 : pM} (h2 : 2 ≤ n) (hn : n ≤ 7) (h39 : M0 241 39 = fac n) (hrow : ∀ v i : Int, 0 ≤ v → v < fac n → 0 ≤ i → i < n → M0 269 (7 * v + i) = dg n v i) (k : ∀ M : pM, (∀ x, x ≠ 270 → x ≠ 271 → x ≠ 272 → x ≠ 274 → M x = M0 x) → (∀ v k : Int, 0 ≤ v → v < fac n → 0 ≤ k → k + 1 < n → M 270 (6 * v + k) = sw n v k ∧ M 271 (6 * v + k) = rn n v k) → (∀ v, 0 ≤ v → v < fac n → M 272 v = iv n v) → wX6_lay_283 X F n 0 S M) : ∀ (m : Nat) (v : Int) (M : pM), v + m = fac n → 0 ≤ v → (∀ x, x ≠ 270 → x ≠ 271 → x ≠ 272 → x ≠ 274 → M x = M0 x) → (∀ u k : Int, 0 ≤ u → u < v → 0 ≤ k → k + 1 < n → M 270 (6 * u + k) = sw n u k ∧ M 271 (6 * u + k) = rn n u k) → (∀ u, 0 ≤ u → u < v → M 272 u = iv n u) → wX6_lay_95 X F n v S M := by
  have hf := fac_le hn
  intro m
  induction m with
  | zero =>
    intro v M q1 q2 q3 q4 q5
    have e := q3 241 (by decide) (by decide) (by decide) (by decide)
    rw [← e] at h39
    refine bX6_lay_95 ?_
    ((repeat' (first | (with_reducible apply And.intro) | (with_reducible intro _ e; subst e) | (with_reducible intro _))) <;> (try (first | omega | (with_reducible assumption))))
    exact k M q3 (fun u i a b c d => q4 u i a (by omega) c d) (fun u a b => q5 u a (by omega))
  | succ m ih =>
    intro v M q1 q2 q3 q4 q5
    have e := q3 241 (by decide) (by decide) (by decide) (by decide)
    have e269 := q3 269 (by decide) (by decide) (by decide) (by decide)
    have h39' := h39
    rw [← e] at h39'
    have hr : ∀ j : Int, 0 ≤ j → j < n → M 269 (7 * v + j) = dg n v j := fun j a b => by rw [e269]; exact hrow v j q2 (by omega) a b
    refine bX6_lay_95 ?_
    ((repeat' (first | (with_reducible apply And.intro) | (with_reducible intro _ e; subst e) | (with_reducible intro _))) <;> (try (first | omega | (with_reducible assumption))))
    refine t_lay108 hn q2 (by omega) (fun j a b => ?_) n _ _ (by omega) (by omega) ?_
    · rw [hr j a b]
      have := (dg_F (n := n) (v := v)).bd a b
      constructor <;> omega
    have eI : (0 : Int) + inv (seg (fun j => M 269 (7 * v + j)) 0 n) = iv n v := by
      rw [seg_congr (g := dg n v) n 0 (fun j a b => hr j a (by omega)), dg_seg]
      unfold iv
      omega
    rw [eI]
    refine t_lay183 h2 hn q2 (by omega) (fun i a b => by rw [up_ne (by decide)]; exact hr i a b) (fun M' a1 a2 a3 => ?_) (n - 1) 0 _ (by omega) (by omega) (fun _ _ _ _ => rfl) (fun _ _ => ⟨rfl, rfl⟩) (fun j a b => by omega)
    refine ih (v + 1) M' (by omega) (by omega) (fun x b1 b2 b3 b4 => ?_) (fun u j b1 b2 b3 b4 => ?_) (fun u b1 b2 => ?_)
    · rw [a1 x b1 b2 b4, up_ne b3, q3 x b1 b2 b3 b4]
    · by_cases c : u = v
      · subst c
        exact a3 j b3 b4
      · have h3 := a2 (6 * u + j) (by omega)
        rw [up_ne (by decide), up_ne (by decide)] at h3
        rw [h3.1, h3.2]
        exact q4 u j b1 (by omega) b3 b4
    · rw [a1 272 (by decide) (by decide) (by decide)]
      by_cases c : u = v
      · subst c
        exact up_same
      · rw [up_oi c]
        exact q5 u b1 (by omega)
theorem t_lay335 {F : pM → Prop} {n : Nat} {M0 : pM} {v c : Int} (h2 : 2 ≤ n) (hn : n ≤ 7) (h0 : 0 ≤ v) (h1 : v < fac n) (hrow : ∀ i : Int, 0 ≤ i → i < n → M0 269 (7 * v + i) = dg n v i) (hrn : ∀ k : Int, 0 ≤ k → k + 1 < n → M0 271 (6 * v + k) = rn n v k) (hlt : ∀ u, 0 ≤ u → u < fac n → iv n u < iv n v → M0 273 u = FF n u) (k : wX6_lay_386 X F n c v S (pu_up M0 273 v (M0 273 v + sm (fun k => if nb n v k then FF n (rn n v k) else 0) 0 (n - 1)))) : ∀ (m : Nat) (i : Int), i + m = n - 1 → 0 ≤ i → wX6_lay_335 X F n c v i S (pu_up M0 273 v (M0 273 v + sm (fun k => if nb n v k then FF n (rn n v k) else 0) 0 i.toNat)) := by
  have hf := fac_le hn
  intro m
  induction m with
  | zero =>
    intro i q1 q2
    refine bX6_lay_335 ?_
    ((repeat' (first | (with_reducible apply And.intro) | (with_reducible intro _ e; subst e) | (with_reducible intro _))) <;> (try (first | omega | (with_reducible assumption))))
    rw [show i.toNat = n - 1 by omega]
    exact k
  | succ m ih =>
    intro i q1 q2
    have pi := pl_ok (n := n) (v := v) (x := i) q2 (by omega)
    have pi1 := pl_ok (n := n) (v := v) (x := i + 1) (by omega) (by omega)
    have hd := dg_F (n := n) (v := v)
    have key := ih (i + 1) (by omega) (by omega)
    rw [show (i + 1).toNat = i.toNat + 1 by omega, sm_snoc, show (0 : Int) + (i.toNat : Int) = i by omega] at key
    generalize hM : pu_up M0 273 v (M0 273 v + sm (fun k => if nb n v k then FF n (rn n v k) else 0) 0 i.toNat) = M at *
    have f : ∀ x, x ≠ 273 → M x = M0 x := fun x hx => by rw [← hM, up_ne hx]
    have f3 : M 269 = M0 269 := f 269 (by decide)
    have hrF : isF n (fun i => M 269 (7 * v + i)) := by
      have : seg (fun i => M 269 (7 * v + i)) 0 n = seg (dg n v) 0 n := seg_congr n 0 (fun j a b => by rw [f3]; exact hrow j a (by omega))
      show isP n _
      rw [this]
      exact hd
    refine bX6_lay_335 ?_
    ((repeat' (first | (with_reducible apply And.intro) | (with_reducible intro _ e; subst e) | (with_reducible intro _))) <;> (try (first | omega | (with_reducible assumption))))
    refine t_isNearer (p := pl n v i) (q := pl n v (i + 1)) hn h0 (by omega) hrF pi.1 pi.2.1 (by rw [f3, hrow _ pi.1 pi.2.1, pi.2.2]) pi1.1 pi1.2.1 (by rw [f3, hrow _ pi1.1 pi1.2.1, pi1.2.2]) (fun hnb => ?_) (fun hnb => ?_)
    · have hb := rn_bd (n := n) (v := v) (k := i) q2 (by omega)
      have er : M 271 (6 * v + i) = rn n v i := by rw [f 271 (by decide)]; exact hrn i q2 (by omega)
      have hiv := iv_nb (n := n) (v := v) (k := i) q2 (by omega) hnb
      rw [er]
      ((repeat' (first | (with_reducible apply And.intro) | (with_reducible intro _ e; subst e) | (with_reducible intro _))) <;> (try (first | omega | (with_reducible assumption))))
      refine bX6_lay_380 ?_
      rw [if_pos hnb] at key
      have hne : rn n v i ≠ v := fun e => by rw [e] at hiv; omega
      have ev : M 273 (rn n v i) = FF n (rn n v i) := by
        rw [← hM, up_oi hne]
        exact hlt _ hb.1 hb.2 (by omega)
      have e2 : pu_up M 273 v (M 273 v + M 273 (rn n v i)) = pu_up M0 273 v (M0 273 v + (sm (fun k => if nb n v k then FF n (rn n v k) else 0) 0 i.toNat + FF n (rn n v i))) := by
        rw [ev, ← hM, up_same]
        funext x j
        unfold pu_up
        by_cases c : x = 273 ∧ j = v
        · rw [if_pos c, if_pos c]; omega
        · rw [if_neg c, if_neg c, if_neg c]
      rw [e2]
      exact key
    · ((repeat' (first | (with_reducible apply And.intro) | (with_reducible intro _ e; subst e) | (with_reducible intro _))) <;> (try (first | omega | (with_reducible assumption))))
      refine bX6_lay_380 ?_
      rw [if_neg (by omega)] at key
      have e2 : M = pu_up M0 273 v (M0 273 v + (sm (fun k => if nb n v k then FF n (rn n v k) else 0) 0 i.toNat + 0)) := by
        rw [← hM, Int.add_zero]
      rw [e2]
      exact key
theorem t_lay296 {F : pM → Prop} {n : Nat} {M0 : pM} {c : Int} (h2 : 2 ≤ n) (hn : n ≤ 7) (hc0 : 0 ≤ c) (hc1 : c < 100) (h39 : M0 241 39 = fac n) (hrow : ∀ v i : Int, 0 ≤ v → v < fac n → 0 ≤ i → i < n → M0 269 (7 * v + i) = dg n v i) (hrn : ∀ v k : Int, 0 ≤ v → v < fac n → 0 ≤ k → k + 1 < n → M0 271 (6 * v + k) = rn n v k) (hiv : ∀ v, 0 ≤ v → v < fac n → M0 272 v = iv n v) (k : ∀ M : pM, (∀ x, x ≠ 273 → M x = M0 x) → (∀ u, 0 ≤ u → u < fac n → iv n u < c + 1 → M 273 u = FF n u) → wX6_lay_283 X F n (c + 1) S M) : ∀ (m : Nat) (v : Int) (M : pM), v + m = fac n → 0 ≤ v → (∀ x, x ≠ 273 → M x = M0 x) → (∀ u, 0 ≤ u → u < fac n → iv n u < c ∨ (iv n u = c ∧ u < v) → M 273 u = FF n u) → wX6_lay_296 X F n c v S M := by
  have hf := fac_le hn
  intro m
  induction m with
  | zero =>
    intro v M q1 q2 q3 q4
    have e := q3 241 (by decide)
    rw [← e] at h39
    refine bX6_lay_296 ?_
    ((repeat' (first | (with_reducible apply And.intro) | (with_reducible intro _ e; subst e) | (with_reducible intro _))) <;> (try (first | omega | (with_reducible assumption))))
    exact k M q3 (fun u a b d => q4 u a b (by omega))
  | succ m ih =>
    intro v M q1 q2 q3 q4
    have e := q3 241 (by decide)
    have h39' := h39
    rw [← e] at h39'
    have e2 : M 272 v = iv n v := by rw [q3 272 (by decide)]; exact hiv v q2 (by omega)
    have hb := iv_nonneg (n := n) (v := v)
    have hb2 := iv_le (n := n) (v := v)
    have hb3 : (n : Int) * (n - 1) ≤ 42 := by
      have : n = 0 ∨ n = 1 ∨ n = 2 ∨ n = 3 ∨ n = 4 ∨ n = 5 ∨ n = 6 ∨ n = 7 := by omega
      rcases this with e | e | e | e | e | e | e | e <;> subst e <;> decide
    have fin : ∀ s2 : Int, iv n v = c → (s2 = if v = 0 then 1 else 0) → wX6_lay_331 X F n c v v s2 S M := by
      intro s2 hvc hs
      refine bX6_lay_331 ?_
      ((repeat' (first | (with_reducible apply And.intro) | (with_reducible intro _ e; subst e) | (with_reducible intro _))) <;> (try (first | omega | (with_reducible assumption))))
      have h0 := t_lay335 (X := X) (S := S) (F := F) (M0 := pu_up M 273 v s2) (v := v) (c := c) h2 hn q2 (by omega) (fun i a b => by rw [up_ne (by decide), q3 269 (by decide)]; exact hrow v i q2 (by omega) a b) (fun j a b => by rw [up_ne (by decide), q3 271 (by decide)]; exact hrn v j q2 (by omega) a b) (fun u a b d => by rw [up_oi (fun e => by rw [e] at d; omega)]; exact q4 u a b (by omega)) ?_ (n - 1) 0 (by omega) (by omega)
      · simp only [Int.toNat_zero, sm, Int.add_zero, up_same] at h0
        have e3 : pu_up (pu_up M 273 v s2) 273 v s2 = pu_up M 273 v s2 := by
          funext x j
          unfold pu_up
          split <;> rfl
        rwa [e3] at h0
      · refine bX6_lay_386 (ih (v + 1) _ (by omega) (by omega) (fun x hx => by rw [up_ne hx, up_ne hx, q3 x hx]) (fun u a b d => ?_))
        by_cases cc : u = v
        · subst cc
          rw [up_same, up_same, hs]
          by_cases z : u = 0
          · subst z
            rw [if_pos rfl, FF_zero]
            have : ∀ (m : Nat) (i : Int), 0 ≤ i → i + m = n - 1 → sm (fun k => if nb n 0 k then FF n (rn n 0 k) else 0) i m = 0 := by
              intro m
              induction m with
              | zero => intro i _ _; rfl
              | succ m ihm =>
                intro i p1 p2
                simp only [sm]
                rw [ihm (i + 1) (by omega) (by omega), if_neg]
                · rfl
                · intro hh
                  have := iv_nb (n := n) (v := 0) (k := i) p1 (by omega) hh
                  have z0 := (iv_zero (n := n) (Int.le_refl 0) (fac_pos n)).mpr rfl
                  have := iv_nonneg (n := n) (v := rn n 0 i)
                  omega
            rw [this (n - 1) 0 (by omega) (by omega)]
            rfl
          · rw [if_neg z, FF_rec a b z]
            omega
        · rw [up_oi cc, up_oi cc]
          exact q4 u a b (by omega)
    refine bX6_lay_296 ?_
    ((repeat' (first | (with_reducible apply And.intro) | (with_reducible intro _ e; subst e) | (with_reducible intro _))) <;> (try (first | omega | (with_reducible assumption))))
    · refine fin 0 (by omega) ?_
      rw [if_neg (fun z => ?_)]
      have := (iv_zero q2 (show v < fac n by omega)).mpr z
      omega
    · refine fin 1 (by omega) ?_
      rw [if_pos]
      exact (iv_zero q2 (show v < fac n by omega)).mp (by omega)
    · refine bX6_lay_386 (ih (v + 1) M (by omega) (by omega) q3 (fun u a b d => q4 u a b ?_))
      by_cases cc : u = v
      · subst cc
        omega
      · omega
theorem t_lay283 {F : pM → Prop} {n : Nat} {M0 : pM} (h2 : 2 ≤ n) (hn : n ≤ 7) (h39 : M0 241 39 = fac n) (hrow : ∀ v i : Int, 0 ≤ v → v < fac n → 0 ≤ i → i < n → M0 269 (7 * v + i) = dg n v i) (hrn : ∀ v k : Int, 0 ≤ v → v < fac n → 0 ≤ k → k + 1 < n → M0 271 (6 * v + k) = rn n v k) (hiv : ∀ v, 0 ≤ v → v < fac n → M0 272 v = iv n v) {h : Int} (hh : idv (n * (n - 1)) 2 = h) (hh2 : 2 * h = n * (n - 1)) (hh3 : h ≤ 21) (k : ∀ M : pM, (∀ x, x ≠ 273 → M x = M0 x) → (∀ u, 0 ≤ u → u < fac n → M 273 u = FF n u) → F M) : ∀ (m : Nat) (c : Int) (M : pM), c + m = h + 1 → 0 ≤ c → (∀ x, x ≠ 273 → M x = M0 x) → (∀ u, 0 ≤ u → u < fac n → iv n u < c → M 273 u = FF n u) → wX6_lay_283 X F n c S M := by
  have hf := fac_le hn
  intro m
  induction m with
  | zero =>
    intro c M q1 q2 q3 q4
    refine bX6_lay_283 ?_
    rw [hh]
    ((repeat' (first | (with_reducible apply And.intro) | (with_reducible intro _ e; subst e) | (with_reducible intro _))) <;> (try (first | omega | (with_reducible assumption))))
    exact k M q3 (fun u a b => q4 u a b (by have := iv_le (n := n) (v := u); omega))
  | succ m ih =>
    intro c M q1 q2 q3 q4
    refine bX6_lay_283 ?_
    rw [hh]
    ((repeat' (first | (with_reducible apply And.intro) | (with_reducible intro _ e; subst e) | (with_reducible intro _))) <;> (try (first | omega | (with_reducible assumption))))
    refine t_lay296 (M0 := M) h2 hn q2 (by omega) (by rw [q3 241 (by decide)]; exact h39) (fun v i => by rw [q3 269 (by decide)]; exact hrow v i) (fun v i => by rw [q3 271 (by decide)]; exact hrn v i) (fun v => by rw [q3 272 (by decide)]; exact hiv v) (fun M' a1 a2 => ih (c + 1) M' (by omega) (by omega) (fun x hx => by rw [a1 x hx, q3 x hx]) a2) (fac n).toNat 0 M (by have := fac_pos n; omega) (by omega) (fun _ _ => rfl) (fun u a b d => q4 u a b (by omega))
theorem idv_tri {n : Nat} (hn : n ≤ 7) : ∃ h : Int, idv (n * (n - 1)) 2 = h ∧ 2 * h = n * (n - 1) ∧ 0 ≤ h ∧ h ≤ 21 := by
  have : n = 0 ∨ n = 1 ∨ n = 2 ∨ n = 3 ∨ n = 4 ∨ n = 5 ∨ n = 6 ∨ n = 7 := by omega
  rcases this with e | e | e | e | e | e | e | e <;> subst e
  · exact ⟨0, by decide, by decide, by decide, by decide⟩
  · exact ⟨0, by decide, by decide, by decide, by decide⟩
  · exact ⟨1, by decide, by decide, by decide, by decide⟩
  · exact ⟨3, by decide, by decide, by decide, by decide⟩
  · exact ⟨6, by decide, by decide, by decide, by decide⟩
  · exact ⟨10, by decide, by decide, by decide, by decide⟩
  · exact ⟨15, by decide, by decide, by decide, by decide⟩
  · exact ⟨21, by decide, by decide, by decide, by decide⟩
theorem t_lay24 {F : pM → Prop} {n : Nat} {M : pM} (hn : n ≤ 7) (k : wX6_lay_44 X F n 0 S (ovr M 274 0 n (fun x => x))) : ∀ (m : Nat) (i : Int), i + m = n → 0 ≤ i → wX6_lay_24 X F n i S (ovr M 274 0 i (fun x => x)) := by
  intro m
  induction m with
  | zero =>
    intro i q1 q2
    have e : i = n := by omega
    subst e
    refine bX6_lay_24 ?_
    ((repeat' (first | (with_reducible apply And.intro) | (with_reducible intro _ e; subst e) | (with_reducible intro _))) <;> (try (first | omega | (with_reducible assumption))))
  | succ m ih =>
    intro i q1 q2
    refine bX6_lay_24 ?_
    ((repeat' (first | (with_reducible apply And.intro) | (with_reducible intro _ e; subst e) | (with_reducible intro _))) <;> (try (first | omega | (with_reducible assumption))))
    rw [ovr_step (by omega) rfl]
    exact ih (i + 1) (by omega) (by omega)
/-- no tables yet, or tables -/
def TT (M : pM) : Prop := M 241 38 = 0 ∨ ∃ n : Nat, 2 ≤ n ∧ n ≤ 7 ∧ TabT n M
theorem tw_lay {F : pM → Prop} {n : Nat} {M : pM} (h2 : 2 ≤ n) (hn : n ≤ 7) (ht : TT M) (k : ∀ M' : pM, (∀ x, x ≠ 241 → x < 269 ∨ 274 < x → M' x = M x) → (∀ j, j ≠ 38 → j ≠ 39 → M' 241 j = M 241 j) → TabT n M' → F M') : pNv true X mX6_lay 3 [pR 241, pI n] S M F := by
  have hf := fac_le hn
  have hfp := fac_pos n
  have hl : inR (M 241 38) := by
    rcases ht with e | ⟨n', a, b, t⟩
    · rw [e]; constructor <;> decide
    · rw [t.1]; constructor <;> omega
  refine eX6_lay (bX6_lay_0 ?_)
  ((repeat' (first | (with_reducible apply And.intro) | (with_reducible intro _ e; subst e) | (with_reducible intro _))) <;> (try (first | omega | (with_reducible assumption))))
  · refine t_ordersOf (by omega) hn ?_
    ((repeat' (first | (with_reducible apply And.intro) | (with_reducible intro _ e; subst e) | (with_reducible intro _))) <;> (try (first | omega | (with_reducible assumption))))
    have h24 := t_lay24 (X := X) (S := S) (F := F) (n := n) (M := pu_up (pu_up M 241 38 n) 241 39 (fac n)) hn ?_ n 0 (by omega) (by omega)
    · rwa [ovr_nil (by omega)] at h24
    generalize hM1 : pu_up (pu_up M 241 38 n) 241 39 (fac n) = M1
    have a39 : M1 241 39 = fac n := by rw [← hM1, up_same]
    have a38 : M1 241 38 = n := by rw [← hM1, up_oi (by decide), up_same]
    have aj : ∀ j, j ≠ 38 → j ≠ 39 → M1 241 j = M 241 j := fun j b c => by rw [← hM1, up_oi c, up_oi b]
    have ax : ∀ x, x ≠ 241 → M1 x = M x := fun x b => by rw [← hM1, up_ne b, up_ne b]
    have eid : ∀ j : Int, 0 ≤ j → j < n → ovr M1 274 0 n (fun x => x) 274 j = j := fun j b c => ovr_in b c
    have eids : seg (ovr M1 274 0 n (fun x => x) 274) 0 n = idl n := seg_congr n 0 (fun j b c => eid j b (by omega))
    refine t_lay44 (M0 := ovr M1 274 0 n (fun x => x)) h2 hn (fun M2 b1 b2 => ?_) (by rw [ovr_ne (by decide)]; exact a39) (fac n).toNat 0 _ (by omega) (by omega) (fun _ _ _ => rfl) (fun u i c1 c2 => by omega) (by unfold isF; rw [eids]; exact isP_id n) (fun _ => by rw [eids]; exact rk_idl n)
    have b241 : M2 241 = M1 241 := by rw [b1 241 (by decide) (by decide), ovr_ne (by decide)]
    refine t_lay95 (M0 := M2) h2 hn (by rw [b241]; exact a39) b2 (fun M3 c1 c2 c3 => ?_) (fac n).toNat 0 _ (by omega) (by omega) (fun _ _ _ _ _ => rfl) (fun u i c1 c2 => by omega) (fun u c1 c2 => by omega)
    have c241 : M3 241 = M1 241 := by rw [c1 241 (by decide) (by decide) (by decide) (by decide), b241]
    have c269 : M3 269 = M2 269 := c1 269 (by decide) (by decide) (by decide) (by decide)
    obtain ⟨h, hh1, hh2, hh3, hh4⟩ := idv_tri hn
    refine t_lay283 (M0 := M3) (h := h) h2 hn (by rw [c241]; exact a39) (fun v i => by rw [c269]; exact b2 v i) (fun v k d1 d2 d3 d4 => (c2 v k d1 d2 d3 d4).2) c3 hh1 hh2 hh4 (fun M4 d1 d2 => ?_) (h + 1).toNat 0 M3 (by omega) (by omega) (fun _ _ => rfl) (fun u e1 e2 e3 => by have := iv_nonneg (n := n) (v := u); omega)
    have d241 : M4 241 = M1 241 := by rw [d1 241 (by decide), c241]
    refine k M4 (fun x e1 e2 => ?_) (fun j e1 e2 => by rw [d241]; exact aj j e1 e2) ⟨by rw [d241]; exact a38, by rw [d241]; exact a39, ?_, ?_, ?_, ?_, d2⟩
    · rw [d1 x (by omega), c1 x (by omega) (by omega) (by omega) (by omega), b1 x (by omega) (by omega), ovr_ne (by omega), ax x e1]
    · rw [d1 269 (by decide), c269]
      exact b2
    · rw [d1 272 (by decide)]
      exact c3
    · rw [d1 270 (by decide)]
      exact fun v k d1 d2 d3 d4 => (c2 v k d1 d2 d3 d4).1
    · rw [d1 271 (by decide)]
      exact fun v k d1 d2 d3 d4 => (c2 v k d1 d2 d3 d4).2
  · rename_i e
    rcases ht with z | ⟨n', a, b, t⟩
    · omega
    · have : n' = n := by have := t.1; omega
      subst this
      exact k M (fun _ _ _ => rfl) (fun _ _ _ => rfl) t
end
