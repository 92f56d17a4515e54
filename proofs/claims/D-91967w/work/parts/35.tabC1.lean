/-! ===== the component's orders ===== -/
set_option maxRecDepth 100000
theorem i2bb_id {u : Int} (h1 : -128 ≤ u) (h2 : u < 128) : i2bb u = u := by
  unfold i2bb
  rw [Int8.toInt_toInt32, Int32.toInt_toInt8, Int32.toInt_ofInt]
  have e : u.bmod Int32.size = u := Int.bmod_eq_of_le (by simp [Int32.size]; omega) (by simp [Int32.size]; omega)
  rw [e]
  exact Int.bmod_eq_of_le (by omega) (by omega)
theorem i2ss_id {u : Int} (h1 : -32768 ≤ u) (h2 : u < 32768) : i2ss u = u := by
  unfold i2ss
  rw [Int16.toInt_toInt32, Int32.toInt_toInt16, Int32.toInt_ofInt]
  have e : u.bmod Int32.size = u := Int.bmod_eq_of_le (by simp [Int32.size]; omega) (by simp [Int32.size]; omega)
  rw [e]
  exact Int.bmod_eq_of_le (by omega) (by omega)
section
variable {X : px} {S : List psh} {M : pM}
theorem c_nu19 {F : Int → pM → Prop} {n : Nat} {i : Int} (hn : n ≤ 7) (h0 : M 1 0 = n) (hi : 0 ≤ i) (hr : ∀ j : Int, 0 ≤ j → j < n → inR (M 4 j)) : ∀ (m : Nat) (x2 x4 j : Int), j + m = n → i < j → wX1_number_4 X F (x2 * (n - i) + (x4 + cl (M 4 i) (seg (M 4) j m))) (i + 1) S M → wX1_number_19 X F x2 i x4 j S M := by
  intro m
  induction m with
  | zero =>
    intro x2 x4 j hj hij k
    refine bX1_number_19 ?_
    rw [h0]
    ((repeat' (first | (with_reducible apply And.intro) | (with_reducible intro _ e; subst e) | (with_reducible intro _))) <;> (try (first | omega | (with_reducible assumption))))
    simpa [seg, cl] using k
  | succ m ih =>
    intro x2 x4 j hj hij k
    have h1 := hr j (by omega) (by omega)
    have h2 := hr i (by omega) (by omega)
    refine bX1_number_19 ?_
    rw [h0]
    ((repeat' (first | (with_reducible apply And.intro) | (with_reducible intro _ e; subst e) | (with_reducible intro _))) <;> (try (first | omega | (with_reducible assumption))))
    · refine bX1_number_47 (ih _ _ _ (by omega) (by omega) ?_)
      simp only [seg, cl] at k
      rw [if_neg (by omega)] at k
      simpa [Int.add_assoc] using k
    · refine bX1_number_47 (ih _ _ _ (by omega) (by omega) ?_)
      simp only [seg, cl] at k
      rw [if_pos (by omega)] at k
      simpa [Int.add_assoc] using k
theorem c_nu4 {F : Int → pM → Prop} {n : Nat} (hn : n ≤ 7) (h0 : M 1 0 = n) (hr : ∀ j : Int, 0 ≤ j → j < n → inR (M 4 j)) : ∀ (m : Nat) (x2 i : Int), i + m = n → 0 ≤ i → F (x2 * fac m + rk (seg (M 4) i m)) M → wX1_number_4 X F x2 i S M := by
  intro m
  induction m with
  | zero =>
    intro x2 i h1 h2 k
    refine bX1_number_4 ?_
    rw [h0]
    ((repeat' (first | (with_reducible apply And.intro) | (with_reducible intro _ e; subst e) | (with_reducible intro _))) <;> (try (first | omega | (with_reducible assumption))))
    simpa [seg, rk, fac] using k
  | succ m ih =>
    intro x2 i h1 h2 k
    refine bX1_number_4 ?_
    rw [h0]
    ((repeat' (first | (with_reducible apply And.intro) | (with_reducible intro _ e; subst e) | (with_reducible intro _))) <;> (try (first | omega | (with_reducible assumption))))
    refine c_nu19 hn h0 h2 hr m _ _ _ (by omega) (by omega) (ih _ _ (by omega) (by omega) ?_)
    have e : (x2 * (n - i) + (0 + cl (M 4 i) (seg (M 4) (i + 1) m))) * fac m + rk (seg (M 4) (i + 1) m) = x2 * fac (m + 1) + rk (seg (M 4) i (m + 1)) := by
      have e1 : (n : Int) - i = (m : Int) + 1 := by omega
      rw [e1]
      simp only [seg, rk, fac, seg_len]
      rw [Int.zero_add, Int.add_mul, Int.mul_assoc, Int.add_assoc]
    rw [e]
    exact k
theorem c_number {F : Int → pM → Prop} {n : Nat} (hn : n ≤ 7) (h0 : M 1 0 = n) (hr : ∀ j : Int, 0 ≤ j → j < n → inR (M 4 j)) (k : F (rk (seg (M 4) 0 n)) M) : pNi true X mX1_number 1 [pR 1] S M F := by
  refine eX1_number (bX1_number_0 (c_nu4 hn h0 hr n 0 0 (by omega) (by omega) ?_))
  simpa using k
theorem c_swap {F : pM → Prop} {i j : Int} (hi : 0 ≤ i) (hi7 : i < 7) (hj : 0 ≤ j) (hj7 : j < 7) (b1 : -128 ≤ M 4 i ∧ M 4 i < 128) (b2 : -128 ≤ M 4 j ∧ M 4 j < 128) (k : F (pu_up (pu_up M 4 i (M 4 j)) 4 j (M 4 i))) : pNv true X mX1_swap 1 [pR 1, pI i, pI j] S M F := by
  refine eX1_swap (bX1_swap_0 ?_)
  ((repeat' (first | (with_reducible apply And.intro) | (with_reducible intro _ e; subst e) | (with_reducible intro _))) <;> (try (first | omega | (with_reducible assumption))))
theorem c_digit {F : Int → pM → Prop} {v i : Int} (h0 : 0 ≤ v) (h1 : v < 5040) (h2 : 0 ≤ i) (h3 : i < 7) (k : F (M 2 (7 * v + i)) M) : pNi true X mX1_digit 1 [pR 1, pI v, pI i] S M F := by
  refine eX1_digit (bX1_digit_0 ?_)
  ((repeat' (first | (with_reducible apply And.intro) | (with_reducible intro _ e; subst e) | (with_reducible intro _))) <;> (try (first | omega | (with_reducible assumption))))
theorem c_pl2 {F : Int → pM → Prop} {n : Nat} {v x p : Int} (hn : n ≤ 7) (h0 : 0 ≤ v) (h1 : v < 5040) (hr : ∀ i : Int, 0 ≤ i → i < n → inR (M 2 (7 * v + i))) (hx : inR x) (hp0 : 0 ≤ p) (hpn : p < n) (hpe : M 2 (7 * v + p) = x) (hpu : ∀ i : Int, 0 ≤ i → i < p → M 2 (7 * v + i) ≠ x) (k : F p M) : ∀ (m : Nat) (i : Int), i + m = p → 0 ≤ i → wX1_placeOf_2 X F v x i S M := by
  intro m
  induction m with
  | zero =>
    intro i q1 q2
    have e : i = p := by omega
    subst e
    have := hr i hp0 hpn
    refine bX1_placeOf_2 ?_
    ((repeat' (first | (with_reducible apply And.intro) | (with_reducible intro _ e; subst e) | (with_reducible intro _))) <;> (try (first | omega | (with_reducible assumption))))
  | succ m ih =>
    intro i q1 q2
    have := hr i q2 (by omega)
    have := hpu i q2 (by omega)
    refine bX1_placeOf_2 ?_
    ((repeat' (first | (with_reducible apply And.intro) | (with_reducible intro _ e; subst e) | (with_reducible intro _))) <;> (try (first | omega | (with_reducible assumption))))
    exact ih (i + 1) (by omega) (by omega)
theorem c_placeOf {F : Int → pM → Prop} {n : Nat} {v x p : Int} (hn : n ≤ 7) (h0 : 0 ≤ v) (h1 : v < 5040) (hf : isF n (fun i => M 2 (7 * v + i))) (hp0 : 0 ≤ p) (hpn : p < n) (hpe : M 2 (7 * v + p) = x) (k : F p M) : pNi true X mX1_placeOf 1 [pR 1, pI v, pI x] S M F := by
  have hb := fun (i : Int) a b => hf.bd (i := i) a b
  have hx := hb p hp0 hpn
  refine eX1_placeOf (bX1_placeOf_0 (c_pl2 hn h0 h1 (fun i a b => ?_) ?_ hp0 hpn hpe (fun i a b e => ?_) k p.toNat 0 (by omega) (by omega)))
  · have := hb i a b
    constructor <;> omega
  · constructor <;> omega
  · have := hf.inj a (show i < n by omega) hp0 hpn (e.trans hpe.symm)
    omega
theorem c_canBegin {F : Int → pM → Prop} {n : Nat} {v x p q : Int} (hn : n ≤ 7) (h0 : 0 ≤ v) (h1 : v < 5040) (hf : isF n (fun i => M 2 (7 * v + i))) (hp0 : 0 ≤ p) (hpn : p < n) (hpe : M 2 (7 * v + p) = x) (hq0 : 0 ≤ q) (hqn : q < n) (hqe : M 2 (7 * v + q) = x + 1) (k1 : q < p → F 1 M) (k0 : p ≤ q → F 0 M) : pNi true X mX1_canBegin 2 [pR 1, pI v, pI x] S M F := by
  refine eX1_canBegin (bX1_canBegin_0 (c_placeOf hn h0 h1 hf hq0 hqn hqe (c_placeOf hn h0 h1 hf hp0 hpn hpe ?_)))
  ((repeat' (first | (with_reducible apply And.intro) | (with_reducible intro _ e; subst e) | (with_reducible intro _))) <;> (try (first | omega | (with_reducible assumption))))
  · exact k0 (by omega)
  · exact k1 (by omega)
/-- next -/
theorem c_nx85 {F : pM → Prop} {c : Int} (hc0 : 0 ≤ c) (hc : c ≤ 12) : ∀ (m : Nat) (a b : Int) (M : pM), a + b = c → b - a < m → 0 ≤ a → b < 7 → a ≤ 7 → (∀ x, a ≤ x → x ≤ b → -128 ≤ M 4 x ∧ M 4 x < 128) → (∀ M' : pM, (∀ x, x ≠ 4 → M' x = M x) → (∀ x, M' 4 x = if a ≤ x ∧ x ≤ b then M 4 (c - x) else M 4 x) → F M') → wX1_next_85 X F a b S M := by
  intro m
  induction m with
  | zero =>
    intro a b M h1 h2 h3 h4 h5 h6 k
    refine bX1_next_85 ?_
    ((repeat' (first | (with_reducible apply And.intro) | (with_reducible intro _ e; subst e) | (with_reducible intro _))) <;> (try (first | omega | (with_reducible assumption))))
    refine k M (fun _ _ => rfl) (fun x => ?_)
    split
    · rw [show c - x = x by omega]
    · rfl
  | succ m ih =>
    intro a b M h1 h2 h3 h4 h5 h6 k
    refine bX1_next_85 ?_
    ((repeat' (first | (with_reducible apply And.intro) | (with_reducible intro _ e; subst e) | (with_reducible intro _))) <;> (try (first | omega | (with_reducible assumption))))
    · refine k M (fun _ _ => rfl) (fun x => ?_)
      split
      · rw [show c - x = x by omega]
      · rfl
    · refine c_swap (by omega) (by omega) (by omega) (by omega) (h6 a (by omega) (by omega)) (h6 b (by omega) (by omega)) ?_
      refine ih (a + 1) (b + -1) _ (by omega) (by omega) (by omega) (by omega) (by omega) (fun x q1 q2 => ?_) (fun M' q1 q2 => k M' (fun x hx => ?_) (fun x => ?_))
      · rw [up_oi (by omega), up_oi (by omega)]
        exact h6 x (by omega) (by omega)
      · rw [q1 x hx, up_ne hx, up_ne hx]
      · rw [q2 x]
        by_cases ha : x = a
        · subst ha
          rw [if_neg (by omega), if_pos (by omega), up_oi (by omega), up_same, show c - x = b by omega]
        · by_cases hb : x = b
          · subst hb
            rw [if_neg (by omega), if_pos (by omega), up_same, show c - x = a by omega]
          · by_cases hin : a ≤ x ∧ x ≤ b
            · rw [if_pos (by omega), if_pos hin, up_oi (by omega), up_oi (by omega)]
            · rw [if_neg (by omega), if_neg hin, up_oi (by omega), up_oi (by omega)]
theorem c_nx46 {F : pM → Prop} {n : Nat} {i : Int} (hn : n ≤ 7) (h0 : M 1 0 = n) (hr : ∀ x : Int, 0 ≤ x → x < n → 0 ≤ M 4 x ∧ M 4 x < n) (hi : 0 ≤ i) (hin : i + 1 < n) (hup : M 4 i ≤ M 4 (i + 1)) (k : ∀ j : Int, i < j → j < n → M 4 i ≤ M 4 j → (∀ x, j < x → x < n → M 4 x < M 4 i) → ∀ M' : pM, (∀ x, x ≠ 4 → M' x = M x) → (∀ x, 0 ≤ x → x < i → M' 4 x = M 4 x) → M' 4 i = M 4 j → (∀ x, i < x → x < n → M' 4 x = if n + i - x = j then M 4 i else M 4 (n + i - x)) → F M') : ∀ (m : Nat) (j : Int), j = i + 1 + m → j < n → (∀ x, j < x → x < n → M 4 x < M 4 i) → wX1_next_46 X F i j S M := by
  have fin : ∀ j : Int, i < j → j < n → M 4 i ≤ M 4 j → (∀ x, j < x → x < n → M 4 x < M 4 i) → pNv true X mX1_swap 1 [pR 1, pI i, pI j] S M (fun M7 => wX1_next_85 X F (i + 1) (M7 1 0 - 1) S M7) := by
    intro j h1 h2 h3 h4
    have e1 := hr i hi (by omega)
    have e2 := hr j (by omega) (by omega)
    refine c_swap (by omega) (by omega) (by omega) (by omega) (by omega) (by omega) ?_
    rw [up_ne (by decide), up_ne (by decide), h0]
    refine c_nx85 (c := n + i) (by omega) (by omega) 8 _ _ _ (by omega) (by omega) (by omega) (by omega) (by omega) (fun x a b => ?_) (fun M' q1 q2 => k j (by omega) (by omega) (by omega) h4 M' (fun x hx => ?_) (fun x a b => ?_) ?_ (fun x a b => ?_))
    · by_cases e : x = j
      · subst e
        rw [up_same]
        omega
      · rw [up_oi e, up_oi (by omega)]
        have := hr x (by omega) (by omega)
        omega
    · rw [q1 x hx, up_ne hx, up_ne hx]
    · rw [q2, if_neg (by omega), up_oi (by omega), up_oi (by omega)]
    · rw [q2, if_neg (by omega), up_oi (by omega), up_same]
    · rw [q2, if_pos (by omega)]
      by_cases e : n + i - x = j
      · rw [if_pos e, e, up_same]
      · rw [if_neg e, up_oi e, up_oi (by omega)]
  intro m
  induction m with
  | zero =>
    intro j h1 h2 h3
    have e1 := hr i hi (by omega)
    have e2 := hr j (by omega) (by omega)
    have e3 : j = i + 1 := by omega
    refine bX1_next_46 ?_
    ((repeat' (first | (with_reducible apply And.intro) | (with_reducible intro _ e; subst e) | (with_reducible intro _))) <;> (try (first | omega | (with_reducible assumption))))
    · exact fin j (by omega) (by omega) (by omega) h3
    · rw [e3] at *
      omega
  | succ m ih =>
    intro j h1 h2 h3
    have e1 := hr i hi (by omega)
    have e2 := hr j (by omega) (by omega)
    refine bX1_next_46 ?_
    ((repeat' (first | (with_reducible apply And.intro) | (with_reducible intro _ e; subst e) | (with_reducible intro _))) <;> (try (first | omega | (with_reducible assumption))))
    · exact fin j (by omega) (by omega) (by omega) h3
    · refine ih (j + -1) (by omega) (by omega) (fun x a b => ?_)
      by_cases e : x = j
      · subst e; omega
      · exact h3 x (by omega) b
theorem c_next {F : pM → Prop} {n : Nat} (h2 : 2 ≤ n) (hn : n ≤ 7) (h0 : M 1 0 = n) (hp : isF n (M 4)) (k : ∀ M' : pM, (∀ x, x ≠ 4 → M' x = M x) → isF n (M' 4) → (rk (seg (M 4) 0 n) + 1 < fac n → rk (seg (M' 4) 0 n) = rk (seg (M 4) 0 n) + 1) → F M') : pNv true X mX1_next 2 [pR 1] S M F := by
  have hr : ∀ x : Int, 0 ≤ x → x < n → 0 ≤ M 4 x ∧ M 4 x < n := fun x a b => hp.bd a b
  have loop : ∀ (m : Nat) (i : Int), i + 1 = m → i + 1 < n → (∀ x, i < x → x + 1 < n → M 4 (x + 1) < M 4 x) → wX1_next_7 X F i S M := by
    intro m
    induction m with
    | zero =>
      intro i q1 q2 q3
      refine bX1_next_7 ?_
      ((repeat' (first | (with_reducible apply And.intro) | (with_reducible intro _ e; subst e) | (with_reducible intro _))) <;> (try (first | omega | (with_reducible assumption))))
      refine bX1_next_34 ?_
      ((repeat' (first | (with_reducible apply And.intro) | (with_reducible intro _ e; subst e) | (with_reducible intro _))) <;> (try (first | omega | (with_reducible assumption))))
      refine k M (fun _ _ => rfl) hp (fun h => ?_)
      have := nx_last (h := M 4) (n := n) (fun x a b => q3 x (by omega) b)
      omega
    | succ m ih =>
      intro i q1 q2 q3
      have e1 := hr i (by omega) (by omega)
      have e2 := hr (i + 1) (by omega) (by omega)
      refine bX1_next_7 ?_
      ((repeat' (first | (with_reducible apply And.intro) | (with_reducible intro _ e; subst e) | (with_reducible intro _))) <;> (try (first | omega | (with_reducible assumption))))
      · refine bX1_next_34 ?_
        rw [h0]
        ((repeat' (first | (with_reducible apply And.intro) | (with_reducible intro _ e; subst e) | (with_reducible intro _))) <;> (try (first | omega | (with_reducible assumption))))
        refine c_nx46 hn h0 hr (by omega) (by omega) (by omega) (fun j a1 a2 a3 a4 M' a5 a6 a7 a8 => ?_) (n - 1 - (i + 1)).toNat _ (by omega) (by omega) (fun x _ _ => by omega)
        obtain ⟨r1, r2⟩ := nx (h' := M' 4) hp (by omega) a1 a2 q3 a3 a4 a6 a7 a8
        exact k M' a5 r1 (fun _ => r2)
      · refine ih (i + -1) (by omega) (by omega) (fun x a b => ?_)
        by_cases e : x = i
        · subst e; omega
        · exact q3 x (by omega) b
  refine eX1_next (bX1_next_0 ?_)
  rw [h0]
  exact loop (n - 1) _ (by omega) (by omega) (fun x _ _ => by omega)
theorem c_swapped {F : Int → pM → Prop} {n : Nat} {v j : Int} (h2 : 2 ≤ n) (hn : n ≤ 7) (h0 : M 1 0 = n) (hv0 : 0 ≤ v) (hv1 : v < 5040) (hj0 : 0 ≤ j) (hj1 : j + 1 < n) (hrow : ∀ i : Int, 0 ≤ i → i < n → M 2 (7 * v + i) = dg n v i) (k : ∀ M' : pM, (∀ x, x ≠ 4 → M' x = M x) → F (sw n v j) M') : pNi true X mX1_swapped 2 [pR 1, pI v, pI j] S M F := by
  have hd := dg_F (n := n) (v := v)
  have loop : ∀ (m : Nat) (i : Int), i + m = n → 0 ≤ i → wX1_swapped_2 X F v j i S (ovr M 4 0 i (dg n v)) := by
    intro m
    induction m with
    | zero =>
      intro i q1 q2
      have e : i = n := by omega
      subst e
      refine bX1_swapped_2 ?_
      rw [ovr_ne (by decide), h0]
      ((repeat' (first | (with_reducible apply And.intro) | (with_reducible intro _ e; subst e) | (with_reducible intro _))) <;> (try (first | omega | (with_reducible assumption))))
      have d1 := hd.bd hj0 (show j < n by omega)
      have d2 := hd.bd (show 0 ≤ j + 1 by omega) hj1
      refine c_swap (by omega) (by omega) (by omega) (by omega) (by rw [ovr_in (by omega) (by omega)]; omega) (by rw [ovr_in (by omega) (by omega)]; omega) ?_
      have hA : ∀ x : Int, 0 ≤ x → x < n → pu_up (pu_up (ovr M 4 0 n (dg n v)) 4 j (ovr M 4 0 n (dg n v) 4 (j + 1))) 4 (j + 1) (ovr M 4 0 n (dg n v) 4 j) 4 x = swf (dg n v) j x := by
        intro x a b
        unfold swf tr
        by_cases c1 : x = j + 1
        · subst c1
          rw [up_same, ovr_in (by omega) (by omega), if_neg (by omega), if_pos rfl]
        · by_cases c2 : x = j
          · subst c2
            rw [up_oi (by omega), up_same, ovr_in (by omega) (by omega), if_pos rfl]
          · rw [up_oi c1, up_oi c2, ovr_in (by omega) (by omega), if_neg c2, if_neg c1]
      have hAb := hd.sw hj0 hj1
      refine c_number (n := n) hn (by rw [up_ne (by decide), up_ne (by decide), ovr_ne (by decide)]; exact h0) (fun i a b => ?_) ?_
      · rw [hA i a b]
        have := hAb.bd a b
        constructor <;> omega
      have eA : rk (seg (pu_up (pu_up (ovr M 4 0 n (dg n v)) 4 j (ovr M 4 0 n (dg n v) 4 (j + 1))) 4 (j + 1) (ovr M 4 0 n (dg n v) 4 j) 4) 0 n) = sw n v j := by
        unfold sw
        congr 1
        exact seg_congr n 0 (fun j a b => hA j a (by omega))
      rw [eA]
      exact k _ (fun x hx => by rw [up_ne hx, up_ne hx, ovr_ne hx])
    | succ m ih =>
      intro i q1 q2
      have d1 := hd.bd q2 (show i < n by omega)
      have e2 : ovr M 4 0 i (dg n v) 2 (7 * v + i) = dg n v i := by rw [ovr_ne (by decide)]; exact hrow i q2 (by omega)
      have e3 : ovr M 4 0 i (dg n v) 1 0 = n := by rw [ovr_ne (by decide)]; exact h0
      refine bX1_swapped_2 ?_
      rw [e2, e3]
      ((repeat' (first | (with_reducible apply And.intro) | (with_reducible intro _ e; subst e) | (with_reducible intro _))) <;> (try (first | omega | (with_reducible assumption))))
      rw [ovr_step (by omega) rfl]
      exact ih (i + 1) (by omega) (by omega)
  refine eX1_swapped (bX1_swapped_0 ?_)
  have := loop n 0 (by omega) (by omega)
  rwa [ovr_nil (by omega)] at this
theorem c_renamed {F : Int → pM → Prop} {n : Nat} {v j : Int} (h2 : 2 ≤ n) (hn : n ≤ 7) (h0 : M 1 0 = n) (hv0 : 0 ≤ v) (hv1 : v < 5040) (hj0 : 0 ≤ j) (hj1 : j + 1 < n) (hrow : ∀ i : Int, 0 ≤ i → i < n → M 2 (7 * v + i) = dg n v i) (k : ∀ M' : pM, (∀ x, x ≠ 4 → M' x = M x) → F (rn n v j) M') : pNi true X mX1_renamed 2 [pR 1, pI v, pI j] S M F := by
  have hd := dg_F (n := n) (v := v)
  have hAb := hd.ren hj0 hj1
  have loop : ∀ (m : Nat) (i : Int), i + m = n → 0 ≤ i → wX1_renamed_2 X F v j i S (ovr M 4 0 i (ren (dg n v) j)) := by
    intro m
    induction m with
    | zero =>
      intro i q1 q2
      have e : i = n := by omega
      subst e
      refine bX1_renamed_2 ?_
      rw [ovr_ne (by decide), h0]
      ((repeat' (first | (with_reducible apply And.intro) | (with_reducible intro _ e; subst e) | (with_reducible intro _))) <;> (try (first | omega | (with_reducible assumption))))
      refine c_number (n := n) hn (by rw [ovr_ne (by decide)]; exact h0) (fun i a b => ?_) ?_
      · rw [ovr_in a b]
        have := hAb.bd a b
        constructor <;> omega
      have eA : rk (seg (ovr M 4 0 n (ren (dg n v) j) 4) 0 n) = rn n v j := by
        unfold rn
        congr 1
        exact seg_congr n 0 (fun j a b => ovr_in a (by omega))
      rw [eA]
      exact k _ (fun x hx => ovr_ne hx)
    | succ m ih =>
      intro i q1 q2
      have d1 := hd.bd q2 (show i < n by omega)
      have d2 := hAb.bd q2 (show i < n by omega)
      have e2 : ovr M 4 0 i (ren (dg n v) j) 2 (7 * v + i) = dg n v i := by rw [ovr_ne (by decide)]; exact hrow i q2 (by omega)
      have e3 : ovr M 4 0 i (ren (dg n v) j) 1 0 = n := by rw [ovr_ne (by decide)]; exact h0
      have fin : ∀ s, s = ren (dg n v) j i → wX1_renamed_49 X F v j i i s S (ovr M 4 0 i (ren (dg n v) j)) := by
        intro s hs
        refine bX1_renamed_49 ?_
        rw [hs, i2bb_id (by omega) (by omega)]
        ((repeat' (first | (with_reducible apply And.intro) | (with_reducible intro _ e; subst e) | (with_reducible intro _))) <;> (try (first | omega | (with_reducible assumption))))
        rw [ovr_step (by omega) rfl]
        exact ih (i + 1) (by omega) (by omega)
      refine bX1_renamed_2 ?_
      rw [e3]
      ((repeat' (first | (with_reducible apply And.intro) | (with_reducible intro _ e; subst e) | (with_reducible intro _))) <;> (try (first | omega | (with_reducible assumption))))
      refine c_digit hv0 hv1 q2 (by omega) ?_
      rw [e2]
      ((repeat' (first | (with_reducible apply And.intro) | (with_reducible intro _ e; subst e) | (with_reducible intro _))) <;> (try (first | omega | (with_reducible assumption))))
      · refine fin _ ?_
        unfold ren tr
        rw [if_neg (by omega), if_neg (by omega)]
      · refine fin _ ?_
        unfold ren tr
        rw [if_neg (by omega), if_pos (by omega)]
      · refine fin _ ?_
        unfold ren tr
        rw [if_pos (by omega)]
  refine eX1_renamed (bX1_renamed_0 ?_)
  have := loop n 0 (by omega) (by omega)
  rwa [ovr_nil (by omega)] at this
theorem c_inversions {F : Int → pM → Prop} {n : Nat} {v : Int} (hn : n ≤ 7) (h0 : M 1 0 = n) (hv0 : 0 ≤ v) (hv1 : v < 5040) (hrow : ∀ i : Int, 0 ≤ i → i < n → M 2 (7 * v + i) = dg n v i) (k : F (iv n v) M) : pNi true X mX1_inversions 2 [pR 1, pI v] S M F := by
  have hd := dg_F (n := n) (v := v)
  have in17 : ∀ (i : Int), 0 ≤ i → ∀ (m : Nat) (x j : Int), j + m = n → i < j → wX1_inversions_4 X F v (x + cl (dg n v i) (seg (dg n v) j m)) (i + 1) S M → wX1_inversions_17 X F v x i j S M := by
    intro i hi m
    induction m with
    | zero =>
      intro x j q1 q2 k
      refine bX1_inversions_17 ?_
      rw [h0]
      ((repeat' (first | (with_reducible apply And.intro) | (with_reducible intro _ e; subst e) | (with_reducible intro _))) <;> (try (first | omega | (with_reducible assumption))))
      simpa [seg, cl] using k
    | succ m ih =>
      intro x j q1 q2 k
      have d1 := hd.bd hi (show i < n by omega)
      have d2 := hd.bd (show 0 ≤ j by omega) (show j < n by omega)
      refine bX1_inversions_17 ?_
      rw [h0]
      ((repeat' (first | (with_reducible apply And.intro) | (with_reducible intro _ e; subst e) | (with_reducible intro _))) <;> (try (first | omega | (with_reducible assumption))))
      refine c_digit hv0 hv1 (by omega) (by omega) (c_digit hv0 hv1 (by omega) (by omega) ?_)
      rw [hrow j (by omega) (by omega), hrow i hi (by omega)]
      simp only [seg, cl] at k
      ((repeat' (first | (with_reducible apply And.intro) | (with_reducible intro _ e; subst e) | (with_reducible intro _))) <;> (try (first | omega | (with_reducible assumption))))
      · refine bX1_inversions_45 (ih _ _ (by omega) (by omega) ?_)
        rw [if_neg (by omega)] at k
        simpa [Int.add_assoc] using k
      · refine bX1_inversions_45 (ih _ _ (by omega) (by omega) ?_)
        rw [if_pos (by omega)] at k
        simpa [Int.add_assoc] using k
  have in4 : ∀ (m : Nat) (x i : Int), i + m = n → 0 ≤ i → F (x + inv (seg (dg n v) i m)) M → wX1_inversions_4 X F v x i S M := by
    intro m
    induction m with
    | zero =>
      intro x i q1 q2 k
      refine bX1_inversions_4 ?_
      rw [h0]
      ((repeat' (first | (with_reducible apply And.intro) | (with_reducible intro _ e; subst e) | (with_reducible intro _))) <;> (try (first | omega | (with_reducible assumption))))
      simpa [seg, inv] using k
    | succ m ih =>
      intro x i q1 q2 k
      refine bX1_inversions_4 ?_
      rw [h0]
      ((repeat' (first | (with_reducible apply And.intro) | (with_reducible intro _ e; subst e) | (with_reducible intro _))) <;> (try (first | omega | (with_reducible assumption))))
      refine in17 i q2 m _ _ (by omega) (by omega) (ih _ _ (by omega) (by omega) ?_)
      simp only [seg, inv] at k
      simpa [Int.add_assoc] using k
  refine eX1_inversions (bX1_inversions_0 (in4 n 0 0 (by omega) (by omega) ?_))
  rw [dg_seg, Int.zero_add]
  exact k
end
