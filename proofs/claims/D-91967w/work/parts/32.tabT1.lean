/-! ===== the twin's tables ===== -/
set_option maxRecDepth 100000
section
variable {X : px} {S : List psh} {M : pM}
theorem t_no17 {F : Int → pM → Prop} {n i : Int} (hn : n ≤ 7) (hi : 0 ≤ i) (hr : ∀ j, 0 ≤ j → j < n → inR (M 274 j)) : ∀ (m : Nat) (x2 x4 j : Int), j + m = n → i < j → wX6_numberOf_4 X F n (x2 * (n - i) + (x4 + cl (M 274 i) (seg (M 274) j m))) (i + 1) S M → wX6_numberOf_17 X F n x2 i x4 j S M := by
  intro m
  induction m with
  | zero =>
    intro x2 x4 j hj hij k
    refine bX6_numberOf_17 ?_
    ((repeat' (first | (with_reducible apply And.intro) | (with_reducible intro _ e; subst e) | (with_reducible intro _))) <;> (try (first | omega | (with_reducible assumption))))
    simpa [seg, cl] using k
  | succ m ih =>
    intro x2 x4 j hj hij k
    have h1 := hr j (by omega) (by omega)
    have h2 := hr i (by omega) (by omega)
    refine bX6_numberOf_17 ?_
    ((repeat' (first | (with_reducible apply And.intro) | (with_reducible intro _ e; subst e) | (with_reducible intro _))) <;> (try (first | omega | (with_reducible assumption))))
    · refine bX6_numberOf_46 (ih _ _ _ (by omega) (by omega) ?_)
      simp only [seg, cl] at k
      rw [if_neg (by omega)] at k
      simpa [Int.add_assoc] using k
    · refine bX6_numberOf_46 (ih _ _ _ (by omega) (by omega) ?_)
      simp only [seg, cl] at k
      rw [if_pos (by omega)] at k
      simpa [Int.add_assoc] using k
theorem t_no4 {F : Int → pM → Prop} {n : Int} (hn : n ≤ 7) (hr : ∀ j, 0 ≤ j → j < n → inR (M 274 j)) : ∀ (m : Nat) (x2 i : Int), i + m = n → 0 ≤ i → F (x2 * fac m + rk (seg (M 274) i m)) M → wX6_numberOf_4 X F n x2 i S M := by
  intro m
  induction m with
  | zero =>
    intro x2 i h1 h2 k
    refine bX6_numberOf_4 ?_
    ((repeat' (first | (with_reducible apply And.intro) | (with_reducible intro _ e; subst e) | (with_reducible intro _))) <;> (try (first | omega | (with_reducible assumption))))
    simpa [seg, rk, fac] using k
  | succ m ih =>
    intro x2 i h1 h2 k
    refine bX6_numberOf_4 ?_
    ((repeat' (first | (with_reducible apply And.intro) | (with_reducible intro _ e; subst e) | (with_reducible intro _))) <;> (try (first | omega | (with_reducible assumption))))
    refine t_no17 hn h2 hr m _ _ _ (by omega) (by omega) (ih _ _ (by omega) (by omega) ?_)
    have e : (x2 * (n - i) + (0 + cl (M 274 i) (seg (M 274) (i + 1) m))) * fac m + rk (seg (M 274) (i + 1) m) = x2 * fac (m + 1) + rk (seg (M 274) i (m + 1)) := by
      have e1 : n - i = (m : Int) + 1 := by omega
      rw [e1]
      simp only [seg, rk, fac, seg_len]
      rw [Int.zero_add, Int.add_mul, Int.mul_assoc, Int.add_assoc]
    rw [e]
    exact k
theorem t_numberOf {F : Int → pM → Prop} {n : Nat} (hn : n ≤ 7) (hr : ∀ j : Int, 0 ≤ j → j < n → inR (M 274 j)) (k : F (rk (seg (M 274) 0 n)) M) : pNi true X mX6_numberOf 1 [pR 241, pI n] S M F := by
  refine eX6_numberOf (bX6_numberOf_0 (t_no4 (by omega) hr n 0 0 (by omega) (by omega) ?_))
  simpa using k
theorem t_swapHand {F : pM → Prop} {i j : Int} (hi : 0 ≤ i) (hi7 : i < 7) (hj : 0 ≤ j) (hj7 : j < 7) (k : F (pu_up (pu_up M 274 i (M 274 j)) 274 j (M 274 i))) : pNv true X mX6_swapHand 1 [pR 241, pI i, pI j] S M F := by
  refine eX6_swapHand (bX6_swapHand_0 ?_)
  ((repeat' (first | (with_reducible apply And.intro) | (with_reducible intro _ e; subst e) | (with_reducible intro _))) <;> (try (first | omega | (with_reducible assumption))))
theorem t_to2 {F : pM → Prop} {n : Nat} {v : Int} (hn : n ≤ 7) (h0 : 0 ≤ v) (h1 : v < 5040) (M : pM) (k : F (ovr M 274 0 n (fun i => M 269 (7 * v + i)))) : ∀ (m : Nat) (i : Int), i + m = n → 0 ≤ i → wX6_takeOrder_2 X F n v i S (ovr M 274 0 i (fun i => M 269 (7 * v + i))) := by
  intro m
  induction m with
  | zero =>
    intro i h1 h2
    have e : i = n := by omega
    subst e
    refine bX6_takeOrder_2 ?_
    ((repeat' (first | (with_reducible apply And.intro) | (with_reducible intro _ e; subst e) | (with_reducible intro _))) <;> (try (first | omega | (with_reducible assumption))))
  | succ m ih =>
    intro i h1 h2
    refine bX6_takeOrder_2 ?_
    ((repeat' (first | (with_reducible apply And.intro) | (with_reducible intro _ e; subst e) | (with_reducible intro _))) <;> (try (first | omega | (with_reducible assumption))))
    rw [ovr_step (by omega) (by rw [ovr_ne (by decide)])]
    exact ih (i + 1) (by omega) (by omega)
theorem t_takeOrder {F : pM → Prop} {n : Nat} {v : Int} (hn : n ≤ 7) (h0 : 0 ≤ v) (h1 : v < 5040) (k : F (ovr M 274 0 n (fun i => M 269 (7 * v + i)))) : pNv true X mX6_takeOrder 1 [pR 241, pI n, pI v] S M F := by
  refine eX6_takeOrder (bX6_takeOrder_0 ?_)
  have := t_to2 (X := X) (S := S) hn h0 h1 M k n 0 (by omega) (by omega)
  rwa [ovr_nil (by omega)] at this
theorem fac_st (k : Nat) : fac k * ((k : Int) + 1) = fac (k + 1) := by simp only [fac]; rw [Int.mul_comm]
theorem t_oo4 {F : Int → pM → Prop} {n : Nat} (hn : n ≤ 7) (q : F (fac n) M) : ∀ (m k : Nat), k + m = n → wX6_ordersOf_4 X F n (fac k) (k + 1) S M := by
  intro m
  induction m with
  | zero =>
    intro k h1
    have e : k = n := by omega
    subst e
    refine bX6_ordersOf_4 ?_
    ((repeat' (first | (with_reducible apply And.intro) | (with_reducible intro _ e; subst e) | (with_reducible intro _))) <;> (try (first | omega | (with_reducible assumption))))
  | succ m ih =>
    intro k h1
    refine bX6_ordersOf_4 ?_
    ((repeat' (first | (with_reducible apply And.intro) | (with_reducible intro _ e; subst e) | (with_reducible intro _))) <;> (try (first | omega | (with_reducible assumption))))
    rw [fac_st]
    exact ih (k + 1) (by omega)
theorem t_ordersOf {F : Int → pM → Prop} {n : Nat} (h1 : 1 ≤ n) (hn : n ≤ 7) (q : F (fac n) M) : pNi true X mX6_ordersOf 1 [pI n] S M F :=
  eX6_ordersOf (bX6_ordersOf_0 (t_oo4 hn q (n - 1) 1 (by omega)))
/-- placeOf -/
theorem t_pl3 {F : Int → pM → Prop} {n : Nat} {v x p : Int} (hn : n ≤ 7) (h0 : 0 ≤ v) (h1 : v < 5040) (hr : ∀ i : Int, 0 ≤ i → i < n → inR (M 269 (7 * v + i))) (hx : inR x) (hp0 : 0 ≤ p) (hpn : p < n) (hpe : M 269 (7 * v + p) = x) (hpu : ∀ i : Int, 0 ≤ i → i < p → M 269 (7 * v + i) ≠ x) (k : F p M) : ∀ (m : Nat) (i : Int), i + m = p → 0 ≤ i → wX6_placeOf_3 X F n v x i S M := by
  intro m
  induction m with
  | zero =>
    intro i q1 q2
    have e : i = p := by omega
    subst e
    have := hr i hp0 hpn
    refine bX6_placeOf_3 ?_
    ((repeat' (first | (with_reducible apply And.intro) | (with_reducible intro _ e; subst e) | (with_reducible intro _))) <;> (try (first | omega | (with_reducible assumption))))
  | succ m ih =>
    intro i q1 q2
    have := hr i q2 (by omega)
    have := hpu i q2 (by omega)
    refine bX6_placeOf_3 ?_
    ((repeat' (first | (with_reducible apply And.intro) | (with_reducible intro _ e; subst e) | (with_reducible intro _))) <;> (try (first | omega | (with_reducible assumption))))
    exact ih (i + 1) (by omega) (by omega)
theorem t_placeOf {F : Int → pM → Prop} {n : Nat} {v x p : Int} (hn : n ≤ 7) (h0 : 0 ≤ v) (h1 : v < 5040) (hf : isF n (fun i => M 269 (7 * v + i))) (hp0 : 0 ≤ p) (hpn : p < n) (hpe : M 269 (7 * v + p) = x) (k : F p M) : pNi true X mX6_placeOf 1 [pR 241, pI n, pI v, pI x] S M F := by
  have hb := fun (i : Int) a b => hf.bd (i := i) a b

  have hx := hb p hp0 hpn
  refine eX6_placeOf (bX6_placeOf_0 (t_pl3 hn h0 h1 (fun i a b => ?_) ?_ hp0 hpn hpe (fun i a b e => ?_) k p.toNat 0 (by omega) (by omega)))
  · have := hb i a b
    constructor <;> omega
  · constructor <;> omega
  · have := hf.inj a (show i < n by omega) hp0 hpn (e.trans hpe.symm)
    omega
theorem t_isNearer {F : Int → pM → Prop} {n : Nat} {v x p q : Int} (hn : n ≤ 7) (h0 : 0 ≤ v) (h1 : v < 5040) (hf : isF n (fun i => M 269 (7 * v + i))) (hp0 : 0 ≤ p) (hpn : p < n) (hpe : M 269 (7 * v + p) = x) (hq0 : 0 ≤ q) (hqn : q < n) (hqe : M 269 (7 * v + q) = x + 1) (k1 : q < p → F 1 M) (k0 : p ≤ q → F 0 M) : pNi true X mX6_isNearer 2 [pR 241, pI n, pI v, pI x] S M F := by
  refine eX6_isNearer (bX6_isNearer_0 (t_placeOf hn h0 h1 hf hq0 hqn hqe (t_placeOf hn h0 h1 hf hp0 hpn hpe ?_)))
  ((repeat' (first | (with_reducible apply And.intro) | (with_reducible intro _ e; subst e) | (with_reducible intro _))) <;> (try (first | omega | (with_reducible assumption))))
  · exact k0 (by omega)
  · exact k1 (by omega)
/-- goOn -/
theorem t_go77 {F : pM → Prop} {c : Int} (hc0 : 0 ≤ c) (hc : c ≤ 12) : ∀ (m : Nat) (a b : Int) (M : pM), a + b = c → b - a < m → 0 ≤ a → b < 7 → a ≤ 7 → (∀ M' : pM, (∀ x, x ≠ 274 → M' x = M x) → (∀ x, M' 274 x = if a ≤ x ∧ x ≤ b then M 274 (c - x) else M 274 x) → F M') → wX6_goOn_77 X F a b S M := by
  intro m
  induction m with
  | zero =>
    intro a b M h1 h2 h3 h4 h5 k
    refine bX6_goOn_77 ?_
    ((repeat' (first | (with_reducible apply And.intro) | (with_reducible intro _ e; subst e) | (with_reducible intro _))) <;> (try (first | omega | (with_reducible assumption))))
    refine k M (fun _ _ => rfl) (fun x => ?_)
    split
    · rw [show c - x = x by omega]
    · rfl
  | succ m ih =>
    intro a b M h1 h2 h3 h4 h5 k
    refine bX6_goOn_77 ?_
    ((repeat' (first | (with_reducible apply And.intro) | (with_reducible intro _ e; subst e) | (with_reducible intro _))) <;> (try (first | omega | (with_reducible assumption))))
    · refine k M (fun _ _ => rfl) (fun x => ?_)
      split
      · rw [show c - x = x by omega]
      · rfl
    · refine t_swapHand (by omega) (by omega) (by omega) (by omega) ?_
      refine ih (a + 1) (b + -1) _ (by omega) (by omega) (by omega) (by omega) (by omega) (fun M' q1 q2 => k M' (fun x hx => ?_) (fun x => ?_))
      · rw [q1 x hx, up_ne hx, up_ne hx]
      · rw [q2 x]
        by_cases ha : x = a
        · subst ha
          rw [if_neg (by omega), if_pos (by omega), up_oi (by omega), up_same, show c - x = b by omega]
        · by_cases hb : x = b
          · subst hb
            rw [if_neg (by omega), if_pos (by omega), up_same, show c - x = a by omega]
          · by_cases hin : a ≤ x ∧ x ≤ b
            · rw [if_pos (by omega), if_pos hin, up_oi (by omega), up_oi (by omega)]
            · rw [if_neg (by omega), if_neg hin, up_oi (by omega), up_oi (by omega)]
theorem t_go40 {F : pM → Prop} {n : Nat} {i : Int} (hn : n ≤ 7) (hr : ∀ x : Int, 0 ≤ x → x < n → inR (M 274 x)) (hi : 0 ≤ i) (hin : i + 1 < n) (hup : M 274 i ≤ M 274 (i + 1)) (k : ∀ j : Int, i < j → j < n → M 274 i ≤ M 274 j → (∀ x, j < x → x < n → M 274 x < M 274 i) → ∀ M' : pM, (∀ x, x ≠ 274 → M' x = M x) → (∀ x, 0 ≤ x → x < i → M' 274 x = M 274 x) → M' 274 i = M 274 j → (∀ x, i < x → x < n → M' 274 x = if n + i - x = j then M 274 i else M 274 (n + i - x)) → F M') : ∀ (m : Nat) (j : Int), j = i + 1 + m → j < n → (∀ x, j < x → x < n → M 274 x < M 274 i) → wX6_goOn_40 X F n i j S M := by
  intro m
  induction m with
  | zero =>
    intro j h1 h2 h3
    have e1 := hr i hi (by omega)
    have e2 := hr j (by omega) (by omega)
    have e3 : j = i + 1 := by omega
    refine bX6_goOn_40 ?_
    ((repeat' (first | (with_reducible apply And.intro) | (with_reducible intro _ e; subst e) | (with_reducible intro _))) <;> (try (first | omega | (with_reducible assumption))))
    · refine t_swapHand (by omega) (by omega) (by omega) (by omega) ?_
      refine t_go77 (c := n + i) (by omega) (by omega) 8 _ _ _ (by omega) (by omega) (by omega) (by omega) (by omega) (fun M' q1 q2 => k j (by omega) (by omega) (by omega) h3 M' (fun x hx => ?_) (fun x a b => ?_) ?_ (fun x a b => ?_))
      · rw [q1 x hx, up_ne hx, up_ne hx]
      · rw [q2, if_neg (by omega), up_oi (by omega), up_oi (by omega)]
      · rw [q2, if_neg (by omega), up_oi (by omega), up_same]
      · rw [q2, if_pos (by omega)]
        by_cases e : n + i - x = j
        · rw [if_pos e, e, up_same]
        · rw [if_neg e, up_oi e, up_oi (by omega)]
    · rw [e3] at *
      omega
  | succ m ih =>
    intro j h1 h2 h3
    have e1 := hr i hi (by omega)
    have e2 := hr j (by omega) (by omega)
    refine bX6_goOn_40 ?_
    ((repeat' (first | (with_reducible apply And.intro) | (with_reducible intro _ e; subst e) | (with_reducible intro _))) <;> (try (first | omega | (with_reducible assumption))))
    · refine t_swapHand (by omega) (by omega) (by omega) (by omega) ?_
      refine t_go77 (c := n + i) (by omega) (by omega) 8 _ _ _ (by omega) (by omega) (by omega) (by omega) (by omega) (fun M' q1 q2 => k j (by omega) (by omega) (by omega) h3 M' (fun x hx => ?_) (fun x a b => ?_) ?_ (fun x a b => ?_))
      · rw [q1 x hx, up_ne hx, up_ne hx]
      · rw [q2, if_neg (by omega), up_oi (by omega), up_oi (by omega)]
      · rw [q2, if_neg (by omega), up_oi (by omega), up_same]
      · rw [q2, if_pos (by omega)]
        by_cases e : n + i - x = j
        · rw [if_pos e, e, up_same]
        · rw [if_neg e, up_oi e, up_oi (by omega)]
    · refine ih (j + -1) (by omega) (by omega) (fun x a b => ?_)
      by_cases e : x = j
      · subst e; omega
      · exact h3 x (by omega) b
theorem t_goOn {F : pM → Prop} {n : Nat} (h2 : 2 ≤ n) (hn : n ≤ 7) (hp : isF n (M 274)) (k : ∀ M' : pM, (∀ x, x ≠ 274 → M' x = M x) → isF n (M' 274) → (rk (seg (M 274) 0 n) + 1 < fac n → rk (seg (M' 274) 0 n) = rk (seg (M 274) 0 n) + 1) → F M') : pNv true X mX6_goOn 2 [pR 241, pI n] S M F := by
  have hr : ∀ x : Int, 0 ≤ x → x < n → inR (M 274 x) := fun x a b => by have := hp.bd a b; constructor <;> omega
  have loop : ∀ (m : Nat) (i : Int), i + 1 = m → i + 1 < n → (∀ x, i < x → x + 1 < n → M 274 (x + 1) < M 274 x) → wX6_goOn_4 X F n i S M := by
    intro m
    induction m with
    | zero =>
      intro i q1 q2 q3
      refine bX6_goOn_4 ?_
      ((repeat' (first | (with_reducible apply And.intro) | (with_reducible intro _ e; subst e) | (with_reducible intro _))) <;> (try (first | omega | (with_reducible assumption))))
      refine bX6_goOn_31 ?_
      ((repeat' (first | (with_reducible apply And.intro) | (with_reducible intro _ e; subst e) | (with_reducible intro _))) <;> (try (first | omega | (with_reducible assumption))))
      refine k M (fun _ _ => rfl) hp (fun h => ?_)
      have := nx_last (h := M 274) (n := n) (fun x a b => q3 x (by omega) b)
      omega
    | succ m ih =>
      intro i q1 q2 q3
      have e1 := hr i (by omega) (by omega)
      have e2 := hr (i + 1) (by omega) (by omega)
      refine bX6_goOn_4 ?_
      ((repeat' (first | (with_reducible apply And.intro) | (with_reducible intro _ e; subst e) | (with_reducible intro _))) <;> (try (first | omega | (with_reducible assumption))))
      · refine bX6_goOn_31 ?_
        ((repeat' (first | (with_reducible apply And.intro) | (with_reducible intro _ e; subst e) | (with_reducible intro _))) <;> (try (first | omega | (with_reducible assumption))))
        refine t_go40 hn hr (by omega) (by omega) (by omega) (fun j a1 a2 a3 a4 M' a5 a6 a7 a8 => ?_) (n - 1 - (i + 1)).toNat _ (by omega) (by omega) (fun x _ _ => by omega)
        obtain ⟨r1, r2⟩ := nx (h' := M' 274) hp (by omega) a1 a2 q3 a3 a4 a6 a7 a8
        exact k M' a5 r1 (fun _ => r2)
      · refine ih (i + -1) (by omega) (by omega) (fun x a b => ?_)
        by_cases e : x = i
        · subst e; omega
        · exact q3 x (by omega) b
  refine eX6_goOn (bX6_goOn_0 (loop (n - 1) _ (by omega) (by omega) (fun x _ _ => by omega)))
end
