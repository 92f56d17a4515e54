/-! ===== ways, odds, oddsOf, possible: the twin's operations ===== -/
set_option maxRecDepth 100000
section
variable {X : px} {S : List psh} {M : pM} {σ : sgm}
theorem tw_ways_op {F : Int → pM → Prop} {t : Int} (ht : inR t) (ti : TI M σ) (ok : okS σ) (k : F (q_ways σ t) M) : pNl true X mX6_ways 2 [pR 241, pI t] S M F := by
  refine eX6_ways (bX6_ways_0 (tw_isLadder ht ti.2.1 ok (fun a b => ⟨by constructor <;> decide, fun _ => ?_, fun z => by omega⟩) (fun h => ⟨by constructor <;> decide, fun z => by omega, fun _ => ?_⟩)))
  · unfold q_ways at k
    rw [if_pos ⟨a, b⟩] at k
    have okl := ok.at a b
    have h6 := ok.tl b
    have hl := okl.2.2.1
    obtain ⟨u1, u2, u3⟩ := ti.2.1.2 t a b
    have loop : ∀ (s : List elt) (i x : Int), (lad σ.1 t).2.drop i.toNat = s → 0 ≤ i → i ≤ (lad σ.1 t).2.length → F (x * pr s) M → wX6_ways_17 X F t x i S M := by
      intro s
      induction s with
      | nil =>
        intro i x q0 q1 q2 k
        have := drop_nil q0 q1
        rw [pr, Int.mul_one] at k
        refine bX6_ways_17 ?_
        rw [u2]
        exact ⟨a, h6, by constructor <;> omega, by constructor <;> omega, fun _ => k, fun y => by omega⟩
      | cons e s ih =>
        intro i x q0 q1 q2 k
        obtain ⟨e1, e2, e3⟩ := drop_cons q0 q1
        have he := okl.at q1 e3
        have m4 := u3 i q1 e3
        rw [e1] at he m4
        have wy := wy_ok he
        have hk : (e.1 = 0 ∨ e.1 = 1 ∨ e.1 = 2 ∨ e.1 = 3) ∧ 0 ≤ e.2.2.2 ∧ e.2.2.2 ≤ 4 := by obtain ⟨_, _, h⟩ := he; omega
        rw [pr, ← Int.mul_assoc] at k
        refine bX6_ways_17 ?_
        rw [u2, m4.1, m4.2.2.2]
        refine ⟨a, h6, by constructor <;> omega, by constructor <;> omega, fun y => by omega, fun _ => ⟨by omega, by omega, by constructor <;> omega, fun y => bX6_ways_62 (ih (i + 1) _ e2 (by omega) (by omega) ?_), fun y => ⟨by omega, by omega, by constructor <;> omega, bX6_ways_62 (ih (i + 1) _ e2 (by omega) (by omega) ?_)⟩⟩⟩
        · have hb : wyB e = 1 := by unfold wyB; rw [if_neg y]
          rw [hb, Int.mul_one] at k
          exact k
        · have hb : wyB e = e.2.2.2 := by unfold wyB; rw [if_pos y]
          rw [hb] at k
          exact k
    exact loop _ 0 1 rfl (by omega) (by omega) (by rw [Int.one_mul]; exact k)
  · unfold q_ways at k
    rw [if_neg h] at k
    exact k
theorem tw_isNumber {F : Int → pM → Prop} {t x : Int} (h : THl M σ.1) (ok : okS σ) (a : 0 ≤ t) (b : t < σ.1.length) (hx : inR x) (k1 : 0 ≤ x → x < (lad σ.1 t).1 → F 1 M) (k0 : ¬ (0 ≤ x ∧ x < (lad σ.1 t).1) → F 0 M) : pNi true X mX6_isNumber 1 [pR 241, pI t, pI x] S M F := by
  have okl := ok.at a b
  have h6 := ok.tl b
  have := okl.1
  have := okl.2.1
  refine eX6_isNumber (bX6_isNumber_0 ?_)
  rw [(h.2 t a b).1]
  exact ⟨hx, fun z => k0 (by omega), fun z => ⟨a, h6, hx, by constructor <;> omega, fun y => k0 (by omega), fun y => k1 z y⟩⟩
theorem tw_isOrderOf {F : Int → pM → Prop} {t o : Int} (h : THl M σ.1) (ok : okS σ) (a : 0 ≤ t) (b : t < σ.1.length) (ho : inR o) (k1 : ∀ N : Nat, 2 ≤ N → N ≤ 7 → (lad σ.1 t).1 = N → 0 ≤ o → o < fac N → F 1 M) (k0 : ¬ isO (lad σ.1 t).1 o → F 0 M) : pNi true X mX6_isOrder 2 [pR 241, pI (M 242 t), pI o] S M F := by
  have okl := ok.at a b
  have := okl.1
  have := okl.2.1
  rw [(h.2 t a b).1]
  exact tw_isOrder (by constructor <;> omega) ho k1 k0
theorem tw_odds_op {F : Int → pM → Prop} {t o x l : Int} (ht : inR t) (ho : inR o) (hx : inR x) (hl : inR l) (ti : TI M σ) (ok : okS σ) (k : ∀ M', frT M M' → TT M' → F (q_odds σ t o x l) M') : pNl true X mX6_odds 5 [pR 241, pI t, pI o, pI x, pI l] S M F := by
  have bad : ¬ (odC σ t o ∧ 0 ≤ x ∧ x < (lad σ.1 t).1 ∧ 0 ≤ l ∧ l < (lad σ.1 t).1) → wX6_odds_41 X F S M := fun z => by
    have := k M (frT.refl _) ti.1
    unfold q_odds at this
    rw [if_neg z] at this
    exact bX6_odds_41 this
  refine eX6_odds (bX6_odds_0 (tw_isLadder ht ti.2.1 ok (fun a b => ⟨by constructor <;> decide, fun z => by omega, fun _ => ⟨a, ok.tl b, ?_⟩⟩) (fun h => ⟨by constructor <;> decide, fun _ => bad (fun z => h ⟨z.1.1, z.1.2.1⟩), fun z => by omega⟩)))
  refine tw_isOrderOf ti.2.1 ok a b ho (fun N h2 h7 e p q => ⟨by constructor <;> decide, fun z => by omega, fun _ => ?_⟩) (fun hno => ⟨by constructor <;> decide, fun _ => bad (fun z => hno z.1.2.2), fun z => by omega⟩)
  refine tw_isNumber ti.2.1 ok a b hx (fun x0 x1 => ⟨by constructor <;> decide, fun z => by omega, fun _ => ?_⟩) (fun h => ⟨by constructor <;> decide, fun _ => bad (fun z => h ⟨z.2.1, z.2.2.1⟩), fun z => by omega⟩)
  refine tw_isNumber ti.2.1 ok a b hl (fun l0 l1 => ⟨by constructor <;> decide, fun _ => ?_, fun z => by omega⟩) (fun h => ⟨by constructor <;> decide, fun z => by omega, fun _ => bad (fun z => h z.2.2.2)⟩)
  have hf := fac_le h7
  have fp := fac_pos N
  refine tw_spread ti ok a b e h2 h7 p q (fun M2 f2 t2 hw _ => ?_)
  have loop : ∀ (m c : Nat), (c : Int) + m = fac N → wX6_odds_57 X F x l (sm (fun v => if dg N v l = x then wyF σ t o v else 0) 0 c) c S M2 := by
    intro m
    induction m with
    | zero =>
      intro c q1
      refine bX6_odds_57 ?_
      rw [t2.2.1]
      refine ⟨by constructor <;> omega, by constructor <;> omega, fun _ => ?_, fun y => by omega⟩
      have := k M2 f2 (t2.T h2 h7)
      unfold q_odds smD at this
      rw [if_pos ⟨⟨a, b, by rw [e]; exact isO_nat h2 h7 p q⟩, x0, x1, l0, l1⟩, e, Int.toNat_natCast, show (fac N).toNat = c by omega] at this
      exact this
    | succ m ih =>
      intro c q1
      have nxt := ih (c + 1) (by omega)
      rw [sm_snoc, Int.zero_add, Int.natCast_succ] at nxt
      have d1 := dg_rng (o := c) h7 l0 (by omega)
      refine bX6_odds_57 ?_
      rw [t2.2.1, t2.row (by omega) (by omega) l l0 (by omega), hw c (by omega) (by omega)]
      refine ⟨by constructor <;> omega, by constructor <;> omega, fun y => by omega, fun _ => ⟨by omega, by omega, by constructor <;> omega, hx, fun y => bX6_odds_95 ?_, fun y => ⟨by omega, by omega, bX6_odds_95 ?_⟩⟩⟩
      · rw [if_neg y, Int.add_zero] at nxt
        exact nxt
      · rw [if_pos y] at nxt
        exact nxt
  exact loop (fac N).toNat 0 (by omega)
theorem tw_oddsOf_op {F : Int → pM → Prop} {t o x : Int} (ht : inR t) (ho : inR o) (hx : inR x) (ti : TI M σ) (ok : okS σ) (k : ∀ M', frT M M' → TT M' → F (q_oddsOf σ t o x) M') : pNl true X mX6_oddsOf 5 [pR 241, pI t, pI o, pI x] S M F := by
  have bad : ¬ (odC σ t o ∧ isO (lad σ.1 t).1 x) → wX6_oddsOf_36 X F S M := fun z => by
    have := k M (frT.refl _) ti.1
    unfold q_oddsOf at this
    rw [if_neg z] at this
    exact bX6_oddsOf_36 this
  refine eX6_oddsOf (bX6_oddsOf_0 (tw_isLadder ht ti.2.1 ok (fun a b => ⟨by constructor <;> decide, fun z => by omega, fun _ => ⟨a, ok.tl b, ?_⟩⟩) (fun h => ⟨by constructor <;> decide, fun _ => bad (fun z => h ⟨z.1.1, z.1.2.1⟩), fun z => by omega⟩)))
  refine tw_isOrderOf ti.2.1 ok a b ho (fun N h2 h7 e p q => ⟨by constructor <;> decide, fun z => by omega, fun _ => ⟨a, ok.tl b, ?_⟩⟩) (fun hno => ⟨by constructor <;> decide, fun _ => bad (fun z => hno z.1.2.2), fun z => by omega⟩)
  refine tw_isOrderOf ti.2.1 ok a b hx (fun N' _ _ e' p' q' => ⟨by constructor <;> decide, fun _ => ?_, fun z => by omega⟩) (fun hno => ⟨by constructor <;> decide, fun z => by omega, fun _ => bad (fun z => hno z.2)⟩)
  have eN : N' = N := by omega
  subst eN
  have hf := fac_le h7
  refine tw_spread ti ok a b e h2 h7 p q (fun M2 f2 t2 hw _ => ⟨p', by omega, ?_⟩)
  have := k M2 f2 (t2.T h2 h7)
  unfold q_oddsOf at this
  rw [if_pos ⟨⟨a, b, by rw [e]; exact isO_nat h2 h7 p q⟩, by rw [e]; exact isO_nat h2 h7 p' q'⟩, ← hw x p' q'] at this
  exact this
theorem tw_possible_op {F : Int → pM → Prop} {t o : Int} (ht : inR t) (ho : inR o) (ti : TI M σ) (ok : okS σ) (k : ∀ M', frT M M' → TT M' → F (q_possible σ t o) M') : pNi true X mX6_possible 5 [pR 241, pI t, pI o] S M F := by
  have bad : ¬ odC σ t o → F (-1) M := fun z => by
    have := k M (frT.refl _) ti.1
    unfold q_possible at this
    rw [if_neg z] at this
    exact this
  refine eX6_possible (bX6_possible_0 (tw_isLadder ht ti.2.1 ok (fun a b => ⟨by constructor <;> decide, fun z => by omega, fun _ => ⟨a, ok.tl b, ?_⟩⟩) (fun h => ⟨by constructor <;> decide, fun _ => bad (fun z => h ⟨z.1, z.2.1⟩), fun z => by omega⟩)))
  refine tw_isOrderOf ti.2.1 ok a b ho (fun N h2 h7 e p q => ⟨by constructor <;> decide, fun _ => ?_, fun z => by omega⟩) (fun hno => ⟨by constructor <;> decide, fun z => by omega, fun _ => bad (fun z => hno z.2.2)⟩)
  have hf := fac_le h7
  have fp := fac_pos N
  refine tw_spread ti ok a b e h2 h7 p q (fun M2 f2 t2 hw ow => ?_)
  have loop : ∀ (m c : Nat), (c : Int) + m = fac N → wX6_possible_35 X F (cnt (fun v => decide (0 < wyF σ t o v)) 0 c) c S M2 := by
    intro m
    induction m with
    | zero =>
      intro c q1
      refine bX6_possible_35 ?_
      rw [t2.2.1]
      refine ⟨by constructor <;> omega, by constructor <;> omega, fun _ => ?_, fun y => by omega⟩
      have := k M2 f2 (t2.T h2 h7)
      unfold q_possible at this
      rw [if_pos ⟨a, b, by rw [e]; exact isO_nat h2 h7 p q⟩, e, Int.toNat_natCast, show (fac N).toNat = c by omega] at this
      exact this
    | succ m ih =>
      intro c q1
      have nxt := ih (c + 1) (by omega)
      rw [cnt_snoc, Int.zero_add, Int.natCast_succ] at nxt
      have ob := ow.le (v := c) (by omega) (by omega)
      refine bX6_possible_35 ?_
      rw [t2.2.1, hw c (by omega) (by omega)]
      refine ⟨by constructor <;> omega, by constructor <;> omega, fun y => by omega, fun _ => ⟨by omega, by omega, by constructor <;> omega, fun y => bX6_possible_62 ?_, fun y => bX6_possible_62 ?_⟩⟩
      · rw [if_neg (by simpa using y)] at nxt
        exact nxt
      · rw [if_pos (by simpa using y)] at nxt
        exact nxt
  exact loop (fac N).toNat 0 (by omega)
end
