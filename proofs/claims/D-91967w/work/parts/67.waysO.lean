/-! ===== ways, odds, oddsOf, possible: the component's operations ===== -/
set_option maxRecDepth 100000
section
variable {X : px} {S : List psh} {M : pM} {σ : sgm}
theorem c_ways_op {F : Int → pM → Prop} {t : Int} (ht : inR t) (cp : CP S M σ) (k : F (q_ways σ t) M) : pNl true X mX0_ways 4 [pR 0, pI t] S M F := by
  refine eX0_ways (bX0_ways_0 (c_isLadder cp.2.1 ht (fun a b => ⟨by constructor <;> decide, fun _ => ?_, fun z => by omega⟩) (fun h => ⟨by constructor <;> decide, fun z => by omega, fun _ => ?_⟩)))
  · unfold q_ways at k
    rw [if_pos ⟨a, b⟩] at k
    have okl := cp.2.1.ok a b
    have hl := okl.2.2.1
    have loop : ∀ (s : List elt) (i x : Int), (lad σ.1 t).2.drop i.toNat = s → 0 ≤ i → i ≤ (lad σ.1 t).2.length → F (x * pr s) M → wX0_ways_17 X F t x i S M := by
      intro s
      induction s with
      | nil =>
        intro i x q0 q1 q2 k
        have := drop_nil q0 q1
        rw [pr, Int.mul_one] at k
        exact bX0_ways_17 (c_get cp.2.1 a b (fun r lr ok hs => ⟨hs, hs, lr.w.2.1, lr.w.2.2.1, l_lsize lr ⟨by constructor <;> omega, by constructor <;> omega, fun _ => k, fun y => by omega⟩⟩))
      | cons e s ih =>
        intro i x q0 q1 q2 k
        obtain ⟨e1, e2, e3⟩ := drop_cons q0 q1
        have he := okl.at q1 e3
        rw [e1] at he
        have wy := wy_ok he
        refine bX0_ways_17 (c_get cp.2.1 a b (fun r lr ok hs => ⟨hs, hs, lr.w.2.1, lr.w.2.2.1, l_lsize lr ⟨by constructor <;> omega, by constructor <;> omega, fun y => by omega, fun _ => c_get cp.2.1 a b (fun r lr ok hs => ⟨hs, hs, lr.w.2.1, lr.w.2.2.1, l_get lr q1 e3 (fun q st => ?_)⟩)⟩⟩))
        rw [e1] at st
        rw [pr, ← Int.mul_assoc] at k
        refine ⟨st.is, st.is, fun y => ⟨y, y, ?_⟩, fun y => ?_⟩
        · obtain ⟨_, _, c | c | c | c⟩ := st
          · rw [c.2] at y; cases y
          · rw [c.2] at y; cases y
          · rw [c.2] at y; cases y
          · have hb : M q 2 = wyB e := by unfold wyB; rw [if_pos c.1, c.2.2.2]
            rw [hb]
            exact ⟨by constructor <;> omega, bX0_ways_89 (ih (i + 1) _ e2 (by omega) (by omega) k)⟩
        · have h3 : e.1 ≠ 3 := by
            obtain ⟨_, _, c | c | c | c⟩ := st
            · omega
            · omega
            · omega
            · exact absurd c.2.1 y
          have hb : wyB e = 1 := by unfold wyB; rw [if_neg h3]
          rw [hb, Int.mul_one] at k
          exact bX0_ways_89 (ih (i + 1) _ e2 (by omega) (by omega) k)
    exact loop _ 0 1 rfl (by omega) (by omega) (by rw [Int.one_mul]; exact k)
  · unfold q_ways at k
    rw [if_neg h] at k
    exact k
theorem c_isNumber {F : Int → pM → Prop} {Ls : List (Int × List elt)} {t x : Int} (ht : inR t) (hx : inR x) (ch : CH S M Ls) (k1 : 0 ≤ t → t < Ls.length → 0 ≤ x → x < (lad Ls t).1 → F 1 M) (k0 : ¬ (0 ≤ t ∧ t < Ls.length ∧ 0 ≤ x ∧ x < (lad Ls t).1) → F 0 M) : pNi true X mX0_isNumber 4 [pR 0, pI t, pI x] S M F := by
  refine eX0_isNumber (bX0_isNumber_0 (c_isLadder ch ht (fun a b => ⟨by constructor <;> decide, fun z => by omega, fun _ => c_get ch a b (fun r lr ok hs => ⟨hs, hs, ?_⟩)⟩) (fun h => ⟨by constructor <;> decide, fun _ => k0 (by omega), fun z => by omega⟩)))
  have := ok.1
  have := ok.2.1
  rw [lr.w.2.2.2.1]
  exact c_within hx (by constructor <;> decide) (by constructor <;> omega) (fun c d => ⟨by constructor <;> decide, fun z => by omega, fun _ => k1 a b c (by omega)⟩) (fun z => ⟨by constructor <;> decide, fun _ => k0 (by omega), fun z => by omega⟩)
/-- the way to the spread ways -/
theorem c_spr {F : pM → Prop} {t o r : Int} {N : Nat} {M1 : pM} (cp : CP S M σ) (f1 : ∀ x, x < 1 ∨ 4 < x → M1 x = M x) (t1 : TabC N M1) (h2 : 2 ≤ N) (h7 : N ≤ 7) (a : 0 ≤ t) (b : t < σ.1.length) (e : (lad σ.1 t).1 = N) (p : 0 ≤ o) (q : o < fac N) (lr : LadR (M1 19 1) S M1 r (lad σ.1 t).1 (lad σ.1 t).2) (k : ∀ M', frC M M' → SC M' → TabC N M' → pu_perm <+: S → (M' 0 15 = 23 ∨ M' 0 15 = 24) → (∀ v, 0 ≤ v → v < fac N → M' (M' 0 15) v = wyF σ t o v) → okW N (wyF σ t o) 1099511627776 → F M') : pNv true X mX0_spreads 4 [pR 0, pR r, pI o] S M1 F := by
  have ok := cp.2.1.ok a b
  rw [e] at lr ok
  have s1 := cp.1.of14 f1 (t1.C h2 h7)
  have ch1 := fr14_CH cp.2.1 f1
  refine c_spreads h7 ch1.z t1 s1.2.2.1 lr ok p q (fun M' f' nw' hp h' => ?_)
  have ew : wyF σ t o = spL N (lad σ.1 t).2 (w1 o) := by unfold wyF; rw [e, Int.toNat_natCast]
  exact k M' ((fr14_C f1).trans f'.C) (f'.SC s1 nw') (f'.tab t1) hp (by unfold NW at nw'; omega) (by rw [ew]; exact h') (by rw [ew]; exact spL_20 ok p q)
theorem c_odds_op {F : Int → pM → Prop} {t o x l : Int} (ht : inR t) (ho : inR o) (hx : inR x) (hl : inR l) (cp : CP S M σ) (k : ∀ M', frC M M' → SC M' → F (q_odds σ t o x l) M') : pNl true X mX0_odds 6 [pR 0, pI t, pI o, pI x, pI l] S M F := by
  have bad : ∀ M', frC M M' → SC M' → ¬ (odC σ t o ∧ 0 ≤ x ∧ x < (lad σ.1 t).1 ∧ 0 ≤ l ∧ l < (lad σ.1 t).1) → F (-1) M' := fun M' f s z => by
    have := k M' f s
    unfold q_odds at this
    rw [if_neg z] at this
    exact this
  refine eX0_odds (bX0_odds_0 (c_isOrderOf ht ho cp.1 cp.2.1 (fun N a b e h2 h7 p q M1 f1 t1 => ⟨by constructor <;> decide, fun z => by omega, fun _ => ?_⟩) (fun hno M1 f1 t1 => ⟨by constructor <;> decide, fun _ => bX0_odds_28 (bad M1 (fr14_C f1) (cp.1.of14 f1 t1) (fun z => hno z.1)), fun z => by omega⟩)))
  have ch1 := fr14_CH cp.2.1 f1
  have s1 := cp.1.of14 f1 (t1.C h2 h7)
  have hf := fac_le h7
  have fp := fac_pos N
  refine c_isNumber ht hx ch1 (fun _ _ x0 x1 => ⟨by constructor <;> decide, fun z => by omega, fun _ => ?_⟩) (fun h => ⟨by constructor <;> decide, fun _ => bX0_odds_28 (bad M1 (fr14_C f1) s1 (fun z => h ⟨a, b, z.2.1, z.2.2.1⟩)), fun z => by omega⟩)
  refine c_isNumber ht hl ch1 (fun _ _ l0 l1 => ⟨by constructor <;> decide, fun _ => ?_, fun z => by omega⟩) (fun h => ⟨by constructor <;> decide, fun z => by omega, fun _ => bX0_odds_28 (bad M1 (fr14_C f1) s1 (fun z => h ⟨a, b, z.2.2.2⟩))⟩)
  refine c_get ch1 a b (fun r lr ok hs => ⟨hs, c_spr cp f1 t1 h2 h7 a b e p q lr (fun M2 f2 s2 t2 hp h15 hw _ => ?_)⟩)
  have loop : ∀ (m c : Nat), (c : Int) + m = fac N → wX0_odds_54 X F x l (sm (fun v => if dg N v l = x then wyF σ t o v else 0) 0 c) c S M2 := by
    intro m
    induction m with
    | zero =>
      intro c q1
      refine bX0_odds_54 ?_
      rw [t2.2.1]
      refine ⟨by constructor <;> omega, by constructor <;> omega, fun _ => ?_, fun y => by omega⟩
      have := k M2 f2 s2
      unfold q_odds smD at this
      rw [if_pos ⟨⟨a, b, by rw [e]; exact isO_nat h2 h7 p q⟩, x0, x1, l0, l1⟩, e, Int.toNat_natCast, show (fac N).toNat = c by omega] at this
      exact this
    | succ m ih =>
      intro c q1
      have nxt := ih (c + 1) (by omega)
      rw [sm_snoc, Int.zero_add, Int.natCast_succ] at nxt
      have d1 := dg_rng (o := c) h7 l0 (by omega)
      refine bX0_odds_54 ?_
      rw [t2.2.1]
      refine ⟨by constructor <;> omega, by constructor <;> omega, fun y => by omega, fun _ => c_digit (by omega) (by omega) l0 (by omega) ?_⟩
      rw [t2.row (by omega) (by omega) l l0 (by omega)]
      refine ⟨by constructor <;> omega, hx, fun y => bX0_odds_93 ?_, fun y => ⟨5040, sh_w hp h15, by omega, by omega, bX0_odds_93 ?_⟩⟩
      · rw [if_neg y, Int.add_zero] at nxt
        exact nxt
      · rw [if_pos y] at nxt
        rw [hw c (by omega) (by omega)]
        exact nxt
  exact loop (fac N).toNat 0 (by omega)
theorem c_oddsOf_op {F : Int → pM → Prop} {t o x : Int} (ht : inR t) (ho : inR o) (hx : inR x) (cp : CP S M σ) (k : ∀ M', frC M M' → SC M' → F (q_oddsOf σ t o x) M') : pNl true X mX0_oddsOf 6 [pR 0, pI t, pI o, pI x] S M F := by
  have bad : ∀ M', frC M M' → SC M' → ¬ (odC σ t o ∧ isO (lad σ.1 t).1 x) → F (-1) M' := fun M' f s z => by
    have := k M' f s
    unfold q_oddsOf at this
    rw [if_neg z] at this
    exact this
  refine eX0_oddsOf (bX0_oddsOf_0 (c_isOrderOf ht ho cp.1 cp.2.1 (fun N a b e h2 h7 p q M1 f1 t1 => ⟨by constructor <;> decide, fun z => by omega, fun _ => ?_⟩) (fun hno M1 f1 t1 => ⟨by constructor <;> decide, fun _ => bX0_oddsOf_18 (bad M1 (fr14_C f1) (cp.1.of14 f1 t1) (fun z => hno z.1)), fun z => by omega⟩)))
  have ch1 := fr14_CH cp.2.1 f1
  have s1 := cp.1.of14 f1 (t1.C h2 h7)
  have hf := fac_le h7
  refine c_isOrderOf ht hx s1 ch1 (fun N' _ _ e' h2' h7' p' q' M2 f2 t2 => ⟨by constructor <;> decide, fun _ => ?_, fun z => by omega⟩) (fun hno M2 f2 t2 => ⟨by constructor <;> decide, fun z => by omega, fun _ => bX0_oddsOf_18 (bad M2 ((fr14_C f1).trans (fr14_C f2)) (s1.of14 f2 t2) (fun z => hno ⟨a, b, z.2⟩))⟩)
  have f12 : ∀ y, y < 1 ∨ 4 < y → M2 y = M y := fun y hy => (f2 y hy).trans (f1 y hy)
  have eN : N' = N := by omega
  subst eN
  refine c_get (fr14_CH ch1 f2) a b (fun r lr ok hs => ⟨hs, c_spr cp f12 t2 h2 h7 a b e p q lr (fun M3 f3 s3 t3 hp h15 hw _ => ⟨5040, sh_w hp h15, p', by omega, ?_⟩)⟩)
  have := k M3 f3 s3
  unfold q_oddsOf at this
  rw [if_pos ⟨⟨a, b, by rw [e]; exact isO_nat h2 h7 p q⟩, by rw [e]; exact isO_nat h2 h7 p' q'⟩, ← hw x p' q'] at this
  exact this
theorem c_possible_op {F : Int → pM → Prop} {t o : Int} (ht : inR t) (ho : inR o) (cp : CP S M σ) (k : ∀ M', frC M M' → SC M' → F (q_possible σ t o) M') : pNi true X mX0_possible 6 [pR 0, pI t, pI o] S M F := by
  refine eX0_possible (bX0_possible_0 (c_isOrderOf ht ho cp.1 cp.2.1 (fun N a b e h2 h7 p q M1 f1 t1 => ⟨by constructor <;> decide, fun _ => ?_, fun z => by omega⟩) (fun hno M1 f1 t1 => ⟨by constructor <;> decide, fun z => by omega, fun _ => ?_⟩)))
  · have ch1 := fr14_CH cp.2.1 f1
    have hf := fac_le h7
    have fp := fac_pos N
    refine c_get ch1 a b (fun r lr ok hs => ⟨hs, c_spr cp f1 t1 h2 h7 a b e p q lr (fun M2 f2 s2 t2 hp h15 hw ow => ?_)⟩)
    have loop : ∀ (m c : Nat), (c : Int) + m = fac N → wX0_possible_32 X F (cnt (fun v => decide (0 < wyF σ t o v)) 0 c) c S M2 := by
      intro m
      induction m with
      | zero =>
        intro c q1
        refine bX0_possible_32 ?_
        rw [t2.2.1]
        refine ⟨by constructor <;> omega, by constructor <;> omega, fun _ => ?_, fun y => by omega⟩
        have := k M2 f2 s2
        unfold q_possible at this
        rw [if_pos ⟨a, b, by rw [e]; exact isO_nat h2 h7 p q⟩, e, Int.toNat_natCast, show (fac N).toNat = c by omega] at this
        exact this
      | succ m ih =>
        intro c q1
        have nxt := ih (c + 1) (by omega)
        rw [cnt_snoc, Int.zero_add, Int.natCast_succ] at nxt
        have ob := ow.le (v := c) (by omega) (by omega)
        refine bX0_possible_32 ?_
        rw [t2.2.1, hw c (by omega) (by omega)]
        refine ⟨by constructor <;> omega, by constructor <;> omega, fun y => by omega, fun _ => ⟨5040, sh_w hp h15, by omega, by omega, by constructor <;> omega, fun y => bX0_possible_59 ?_, fun y => bX0_possible_59 ?_⟩⟩
        · rw [if_neg (by simpa using y), Int.add_zero] at nxt
          exact nxt
        · rw [if_pos (by simpa using y)] at nxt
          exact nxt
    exact loop (fac N).toNat 0 (by omega)
  · have := k M1 (fr14_C f1) (cp.1.of14 f1 t1)
    unfold q_possible odC at this
    rw [if_neg hno] at this
    exact this
end
