/-! ===== join, lots: the component ===== -/
set_option maxRecDepth 100000
theorem iushr1 {u : Int} : 0 ≤ iushr u 1 ∧ iushr u 1 < 2147483648 := by
  have key : ∀ a : Int32, ((a.toUInt32 >>> ((Int32.ofInt 1).toUInt32 &&& Int32.toUInt32 31)).toInt32).toInt = ((a.toBitVec.toNat / 2 : Nat) : Int) := by
    intro a
    rw [show ((Int32.ofInt 1).toUInt32 &&& Int32.toUInt32 31) = UInt32.ofNat 1 from rfl]
    have h1 : ((a.toUInt32 >>> UInt32.ofNat 1).toInt32).toBitVec.toNat = a.toBitVec.toNat / 2 := by
      show (a.toUInt32 >>> UInt32.ofNat 1).toNat = _
      rw [UInt32.toNat_shiftRight, Nat.shiftRight_eq_div_pow]
      rfl
    have hlt := a.toBitVec.isLt
    rw [← Int32.toInt_toBitVec, BitVec.toInt_eq_toNat_of_lt (by rw [h1]; omega), h1]
  unfold iushr
  rw [key]
  have hlt := (Int32.ofInt u).toBitVec.isLt
  omega
theorem irm_eq {u v : Int} (h1 : 0 ≤ u) (h2 : u < 2147483648) (h3 : 0 < v) (h4 : v < 2147483648) : irm u v = u % v := by
  have a1 := Int.ediv_nonneg h1 (Int.le_of_lt h3)
  have a2 := Int.ediv_le_self v h1
  have e : Int32.ofInt u / Int32.ofInt v = Int32.ofInt (u / v) := by
    rw [← Int32.toInt_inj, i32_toInt ⟨by omega, by omega⟩]
    exact idv_eq h1 h2 h3 h4
  have a3 : u - u / v * v = u % v := by have := Int.emod_add_mul_ediv u v; rw [Int.mul_comm] at this; omega
  have a4 := Int.emod_nonneg u (show v ≠ 0 by omega)
  have a5 := Int.emod_lt_of_pos u h3
  unfold irm
  rw [e, ← Int32.ofInt_mul, ← Int32.ofInt_sub, a3, i32_toInt ⟨by omega, by omega⟩]
def mixI (x y : Int) : Int := ixor (((ixor x y) * 1103515245) + 12345) (iushr (((ixor x y) * 1103515245) + 12345) 15)
def lotI (seed w m : Int) : Int := irm (iushr (mixI (mixI seed 9) w) 1) m
theorem lotI_bd {seed w m : Int} (h : 0 < m) (h7 : m ≤ 7) : 0 ≤ lotI seed w m ∧ lotI seed w m < m := by
  have b := iushr1 (u := mixI (mixI seed 9) w)
  unfold lotI
  rw [irm_eq b.1 b.2 h (by omega)]
  exact ⟨Int.emod_nonneg _ (by omega), Int.emod_lt_of_pos _ h⟩
def ltE (seed n g : Int) (i : Int) : elt := (if g ≠ 0 ∧ lotI seed (2 * i + 1) 2 = 1 then 1 else 0, lotI seed (2 * i) (n - 1), 0, 1)
def ltP (seed n g : Int) : Nat → List elt
  | 0 => []
  | i + 1 => ltP seed n g i ++ [ltE seed n g i]
theorem ltP_len {seed n g : Int} : ∀ i, (ltP seed n g i).length = i
  | 0 => rfl
  | i + 1 => by rw [ltP, List.length_append, ltP_len i]; rfl
theorem ltE_ok {seed n g i : Int} (h2 : 2 ≤ n) (h7 : n ≤ 7) : okE n (ltE seed n g i) ∧ (ltE seed n g i).1 ≠ 3 := by
  have b := lotI_bd (seed := seed) (w := 2 * i) (m := n - 1) (by omega) (by omega)
  unfold ltE
  by_cases c : g ≠ 0 ∧ lotI seed (2 * i + 1) 2 = 1
  · rw [if_pos c]
    exact ⟨⟨b.1, by show lotI seed (2 * i) (n - 1) + 2 ≤ n; omega, Or.inl ⟨Or.inr (Or.inl rfl), rfl, rfl⟩⟩, by show (1 : Int) ≠ 3; decide⟩
  · rw [if_neg c]
    exact ⟨⟨b.1, by show lotI seed (2 * i) (n - 1) + 2 ≤ n; omega, Or.inl ⟨Or.inl rfl, rfl, rfl⟩⟩, by show (0 : Int) ≠ 3; decide⟩
theorem ltP_ok {seed n g : Int} (h2 : 2 ≤ n) (h7 : n ≤ 7) : ∀ i, (∀ e ∈ ltP seed n g i, okE n e) ∧ mb (ltP seed n g i) = 0
  | 0 => ⟨fun e h => (by cases h), rfl⟩
  | i + 1 => by
    have ih := ltP_ok (seed := seed) (g := g) h2 h7 i
    have le := ltE_ok (seed := seed) (g := g) (i := i) h2 h7
    refine ⟨fun e h => ?_, ?_⟩
    · rw [ltP] at h
      rcases List.mem_append.1 h with w | w
      · exact ih.1 e w
      · rw [List.mem_singleton.1 w]; exact le.1
    · rw [ltP, mb_app, ih.2, mb, if_neg le.2]
      rfl
def loC (σ : sgm) (n m : Int) : Prop := σ.1.length ≠ 6 ∧ 2 ≤ n ∧ n ≤ 7 ∧ 0 ≤ m ∧ m ≤ 200
noncomputable def q_lots (σ : sgm) (n m : Int) : Int := @ite _ (loC σ n m) (Classical.propDecidable _) (σ.1.length : Int) (-1)
noncomputable def s_lots (σ : sgm) (seed n m g : Int) : sgm := @ite _ (loC σ n m) (Classical.propDecidable _) (s_add1 σ n (ltP seed n g m.toNat)) σ
theorem okl_lots {seed n m g : Int} (h2 : 2 ≤ n) (h7 : n ≤ 7) (m0 : 0 ≤ m) (m1 : m ≤ 200) : okL n (ltP seed n g m.toNat) := ⟨h2, h7, by rw [ltP_len]; omega, by rw [(ltP_ok h2 h7 _).2]; decide, (ltP_ok h2 h7 _).1⟩
theorem ok_lots {σ : sgm} {seed n m g : Int} (h : okS σ) : okS (s_lots σ seed n m g) := by
  unfold s_lots
  by_cases c : loC σ n m
  · rw [if_pos c]
    have := h.1
    exact ok_add1 h (by have := c.1; omega) (okl_lots c.2.1 c.2.2.1 c.2.2.2.1 c.2.2.2.2)
  · rw [if_neg c]; exact h
def jnC (σ : sgm) (t u : Int) : Prop := σ.1.length ≠ 6 ∧ 0 ≤ t ∧ t < σ.1.length ∧ 0 ≤ u ∧ u < σ.1.length ∧ (lad σ.1 t).1 = (lad σ.1 u).1 ∧ (lad σ.1 t).2.length + (lad σ.1 u).2.length ≤ 200 ∧ mb (lad σ.1 t).2 + mb (lad σ.1 u).2 ≤ 20
noncomputable def q_join (σ : sgm) (t u : Int) : Int := @ite _ (jnC σ t u) (Classical.propDecidable _) (σ.1.length : Int) (-1)
noncomputable def s_join (σ : sgm) (t u : Int) : sgm := @ite _ (jnC σ t u) (Classical.propDecidable _) (s_add1 σ (lad σ.1 t).1 ((lad σ.1 t).2 ++ (lad σ.1 u).2)) σ
theorem okl_join {n : Int} {A B : List elt} (ha : okL n A) (hb : okL n B) (h1 : A.length + B.length ≤ 200) (h2 : mb A + mb B ≤ 20) : okL n (A ++ B) := by
  refine ⟨ha.1, ha.2.1, by rw [List.length_append]; exact h1, by rw [mb_app]; exact h2, fun e h => ?_⟩
  rcases List.mem_append.1 h with w | w
  · exact ha.2.2.2.2 e w
  · exact hb.2.2.2.2 e w
theorem ok_join {σ : sgm} {t u : Int} (h : okS σ) : okS (s_join σ t u) := by
  unfold s_join
  by_cases c : jnC σ t u
  · rw [if_pos c]
    have := h.1
    obtain ⟨c1, c2, c3, c4, c5, c6, c7, c8⟩ := c
    have hb := h.at c4 c5
    rw [← c6] at hb
    exact ok_add1 h (by omega) (okl_join (h.at c2 c3) hb c7 c8)
  · rw [if_neg c]; exact h
section
variable {X : px} {S : List psh} {M : pM} {σ : sgm}
theorem c_lot {F : Int → pM → Prop} {seed w m : Int} (h : 0 < m) (h7 : m ≤ 7) (k : F (lotI seed w m) M) : pNi true X mX0_lot 2 [pI seed, pI w, pI m] S M F :=
  eX0_lot (bX0_lot_0 (eX0_mixed (bX0_mixed_0 (eX0_mixed (bX0_mixed_0 ⟨by constructor <;> omega, by omega, k⟩)))))
theorem tw_lot {F : Int → pM → Prop} {seed w m : Int} (h : 0 < m) (h7 : m ≤ 7) (k : F (lotI seed w m) M) : pNi true X mX6_lot 2 [pI seed, pI w, pI m] S M F :=
  eX6_lot (bX6_lot_0 (eX6_mixed (bX6_mixed_0 (eX6_mixed (bX6_mixed_0 ⟨by constructor <;> omega, by omega, k⟩)))))
theorem c_lots_op {F : Int → List psh → pM → Prop} {seed n m g : Int} (hn : inR n) (hm : inR m) (hg : inR g) (cp : CP S M σ) (ok : okS σ) (rm : RM S 1000 4000) (k : ∀ S' M', CP S' M' (s_lots σ seed n m g) → grw S S' 900 4000 → (∀ x, 241 ≤ x → x ≤ 287 → M' x = M x) → F (q_lots σ n m) S' M') : pAi true X mX0_lots 9 [pR 0, pI seed, pI n, pI m, pI g] S M F := by
  have h6 := ok.1
  have bad : ¬ loC σ n m → F (-1) S M := fun z => by
    have := k S M (by unfold s_lots; rw [if_neg z]; exact cp) ((grw.refl S).le (by decide) (by decide)) (fun _ _ _ => rfl)
    unfold q_lots at this
    rw [if_neg z] at this
    exact this
  have zl := cp.2.1.zl
  have rmo := rm
  obtain ⟨rm1, rm2⟩ := rm
  obtain ⟨l, cc, a0, a1, a2, a3, a4, a5, a6⟩ := cp.2.1
  refine eX0_lots (bX0_lots_0 (j_size a1 ?_))
  rw [a3]
  refine ⟨by constructor <;> omega, fun z => bad (fun w => by have := w.1; omega), fun z => ?_⟩
  refine c_within hn (by constructor <;> decide) (by constructor <;> decide) (fun n2 n7 => ⟨by constructor <;> decide, fun z => by omega, fun _ => ?_⟩) (fun h => ⟨by constructor <;> decide, fun _ => bad (fun w => by have := w.2; omega), fun z => by omega⟩)
  refine c_within hm (by constructor <;> decide) (by constructor <;> decide) (fun m0 m1 => ⟨by constructor <;> decide, fun _ => ⟨by omega, by omega, fun r12 S13 M14 e1 e2 e3 => ?_⟩, fun z => by omega⟩) (fun h => ⟨by constructor <;> decide, fun z => by omega, fun _ => bad (fun w => by have := w.2.2; omega)⟩)
  subst e1; subst e2; subst e3
  have C : loC σ n m := ⟨by omega, n2, n7, m0, m1⟩
  refine ⟨⟨_, shq_new⟩, s_new zl.2 (rmo.le (by decide) (by decide)) (fun M1 st1 f1 hp1 => ?_)⟩
  generalize hS1 : S ++ [((.inl 9, 3) : psh)] ++ [((.inl 4, 3) : psh)] = S1 at *
  have g1 : grw S S1 2 6 := by
    rw [← hS1]
    exact ((grw_one (S := S) (σ := (.inl 9, 3))).trans grw_one).le (by decide) (by decide)
  have loop : ∀ (d i : Nat) (S2 : List psh) (M2 : pM) (c2 : Int), (i : Int) + d = m → StB S.length S2 M2 S.length (ltP seed n g i) c2 i 0 → S <+: S2 → (S2.length : Int) ≤ S.length + 2 + i + c2 → (pu_hs S2 : Int) ≤ pu_hs S + 6 + i + 4 * c2 → (∀ x : Int, 0 ≤ x → x < S.length → M2 x = M x) → wX0_lots_47 X F seed n m g S.length i S2 M2 := by
    intro d
    induction d with
    | zero =>
      intro i S2 M2 c2 q1 st2 hp2 l2 h2 f2
      have sw := st2.w
      have c3 := sw.2.2.2.2.2.2.2.2.1
      have g2 : grw S S2 502 1406 := ⟨hp2, by omega, by omega⟩
      refine bX0_lots_47 ⟨by constructor <;> omega, by constructor <;> omega, fun _ => ?_, fun y => by omega⟩
      have okl := okl_lots (seed := seed) (g := g) n2 n7 m0 m1
      rw [show m.toNat = i by omega] at okl
      have st2' : StB S.length S2 M2 S.length (ltP seed n g i) c2 (ltP seed n g i).length (mb (ltP seed n g i)) := by rw [ltP_len, (ltP_ok n2 n7 i).2]; exact st2
      refine c_comes cp (by omega) hp2 f2 st2' okl ((rmo.grw g2).le (by omega) (by omega)) (fun S3 M3 cp3 g3 f3 hp3 => ?_)
      have := k S3 M3 (by unfold s_lots; rw [if_pos C, show m.toNat = i by omega]; exact cp3) ((g2.trans g3).le (by omega) (by omega)) f3
      unfold q_lots at this
      rw [if_pos C] at this
      exact this
    | succ d ih =>
      intro i S2 M2 c2 q1 st2 hp2 l2 h2 f2
      have sw := st2.w
      have c3 := sw.2.2.2.2.2.2.2.2.1
      have pl2 := pre_len hp2
      have le := ltE_ok (seed := seed) (g := g) (i := i) n2 n7
      have g109 : ∀ (S3 : List psh) (M3 : pM), S2 <+: S3 → (S3.length : Int) ≤ S2.length + 1 → (pu_hs S3 : Int) ≤ pu_hs S2 + 1 → StepR S3 M3 S2.length (ltE seed n g i) → (∀ x : Int, x < S2.length → M3 x = M2 x) → wX0_lots_109 X F seed n m g S.length i S.length S2.length S3 M3 := by
        intro S3 M3 hp3 l3 h3 st f3
        have st3 : StB S.length S3 M3 S.length (ltP seed n g i) c2 i 0 := st2.fr hp3 (fun x _ q => f3 x q)
        have pl3 := pre_len hp3
        refine bX0_lots_109 ⟨st3.w.2.2.2.1, s_add st3 (by rw [ltP_len]; omega) (by omega) (by omega) (by omega) st ⟨by omega, by omega⟩ (fun S4 M4 c4 st4 cc4 g4 f4 hp4 => ?_)⟩
        rw [ltP_len, if_pos (by omega), if_neg le.2] at st4
        have := ih (i + 1) S4 M4 c4 (by omega) ?_ (hp2.trans (hp3.trans g4.1)) (by have := g4.2.1; omega) (by have := g4.2.2; omega) (fun x p q => by rw [f4.2 x p q, f3 x (by omega)]; exact f2 x p q)
        · rw [Int.natCast_succ] at this
          exact this
        · rw [ltP]
          unfold cap5 at st4
          rw [show min ((i : Int) + 1) 100000 = ((i + 1 : Nat) : Int) by omega] at st4
          exact st4
      have g100 : (ltE seed n g i).1 = 0 → wX0_lots_100 X F seed n m g S.length i (lotI seed (2 * i) (n - 1)) S.length S2 M2 := by
        intro h0
        refine bX0_lots_100 ⟨by omega, by omega, fun r3 S4 M5 e1 e2 e3 => ?_⟩
        subst e1; subst e2; subst e3
        refine ⟨⟨_, shq_new⟩, n_rung (by omega) (fun M' st f => g109 _ M' (List.prefix_append _ _) (by simp) (by rw [hs_app]; omega) (st.ab (by rw [h0]) rfl (by simp)) (fun x hx => f x (by omega)))⟩
      refine bX0_lots_47 ⟨by constructor <;> omega, by constructor <;> omega, fun y => by omega, fun _ => c_lot (by omega) (by omega) ⟨hg, fun z => g100 ?_, fun z => c_lot (by decide) (by decide) ?_⟩⟩
      · unfold ltE
        simp [z]
      · have lb := lotI_bd (seed := seed) (w := 2 * (i : Int) + 1) (m := 2) (by decide) (by decide)
        refine ⟨by constructor <;> omega, fun w => g100 ?_, fun w => ⟨by omega, by omega, fun r14 S15 M16 e1 e2 e3 => ?_⟩⟩
        · unfold ltE
          simp [w]
        · subst e1; subst e2; subst e3
          refine ⟨⟨_, shq_new⟩, n_gate (by omega) (fun M' st f => g109 _ M' (List.prefix_append _ _) (by simp) (by rw [hs_app]; omega) (st.ab ?_ rfl (by simp)) (fun x hx => f x (by omega)))⟩
          unfold ltE
          simp [z, w]
  exact loop m.toNat 0 S1 M1 0 (by omega) (by simpa [ltP] using st1) g1.1 (by have := g1.2.1; omega) (by have := g1.2.2; omega) (fun x _ q => f1 x q)
theorem c_getU {b : Bool} {S1 : List psh} {M1 : pM} {Ls : List (Int × List elt)} {F : Int → pM → Prop} {t : Int} (h : CH S M Ls) (hp : S <+: S1) (f : ∀ x : Int, 0 ≤ x → x < S.length → M1 x = M x) (h1 : 0 ≤ t) (h2 : t < Ls.length) (k : ∀ r, LadR (M 19 1) S M r (lad Ls t).1 (lad Ls t).2 → F r M1) : pNr b X mJ2_get 3 [pR 19, pI t] S1 M1 F := by
  obtain ⟨l, c, a0, a1, a2, a3, a4, a5, _⟩ := h
  have al : AL S1 M1 19 l c := a1.fr hp (f 19 (by decide) (by omega)) (fun q => by
    rcases a1.2.2 with w | ⟨n, _, w, _⟩
    · exact absurd w.1 q
    · exact f _ (shq_lt w).1 (shq_lt w).2)
  exact j_get al h1 (by omega) (k _ (a5 t h1 h2))
theorem c_join_op {F : Int → List psh → pM → Prop} {t u : Int} (ht : inR t) (hu : inR u) (cp : CP S M σ) (ok : okS σ) (rm : RM S 1000 4000) (k : ∀ S' M', CP S' M' (s_join σ t u) → grw S S' 900 4000 → (∀ x, 241 ≤ x → x ≤ 287 → M' x = M x) → F (q_join σ t u) S' M') : pAi true X mX0_join 9 [pR 0, pI t, pI u] S M F := by
  have h6 := ok.1
  have bad : ¬ jnC σ t u → ∀ S' M', S <+: S' → (∀ x : Int, 0 ≤ x → x < S.length → M' x = M x) → grw S S' 900 4000 → F (-1) S' M' := fun z S' M' hp f g => by
    have zl := cp.2.1.zl
    have := k S' M' (by unfold s_join; rw [if_neg z]; exact cp.up hp f) g (fun x p q => f x (by omega) (by omega))
    unfold q_join at this
    rw [if_neg z] at this
    exact this
  have bad0 : ¬ jnC σ t u → F (-1) S M := fun z => bad z S M (List.prefix_refl _) (fun _ _ _ => rfl) ((grw.refl S).le (by decide) (by decide))
  have zl := cp.2.1.zl
  have rmo := rm
  obtain ⟨rm1, rm2⟩ := rm
  have ch := cp.2.1
  obtain ⟨l, cc, a0, a1, a2, a3, a4, a5, a6⟩ := cp.2.1
  refine eX0_join (bX0_join_0 (j_size a1 ?_))
  rw [a3]
  refine ⟨by constructor <;> omega, fun z => bad0 (fun w => by have := w.1; omega), fun z => ?_⟩
  refine c_isLadder ch ht (fun a b => ⟨by constructor <;> decide, fun z => by omega, fun _ => ?_⟩) (fun h => ⟨by constructor <;> decide, fun _ => bad0 (fun w => h ⟨w.2.1, w.2.2.1⟩), fun z => by omega⟩)
  refine c_isLadder ch hu (fun a' b' => ⟨by constructor <;> decide, fun z => by omega, fun _ => ?_⟩) (fun h => ⟨by constructor <;> decide, fun _ => bad0 (fun w => h ⟨w.2.2.2.1, w.2.2.2.2.1⟩), fun z => by omega⟩)
  have okt := ok.at a b
  have oku := ok.at a' b'
  have t1 := okt.1
  have t2 := okt.2.1
  have u1 := oku.1
  have u2 := oku.2.1
  refine c_get ch a b (fun r lr _ hs => ⟨hs, hs, c_get ch a' b' (fun r' lr' _ hs' => ?_)⟩)
  rw [lr.w.2.2.2.1, lr'.w.2.2.2.1]
  refine ⟨hs', hs', by constructor <;> omega, by constructor <;> omega, fun eq => ⟨by omega, by omega, fun r22 S23 M24 e1 e2 e3 => ?_⟩, fun ne => bad0 (fun w => ne w.2.2.2.2.2.1)⟩
  subst e1; subst e2; subst e3
  refine ⟨⟨_, shq_new⟩, s_new zl.2 (rmo.le (by decide) (by decide)) (fun M1 st1 f1 hp1 => ?_)⟩
  generalize hS1 : S ++ [((.inl 9, 3) : psh)] ++ [((.inl 4, 3) : psh)] = S1 at *
  have g1 : grw S S1 2 6 := by
    rw [← hS1]
    exact ((grw_one (S := S) (σ := (.inl 9, 3))).trans grw_one).le (by decide) (by decide)
  have cp1 := cp.up g1.1 (fun x _ q => f1 x q)
  have hmt := mb_bd (lad σ.1 t).2
  have hmu := mb_bd (lad σ.1 u).2
  have apl : ∀ (S2 : List psh) (M2 : pM) (q n' : Int) (Lx : List elt) (cq sz mbs c2 : Int) (L2 : List elt), S <+: S2 → (∀ x : Int, 0 ≤ x → x < S.length → M2 x = M x) → LadR (M 19 1) S M q n' Lx → StB S.length S2 M2 S.length L2 c2 sz mbs → apS M2 (M q 1) S.length := by
    intro S2 M2 q n' Lx cq sz mbs c2 L2 hp2 f2 lq st2
    obtain ⟨b1, b2, b3, co, ll, d1, d2, d3, d4, d5, d6, d7, d8, d9⟩ := lq
    obtain ⟨l2, e0, e1, e2, e3, e4, e5, _⟩ := st2
    have so := (shq_lt d2).2
    have sa := (shq_lt d4.1).2
    have eo := f2 (M q 1) (by omega) so
    have ea := f2 (M (M q 1) 0) (by omega) sa
    refine ⟨by omega, by rw [eo]; omega, ?_⟩
    rw [eo, ea]
    rcases d4.2.2 with w | ⟨nn, _, w, _⟩
    · exact Or.inl w.1
    · have sl := (shq_lt w).2
      have s0 := (shq_lt w).1
      refine Or.inr ?_
      rcases e5 with y | y
      · omega
      · omega
  have stm : ∀ (S2 : List psh) (M2 : pM) (q n' : Int) (Lx : List elt), S <+: S2 → (∀ x : Int, 0 ≤ x → x < S.length → M2 x = M x) → LadR (M 19 1) S M q n' Lx → shq S2 q = some (.inl 10, 2) ∧ M2 q 1 = M q 1 ∧ M2 q 0 = n' ∧ ∃ co, StB 288 S2 M2 (M q 1) Lx co Lx.length (mb Lx) := by
    intro S2 M2 q n' Lx hp2 f2 lq
    obtain ⟨b1, b2, b3, co, sts⟩ := lq
    have eq := f2 q (by omega) (shq_lt b2).2
    exact ⟨shq_pre hp2 b2, by rw [eq], by rw [eq]; exact b3, co, sts.B.fr hp2 (fun x p q => f2 x (by omega) q)⟩
  have hlt := okt.2.2.1
  have hlu := oku.2.2.1
  refine c_getU ch g1.1 (fun x _ q => f1 x q) a b (fun q lq => ?_)
  obtain ⟨v1, v2, v3, co, v4⟩ := stm S1 M1 q _ _ g1.1 (fun x _ q => f1 x q) lq
  rw [v2]
  refine ⟨v1, v1, st1.w.2.2.2.1, s_addAll st1 v4 (apl S1 M1 q _ _ 0 _ _ _ _ g1.1 (fun x _ q => f1 x q) lq st1) (by simp) hlt (by have := pre_len g1.1; omega) (by decide) (by decide) (by omega) (by omega) (by decide) (by decide) ((rmo.grw g1).le (by decide) (by decide)) (fun S2 M2 c2 st2 _ cc2 g2 f2 hp2 => ?_)⟩
  have c2b := st2.w.2.2.2.2.2.2.2.2.1
  have f02 : ∀ x : Int, 0 ≤ x → x < S.length → M2 x = M x := fun x p q => by rw [f2.2 x p q]; exact f1 x q
  have g02 := g1.trans g2
  refine c_getU ch g02.1 f02 a' b' (fun q' lq' => ?_)
  obtain ⟨w1, w2, w3, co', w4⟩ := stm S2 M2 q' _ _ g02.1 f02 lq'
  rw [w2]
  have L1 : ([] ++ rep (lad σ.1 t).2 (1 : Int).toNat).take 200 = (lad σ.1 t).2 := by
    show (([] : List elt) ++ ((lad σ.1 t).2 ++ [])).take 200 = _
    rw [List.nil_append, List.append_nil, List.take_of_length_le hlt]
  rw [L1] at st2
  have sz1 : cap5 (0 + ((lad σ.1 t).2.length : Int) * 1) = (lad σ.1 t).2.length := by unfold cap5; omega
  have mb1 : cap5 (0 + mb (lad σ.1 t).2 * 1) = mb (lad σ.1 t).2 := by unfold cap5; omega
  rw [sz1, mb1] at st2
  refine ⟨w1, w1, st2.w.2.2.2.1, s_addAll st2 w4 (apl S2 M2 q' _ _ 0 _ _ _ _ g02.1 f02 lq' st2) hlt hlu (by have := pre_len g02.1; omega) (by omega) (by omega) (by omega) (by omega) (by decide) (by decide) ((rmo.grw g02).le (by omega) (by omega)) (fun S3 M3 c3 st3 _ cc3 g3 f3 hp3 => ?_)⟩
  have c3b := st3.w.2.2.2.2.2.2.2.2.1
  have f03 : ∀ x : Int, 0 ≤ x → x < S.length → M3 x = M x := fun x p q => by rw [f3.2 x p q]; exact f02 x p q
  have g03 := g02.trans g3
  have g03' : grw S S3 302 1206 := g03.le (by omega) (by omega)
  have sz2 : cap5 (((lad σ.1 t).2.length : Int) + ((lad σ.1 u).2.length : Int) * 1) = ((lad σ.1 t).2.length : Int) + (lad σ.1 u).2.length := by unfold cap5; omega
  have mb2 : cap5 (mb (lad σ.1 t).2 + mb (lad σ.1 u).2 * 1) = mb (lad σ.1 t).2 + mb (lad σ.1 u).2 := by unfold cap5; omega
  rw [sz2, mb2] at st3
  have sw3 := st3.w
  refine ⟨sw3.2.2.2.1, eX8_isLong (bX8_isLong_0 ?_)⟩
  rw [sw3.2.2.2.2.2.1, sw3.2.2.2.2.2.2.1]
  refine ⟨sw3.2.2.2.1, by constructor <;> omega, fun long => ⟨by constructor <;> decide, fun z => by omega, fun _ => bad (fun w => by have := w.2.2.2.2.2.2.1; omega) S3 M3 g03.1 f03 (g03'.le (by decide) (by decide))⟩, fun fit => ⟨sw3.2.2.2.1, by constructor <;> omega, fun few => ⟨by constructor <;> decide, fun _ => ?_, fun z => absurd rfl z⟩, fun many => ⟨by constructor <;> decide, fun z => by omega, fun _ => bad (fun w => by have := w.2.2.2.2.2.2.2; omega) S3 M3 g03.1 f03 (g03'.le (by decide) (by decide))⟩⟩⟩
  have C : jnC σ t u := ⟨by omega, a, b, a', b', eq, by omega, few⟩
  refine c_getU ch g03.1 f03 a b (fun q2 lq2 => ?_)
  obtain ⟨x1, x2, x3, co2, x4⟩ := stm S3 M3 q2 _ _ g03.1 f03 lq2
  rw [x3]
  have L2 : ((lad σ.1 t).2 ++ rep (lad σ.1 u).2 (1 : Int).toNat).take 200 = (lad σ.1 t).2 ++ (lad σ.1 u).2 := by
    show ((lad σ.1 t).2 ++ ((lad σ.1 u).2 ++ [])).take 200 = _
    rw [List.append_nil, List.take_of_length_le (by rw [List.length_append]; omega)]
  rw [L2] at st3
  have oku' := oku
  rw [← eq] at oku'
  have okj := okl_join okt oku' (by omega) few
  have st3' : StB S.length S3 M3 S.length ((lad σ.1 t).2 ++ (lad σ.1 u).2) c3 ((lad σ.1 t).2 ++ (lad σ.1 u).2).length (mb ((lad σ.1 t).2 ++ (lad σ.1 u).2)) := by
    rw [mb_app, List.length_append, Int.natCast_add]
    exact st3
  refine ⟨x1, x1, c_comes cp (by omega) g03.1 f03 st3' okj ((rmo.grw g03').le (by omega) (by omega)) (fun S4 M4 cp4 g4 f4 hp4 => ?_)⟩
  have := k S4 M4 (by unfold s_join; rw [if_pos C]; exact cp4) ((g03'.trans g4).le (by omega) (by omega)) f4
  unfold q_join at this
  rw [if_pos C] at this
  exact this
end
