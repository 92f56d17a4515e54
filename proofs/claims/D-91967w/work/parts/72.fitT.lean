/-! ===== fitting, likely, next: the twin ===== -/
set_option maxRecDepth 100000
section
variable {X : px} {S : List psh} {M : pM} {σ : sgm}
theorem TLg.fr {M M' : pM} {Lg : List (Int × Int × Int)} (h : TLg M Lg) (f : frT M M') : TLg M' Lg := by
  unfold TLg
  rw [f.2 7 (by decide), f.1 248 (by decide), f.1 249 (by decide), f.1 250 (by decide), f.1 251 (by decide)]
  exact h
theorem tw_isVoid {F : Int → pM → Prop} {g j : Int} (lg : TLg M σ.2.1) (ok : okS σ) (g0 : 0 ≤ g) (g1 : g < j) (j1 : j ≤ σ.2.1.length) (k1 : vd σ.2.1 j g → F 1 M) (k0 : ¬ vd σ.2.1 j g → F 0 M) : pNi true X mX6_isVoid 1 [pR 241, pI g, pI j] S M F := by
  have h40 := ok.2.2.1.1
  have loop : ∀ (m : Nat) (i : Int), i + m = j → g < i → (∀ q, 0 ≤ q → q < i → ¬ ((lgc σ.2.1 q).1 = -1 ∧ (lgc σ.2.1 q).2.1 = g)) → wX6_isVoid_4 X F g j i S M := by
    intro m
    induction m with
    | zero =>
      intro i q1 q2 h
      exact bX6_isVoid_4 ⟨by constructor <;> omega, by constructor <;> omega, fun _ => k0 (fun z => by obtain ⟨y, y0, y1, y2, y3⟩ := z; exact h y y0 (by omega) ⟨y2, y3⟩), fun z => by omega⟩
    | succ m ih =>
      intro i q1 q2 h
      obtain ⟨l1, l2, l3⟩ := lg.2 i (by omega) (by omega)
      have okg := ok.2.2.1.2 i (by omega) (by omega)
      have v : ((lgc σ.2.1 i).1 = -1 ∧ M 251 i = (lgc σ.2.1 i).2.1 ∧ 0 ≤ M 251 i ∧ M 251 i < 40) ∨ ((lgc σ.2.1 i).1 ≠ -1 ∧ M 251 i = -1) := by
        rcases okg with w | w
        · left
          have := l3 w.1
          omega
        · right
          exact ⟨by omega, (l2 (by omega)).2.2⟩
      refine bX6_isVoid_4 ⟨by constructor <;> omega, by constructor <;> omega, fun z => by omega, fun _ => ⟨by omega, by omega, by constructor <;> omega, by constructor <;> omega, fun ne => ih (i + 1) (by omega) (by omega) (fun q p p' => ?_), fun eq => k1 ⟨i, by omega, by omega, by omega, by omega⟩⟩⟩
      by_cases d : q = i
      · subst d
        omega
      · exact h q p (by omega)
  refine eX6_isVoid (bX6_isVoid_0 (loop (j - (g + 1)).toNat (g + 1) (by omega) (by omega) (fun q p p' z => ?_)))
  have okg := ok.2.2.1.2 q p (by omega)
  omega
theorem tw_isFit {F : Int → pM → Prop} {N : Nat} {t v j : Int} (lg : TLg M σ.2.1) (ok : okS σ) (e : (lad σ.1 t).1 = N) (h7 : N ≤ 7) (a : 0 ≤ t) (b : t < σ.1.length) (tb : TabT N M) (v0 : 0 ≤ v) (v1 : v < fac N) (j0 : 0 ≤ j) (j1 : j ≤ σ.2.1.length) (k1 : ftP N σ.2.1 t j v j → F 1 M) (k0 : ¬ ftP N σ.2.1 t j v j → F 0 M) : pNi true X mX6_isFit 2 [pR 241, pI t, pI v, pI j] S M F := by
  have h40 := ok.2.2.1.1
  have hf := fac_le h7
  have h6 := ok.tl b
  have hL6 := ok.1
  have loop : ∀ (m : Nat) (i : Int), i + m = j → 0 ≤ i → ftP N σ.2.1 t j v i → wX6_isFit_3 X F t v j i S M := by
    intro m
    induction m with
    | zero =>
      intro i q1 q2 h
      have ei : i = j := by omega
      subst ei
      exact bX6_isFit_3 ⟨by constructor <;> omega, by constructor <;> omega, fun _ => k1 h, fun z => by omega⟩
    | succ m ih =>
      intro i q1 q2 h
      obtain ⟨l1, l2, l3⟩ := lg.2 i q2 (by omega)
      have okg := ok.2.2.1.2 i q2 (by omega)
      have nxt : ((lgc σ.2.1 i).1 = t → ¬ vd σ.2.1 j i → dg N v (lgc σ.2.1 i).2.2 = (lgc σ.2.1 i).2.1) → wX6_isFit_62 X F t v j i S M := fun hh => bX6_isFit_62 (ih (i + 1) (by omega) (by omega) (fun q p p' => by
        by_cases d : q = i
        · subst d; exact hh
        · exact h q p (by omega)))
      refine bX6_isFit_3 ?_
      rw [l1]
      refine ⟨by constructor <;> omega, by constructor <;> omega, fun z => by omega, fun _ => ⟨q2, by omega, by constructor <;> omega, by constructor <;> omega, fun ne => nxt (fun z => absurd z ne), fun eq => ?_⟩⟩
      obtain ⟨l4, l5, l6⟩ := l2 (by omega)
      rw [eq, e] at okg
      have dgb := dg_rng (o := v) h7 (show 0 ≤ (lgc σ.2.1 i).2.2 by omega) (show (lgc σ.2.1 i).2.2 < N by omega)
      refine tw_isVoid lg ok q2 (by omega) j1 (fun vv => ⟨by constructor <;> decide, fun z => by omega, fun _ => nxt (fun _ z => absurd vv z)⟩) (fun nv => ⟨by constructor <;> decide, fun _ => ?_, fun z => by omega⟩)
      rw [l4, l5, tb.row v0 v1 _ (by omega) (by omega)]
      exact ⟨q2, by omega, by omega, by omega, q2, by omega, by constructor <;> omega, by constructor <;> omega, fun z => nxt (fun _ _ => z), fun z => k0 (fun y => z (y i q2 (by omega) eq nv))⟩
  exact eX6_isFit (bX6_isFit_0 (loop j.toNat 0 (by omega) (by omega) (fun q p p' => by omega)))
theorem tw_isKnown {F : Int → pM → Prop} {t j : Int} (ht : inR t) (hj : inR j) (ti : TI M σ) (ok : okS σ) (k1 : knC σ t j → F 1 M) (k0 : ¬ knC σ t j → F 0 M) : pNi true X mX6_isKnown 2 [pR 241, pI t, pI j] S M F := by
  have h40 := ok.2.2.1.1
  refine eX6_isKnown (bX6_isKnown_0 (tw_isLadder ht ti.2.1 ok (fun a b => ⟨by constructor <;> decide, fun z => by omega, fun _ => ?_⟩) (fun h => ⟨by constructor <;> decide, fun _ => k0 (fun z => h ⟨z.1, z.2.1⟩), fun z => by omega⟩)))
  rw [ti.2.2.1.1]
  exact ⟨hj, fun z => k0 (fun y => by have := y.2.2; omega), fun z => ⟨hj, by constructor <;> omega, fun y => k0 (fun w => by have := w.2.2; omega), fun y => k1 ⟨a, b, z, y⟩⟩⟩
theorem tw_fit {F : Int → pM → Prop} {t j : Int} (ti : TI M σ) (ok : okS σ) (kn : knC σ t j) (k : ∀ (N : Nat) M', (lad σ.1 t).1 = N → 2 ≤ N → N ≤ 7 → frT M M' → TabT N M' → (∀ v, 0 ≤ v → v < fac N → M' 281 v = fwF σ t j v) → okW N (fwF σ t j) 1099511627776 → F (sm (fwF σ t j) 0 (fac N).toNat) M') : pNl true X mX6_fit 5 [pR 241, pI t, pI j] S M F := by
  obtain ⟨a, b, j0, j1⟩ := kn
  obtain ⟨N, e, h2, h7⟩ := (ok.at a b).nat
  have hf := fac_le h7
  have fp := fac_pos N
  refine eX6_fit (bX6_fit_0 (tw_spread ti ok a b e h2 h7 (Int.le_refl _) fp (fun M1 f1 t1 hw ow => ?_)))
  have lg1 := ti.2.2.1.fr f1
  have eF : fwF σ t j = ftW N σ.2.1 t j j (wyF σ t 0) := by unfold fwF; rw [e, Int.toNat_natCast]
  have loop : ∀ (m c : Nat) (M2 : pM), (c : Int) + m = fac N → (∀ x, x ≠ 281 → M2 x = M1 x) → (∀ v, 0 ≤ v → v < fac N → M2 281 v = if v < c then fwF σ t j v else wyF σ t 0 v) → wX6_fit_11 X F t j (sm (fwF σ t j) 0 c) c S M2 := by
    intro m
    induction m with
    | zero =>
      intro c M2 q1 f2 h
      have t2 : TabT N M2 := t1.fr (by rw [f2 241 (by decide)]) (by rw [f2 241 (by decide)]) (fun x p q => f2 x (by omega))
      refine bX6_fit_11 ?_
      rw [t2.2.1]
      refine ⟨by constructor <;> omega, by constructor <;> omega, fun _ => ?_, fun z => by omega⟩
      have := k N M2 e h2 h7 (f1.trans ⟨fun x hx => f2 x (by omega), fun jj _ => by rw [f2 241 (by decide)]⟩) t2 (fun v v0 v1 => by rw [h v v0 v1, if_pos (by omega)]) (by rw [eF]; exact ftW_ok ow)
      rw [show (fac N).toNat = c by omega] at this
      exact this
    | succ m ih =>
      intro c M2 q1 f2 h
      have t2 : TabT N M2 := t1.fr (by rw [f2 241 (by decide)]) (by rw [f2 241 (by decide)]) (fun x p q => f2 x (by omega))
      have hc := h c (by omega) (by omega)
      rw [if_neg (by omega)] at hc
      have ob := ow.le (v := c) (by omega) (by omega)
      have fin : ∀ M3 : pM, (∀ x, x ≠ 281 → M3 x = M1 x) → (∀ v, 0 ≤ v → v < fac N → M3 281 v = if v < (c : Int) + 1 then fwF σ t j v else wyF σ t 0 v) → wX6_fit_51 X F t j (sm (fwF σ t j) 0 c) c S M3 := by
        intro M3 f3 h3
        have hc3 := h3 c (by omega) (by omega)
        rw [if_pos (by omega)] at hc3
        have nxt := ih (c + 1) M3 (by omega) f3 (by rw [Int.natCast_succ]; exact h3)
        rw [sm_snoc, Int.zero_add, Int.natCast_succ] at nxt
        refine bX6_fit_51 ⟨by omega, by omega, ?_⟩
        rw [hc3]
        exact nxt
      have keep : wyF σ t 0 c = fwF σ t j c → wX6_fit_51 X F t j (sm (fwF σ t j) 0 c) c S M2 := fun w => fin M2 f2 (fun v v0 v1 => by
        rw [h v v0 v1]
        by_cases d : v = c
        · rw [d, if_neg (by omega), if_pos (by omega), w]
        · by_cases d2 : v < c
          · rw [if_pos d2, if_pos (by omega)]
          · rw [if_neg d2, if_neg (by omega)])
      refine bX6_fit_11 ?_
      rw [t2.2.1, hc]
      refine ⟨by constructor <;> omega, by constructor <;> omega, fun z => by omega, fun _ => ⟨by omega, by omega, by constructor <;> omega, fun z => keep ?_, fun z => ?_⟩⟩
      · rw [eF]
        unfold ftW
        split <;> omega
      · have f12 : frT M1 M2 := ⟨fun x hx => f2 x (by omega), fun jj _ => by rw [f2 241 (by decide)]⟩
        refine tw_isFit (lg1.fr f12) ok e h7 a b t2 (by omega) (by omega) j0 j1 (fun fit => ⟨by constructor <;> decide, fun _ => keep ?_, fun y => by omega⟩) (fun fit => ⟨by constructor <;> decide, fun y => by omega, fun _ => ⟨by omega, by omega, fun M11 e11 => fin M11 (fun x hx => by rw [e11, up_ne hx]; exact f2 x hx) (fun v v0 v1 => ?_)⟩⟩)
        · rw [eF]
          unfold ftW
          rw [if_pos fit]
        · rw [e11]
          by_cases d : v = c
          · rw [d, up_same, if_pos (by omega), eF]
            unfold ftW
            rw [if_neg fit]
          · rw [up_oi d, h v v0 v1]
            by_cases d2 : v < c
            · rw [if_pos d2, if_pos (by omega)]
            · rw [if_neg d2, if_neg (by omega)]
  exact loop (fac N).toNat 0 M1 (by omega) (fun _ _ => rfl) (fun v v0 v1 => by rw [if_neg (by omega)]; exact hw v v0 v1)
theorem tw_likelyOf {F : Int → pM → Prop} {N : Nat} {x l : Int} {w : Int → Int} (h7 : N ≤ 7) (hx : inR x) (l0 : 0 ≤ l) (l1 : l < N) (t2 : TabT N M) (hw : ∀ v, 0 ≤ v → v < fac N → M 281 v = w v) (k : F (smD N w x l) M) : pNl true X mX6_likelyOf 1 [pR 241, pI x, pI l] S M F := by
  have hf := fac_le h7
  have fp := fac_pos N
  have loop : ∀ (m c : Nat), (c : Int) + m = fac N → wX6_likelyOf_5 X F x l (sm (fun v => if dg N v l = x then w v else 0) 0 c) c S M := by
    intro m
    induction m with
    | zero =>
      intro c q1
      refine bX6_likelyOf_5 ?_
      rw [t2.2.1]
      refine ⟨by constructor <;> omega, by constructor <;> omega, fun _ => ?_, fun y => by omega⟩
      unfold smD at k
      rw [show (fac N).toNat = c by omega] at k
      exact k
    | succ m ih =>
      intro c q1
      have nxt := ih (c + 1) (by omega)
      rw [sm_snoc, Int.zero_add, Int.natCast_succ] at nxt
      have d1 := dg_rng (o := c) h7 l0 l1
      refine bX6_likelyOf_5 ?_
      rw [t2.2.1, t2.row (by omega) (by omega) l l0 l1, hw c (by omega) (by omega)]
      refine ⟨by constructor <;> omega, by constructor <;> omega, fun y => by omega, fun _ => ⟨by omega, by omega, by constructor <;> omega, hx, fun y => bX6_likelyOf_40 ?_, fun y => ⟨by omega, by omega, bX6_likelyOf_40 ?_⟩⟩⟩
      · rw [if_neg y, Int.add_zero] at nxt
        exact nxt
      · rw [if_pos y] at nxt
        exact nxt
  exact eX6_likelyOf (bX6_likelyOf_0 (loop (fac N).toNat 0 (by omega)))
theorem tw_fitting_op {F : Int → pM → Prop} {t j : Int} (ht : inR t) (hj : inR j) (ti : TI M σ) (ok : okS σ) (k : ∀ M', frT M M' → TT M' → F (q_fitting σ t j) M') : pNl true X mX6_fitting 6 [pR 241, pI t, pI j] S M F := by
  refine eX6_fitting (bX6_fitting_0 (tw_isKnown ht hj ti ok (fun kn => ⟨by constructor <;> decide, fun z => by omega, fun _ => tw_fit ti ok kn (fun N M2 e h2 h7 f2 t2 hw ow => ?_)⟩) (fun kn => ⟨by constructor <;> decide, fun _ => ?_, fun z => by omega⟩)))
  · have := k M2 f2 (t2.T h2 h7)
    unfold q_fitting at this
    rw [if_pos kn, e, Int.toNat_natCast] at this
    exact this
  · have := k M (frT.refl _) ti.1
    unfold q_fitting at this
    rw [if_neg kn] at this
    exact this
theorem tw_likely_op {F : Int → pM → Prop} {t j x l : Int} (ht : inR t) (hj : inR j) (hx : inR x) (hl : inR l) (ti : TI M σ) (ok : okS σ) (k : ∀ M', frT M M' → TT M' → F (q_likely σ t j x l) M') : pNl true X mX6_likely 6 [pR 241, pI t, pI j, pI x, pI l] S M F := by
  have bad : ¬ (knC σ t j ∧ 0 ≤ x ∧ x < (lad σ.1 t).1 ∧ 0 ≤ l ∧ l < (lad σ.1 t).1) → wX6_likely_28 X F S M := fun z => by
    have := k M (frT.refl _) ti.1
    unfold q_likely at this
    rw [if_neg z] at this
    exact bX6_likely_28 this
  refine eX6_likely (bX6_likely_0 (tw_isKnown ht hj ti ok (fun kn => ⟨by constructor <;> decide, fun z => by omega, fun _ => ?_⟩) (fun kn => ⟨by constructor <;> decide, fun _ => bad (fun z => kn z.1), fun z => by omega⟩)))
  refine tw_isNumber ti.2.1 ok kn.1 kn.2.1 hx (fun x0 x1 => ⟨by constructor <;> decide, fun z => by omega, fun _ => ?_⟩) (fun h => ⟨by constructor <;> decide, fun _ => bad (fun z => h ⟨z.2.1, z.2.2.1⟩), fun z => by omega⟩)
  refine tw_isNumber ti.2.1 ok kn.1 kn.2.1 hl (fun l0 l1 => ⟨by constructor <;> decide, fun _ => ?_, fun z => by omega⟩) (fun h => ⟨by constructor <;> decide, fun z => by omega, fun _ => bad (fun z => h z.2.2.2)⟩)
  refine tw_fit ti ok kn (fun N M2 e h2 h7 f2 t2 hw ow => ?_)
  refine tw_likelyOf h7 hx l0 (by omega) t2 hw ?_
  have := k M2 f2 (t2.T h2 h7)
  unfold q_likely at this
  rw [if_pos ⟨kn, x0, x1, l0, l1⟩, e, Int.toNat_natCast] at this
  exact this
theorem tw_next_op {F : Int → pM → Prop} {t j : Int} (ht : inR t) (hj : inR j) (ti : TI M σ) (ok : okS σ) (k : ∀ M', frT M M' → TT M' → F (q_next σ t j) M') : pNi true X mX6_next 6 [pR 241, pI t, pI j] S M F := by
  refine eX6_next (bX6_next_0 (tw_isKnown ht hj ti ok (fun kn => ⟨by constructor <;> decide, fun _ => tw_fit ti ok kn (fun N M2 e h2 h7 f2 t2 hw ow => ?_), fun z => by omega⟩) (fun kn => ⟨by constructor <;> decide, fun z => by omega, fun _ => ?_⟩)))
  · have a := kn.1
    have h6 := ok.tl kn.2.1
    have lgl : M2 242 t = N := by rw [f2.1 242 (by decide), (ti.2.1.2 t kn.1 kn.2.1).1, e]
    have loop : ∀ (m c : Nat), (c : Int) + m = N → wX6_next_27 X F t (bst N (fwF σ t j) c).1 (bst N (fwF σ t j) c).2 c S M2 := by
      intro m
      induction m with
      | zero =>
        intro c q1
        refine bX6_next_27 ?_
        rw [lgl]
        refine ⟨a, h6, by constructor <;> omega, by constructor <;> omega, fun _ => ?_, fun y => by omega⟩
        have := k M2 f2 (t2.T h2 h7)
        unfold q_next at this
        rw [if_pos kn, e, Int.toNat_natCast, show N = c by omega] at this
        rw [show N = c by omega]
        exact this
      | succ m ih =>
        intro c q1
        have nxt := ih (c + 1) (by omega)
        rw [Int.natCast_succ, bst] at nxt
        have bb := bst_bd ow (by omega) c
        have l44 : ∀ (mm d : Nat), (d : Int) + mm = N → wX6_next_44 X F t (bst N (fwF σ t j) c).1 (bst N (fwF σ t j) c).2 c (mxD N (fwF σ t j) c d) d S M2 := by
          intro mm
          induction mm with
          | zero =>
            intro d p1
            have ed : d = N := by omega
            subst ed
            have mb' := mxD_bd (v := c) ow (by omega) d
            refine bX6_next_44 ?_
            rw [lgl]
            refine ⟨a, h6, by constructor <;> omega, by constructor <;> omega, fun _ => ⟨by constructor <;> omega, fun y => bX6_next_106 (bX6_next_114 ?_), fun y => ⟨by constructor <;> omega, by constructor <;> omega, fun z => bX6_next_106 (bX6_next_114 ?_), fun z => bX6_next_114 ?_⟩⟩, fun y => by omega⟩
            · rw [if_pos (Or.inl (by omega))] at nxt
              exact nxt
            · rw [if_pos (Or.inr z)] at nxt
              exact nxt
            · rw [if_neg (by omega)] at nxt
              exact nxt
          | succ mm ihm =>
            intro d p1
            have mb' := mxD_bd (v := c) ow (by omega) d
            have sb' := smD_bd (x := c) (l := d) ow
            have nx2 := ihm (d + 1) (by omega)
            rw [mxD, Int.natCast_succ] at nx2
            refine bX6_next_44 ?_
            rw [lgl]
            refine ⟨a, h6, by constructor <;> omega, by constructor <;> omega, fun y => by omega, fun _ => tw_likelyOf h7 (by constructor <;> omega) (by omega) (by omega) t2 hw ⟨by constructor <;> omega, by constructor <;> omega, fun y => bX6_next_82 ?_, fun y => tw_likelyOf h7 (by constructor <;> omega) (by omega) (by omega) t2 hw (bX6_next_82 ?_)⟩⟩
            · rw [Int.max_eq_left y] at nx2
              exact nx2
            · rw [Int.max_eq_right (by omega)] at nx2
              exact nx2
        refine bX6_next_27 ?_
        rw [lgl]
        exact ⟨a, h6, by constructor <;> omega, by constructor <;> omega, fun y => by omega, fun _ => l44 N 0 (by omega)⟩
    exact loop N 0 (by omega)
  · have := k M (frT.refl _) ti.1
    unfold q_next at this
    rw [if_neg kn] at this
    exact this
end
