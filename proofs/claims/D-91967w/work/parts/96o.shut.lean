/-! ===== the twin shuts a bracket ===== -/
set_option maxRecDepth 100000
theorem drop_el {L : List elt} {fr : Nat} {i : Int} (h0 : 0 ≤ i) : el (L.drop fr) i = el L (fr + i) := by
  unfold el
  rw [List.getD_eq_getElem?_getD, List.getD_eq_getElem?_getD, List.getElem?_drop, show ((fr : Int) + i).toNat = fr + i.toNat by omega]
theorem rep_nil : ∀ k, rep [] k = []
  | 0 => rfl
  | k + 1 => by rw [rep_snoc, rep_nil k]; rfl
section
variable {X : px} {S : List psh} {M0 M : pM} {Ts : List tok} {n : Int} {h : Nat} {L tl : List elt} {ip : Bool} {st : List (Int × Nat)} {pts : List (Int × List elt)} {w : Int × Int}
/-- the head and the depth alone -/
theorem ts_shutT {F : pM → Prop} {t : Int} {fr : Nat} (tt : TSt M0 Ts n M h L tl ip ((t, fr) :: st) pts w) (ht : t ≠ -1) (o1 : okH Ts (h + 1)) (k : ∀ M', TSt M0 Ts n M' (h + 1) (tmL L t fr) tl ip st pts w → F M') : pNv true X mX6_shut 2 [pR 241] S M F := by
  obtain ⟨p1, ⟨q1, q2, q3, q4, q5, q6, q7⟩, ⟨⟨a1, a2⟩, b, c, ⟨⟨d1, d1b, _, d1s⟩, d2⟩, e8, e4⟩, p4, p5⟩ := tt
  rw [List.length_cons] at e4 q2
  have ib := inT_bd e8
  have l201 := a2.1
  rcases d2 with z | ⟨⟨t0, t1⟩, frL, d3⟩
  · exact absurd z.1 ht
  refine eX6_shut (bX6_shut_0 (fun M1 e1 M2 e2 => ?_))
  have z1 : M1 241 19 = h := by rw [e1, up_oi (by decide)]; exact q1
  rw [z1] at e2
  rw [q2] at e1
  have z31 : M2 241 31 = st.length := by rw [e2, up_oi (by decide), e1, up_same]; omega
  have ot : ∀ x, x ≠ 241 → M2 x = M x := fun x hx => by rw [e2, up_ne hx, e1, up_ne hx]
  have fl : ∀ j, j ≠ 19 → j ≠ 31 → M2 241 j = M 241 j := fun j h1 h2 => by rw [e2, up_oi h1, e1, up_oi h2]
  have t2 : TSt M0 Ts n M2 (h + 1) L tl ip st pts w := ⟨⟨fun x a b => by rw [ot x a]; exact p1.1 x a b, fun j h1 h2 h3 h4 h5 h6 h7 => by rw [fl j h1 h5]; exact p1.2 j h1 h2 h3 h4 h5 h6 h7⟩, ⟨by rw [e2, up_same]; rfl, z31, by rw [fl 22 (by decide) (by decide)]; exact q3, by rw [fl 34 (by decide) (by decide)]; exact q4, by rw [fl 35 (by decide) (by decide)]; exact q5, by rw [fl 20 (by decide) (by decide)]; exact q6, by rw [fl 21 (by decide) (by decide)]; exact q7⟩, TB.u ⟨⟨a1, a2⟩, b, c, ⟨d1s, d3.mono frL⟩, e8, by omega⟩ ot, p4, o1⟩
  have z34 : M2 241 34 = inT ip pts.length := t2.2.1.2.2.2.1
  have z65 : M2 265 st.length = t := by rw [ot 265 (by decide)]; exact d1
  have z66 : M2 266 st.length = fr := by rw [ot 266 (by decide)]; exact d1b ht
  have z60 : M2 260 (inT ip pts.length) = L.length := t2.2.2.1.1.1.1
  rw [z31, z65, z66, z34, z60]
  refine ⟨by omega, by omega, by constructor <;> omega, fun _ => ⟨by omega, by omega, ib.1, ib.2, by omega, by omega, by constructor <;> omega, fun y => ?_, fun y => ⟨ib.1, ib.2, fun M15 e15 => bX6_shut_141 ?_⟩⟩, fun y => absurd y ht⟩
  · -- so often
    have loop : ∀ (d k1 : Nat) (M3 : pM), k1 + d + 1 = t.toNat → TSt M0 Ts n M3 (h + 1) (putL L (rep (L.drop fr) k1)) tl ip st pts w → M3 265 st.length = t → wX6_shut_143 X F fr L.length ((k1 : Int) + 1) S M3 := by
      intro d
      induction d with
      | zero =>
        intro k1 M3 hk t3 z65
        refine bX6_shut_143 ?_
        rw [t3.2.1.2.1, z65]
        refine ⟨by omega, by omega, by constructor <;> omega, by constructor <;> omega, fun _ => k M3 ?_, fun y => by omega⟩
        unfold tmL
        rw [if_neg y, show t.toNat - 1 = k1 by omega]
        exact t3
      | succ d ih =>
        intro k1 M3 hk t3 z65
        have ln := putL_len L (rep (L.drop fr) k1)
        have full : (L.length ≤ fr ∨ 200 < (putL L (rep (L.drop fr) k1)).length) → F M3 := fun z => by
          refine k M3 ?_
          unfold tmL
          rw [if_neg y]
          rcases z with z | z
          · rw [List.drop_eq_nil_of_le z, rep_nil]
            rw [List.drop_eq_nil_of_le z, rep_nil] at t3
            exact t3
          · obtain ⟨R, hR⟩ : ∃ R, rep (L.drop fr) (t.toNat - 1) = rep (L.drop fr) k1 ++ R := by
              have : ∀ q, ∃ R, rep (L.drop fr) (k1 + q) = rep (L.drop fr) k1 ++ R := by
                intro q
                induction q with
                | zero => exact ⟨[], by simp⟩
                | succ q ihq =>
                  obtain ⟨R, hR⟩ := ihq
                  exact ⟨R ++ L.drop fr, by rw [← Nat.add_assoc, rep_snoc, hR, List.append_assoc]⟩
              obtain ⟨R, hR⟩ := this (t.toNat - 1 - k1)
              rw [show k1 + (t.toNat - 1 - k1) = t.toNat - 1 by omega] at hR
              exact ⟨R, hR⟩
            rw [hR, putL_full (by omega)]
            exact t3
        refine bX6_shut_143 ?_
        rw [t3.2.1.2.1, z65, t3.2.1.2.2.2.1, t3.2.2.1.1.1.1]
        refine ⟨by omega, by omega, by constructor <;> omega, by constructor <;> omega, fun y => by omega, fun _ => ⟨by constructor <;> omega, by constructor <;> omega, fun z => full (Or.inl (by omega)), fun z => ⟨ib.1, ib.2, by constructor <;> omega, fun z2 => full (Or.inr (by omega)), fun z2 => ?_⟩⟩⟩
        have inner : ∀ (dd i : Nat) (M4 : pM), i + dd = L.length → fr ≤ i → TSt M0 Ts n M4 (h + 1) (putL L (rep (L.drop fr) k1 ++ (L.drop fr).take (i - fr))) tl ip st pts w → M4 265 st.length = t → wX6_shut_179 X F fr L.length ((k1 : Int) + 1) i S M4 := by
          intro dd
          induction dd with
          | zero =>
            intro i M4 hi1 hi2 t4 z65
            refine bX6_shut_179 ⟨by constructor <;> omega, by constructor <;> omega, fun _ => ?_, fun y => by omega⟩
            have := ih (k1 + 1) M4 (by omega) (by rw [rep_snoc]; rw [List.take_of_length_le (by rw [List.length_drop]; omega)] at t4; exact t4) z65
            rw [Int.natCast_succ] at this
            exact this
          | succ dd ihh =>
            intro i M4 hi1 hi2 t4 z65
            have i1 : (i : Int) < L.length := by omega
            have gl : L.length ≤ (putL L (rep (L.drop fr) k1 ++ (L.drop fr).take (i - fr))).length := putL_ge l201
            obtain ⟨m1, m2, m3, m4⟩ := t4.2.2.1.1.1.2 i (by omega) (by omega)
            rw [el_putL l201 (by omega) i1] at m1 m2 m3 m4
            refine bX6_shut_179 ?_
            rw [t4.2.1.2.2.2.1, m1, m2, m3, m4]
            refine ⟨by constructor <;> omega, by constructor <;> omega, fun y => by omega, fun _ => ⟨by omega, by omega, by omega, by omega, by omega, by omega, by omega, by omega, ts_put t4 (a2.2 _ (el_mem (by omega) i1)) (fun M5 f5 t5 => ?_)⟩⟩
            have es : (L.drop fr).take (i + 1 - fr) = (L.drop fr).take (i - fr) ++ [el L i] := by
              have := take_snoc (L := L.drop fr) (i := ((i - fr : Nat) : Int)) (by omega) (by rw [List.length_drop]; omega)
              rw [show (((i - fr : Nat) : Int) + 1).toNat = i + 1 - fr by omega, show ((i - fr : Nat) : Int).toNat = i - fr by omega, drop_el (by omega), show (fr : Int) + ((i - fr : Nat) : Int) = i by omega] at this
              exact this
            have := ihh (i + 1) M5 (by omega) (by omega) (by rw [es, ← List.append_assoc, ← putL_app]; exact t5) (by rw [f5.1 265 (by omega)]; exact z65)
            rw [Int.natCast_succ] at this
            exact this
        exact inner (L.length - fr) fr M3 (by omega) (Nat.le_refl _) (by rw [Nat.sub_self, List.take_zero, List.append_nil]; exact t3) z65
    have := loop (t.toNat - 1) 0 M2 (by omega) (by rw [rep, putL_nil l201]; exact t2) z65
    exact bX6_shut_141 this
  · -- never
    have z65' : M15 265 st.length = t := by rw [e15, up_ne (by decide)]; exact z65
    have z31' : M15 241 31 = st.length := by rw [e15, up_ne (by decide)]; exact z31
    refine bX6_shut_143 ?_
    rw [z31', z65']
    refine ⟨by omega, by omega, by constructor <;> decide, by constructor <;> omega, fun _ => k M15 ?_, fun q => by omega⟩
    have ox : ∀ x, x ≠ 260 → M15 x = M2 x := fun x hx => by rw [e15, up_ne hx]
    have fx : frX (inT ip pts.length) M2 M15 := ⟨fun x hx => ox x (by omega), fun q L' h1 h2 h3 to' => by
      unfold ToR
      rw [ox 261 (by decide), ox 262 (by decide), ox 263 (by decide), ox 264 (by decide), e15, up_oi h1]
      exact to'⟩
    obtain ⟨p1', p2', p3', p4', p5'⟩ := t2
    have tm : tmL L t fr = L.take fr := by unfold tmL; rw [if_pos y]
    rw [tm]
    have to' : ToR M15 (inT ip pts.length) (L.take fr) := p3'.1.1.take frL (by rw [e15, up_same]) (fun x hx => ox x (by omega))
    refine ⟨p1'.x fx, p2'.x fx, ?_, p4', p5'⟩
    obtain ⟨⟨_, _⟩, b', c', ⟨d1', d2'⟩, e8', e4'⟩ := p3'
    refine ⟨⟨to', by rw [List.length_take]; omega, fun e he => a2.2 e (List.mem_of_mem_take he)⟩, fun z => ?_, fun p hp => ?_, ⟨StkR.u (fx.1 265 (by omega)) (fx.1 266 (by omega)) (fx.1 259 (by omega)) (fx.1 257 (by omega)) st d1', by rw [List.length_take, Nat.min_eq_left frL]; exact d3⟩, e8', e4'⟩
    · obtain ⟨b1, b2, b3⟩ := b' z
      refine ⟨fx.2 8 tl ?_ (by decide) b2.1 b1, b2, by rw [fx.1 258 (by omega)]; exact b3⟩
      subst z
      unfold inT
      unfold nP at e8'
      simp at e8' ⊢
      omega
    · obtain ⟨r1, r2, r3, r4, r5⟩ := c' p hp
      rw [fx.1 257 (by omega), fx.1 258 (by omega)]
      exact ⟨r1, r2, fx.2 p _ (inT_ne e8' hp) (by omega) r4.1 r3, r4, r5⟩
theorem ts_shutP {F : pM → Prop} {fr : Nat} (tk : TkT M0 Ts) (tt : TSt M0 Ts n M h L tl ip ((-1, fr) :: st) pts w) (o1 : okH Ts (h + 1)) (k : ∀ M', TSt M0 Ts n M' (h + 1) tl [] false st (pts ++ [(tV Ts fr, L.take 200)]) (wrI (lgT L) w 6 (tP Ts fr)) → F M') : pNv true X mX6_shut 2 [pR 241] S M F := by
  obtain ⟨p1, ⟨q1, q2, q3, q4, q5, q6, q7⟩, ⟨⟨a1, a2⟩, b, c, ⟨⟨d1, _, d1c, d1s⟩, d2⟩, e8, e4⟩, p4, p5⟩ := tt
  rw [List.length_cons] at e4 q2
  have ib := inT_bd e8
  have l201 := a2.1
  rcases d2 with ⟨_, hip, hst, ofr⟩ | ⟨⟨t0, _⟩, _⟩
  · subst hip
    subst hst
    obtain ⟨d9, d7⟩ := d1c rfl
    obtain ⟨b1, b2, b3⟩ := b rfl
    have q2 : M 241 31 = 1 := q2
    have e8' : pts.length + 1 ≤ 8 := e8
    have inE : inT true pts.length = (pts.length : Int) := rfl
    have npE : nP true pts.length = pts.length + 1 := rfl
    rw [inE] at q4 a1
    rw [npE] at q3
    obtain ⟨v1, _, b0, _⟩ := tv_bd tk ofr
    refine eX6_shut (bX6_shut_0 (fun M1 e1 M2 e2 => ?_))
    have z1 : M1 241 19 = h := by rw [e1, up_oi (by decide)]; exact q1
    rw [z1] at e2
    rw [q2] at e1
    have z31 : M2 241 31 = 0 := by rw [e2, up_oi (by decide), e1, up_same]; rfl
    have ot : ∀ x, x ≠ 241 → M2 x = M x := fun x hx => by rw [e2, up_ne hx, e1, up_ne hx]
    have fl : ∀ j, j ≠ 19 → j ≠ 31 → M2 241 j = M 241 j := fun j h1 h2 => by rw [e2, up_oi h1, e1, up_oi h2]
    have z65 : M2 265 0 = -1 := by rw [ot 265 (by decide)]; exact d1
    rw [z31, z65]
    refine ⟨by decide, by decide, by constructor <;> decide, fun y => absurd rfl y, fun _ => ?_⟩
    have z34 : M2 241 34 = pts.length := by rw [fl 34 (by decide) (by decide)]; exact q4
    have a1' : ToR M2 pts.length L := a1.u ot
    -- the rest, once the long one is told
    have rest : ∀ (M3 : pM) (w3 : Int × Int), (∀ x, x ≠ 241 → M3 x = M2 x) → (∀ j, j ≠ 20 → j ≠ 21 → M3 241 j = M2 241 j) → M3 241 20 = w3.1 → M3 241 21 = w3.2 → okFw w3 → w3 = wrI (lgT L) w 6 (tP Ts fr) → wX6_shut_55 X F S M3 := by
      intro M3 w3 f3 g3 h20 h21 okw ew
      subst ew
      have y34 : M3 241 34 = pts.length := by rw [g3 34 (by decide) (by decide)]; exact z34
      have y60 : M3 260 pts.length = L.length := by rw [f3 260 (by decide)]; exact a1'.1
      have g82 : ∀ M4, (∀ x, x ≠ 260 → M4 x = M3 x) → M4 260 pts.length = ((min L.length 200 : Nat) : Int) → (∀ q : Int, q ≠ pts.length → M4 260 q = M3 260 q) → wX6_shut_82 X F S M4 := by
        intro M4 f4 h4 g4
        refine bX6_shut_82 ?_
        have u34 : M4 241 34 = pts.length := by rw [f4 241 (by decide)]; exact y34
        rw [u34]
        refine ⟨by omega, by omega, fun M5 e5 M6 e6 => ?_⟩
        have f6 : ∀ x, x ≠ 241 → x ≠ 258 → M6 x = M4 x := fun x h1 h2 => by rw [e6, up_ne h1, e5, up_ne h2]
        have g6 : ∀ j, j ≠ 34 → M6 241 j = M3 241 j := fun j hj => by rw [e6, up_oi hj, e5, up_ne (by decide), f4 241 (by decide)]
        have base : ∀ x, x ≠ 241 → x ≠ 258 → x ≠ 260 → M6 x = M x := fun x h1 h2 h3 => by rw [f6 x h1 h2, f4 x h3, f3 x h1, ot x h1]
        have c58 : M6 258 = pu_up M 258 pts.length 1 258 := by
          rw [e6, up_ne (by decide), e5]
          exact up_cong (by rw [f4 258 (by decide), f3 258 (by decide), ot 258 (by decide)])
        have m6b : M6 260 = M4 260 := f6 260 (by decide) (by decide)
        have tor : ∀ (q : Int) (L' : List elt), q ≠ pts.length → ToR M q L' → ToR M6 q L' := fun q L' hq to => by
          unfold ToR
          rw [base 261 (by decide) (by decide) (by decide), base 262 (by decide) (by decide) (by decide), base 263 (by decide) (by decide) (by decide), base 264 (by decide) (by decide) (by decide), m6b, g4 q hq, f3 260 (by decide), ot 260 (by decide)]
          exact to
        have len : (pts ++ [(tV Ts fr, L.take 200)]).length = pts.length + 1 := by rw [List.length_append]; rfl
        have mE : min L.length 200 ≤ L.length := Nat.min_le_left _ _
        have tk200 : L.take (min L.length 200) = L.take 200 := by
          rcases Nat.lt_or_ge L.length 200 with q | q
          · rw [Nat.min_eq_left (by omega), List.take_of_length_le (Nat.le_refl _), List.take_of_length_le (by omega)]
          · rw [Nat.min_eq_right q]
        have toN : ToR M6 pts.length (L.take 200) := by
          rw [← tk200]
          exact a1.take mE (by rw [m6b]; exact h4) (fun x hx => base x (by omega) (by omega) (by omega))
        refine k M6 ⟨⟨fun x a b => by rw [base x a (by omega) (by omega)]; exact p1.1 x a b, fun j h1 h2 h3 h4 h5 h6 h7 => by rw [g6 j h6, g3 j h2 h3, fl j h1 h5]; exact p1.2 j h1 h2 h3 h4 h5 h6 h7⟩, ⟨?_, ?_, ?_, ?_, ?_, ?_, ?_⟩, ⟨⟨tor 8 tl (by omega) b1, b2⟩, fun (z : false = true) => (by cases z), fun p hp => ?_, ⟨trivial, rfl⟩, ?_, by decide⟩, okw, o1⟩
        · rw [g6 19 (by decide), g3 19 (by decide) (by decide), e2, up_same]; rfl
        · rw [g6 31 (by decide), g3 31 (by decide) (by decide)]; exact z31
        · rw [g6 22 (by decide), g3 22 (by decide) (by decide), fl 22 (by decide) (by decide), q3]
          show _ = ((pts ++ [(tV Ts fr, L.take 200)]).length : Int)
          rw [len]
        · rw [e6, up_same]; rfl
        · rw [g6 35 (by decide), g3 35 (by decide) (by decide), fl 35 (by decide) (by decide)]; exact q5
        · rw [g6 20 (by decide)]; exact h20
        · rw [g6 21 (by decide)]; exact h21
        · rw [len] at hp
          rw [base 257 (by decide) (by decide) (by decide), c58]
          by_cases e : p = pts.length
          · subst e
            rw [ptl_new, up_same]
            exact ⟨d7, rfl, toN, ⟨by show (L.take 200).length ≤ 201; rw [List.length_take]; omega, fun x hx => a2.2 x (List.mem_of_mem_take hx)⟩, v1⟩
          · rw [ptl_app (by omega), up_oi (by omega)]
            obtain ⟨r1, r2, r3, r4⟩ := c p (by omega)
            exact ⟨r1, r2, tor p _ (by omega) r3, r4⟩
        · show nP false (pts ++ [(tV Ts fr, L.take 200)]).length ≤ 8
          rw [len]
          exact e8'
      refine bX6_shut_55 ?_
      rw [y34, y60]
      refine ⟨by omega, by omega, by constructor <;> omega, fun y => g82 M3 (fun _ _ => rfl) (by rw [y60, Nat.min_eq_left (by omega)]) (fun _ _ => rfl), fun y => ⟨by omega, by omega, fun M6 e6 => g82 M6 (fun x hx => by rw [e6, up_ne hx]) (by rw [e6, up_same, Nat.min_eq_right (by omega)]; rfl) (fun q hq => by rw [e6, up_oi hq])⟩⟩
    have w20 : M2 241 20 = w.1 := by rw [fl 20 (by decide) (by decide)]; exact q6
    have w21 : M2 241 21 = w.2 := by rw [fl 21 (by decide) (by decide)]; exact q7
    refine tl_isLong (p := pts.length) (by omega) z34 a1' a2 (fun lg => ⟨by constructor <;> decide, fun z => by omega, fun _ => ?_⟩) (fun lg => ⟨by constructor <;> decide, fun _ => rest M2 w (fun _ _ => rfl) (fun _ _ _ => rfl) w20 w21 p4 (by rw [wrI, lg, if_neg (by decide)]), fun z => absurd rfl z⟩)
    rw [z34]
    have z59 : M2 259 pts.length = fr := by rw [ot 259 (by decide)]; exact d9
    rw [z59]
    refine ⟨by omega, by omega, ?_⟩
    -- tells, with the part not yet shut
    have tt2 : TSt M0 Ts n M2 (h + 1) L tl true [] pts w → True := fun _ => trivial
    obtain ⟨w1, w2⟩ := p4
    obtain ⟨_, _, f1, f2⟩ := tv_bd tk ofr
    have h4 := ofr.1
    have p254 : M2 254 fr = tP Ts fr := by rw [ot 254 (by decide)]; exact (ts_tok tk p1 ofr).2.1
    have same : (w.1 ≠ 0 ∧ (w.2 < tP Ts fr ∨ (tP Ts fr = w.2 ∧ w.1 ≤ 6))) → wX6_shut_55 X F S M2 := fun z => rest M2 w (fun _ _ => rfl) (fun _ _ _ => rfl) w20 w21 ⟨w1, w2⟩ (by rw [wrI, lg, if_pos rfl]; unfold wr; rw [if_pos z])
    have set : ¬ (w.1 ≠ 0 ∧ (w.2 < tP Ts fr ∨ (tP Ts fr = w.2 ∧ w.1 ≤ 6))) → wX6_tells_39 X (fun M21 => wX6_shut_55 X F S M21) 6 (tP Ts fr) S M2 := fun z => by
      refine bX6_tells_39 (fun M3 e3 M4 e4 => rest M4 (6, tP Ts fr) (fun x hx => by rw [e4, up_ne hx, e3, up_ne hx]) (fun j h1 h2 => by rw [e4, up_oi h2, e3, up_oi h1]) (by rw [e4, up_oi (by decide), e3, up_same]) (by rw [e4, up_same]) ⟨⟨show (0 : Int) ≤ 6 by decide, show (6 : Int) ≤ 6 by decide⟩, fun _ => ⟨f1, f2⟩⟩ (by rw [wrI, lg, if_pos rfl]; unfold wr; rw [if_neg z]))
    refine eX6_tells (bX6_tells_0 ?_)
    rw [p254, w20, w21]
    refine ⟨by omega, by omega, by constructor <;> omega, fun z => set (fun y => y.1 z), fun z => ?_⟩
    have w2' := w2 z
    exact ⟨by constructor <;> omega, by constructor <;> omega, fun y => same ⟨z, by omega⟩, fun y => ⟨by constructor <;> omega, by constructor <;> omega, fun q => set (fun u => by omega), fun q => ⟨by constructor <;> omega, by constructor <;> omega, fun u => set (fun u => by omega), fun u => same ⟨z, by omega⟩⟩⟩⟩
  · exact absurd t0 (by decide)
end
