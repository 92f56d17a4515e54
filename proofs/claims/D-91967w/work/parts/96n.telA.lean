/-! ===== the twin tells all, and reads ===== -/
set_option maxRecDepth 100000
theorem wr_idem {w : Int × Int} {k p : Int} (hk : k ≠ 0) : wr (wr w k p) k p = wr w k p := by
  by_cases c : w.1 ≠ 0 ∧ (w.2 < p ∨ (p = w.2 ∧ w.1 ≤ k))
  · have e : wr w k p = w := by unfold wr; rw [if_pos c]
    rw [e, e]
  · have e : wr w k p = (k, p) := by unfold wr; rw [if_neg c]
    rw [e]
    unfold wr
    rw [if_pos ⟨hk, Or.inr ⟨rfl, Int.le_refl _⟩⟩]
theorem fdL_app {v : Int} : ∀ (pts : List (Int × List elt)), (∀ k : Nat, k < pts.length → (ptl pts k).1 ≠ v) ∨ ∃ r, fdL pts v = some r
  | [] => Or.inl (fun k hk => by simp at hk)
  | (a, s) :: l => by
    rcases fdL_app (v := v) l with h | ⟨r, h⟩
    · by_cases e : a = v
      · refine Or.inr ⟨s, ?_⟩
        unfold fdL
        rw [fdL_none l v h]
        exact if_pos e
      · refine Or.inl (fun k hk => ?_)
        cases k with
        | zero => exact e
        | succ k => exact h k (by simp at hk; omega)
    · refine Or.inr ⟨r, ?_⟩
      unfold fdL
      rw [h]
theorem putL_full {L A B : List elt} (h : (putL L A).length = 201) : putL L (A ++ B) = putL L A := by
  rw [← putL_app]
  generalize putL L A = C at h
  unfold putL
  rw [List.take_append_of_le_length (by omega), List.take_of_length_le (by omega)]
theorem el_putL {L A : List elt} {i : Int} (hL : L.length ≤ 201) (h0 : 0 ≤ i) (h1 : i < L.length) : el (putL L A) i = el L i := by
  unfold putL el
  rw [List.getD_eq_getElem?_getD, List.getD_eq_getElem?_getD, List.getElem?_take_of_lt (by omega), List.getElem?_append_left (by omega)]
theorem StkR.lt {Ts : List tok} {M M' : pM} {np : Nat} (h9 : M' 259 = M 259) (h7 : M' 257 = M 257) : ∀ (st : List (Int × Nat)), (∀ i : Nat, i < st.length → M' 265 i = M 265 i ∧ M' 266 i = M 266 i) → StkR Ts M np st → StkR Ts M' np st
  | [], _, _ => trivial
  | (t, fr) :: st, f, ⟨a, b, c, d⟩ => by
    have fi := f st.length (by simp)
    exact ⟨by rw [fi.1]; exact a, by rw [fi.2]; exact b, by rw [h9, h7]; exact c, StkR.lt h9 h7 st (fun i hi => f i (by simp; omega)) d⟩
theorem ToR.take {M M' : pM} {p : Int} {L : List elt} {m : Nat} (t : ToR M p L) (hm : m ≤ L.length) (h0 : M' 260 p = m) (f : ∀ x, x = 261 ∨ x = 262 ∨ x = 263 ∨ x = 264 → M' x = M x) : ToR M' p (L.take m) := by
  have len : (L.take m).length = m := by rw [List.length_take]; omega
  refine ⟨by rw [h0, len], fun i a b => ?_⟩
  rw [len] at b
  have e : el (L.take m) i = el L i := by
    unfold el
    rw [List.getD_eq_getElem?_getD, List.getD_eq_getElem?_getD, List.getElem?_take_of_lt (by omega)]
  rw [f 261 (by omega), f 262 (by omega), f 263 (by omega), f 264 (by omega), e]
  exact t.2 i a (by omega)
section
variable {X : px} {S : List psh} {M0 M : pM} {Ts : List tok} {n : Int} {h : Nat} {L tl : List elt} {ip : Bool} {st : List (Int × Nat)} {pts : List (Int × List elt)} {w : Int × Int}
theorem ptl_app {x : Int × List elt} {k : Nat} (hk : k < pts.length) : ptl (pts ++ [x]) k = ptl pts k := by
  unfold ptl
  rw [List.getD_eq_getElem?_getD, List.getD_eq_getElem?_getD, List.getElem?_append_left hk]
theorem ptl_new {x : Int × List elt} : ptl (pts ++ [x]) pts.length = x := by
  unfold ptl
  simp
theorem ts_part {F : pM → Prop} (tk : TkT M0 Ts) (t : TSt M0 Ts n M h L tl false [] pts w) (o1 : okH Ts (h + 1)) (e1 : tK Ts (h + 1) = 1) (o3 : okH Ts (h + 3)) (m8 : pts.length ≠ 8) (k : ∀ M', TSt M0 Ts n M' (h + 3) [] L true [(-1, h + 1)] pts (ptV Ts h pts w) → F M') : pNv true X mX6_tellPart 2 [pR 241] S M F := by
  have h4 := o1.1
  obtain ⟨v1, _⟩ := tv_bd tk o1
  have nP8 := t.2.2.1.2.2.2.2.1
  have npe : nP false pts.length = pts.length := rfl
  rw [npe] at nP8
  have loop : ∀ (d i : Nat) (M1 : pM) (w1 : Int × Int), i + d = pts.length → (w1 = wr w 3 (tP Ts (h + 1)) ∧ (∃ r, fdL pts (tV Ts (h + 1)) = some r) ∨ w1 = w ∧ ∀ k : Nat, k < i → (ptl pts k).1 ≠ tV Ts (h + 1)) → TSt M0 Ts n M1 h L tl false [] pts w1 → wX6_tellPart_2 X F i S M1 := by
    intro d
    induction d with
    | zero =>
      intro i M1 w1 hi hw t1
      have ew : w1 = ptV Ts h pts w := by
        unfold ptV
        rcases hw with ⟨a, r, b⟩ | ⟨a, b⟩
        · rw [b]; exact a
        · rw [fdL_none pts _ (fun k hk => b k (by omega))]; exact a
      subst ew
      obtain ⟨p1, ⟨q1, q2, q3, q4, q5, q6, q7⟩, ⟨⟨a1, a2⟩, _, c, _⟩, p4, p5⟩ := t1
      have nm := (ts_tok tk p1 o1).2.2.2 e1
      have nm : M1 256 ((h : Int) + 1) = tV Ts (h + 1) := nm
      rw [npe] at q3
      refine bX6_tellPart_2 ?_
      rw [q3, q1, nm]
      refine ⟨by constructor <;> omega, by constructor <;> omega, fun _ => ⟨by omega, by omega, by omega, by omega, fun M7 e7 => ?_⟩, fun y => by omega⟩
      have g7 : M7 241 = M1 241 := by rw [e7, up_ne (by decide)]
      rw [g7, q3]
      refine ⟨by omega, by omega, fun M10 e10 => ?_⟩
      have g10 : M10 241 = M1 241 := by rw [e10, up_ne (by decide)]; exact g7
      rw [g10, q3, q1]
      refine ⟨by omega, by omega, fun M13 e13 M14 e14 => ?_⟩
      have g13 : M13 241 = M1 241 := by rw [e13, up_ne (by decide)]; exact g10
      rw [g13, q3] at e14
      have z34 : M14 241 34 = pts.length := by rw [e14, up_same]
      rw [z34]
      refine ⟨by omega, by omega, fun M17 e17 M18 e18 => ?_⟩
      have g17 : ∀ j, j ≠ 34 → M17 241 j = M1 241 j := fun j hj => by rw [e17, up_ne (by decide), e14, up_oi hj, g13]
      rw [g17 22 (by decide), q3] at e18
      have z31 : M18 241 31 = 0 := by rw [e18, up_oi (by decide), g17 31 (by decide)]; exact q2
      rw [z31]
      refine ⟨by decide, by decide, fun M21 e21 M22 e22 M23 e23 => ?_⟩
      have z31' : M21 241 31 = 0 := by rw [e21, up_ne (by decide)]; exact z31
      have z19 : M22 241 19 = h := by rw [e22, up_oi (by decide), e21, up_ne (by decide), e18, up_oi (by decide), g17 19 (by decide)]; exact q1
      rw [z31'] at e22
      rw [z19] at e23
      have fl : ∀ j, j ≠ 19 → j ≠ 31 → j ≠ 22 → j ≠ 34 → M23 241 j = M1 241 j := fun j h1 h2 h3 h4 => by rw [e23, up_oi h1, e22, up_oi h2, e21, up_ne (by decide), e18, up_oi h3, g17 j h4]
      have ot : ∀ x, x ≠ 241 → x ≠ 257 → x ≠ 258 → x ≠ 259 → x ≠ 260 → x ≠ 265 → M23 x = M1 x := fun x h1 h2 h3 h4 h5 h6 => by rw [e23, up_ne h1, e22, up_ne h1, e21, up_ne h6, e18, up_ne h1, e17, up_ne h5, e14, up_ne h1, e13, up_ne h4, e10, up_ne h3, e7, up_ne h2]
      have c57 : M23 257 = pu_up M1 257 pts.length (tV Ts (h + 1)) 257 := by rw [e23, up_ne (by decide), e22, up_ne (by decide), e21, up_ne (by decide), e18, up_ne (by decide), e17, up_ne (by decide), e14, up_ne (by decide), e13, up_ne (by decide), e10, up_ne (by decide), e7]
      have c58 : M23 258 = pu_up M1 258 pts.length 0 258 := by
        rw [e23, up_ne (by decide), e22, up_ne (by decide), e21, up_ne (by decide), e18, up_ne (by decide), e17, up_ne (by decide), e14, up_ne (by decide), e13, up_ne (by decide), e10]
        exact up_cong (by rw [e7, up_ne (by decide)])
      have c59 : M23 259 = pu_up M1 259 pts.length ((h : Int) + 1) 259 := by
        rw [e23, up_ne (by decide), e22, up_ne (by decide), e21, up_ne (by decide), e18, up_ne (by decide), e17, up_ne (by decide), e14, up_ne (by decide), e13]
        exact up_cong (by rw [e10, up_ne (by decide), e7, up_ne (by decide)])
      have c60 : M23 260 = pu_up M1 260 pts.length 0 260 := by
        rw [e23, up_ne (by decide), e22, up_ne (by decide), e21, up_ne (by decide), e18, up_ne (by decide), e17]
        exact up_cong (by rw [e14, up_ne (by decide), e13, up_ne (by decide), e10, up_ne (by decide), e7, up_ne (by decide)])
      have c65 : M23 265 0 = -1 := by rw [e23, up_ne (by decide), e22, up_ne (by decide), e21, up_same]
      have tor : ∀ (q : Int) (L' : List elt), q ≠ pts.length → ToR M1 q L' → ToR M23 q L' := fun q L' hq to => by
        unfold ToR
        rw [ot 261 (by decide) (by decide) (by decide) (by decide) (by decide) (by decide), ot 262 (by decide) (by decide) (by decide) (by decide) (by decide) (by decide), ot 263 (by decide) (by decide) (by decide) (by decide) (by decide) (by decide), ot 264 (by decide) (by decide) (by decide) (by decide) (by decide) (by decide), c60, up_oi hq]
        exact to
      refine k M23 ⟨⟨fun x a b => ?_, fun j h1 h2 h3 h4 h5 h6 h7 => by rw [fl j h1 h5 h4 h6]; exact p1.2 j h1 h2 h3 h4 h5 h6 h7⟩, ⟨?_, ?_, ?_, ?_, ?_, ?_, ?_⟩, ⟨⟨⟨?_, fun i a b => by simp at b; omega⟩, by simp, fun e he => by cases he⟩, fun _ => ⟨tor 8 L (by omega) a1, a2, by rw [c58, up_same]⟩, fun p hp => ?_, ⟨⟨c65, fun z => absurd rfl z, fun _ => ⟨by rw [c59, up_same]; rfl, by rw [c57, up_same]⟩, trivial⟩, Or.inl ⟨rfl, rfl, rfl, o1⟩⟩, by show pts.length + 1 ≤ 8; omega, by show 1 ≤ 4; decide⟩, p4, o3⟩
      · rw [ot x a (by omega) (by omega) (by omega) (by omega) (by omega)]; exact p1.1 x a b
      · rw [e23, up_same]; rfl
      · rw [e23, up_oi (by decide), e22, up_same]; rfl
      · rw [e23, up_oi (by decide), e22, up_oi (by decide), e21, up_ne (by decide), e18, up_same]; rfl
      · rw [e23, up_oi (by decide), e22, up_oi (by decide), e21, up_ne (by decide), e18, up_oi (by decide), e17, up_ne (by decide)]; exact z34
      · rw [fl 35 (by decide) (by decide) (by decide) (by decide)]; exact q5
      · rw [fl 20 (by decide) (by decide) (by decide) (by decide)]; exact q6
      · rw [fl 21 (by decide) (by decide) (by decide) (by decide)]; exact q7
      · show M23 260 pts.length = _
        rw [c60, up_same]; rfl
      · obtain ⟨d1, d2, d3, d4⟩ := c p hp
        rw [c57, c58, up_oi (by omega), up_oi (by omega)]
        exact ⟨d1, d2, tor p _ (by omega) d3, d4⟩
    | succ d ih =>
      intro i M1 w1 hi hw t1
      have nx := fun M1 w1 a b => ih (i + 1) M1 w1 (by omega) a b
      rw [Int.natCast_succ] at nx
      have t1' := t1
      obtain ⟨p1, ⟨q1, q2, q3, q4, q5, q6, q7⟩, ⟨_, _, c, _⟩, p4, p5⟩ := t1
      have nm := (ts_tok tk p1 o1).2.2.2 e1
      have nm : M1 256 ((h : Int) + 1) = tV Ts (h + 1) := nm
      obtain ⟨c1, _, _, _, c5⟩ := c i (by omega)
      rw [npe] at q3
      refine bX6_tellPart_2 ?_
      rw [q3, q1, nm, c1]
      refine ⟨by constructor <;> omega, by constructor <;> omega, fun y => by omega, fun _ => ⟨by omega, by omega, by omega, by omega, ⟨by omega, by omega⟩, ⟨by omega, by omega⟩, fun y => bX6_tellPart_42 (nx M1 w1 ?_ t1'), fun y => ts_tells (j := h + 1) tk t1' (by decide) o1 (fun M2 t2 => bX6_tellPart_42 (nx M2 _ ?_ t2))⟩⟩
      · rcases hw with a | ⟨a, b⟩
        · exact Or.inl a
        · refine Or.inr ⟨a, fun k hk => ?_⟩
          by_cases e : k = i
          · subst e; exact y
          · exact b k (by omega)
      · have hex : ∃ r, fdL pts (tV Ts (h + 1)) = some r := by
          rcases fdL_app (v := tV Ts (h + 1)) pts with z | z
          · exact absurd y (z i (by omega))
          · exact z
        refine Or.inl ⟨?_, hex⟩
        rcases hw with ⟨a, _⟩ | ⟨a, _⟩
        · rw [a, wr_idem (by decide)]
        · rw [a]
  exact eX6_tellPart (bX6_tellPart_0 (loop pts.length 0 M w (by omega) (Or.inr ⟨rfl, fun k hk => by omega⟩) t))
theorem ts_times {F : pM → Prop} (tk : TkT M0 Ts) (t : TSt M0 Ts n M h L tl ip st pts w) (d4 : st.length ≠ 4) (o1 : okH Ts (h + 1)) (e1 : tK Ts (h + 1) = 2) (o3 : okH Ts (h + 3)) (k : ∀ M', TSt M0 Ts n M' (h + 3) L tl ip ((tV Ts (h + 1), L.length) :: st) pts (tmW Ts h w) → F M') : pNv true X mX6_tellTimes 2 [pR 241] S M F := by
  have h4 := o1.1
  obtain ⟨v1, v2, _⟩ := tv_bd tk o1
  have v2 := v2 e1
  have val : ∀ M1 w1, TSt M0 Ts n M1 h L tl ip st pts w1 → M1 255 ((h : Int) + 1) = tV Ts (h + 1) := fun M1 w1 t1 => by
    have q := (ts_tok tk t1.1 o1).2.2.1 (by omega) (by omega) (by omega)
    rw [wht_i e1] at q
    exact q
  have g27 : ∀ M1, TSt M0 Ts n M1 h L tl ip st pts (tmW Ts h w) → wX6_tellTimes_27 X F S M1 := by
    intro M1 t1
    have vv := val M1 _ t1
    obtain ⟨p1, ⟨q1, q2, q3, q4, q5, q6, q7⟩, ⟨⟨a1, a2⟩, b, c, ⟨d1, d2⟩, e8, e4⟩, p4, p5⟩ := t1
    have ib := inT_bd e8
    refine bX6_tellTimes_27 ?_
    rw [q1, vv, q2]
    refine ⟨by omega, by omega, by omega, by omega, fun M5 e5 => ?_⟩
    have g5 : M5 241 = M1 241 := by rw [e5, up_ne (by decide)]
    have g560 : M5 260 = M1 260 := by rw [e5, up_ne (by decide)]
    rw [g5, g560, q4, q2, a1.1]
    refine ⟨ib.1, ib.2, by omega, by omega, fun M10 e10 M11 e11 M12 e12 => ?_⟩
    have g10 : M10 241 = M1 241 := by rw [e10, up_ne (by decide)]; exact g5
    rw [g10, q2] at e11
    have z19 : M11 241 19 = h := by rw [e11, up_oi (by decide), g10]; exact q1
    rw [z19] at e12
    have fl : ∀ j, j ≠ 19 → j ≠ 31 → M12 241 j = M1 241 j := fun j h1 h2 => by rw [e12, up_oi h1, e11, up_oi h2, g10]
    have ot : ∀ x, x ≠ 241 → x ≠ 265 → x ≠ 266 → M12 x = M1 x := fun x h1 h2 h3 => by rw [e12, up_ne h1, e11, up_ne h1, e10, up_ne h3, e5, up_ne h2]
    have c65 : M12 265 = pu_up M1 265 st.length (tV Ts (h + 1)) 265 := by rw [e12, up_ne (by decide), e11, up_ne (by decide), e10, up_ne (by decide), e5]
    have c66 : M12 266 = pu_up M1 266 st.length L.length 266 := by
      rw [e12, up_ne (by decide), e11, up_ne (by decide), e10]
      exact up_cong (by rw [e5, up_ne (by decide)])
    have tor : ∀ (q : Int) (L' : List elt), ToR M1 q L' → ToR M12 q L' := fun q L' to => by
      unfold ToR
      rw [ot 260 (by decide) (by decide) (by decide), ot 261 (by decide) (by decide) (by decide), ot 262 (by decide) (by decide) (by decide), ot 263 (by decide) (by decide) (by decide), ot 264 (by decide) (by decide) (by decide)]
      exact to
    refine k M12 ⟨⟨fun x a b => by rw [ot x a (by omega) (by omega)]; exact p1.1 x a b, fun j h1 h2 h3 h4 h5 h6 h7 => by rw [fl j h1 h5]; exact p1.2 j h1 h2 h3 h4 h5 h6 h7⟩, ⟨by rw [e12, up_same]; rfl, by rw [e12, up_oi (by decide), e11, up_same]; rfl, by rw [fl 22 (by decide) (by decide)]; exact q3, by rw [fl 34 (by decide) (by decide)]; exact q4, by rw [fl 35 (by decide) (by decide)]; exact q5, by rw [fl 20 (by decide) (by decide)]; exact q6, by rw [fl 21 (by decide) (by decide)]; exact q7⟩, ⟨⟨tor _ _ a1, a2⟩, fun z => ⟨tor _ _ (b z).1, (b z).2.1, by rw [ot 258 (by decide) (by decide) (by decide)]; exact (b z).2.2⟩, fun p hp => ?_, ⟨⟨by rw [c65, up_same], fun _ => by rw [c66, up_same], fun z => by omega, ?_⟩, Or.inr ⟨⟨v1.1, v2⟩, Nat.le_refl _, d2⟩⟩, e8, by rw [List.length_cons]; omega⟩, p4, o3⟩
    · rw [ot 257 (by decide) (by decide) (by decide), ot 258 (by decide) (by decide) (by decide)]
      obtain ⟨r1, r2, r3, r4⟩ := c p hp
      exact ⟨r1, r2, tor _ _ r3, r4⟩
    · exact StkR.lt (ot 259 (by decide) (by decide) (by decide)) (ot 257 (by decide) (by decide) (by decide)) st (fun i hi => by rw [c65, c66, up_oi (by omega), up_oi (by omega)]; exact ⟨rfl, rfl⟩) d1
  refine eX6_tellTimes (bX6_tellTimes_0 ?_)
  rw [t.2.1.1, val M w t]
  refine ⟨by omega, by omega, by constructor <;> omega, fun y => g27 M ?_, fun y => ts_tells (j := h + 1) tk t (by decide) o1 (fun M' t' => g27 M' ?_)⟩
  · unfold tmW wrI
    rw [decide_eq_false (by omega), if_neg (by decide)]
    exact t
  · unfold tmW wrI
    rw [decide_eq_true y, if_pos rfl]
    exact t'
end
