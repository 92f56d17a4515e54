/-! ===== the twin tells all ===== -/
set_option maxRecDepth 100000
def Pm1 (w : Int × Int) : Prop := w.1 = 0 → w.2 = -1
theorem Pm1.w {w : Int × Int} {k p : Int} (h : Pm1 w) (hk : k ≠ 0) : Pm1 (wr w k p) := by
  unfold wr
  split
  · exact h
  · exact fun z => absurd z hk
theorem Pm1.i {b : Bool} {w : Int × Int} {k p : Int} (h : Pm1 w) (hk : k ≠ 0) : Pm1 (wrI b w k p) := by
  unfold wrI
  split
  · exact h.w hk
  · exact h
theorem Pm1.el {Ts : List tok} {n : Int} {h : Nat} {w : Int × Int} (q : Pm1 w) : Pm1 (elW Ts n h w) := q.i (by decide)
theorem Pm1.my {Ts : List tok} {n : Int} {h : Nat} {w : Int × Int} (q : Pm1 w) : Pm1 (myV Ts n h w) := (q.el.i (by decide)).i (by decide)
theorem Pm1.us {Ts : List tok} {h : Nat} {pts : List (Int × List elt)} {w : Int × Int} (q : Pm1 w) : Pm1 (usV Ts h pts w) := by
  unfold usV
  split
  · exact q.w (by decide)
  · exact q
theorem Pm1.pt {Ts : List tok} {h : Nat} {pts : List (Int × List elt)} {w : Int × Int} (q : Pm1 w) : Pm1 (ptV Ts h pts w) := by
  unfold ptV
  split
  · exact q
  · exact q.w (by decide)
theorem Pm1.tm {Ts : List tok} {h : Nat} {w : Int × Int} (q : Pm1 w) : Pm1 (tmW Ts h w) := q.i (by decide)
theorem Pm1.ck {Ts : List tok} {ip : Bool} {st : List (Int × Nat)} {a : Nat} {L : List elt} {w : Int × Int} (q : Pm1 w) : Pm1 (chk Ts ip st a L w) := by
  unfold chk
  split
  · exact q.i (by decide)
  · exact q
section
variable {Ts : List tok} {n : Int} {f h a : Nat} {L tl : List elt} {ip : Bool} {st : List (Int × Nat)} {pts : List (Int × List elt)} {w : Int × Int}
theorem tm_0 (e : tK Ts h = 0) : tsm Ts n (f + 1) h a (L, tl, ip, st, pts, w) = (if w.1 ≠ 0 then (w.1, w.2, 0, []) else (0, -1, n, L)) := by rw [tsm, if_pos e]
theorem tm_6 (e : tK Ts h = 6) : tsm Ts n (f + 1) h a (L, tl, ip, st, pts, w) = tsm Ts n f (h + 1) (fsT h a st) (shT Ts (fsT h a st) (L, tl, ip, st, pts, w)) := by
  rw [tsm, if_neg (by omega), if_pos e]
theorem tm_11 (e : tK Ts h = 11) : tsm Ts n (f + 1) h a (L, tl, ip, st, pts, w) = tsm Ts n f (h + 3) (fsT h a st) ([], L, true, [(-1, h + 1)], pts, ptV Ts h pts w) := by
  rw [tsm, if_neg (by omega), if_neg (by omega), if_pos e]
theorem tm_12 (e : tK Ts h = 12 ∨ tK Ts h = 13 ∨ tK Ts h = 14) : tsm Ts n (f + 1) h a (L, tl, ip, st, pts, w) = tsm Ts n f (h + 3) (fsT h a st) (putL L [elR Ts h], tl, ip, st, pts, chk Ts ip st (fsT h a st) (putL L [elR Ts h]) (elW Ts n h w)) := by
  rw [tsm, if_neg (by omega), if_neg (by omega), if_neg (by omega), if_pos e]
theorem tm_15 (e : tK Ts h = 15) : tsm Ts n (f + 1) h a (L, tl, ip, st, pts, w) = tsm Ts n f (h + 5) (fsT h a st) (putL L [myR Ts h], tl, ip, st, pts, chk Ts ip st (fsT h a st) (putL L [myR Ts h]) (myV Ts n h w)) := by
  rw [tsm, if_neg (by omega), if_neg (by omega), if_neg (by omega), if_neg (by omega), if_pos e]
theorem tm_16 (e : tK Ts h = 16) : tsm Ts n (f + 1) h a (L, tl, ip, st, pts, w) = tsm Ts n f (usH Ts h) (fsT h a st) (usL Ts n h L pts, tl, ip, st, pts, chk Ts ip st (fsT h a st) (usL Ts n h L pts) (usV Ts h pts w)) := by
  rw [tsm, if_neg (by omega), if_neg (by omega), if_neg (by omega), if_neg (by omega), if_neg (by omega), if_pos e]
theorem tm_19 (e : tK Ts h = 19) : tsm Ts n (f + 1) h a (L, tl, ip, st, pts, w) = tsm Ts n f (h + 3) (fsT h a st) (L, tl, ip, (tV Ts (h + 1), L.length) :: st, pts, tmW Ts h w) := by
  rw [tsm, if_neg (by omega), if_neg (by omega), if_neg (by omega), if_neg (by omega), if_neg (by omega), if_neg (by omega), if_pos e]
end
section
variable {X : px} {S : List psh} {M0 M : pM} {Ts : List tok} {n : Int} {TO : Ot}
theorem ts_end {F : pM → Prop} {h a : Nat} {L tl : List elt} {ip : Bool} {st : List (Int × Nat)} {pts : List (Int × List elt)} {w : Int × Int} (tk : TkT M0 Ts) (t : TSt M0 Ts n M h L tl ip st pts w) (oa : okH Ts a) (k : ∀ M', TSt M0 Ts n M' h L tl ip st pts (chk Ts ip st a L w) → wX6_tellAll_73 X F a S M') : wX6_tellAll_192 X F a S M := by
  have e8 := t.2.2.1.2.2.2.2.1
  have e4 := t.2.2.1.2.2.2.2.2
  refine bX6_tellAll_192 ?_
  rw [t.2.1.2.1, t.2.1.2.2.2.1]
  refine ⟨by constructor <;> omega, fun y => bX6_tellAll_222 (k M ?_), fun y => ?_⟩
  · unfold chk
    rw [if_neg (fun z => by have := z.2; omega)]
    exact t
  · have s0 : st = [] := List.eq_nil_of_length_eq_zero (by omega)
    subst s0
    have i0 : ip = false := t.2.2.1.2.2.2.1.2
    subst i0
    refine ⟨⟨show (-2147483648 : Int) ≤ 8 by decide, show (8 : Int) < 2147483648 by decide⟩, fun z => absurd rfl z, fun _ => ts_isLong t (fun lg => ⟨by constructor <;> decide, fun z => by omega, fun _ => ts_tells tk t (by decide) oa (fun M' t' => bX6_tellAll_222 (k M' ?_))⟩) (fun lg => ⟨by constructor <;> decide, fun _ => bX6_tellAll_222 (k M ?_), fun z => absurd rfl z⟩)⟩
    · unfold chk
      rw [if_pos ⟨rfl, rfl⟩, wrI, lg, if_pos rfl]
      exact t'
    · unfold chk
      rw [if_pos ⟨rfl, rfl⟩, wrI, lg, if_neg (by decide)]
      exact t
theorem ts_loop {F : pM → Prop} (tk : TkT M0 Ts) (hn : 2 ≤ n ∧ n ≤ 7) (k : ∀ M' L w, frTd M0 M' → M' 241 20 = w.1 → M' 241 21 = w.2 → M' 241 35 = n → ToR M' 8 L → okK L → okFw w → Pm1 w → TO = (if w.1 ≠ 0 then (w.1, w.2, 0, []) else (0, -1, n, L)) → F M') : ∀ (f h a : Nat) (M : pM) (L tl : List elt) (ip : Bool) (st : List (Int × Nat)) (pts : List (Int × List elt)) (w : Int × Int), TSt M0 Ts n M h L tl ip st pts w → okH Ts a → 401 ≤ h + f → prs Ts f h st.length (nP ip pts.length) = none → Pm1 w → TO = tsm Ts n f h a (L, tl, ip, st, pts, w) → wX6_tellAll_73 X F a S M := by
  intro f
  induction f with
  | zero =>
    intro h a M L tl ip st pts w t oa h401
    have := t.2.2.2.2.1
    omega
  | succ f ih =>
    intro h a M L tl ip st pts w t oa h401 hp pm hTO
    have oh := t.2.2.2.2
    have h4 := oh.1
    have tt := ts_tok tk t.1 oh
    have kb := tk.1.2.2.2.2.2.1 h oh.2.1
    have e4 := t.2.2.1.2.2.2.2.2
    have sb := srt_bd (tK Ts h)
    have s4 := srt_4 (k := tK Ts h)
    have s3 := srt_3 (k := tK Ts h)
    have kk := no_kd hp
    refine bX6_tellAll_73 ?_
    rw [t.2.1.1, tt.1, t.2.1.2.1]
    refine ⟨by omega, by omega, by constructor <;> omega, fun y => ?_, fun y => ?_⟩
    · have k0 := s4.1 y
      rw [kd_0 k0] at hp
      have d0 : st.length = 0 := by
        split at hp
        · assumption
        · cases hp
      have s0 : st = [] := List.eq_nil_of_length_eq_zero d0
      subst s0
      have i0 : ip = false := t.2.2.1.2.2.2.1.2
      subst i0
      rw [tm_0 k0] at hTO
      exact k M L w t.1 t.2.1.2.2.2.2.2.1 t.2.1.2.2.2.2.2.2 t.2.1.2.2.2.2.1 t.2.2.1.1.1 t.2.2.1.1.2 t.2.2.2.1 pm hTO
    · have n0 : tK Ts h ≠ 0 := fun q => y (s4.2 q)
      have oa' : okH Ts (fsT h a st) := by unfold fsT; split; exact oh; exact oa
      have g98 : wX6_tellAll_98 X F (fsT h a st) S M := by
        refine bX6_tellAll_98 ?_
        rw [t.2.1.1, tt.1]
        refine ⟨by omega, by omega, by constructor <;> omega, fun z => ?_, fun z => ?_⟩
        · -- a bracket is shut
          have k6 : tK Ts h = 6 := by omega
          obtain ⟨d0, o1, hp'⟩ := no_sh tk.1 oh k6 hp
          rw [tm_6 k6] at hTO
          refine bX6_tellAll_124 ⟨by constructor <;> decide, fun q => absurd rfl q, fun _ => ?_⟩
          cases st with
          | nil => exact absurd rfl d0
          | cons x st' =>
            obtain ⟨tt', fr⟩ := x
            rw [List.length_cons, Nat.add_sub_cancel] at hp'
            by_cases ht : tt' = -1
            · subst ht
              have hsh : shT Ts (fsT h a ((-1, fr) :: st')) (L, tl, ip, (-1, fr) :: st', pts, w) = (tl, [], false, st', pts ++ [(tV Ts fr, L.take 200)], chk Ts false st' (fsT h a ((-1, fr) :: st')) tl (wrI (lgT L) w 6 (tP Ts fr))) := by
                unfold shT
                simp
              rw [hsh] at hTO
              have hnp : nP ip pts.length = nP false (pts ++ [(tV Ts fr, L.take 200)]).length := by
                rcases t.2.2.1.2.2.2.1.2 with ⟨_, q, _⟩ | ⟨⟨q, _⟩, _⟩
                · rw [q, List.length_append]; rfl
                · exact absurd q (by decide)
              rw [hnp] at hp'
              exact ts_shutP tk t o1 (fun M' t' => ts_end tk t' oa' (fun M2 t2 => ih (h + 1) _ M2 _ _ _ _ _ _ t2 oa' (by omega) hp' ((pm.i (by decide)).ck) hTO))
            · have hsh : shT Ts (fsT h a ((tt', fr) :: st')) (L, tl, ip, (tt', fr) :: st', pts, w) = (tmL L tt' fr, tl, ip, st', pts, chk Ts ip st' (fsT h a ((tt', fr) :: st')) (tmL L tt' fr) w) := by
                unfold shT
                simp [ht]
              rw [hsh] at hTO
              exact ts_shutT t ht o1 (fun M' t' => ts_end tk t' oa' (fun M2 t2 => ih (h + 1) _ M2 _ _ _ _ _ _ t2 oa' (by omega) hp' pm.ck hTO))
        · have k10 := s3.1 z
          rw [tt.2.2.1 (by omega) (by omega) (by omega), wht_w k10]
          refine ⟨by omega, by omega, bX6_tellAll_124 ⟨by constructor <;> omega, fun _ => ⟨by constructor <;> omega, fun n1 => ⟨by constructor <;> omega, fun n5 => ⟨by constructor <;> omega, fun n6 => ⟨by constructor <;> omega, fun n9 => ?_, fun q => ?_⟩, fun q => ?_⟩, fun q => ?_⟩, fun q => ?_⟩, fun q => by omega⟩⟩
          · have k12 : tK Ts h = 12 ∨ tK Ts h = 13 ∨ tK Ts h = 14 := by omega
            obtain ⟨o1, e1, o3, hp'⟩ := no_el tk.1 oh k12 hp
            rw [tm_12 k12] at hTO
            exact ts_elem tk hn t k12 o1 e1 o3 (fun M' t' => ts_end tk t' oa' (fun M2 t2 => ih (h + 3) _ M2 _ _ _ _ _ _ t2 oa' (by omega) hp' pm.el.ck hTO))
          · have k19 : tK Ts h = 19 := by omega
            obtain ⟨d4, ⟨o1, e1⟩, o3, hp'⟩ := no_tm tk.1 oh k19 hp
            rw [tm_19 k19] at hTO
            refine ts_times tk t d4 o1 e1 o3 (fun M' t' => ts_end tk t' oa' (fun M2 t2 => ih (h + 3) _ M2 _ _ _ _ _ _ t2 oa' (by omega) hp' pm.tm.ck ?_))
            unfold chk
            rw [if_neg (fun z => by have := z.2; simp at this)]
            exact hTO
          · have k16 : tK Ts h = 16 := by omega
            obtain ⟨⟨o1, e1⟩, o2, oU, oH, hp'⟩ := no_us tk.1 oh k16 hp
            rw [tm_16 k16] at hTO
            have hH : h < usH Ts h := by unfold usH; omega
            exact ts_use tk hn t o1 e1 o2 oU oH (fun M' t' => ts_end tk t' oa' (fun M2 t2 => ih (usH Ts h) _ M2 _ _ _ _ _ _ t2 oa' (by omega) hp' pm.us.ck hTO))
          · have k15 : tK Ts h = 15 := by omega
            obtain ⟨⟨o1, e1⟩, ⟨o2, e2⟩, ⟨o3, e3⟩, o5, hp'⟩ := no_my tk.1 oh k15 hp
            rw [tm_15 k15] at hTO
            exact ts_maybe tk hn t o1 e1 o2 e2 o3 e3 o5 (fun M' t' => ts_end tk t' oa' (fun M2 t2 => ih (h + 5) _ M2 _ _ _ _ _ _ t2 oa' (by omega) hp' pm.my.ck hTO))
          · have k11 : tK Ts h = 11 := by omega
            obtain ⟨d0, m8, ⟨o1, e1⟩, o3, hp'⟩ := no_pt tk.1 oh k11 hp
            have s0 : st = [] := List.eq_nil_of_length_eq_zero d0
            subst s0
            have i0 : ip = false := t.2.2.1.2.2.2.1.2
            subst i0
            rw [tm_11 k11] at hTO
            refine ts_part tk t o1 e1 o3 m8 (fun M' t' => ts_end tk t' oa' (fun M2 t2 => ih (h + 3) _ M2 _ _ _ _ _ _ t2 oa' (by omega) hp' pm.pt.ck ?_))
            unfold chk
            rw [if_neg (fun z => by cases z.1)]
            exact hTO
      refine ⟨by constructor <;> omega, fun q => ?_, fun q => ?_⟩
      · have e : fsT h a st = a := by unfold fsT; rw [if_neg (by omega)]
        rw [e] at g98
        exact g98
      · have e : fsT h a st = h := by unfold fsT; rw [if_pos (by omega)]
        rw [e] at g98
        exact g98
def lgV0 (Ts : List tok) : Int × Int := if 2 ≤ tV Ts 1 ∧ tV Ts 1 ≤ 7 then (0, -1) else (5, tP Ts 1)
theorem ts_all {F : pM → Prop} (tk : TkT M0 Ts) (hP : mU Ts 0 10 (mU Ts 1 2 (mU Ts 2 4 (prs Ts 401 3 0 0))) = none) (fA : frA M0 M) (z20 : M 241 20 = 0) (z21 : M 241 21 = -1) (hTO : TO = tsm Ts (lgN Ts) 401 3 3 ([], [], false, [], [], lgV0 Ts)) (k : ∀ M' L w, frTd M0 M' → M' 241 20 = w.1 → M' 241 21 = w.2 → M' 241 35 = lgN Ts → ToR M' 8 L → okK L → okFw w → Pm1 w → TO = (if w.1 ≠ 0 then (w.1, w.2, 0, []) else (0, -1, lgN Ts, L)) → F M') : pNv true X mX6_tellAll 4 [pR 241] S M F := by
  have tl := tk.1.2.2.2.1
  have o0 : okH Ts 0 := ⟨by decide, by omega, fun j hj => by omega⟩
  obtain ⟨a1, a2, hP⟩ := no_mU hP
  obtain ⟨b1, b2, hP⟩ := no_mU hP
  obtain ⟨c1, c2, hP⟩ := no_mU hP
  have o1 : okH Ts 1 := o0.next tk.1 a2 (by omega) (by omega)
  have o2 : okH Ts 2 := o1.next tk.1 b2 (by omega) (by omega)
  have o3 : okH Ts 3 := o2.next tk.1 c2 (by omega) (by omega)
  obtain ⟨v1, v9, p0, p1⟩ := tv_bd tk o1
  have v9 := v9 b1
  have hn : 2 ≤ lgN Ts ∧ lgN Ts ≤ 7 := by unfold lgN; split <;> omega
  refine eX6_tellAll (bX6_tellAll_0 (fun M1 e1 M2 e2 M3 e3 M4 e4 M5 e5 M6 e6 => ?_))
  have v5 : M5 255 1 = tV Ts 1 := by
    have q := (tk.2 1 o1).2.2.1 (by omega) (by omega) (by omega)
    rw [wht_i b1] at q
    rw [e5, up_ne (by decide), e4, up_ne (by decide), e3, up_ne (by decide), e2, up_ne (by decide), e1, up_ne (by decide), fA.1 255 (by decide)]
    exact q
  rw [v5] at e6
  have ot : ∀ x, x ≠ 241 → x ≠ 260 → M6 x = M0 x := fun x h1 h2 => by rw [e6, up_ne h1, e5, up_ne h2, e4, up_ne h1, e3, up_ne h1, e2, up_ne h1, e1, up_ne h1]; exact fA.1 x h1
  have fl : ∀ j, j ≠ 19 → j ≠ 31 → j ≠ 22 → j ≠ 34 → j ≠ 35 → M6 241 j = M 241 j := fun j h1 h2 h3 h4 h5 => by rw [e6, up_oi h5, e5, up_ne (by decide), e4, up_oi h4, e3, up_oi h3, e2, up_oi h2, e1, up_oi h1]
  have st6 : ∀ n', M6 241 35 = n' → TSt M0 Ts n' M6 3 [] [] false [] [] (0, -1) := fun n' hn' => by
    refine ⟨⟨fun x a b => ot x a (by omega), fun j h1 h2 h3 h4 h5 h6 h7 => by rw [fl j h1 h5 h4 h6 h7]; exact fA.2 j h1 h2 h3 h4 h5⟩, ⟨?_, ?_, ?_, ?_, hn', ?_, ?_⟩, ⟨⟨⟨?_, fun i a b => by simp at b; omega⟩, by simp, fun e he => by cases he⟩, fun (z : false = true) => (by cases z), fun p hp => by simp at hp, ⟨trivial, rfl⟩, by decide, by decide⟩, ⟨⟨Int.le_refl _, show (0 : Int) ≤ 6 by decide⟩, fun z => absurd rfl z⟩, o3⟩
    · rw [e6, up_oi (by decide), e5, up_ne (by decide), e4, up_oi (by decide), e3, up_oi (by decide), e2, up_oi (by decide), e1, up_same]; rfl
    · rw [e6, up_oi (by decide), e5, up_ne (by decide), e4, up_oi (by decide), e3, up_oi (by decide), e2, up_same]; rfl
    · rw [e6, up_oi (by decide), e5, up_ne (by decide), e4, up_oi (by decide), e3, up_same]; rfl
    · rw [e6, up_oi (by decide), e5, up_ne (by decide), e4, up_same]; rfl
    · rw [fl 20 (by decide) (by decide) (by decide) (by decide) (by decide)]; exact z20
    · rw [fl 21 (by decide) (by decide) (by decide) (by decide) (by decide)]; exact z21
    · show M6 260 8 = _
      rw [e6, up_ne (by decide), e5, up_same]; rfl
  have z35 : M6 241 35 = tV Ts 1 := by rw [e6, up_same]
  have go : ∀ M7, TSt M0 Ts (lgN Ts) M7 3 [] [] false [] [] (lgV0 Ts) → wX6_tellAll_68 X F S M7 := fun M7 t7 => by
    refine bX6_tellAll_68 ?_
    rw [t7.2.1.1]
    refine ts_loop tk hn k 401 3 3 M7 [] [] false [] [] (lgV0 Ts) t7 o3 (by decide) hP ?_ hTO
    unfold lgV0
    split
    · exact fun _ => rfl
    · exact fun z => absurd (show (5 : Int) = 0 from z) (by decide)
  have g56 : ¬ (2 ≤ tV Ts 1 ∧ tV Ts 1 ≤ 7) → wX6_tellAll_56 X F S M6 := fun bad => by
    refine bX6_tellAll_56 (ts_tells (j := 1) tk (st6 (tV Ts 1) z35) (by decide) o1 (fun M7 t7 M8 e8 => go M8 ?_))
    have ew : wr (0, -1) 5 (tP Ts 1) = lgV0 Ts := by
      unfold wr lgV0
      rw [if_neg (fun z => z.1 rfl), if_neg bad]
    have en : lgN Ts = 7 := by unfold lgN; rw [if_neg bad]
    rw [ew] at t7
    rw [en]
    obtain ⟨p1, ⟨q1, q2, q3, q4, q5, q6, q7⟩, p3, p4, p5⟩ := t7
    refine ⟨⟨fun x a b => by rw [e8, up_ne a]; exact p1.1 x a b, fun j h1 h2 h3 h4 h5 h6 h7 => by rw [e8, up_oi h7]; exact p1.2 j h1 h2 h3 h4 h5 h6 h7⟩, ⟨?_, ?_, ?_, ?_, by rw [e8, up_same], ?_, ?_⟩, p3.u (fun x hx => by rw [e8, up_ne hx]), p4, p5⟩
    · rw [e8, up_oi (by decide)]; exact q1
    · rw [e8, up_oi (by decide)]; exact q2
    · rw [e8, up_oi (by decide)]; exact q3
    · rw [e8, up_oi (by decide)]; exact q4
    · rw [e8, up_oi (by decide)]; exact q6
    · rw [e8, up_oi (by decide)]; exact q7
  rw [z35]
  refine ⟨by constructor <;> omega, fun y => g56 (by omega), fun y => ⟨by constructor <;> omega, fun z => go M6 ?_, fun z => g56 (by omega)⟩⟩
  have ew : lgV0 Ts = (0, -1) := by unfold lgV0; rw [if_pos ⟨y, z⟩]
  have en : lgN Ts = tV Ts 1 := by unfold lgN; rw [if_pos ⟨y, z⟩]
  rw [ew, en]
  exact st6 _ z35
end
