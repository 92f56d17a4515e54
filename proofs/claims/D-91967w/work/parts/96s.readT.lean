/-! ===== read: the twin ===== -/
set_option maxRecDepth 100000
def rdK (σ : sgm) : Ot := rdO (tkL σ.2.2.1)
def q_read (σ : sgm) : Int := if σ.1.length = 6 then -2 else (rdK σ).1
def s_read (σ : sgm) : sgm := if σ.1.length = 6 then σ else if (rdK σ).1 = 0 then (σ.1 ++ [((rdK σ).2.2.1, (rdK σ).2.2.2)], σ.2.1, [], -1) else (σ.1, σ.2.1, [], (rdK σ).2.1)
/-- the places of the grammar's faults -/
def pbd (N : Int) (o : Option (Int × Int)) : Prop := ∀ q, o = some q → 0 ≤ q.2 ∧ q.2 ≤ N
theorem tP_bd {Ts : List tok} {N : Int} (t : okT Ts N) (h0 : 0 ≤ N) (j : Nat) : 0 ≤ tP Ts j ∧ tP Ts j ≤ N := by
  by_cases c : j < Ts.length
  · have := t.1 j c
    omega
  · unfold tP tkd
    rw [List.getD_eq_getElem?_getD, List.getElem?_eq_none (by omega), Option.getD_none]
    exact ⟨Int.le_refl _, h0⟩
theorem pb_some {Ts : List tok} {N k : Int} (t : okT Ts N) (h0 : 0 ≤ N) (j : Nat) : pbd N (some (k, tP Ts j)) := fun q e => by
  cases e
  exact tP_bd t h0 j
theorem pb_none {N : Int} : pbd N none := fun q e => by cases e
theorem pb_gO {Ts : List tok} {N : Int} (t : okT Ts N) (h0 : 0 ≤ N) {j : Nat} {p : Option (Int × Int)} (h : pbd N p) : pbd N (gO Ts j p) := by
  unfold gO
  split
  · exact pb_some t h0 j
  · exact h
theorem pb_mU {Ts : List tok} {N : Int} (t : okT Ts N) (h0 : 0 ≤ N) {j : Nat} {kd : Int} {p : Option (Int × Int)} (h : pbd N p) : pbd N (mU Ts j kd p) := by
  unfold mU
  split
  · exact pb_gO t h0 h
  · exact pb_some t h0 j
theorem pb_oP {Ts : List tok} {N : Int} (t : okT Ts N) (h0 : 0 ≤ N) {j d : Nat} {p : Option (Int × Int)} (h : pbd N p) : pbd N (oP Ts j d p) := by
  unfold oP
  split
  · split
    · exact pb_some t h0 j
    · exact pb_gO t h0 h
  · exact pb_some t h0 j
theorem pb_oW {Ts : List tok} {N : Int} (t : okT Ts N) (h0 : 0 ≤ N) {j : Nat} {kd : Int} {p : Nat → Option (Int × Int)} (h : ∀ i, pbd N (p i)) : pbd N (oW Ts j kd p) := by
  unfold oW
  split
  · exact pb_gO t h0 (h _)
  · exact h _
theorem pb_prs {Ts : List tok} {N : Int} (t : okT Ts N) (h0 : 0 ≤ N) : ∀ (f h d m : Nat), pbd N (prs Ts f h d m)
  | 0, _, _, _ => pb_none
  | f + 1, h, d, m => by
    have ih := pb_prs t h0 f
    rw [prs]
    split
    · split
      · exact pb_none
      · exact pb_some t h0 _
    split
    · split
      · exact pb_some t h0 _
      · exact pb_gO t h0 (ih _ _ _)
    split
    · split
      · exact pb_some t h0 _
      · split
        · exact pb_some t h0 _
        · exact pb_gO t h0 (pb_mU t h0 (pb_oP t h0 (ih _ _ _)))
    split
    · exact pb_gO t h0 (pb_mU t h0 (pb_mU t h0 (ih _ _ _)))
    split
    · exact pb_gO t h0 (pb_mU t h0 (pb_mU t h0 (pb_mU t h0 (pb_mU t h0 (ih _ _ _)))))
    split
    · exact pb_gO t h0 (pb_mU t h0 (pb_oW t h0 (fun i => pb_oW t h0 (fun j => pb_mU t h0 (ih _ _ _)))))
    split
    · exact pb_gO t h0 (pb_mU t h0 (pb_oP t h0 (ih _ _ _)))
    · exact pb_some t h0 _
theorem okT.le {Ts : List tok} {N N' : Int} (t : okT Ts N) (h : N ≤ N') : okT Ts N' := ⟨fun j hj => ⟨(t.1 j hj).1, by have := (t.1 j hj).2; omega⟩, t.2⟩
theorem tkt_of {M : pM} {tp : List Int} (h2 : tp.length ≤ 2000) (h : TTk M (upB (tkL tp))) : TkT M (tkL tp) := by
  refine ⟨(tkL_ok tp).le (by omega), fun j o => ?_⟩
  obtain ⟨a, b⟩ := upB_at (tkL tp) j o.2.1 o.2.2
  have := h.2 j a
  rw [b] at this
  exact this
/-- what reading leaves alone -/
def frRd (M M' : pM) : Prop := (∀ x, x ≤ 240 ∨ 267 ≤ x ∨ (242 ≤ x ∧ x ≤ 252) → M' x = M x) ∧ ∀ j, j = 0 ∨ j = 7 ∨ j = 12 ∨ j = 38 ∨ j = 39 → M' 241 j = M 241 j
theorem frRd.trans {M M1 M2 : pM} (a : frRd M M1) (b : frRd M1 M2) : frRd M M2 := ⟨fun x h => (b.1 x h).trans (a.1 x h), fun j h => (b.2 j h).trans (a.2 j h)⟩
theorem TI.rd {M M' : pM} {σ : sgm} (ti : TI M σ) (f : frRd M M') : TT M' ∧ THl M' σ.1 ∧ TLg M' σ.2.1 := by
  obtain ⟨tt, th, lg, _, _⟩ := ti
  refine ⟨?_, ?_, ?_⟩
  · rcases tt with z | ⟨n, z1, z2, z3⟩
    · exact Or.inl (by rw [f.2 38 (by decide)]; exact z)
    · exact Or.inr ⟨n, z1, z2, z3.fr (f.2 38 (by decide)) (f.2 39 (by decide)) (fun x p q => f.1 x (by omega))⟩
  · unfold THl
    rw [f.2 0 (by decide), f.1 242 (by decide), f.1 243 (by decide), f.1 244 (by decide), f.1 245 (by decide), f.1 246 (by decide), f.1 247 (by decide)]
    exact th
  · unfold TLg
    rw [f.2 7 (by decide), f.1 248 (by decide), f.1 249 (by decide), f.1 250 (by decide), f.1 251 (by decide)]
    exact lg
section
variable {X : px} {S : List psh} {M : pM} {σ : sgm}
theorem tw_read_op {F : Int → pM → Prop} (ti : TI M σ) (ok : okS σ) (k : ∀ M', TI M' (s_read σ) → okS (s_read σ) → (∀ x, x ≤ 240 ∨ 288 ≤ x → M' x = M x) → F (q_read σ) M') : pNi true X mX6_read 6 [pR 241] S M F := by
  have h6 := ok.1
  have hl := okS.len (t := 0) ok
  have h2000 := ok.2.2.2.1
  have hbt := ok.2.2.2.2.1
  refine eX6_read (bX6_read_0 ?_)
  rw [ti.2.1.1]
  refine ⟨by constructor <;> omega, fun n6 M2 e2 M3 e3 => ?_, fun e6 => ?_⟩
  · have n6 : σ.1.length ≠ 6 := by omega
    have eq_q : q_read σ = (rdK σ).1 := by unfold q_read; rw [if_neg n6]
    have f3 : frRd M M3 := ⟨fun x hx => by rw [e3, up_ne (by omega), e2, up_ne (by omega)], fun j hj => by rw [e3, up_oi (by omega), e2, up_oi (by omega)]⟩
    have z20 : M3 241 20 = 0 := by rw [e3, up_oi (by decide), e2, up_same]
    have z21 : M3 241 21 = -1 := by rw [e3, up_same]
    have tt3 : TTp M3 σ.2.2.1 := by
      unfold TTp
      rw [f3.2 12 (by decide), f3.1 252 (by decide)]
      exact ti.2.2.2.1
    have okt := tkL_ok σ.2.2.1
    have n0 : (0 : Int) ≤ σ.2.2.1.length := by omega
    refine tw_scanAll tt3 h2000 hbt (fun M4 f4 tk4 => ?_)
    have tk := tkt_of h2000 tk4
    have fr4 : frRd M M4 := f3.trans ⟨fun x hx => f4.1 x (by omega) (by omega) (by omega) (by omega) (by omega), fun j hj => f4.2 j (by omega)⟩
    have y20 : M4 241 20 = 0 := by rw [f4.2 20 (by decide)]; exact z20
    have y21 : M4 241 21 = -1 := by rw [f4.2 21 (by decide)]; exact z21
    have flt : ∀ M5 kf pf, frRd M M5 → M5 241 20 = kf → M5 241 21 = pf → (1 ≤ kf ∧ kf ≤ 6) → (0 ≤ pf ∧ pf ≤ 2000) → rdK σ = (kf, pf, 0, []) → wX6_read_37 X F S M5 := fun M5 kf pf f5 a b c d e => by
      refine bX6_read_37 ?_
      rw [a]
      refine ⟨by constructor <;> omega, fun _ => bX6_read_105 (fun M6 e6 => ?_), fun z => by omega⟩
      have g20 : M6 241 20 = q_read σ := by rw [e6, up_oi (by decide), a, eq_q, e]
      rw [g20]
      have es : s_read σ = (σ.1, σ.2.1, [], pf) := by
        unfold s_read
        rw [if_neg n6, e, if_neg (show ¬ kf = 0 by omega)]
      obtain ⟨r1, r2, r3⟩ := ti.rd (f5 : frRd M M5)
      have o6 : ∀ x, x ≠ 241 → M6 x = M5 x := fun x hx => by rw [e6, up_ne hx]
      have j6 : ∀ j, j ≠ 12 → M6 241 j = M5 241 j := fun j hj => by rw [e6, up_oi hj]
      refine k M6 ?_ ?_ (fun x hx => (o6 x (by omega)).trans (f5.1 x (by omega)))
      · rw [es]
        refine ⟨?_, ?_, ?_, ⟨by rw [e6, up_same]; rfl, fun i p q => by simp at q; omega⟩, (j6 21 (by decide)).trans b⟩
        · rcases r1 with z | ⟨n, z1, z2, z3⟩
          · exact Or.inl (by rw [j6 38 (by decide)]; exact z)
          · exact Or.inr ⟨n, z1, z2, z3.fr (j6 38 (by decide)) (j6 39 (by decide)) (fun x p q => o6 x (by omega))⟩
        · unfold THl
          rw [j6 0 (by decide), o6 242 (by decide), o6 243 (by decide), o6 244 (by decide), o6 245 (by decide), o6 246 (by decide), o6 247 (by decide)]
          exact r2
        · unfold TLg
          rw [j6 7 (by decide), o6 248 (by decide), o6 249 (by decide), o6 250 (by decide), o6 251 (by decide)]
          exact r3
      · rw [es]
        exact ⟨ok.1, ok.2.1, ok.2.2.1, by simp, fun x hx => (by cases hx), by show -1 ≤ pf; omega, by show pf ≤ 2000; omega⟩
    refine tp_parses tk rfl (fun M5 ft => ?_) (fun M5 hN f5 => ⟨by constructor <;> decide, fun z => by omega, fun _ => ?_⟩)
    · obtain ⟨kf, pf, e1, e2, e3, e4, f5⟩ := ft
      refine ⟨by constructor <;> decide, fun _ => flt M5 kf pf (fr4.trans ⟨fun x hx => f5.1 x (by omega), fun j hj => f5.2 j (by omega) (by omega) (by omega) (by omega) (by omega)⟩) e3 e4 e2 ?_ ?_, fun z => absurd rfl z⟩
      · have := (pb_mU okt n0 (pb_mU okt n0 (pb_mU okt n0 (pb_prs okt n0 401 3 0 0)))) _ e1
        have := this.2
        have q0 := (pb_mU okt n0 (pb_mU okt n0 (pb_mU okt n0 (pb_prs okt n0 401 3 0 0)))) _ e1
        exact ⟨q0.1, by show pf ≤ 2000; have : pf ≤ (σ.2.2.1.length : Int) := this; omega⟩
      · unfold rdK rdO
        rw [e1]
        rfl
    · have fA := f5.A
      have law := law_rd okt hN
      have eK : rdK σ = sem (tkL σ.2.2.1) (lgN (tkL σ.2.2.1)) 401 3 (emS, [], [], lgW0 (tkL σ.2.2.1)) := by
        unfold rdK rdO
        rw [hN]
        rfl
      refine ts_all tk hN fA (by rw [f5.2 20 (by decide) (by decide) (by decide)]; exact y20) (by rw [f5.2 21 (by decide) (by decide) (by decide)]; exact y21) rfl (fun M6 L w f6 a20 a21 a35 to okk okw pm eT => ?_)
      rw [← law.1, ← eK] at eT
      have lO : OUT (lgN (tkL σ.2.2.1)) (rdK σ) := by rw [eK]; exact law.2
      have fr6 : frRd M M6 := fr4.trans ⟨fun x hx => f6.1 x (by omega) (by omega), fun j hj => f6.2 j (by omega) (by omega) (by omega) (by omega) (by omega) (by omega) (by omega)⟩
      by_cases w0 : w.1 = 0
      · rw [if_neg (fun c => c w0)] at eT
        rw [w0] at a20
        rw [pm w0] at a21
        have okL' : okL (lgN (tkL σ.2.2.1)) L := by
          have := lO (by rw [eT])
          rw [eT] at this
          exact this
        have L200 := okL'.2.2.1
        refine bX6_read_37 ?_
        rw [a20, a35]
        refine ⟨by constructor <;> decide, fun z => absurd rfl z, fun _ => ?_⟩
        obtain ⟨r1, r2, r3⟩ := ti.rd fr6
        refine tw_begin r2 (by omega) (fun M7 f7 th7 => ?_)
        have loop : ∀ (d i : Nat) (M8 : pM), i + d = L.length → frZ M6 M8 → THl M8 (σ.1 ++ [(lgN (tkL σ.2.2.1), L.take i)]) → wX6_read_54 X F i S M8 := by
          intro d
          induction d with
          | zero =>
            intro i M8 q1 f8 th8
            have z8 : M8 260 8 = L.length := by rw [f8.1 260 (by decide)]; exact to.1
            refine bX6_read_54 ?_
            rw [z8]
            refine ⟨by constructor <;> omega, by constructor <;> omega, fun _ => bX6_read_105 (fun M9 e9 => ?_), fun y => by omega⟩
            rw [List.take_of_length_le (by omega)] at th8
            have g20 : M9 241 20 = q_read σ := by rw [e9, up_oi (by decide), f8.2 20 (by decide), a20, eq_q, eT]
            rw [g20]
            have es : s_read σ = (σ.1 ++ [(lgN (tkL σ.2.2.1), L)], σ.2.1, [], -1) := by
              unfold s_read
              rw [if_neg n6, eT]
              rfl
            have o9 : ∀ x, x ≠ 241 → M9 x = M8 x := fun x hx => by rw [e9, up_ne hx]
            have j9 : ∀ j, j ≠ 12 → M9 241 j = M8 241 j := fun j hj => by rw [e9, up_oi hj]
            refine k M9 ?_ ?_ (fun x hx => ((o9 x (by omega)).trans (f8.1 x (by omega))).trans (fr6.1 x (by omega)))
            · rw [es]
              refine ⟨?_, ?_, ?_, ⟨by rw [e9, up_same]; rfl, fun i p q => by simp at q; omega⟩, ?_⟩
              · rcases r1 with z | ⟨n, z1, z2, z3⟩
                · exact Or.inl (by rw [j9 38 (by decide), f8.2 38 (by decide)]; exact z)
                · exact Or.inr ⟨n, z1, z2, z3.fr ((j9 38 (by decide)).trans (f8.2 38 (by decide))) ((j9 39 (by decide)).trans (f8.2 39 (by decide))) (fun x p q => (o9 x (by omega)).trans (f8.1 x (by omega)))⟩
              · show THl M9 (σ.1 ++ [(lgN (tkL σ.2.2.1), L)])
                unfold THl
                rw [j9 0 (by decide), o9 242 (by decide), o9 243 (by decide), o9 244 (by decide), o9 245 (by decide), o9 246 (by decide), o9 247 (by decide)]
                exact th8
              · show TLg M9 σ.2.1
                unfold TLg
                rw [j9 7 (by decide), f8.2 7 (by decide), o9 248 (by decide), f8.1 248 (by decide), o9 249 (by decide), f8.1 249 (by decide), o9 250 (by decide), f8.1 250 (by decide), o9 251 (by decide), f8.1 251 (by decide)]
                exact r3
              · show M9 241 21 = -1
                rw [j9 21 (by decide), f8.2 21 (by decide)]
                exact a21
            · rw [es]
              have oa := ok_add1 ok (by omega) okL'
              exact ⟨oa.1, oa.2.1, oa.2.2.1, by simp, fun x hx => (by cases hx), by show (-1 : Int) ≤ -1; decide, by show (-1 : Int) ≤ 2000; decide⟩
          | succ d ih =>
            intro i M8 q1 f8 th8
            have z8 : M8 260 8 = L.length := by rw [f8.1 260 (by decide)]; exact to.1
            have t2 := to.2 i (by omega) (by omega)
            refine bX6_read_54 ?_
            rw [z8, f8.1 261 (by decide), f8.1 262 (by decide), f8.1 263 (by decide), f8.1 264 (by decide), show (1608 : Int) + (i : Int) = 201 * 8 + (i : Int) by omega, t2.1, t2.2.1, t2.2.2.1, t2.2.2.2]
            refine ⟨by constructor <;> omega, by constructor <;> omega, fun y => by omega, fun _ => ⟨by omega, by omega, by omega, by omega, by omega, by omega, by omega, by omega, ?_⟩⟩
            refine tw_add th8 (by omega) (by rw [List.length_take]; omega) hl (fun M9 f9 th9 => ?_)
            have := ih (i + 1) M9 (by omega) (f8.trans f9) (by
              have e := take_snoc (L := L) (i := i) (by omega) (by omega)
              rw [show ((i : Int) + 1).toNat = i + 1 by omega, show ((i : Int)).toNat = i by omega] at e
              rw [e]
              exact th9)
            rw [Int.natCast_succ] at this
            exact this
        exact loop L.length 0 M7 (by omega) f7 (by rw [List.take_zero]; exact th7)
      · rw [if_pos w0] at eT
        have b1 := okw.1
        exact flt M6 w.1 w.2 fr6 a20 a21 (by omega) (okw.2 w0) eT
  · have e6 : σ.1.length = 6 := by omega
    have es : s_read σ = σ := by unfold s_read; rw [if_pos e6]
    have eq_q : q_read σ = -2 := by unfold q_read; rw [if_pos e6]
    have := k M (by rw [es]; exact ti) (by rw [es]; exact ok) (fun _ _ => rfl)
    rw [eq_q] at this
    exact this
end
