/-! ===== the twin tells: small steps ===== -/
set_option maxRecDepth 100000
def putL (L A : List elt) : List elt := (L ++ A).take 201
def lgT (L : List elt) : Bool := decide (200 < L.length ∨ 20 < mb L)
def okK (L : List elt) : Prop := L.length ≤ 201 ∧ ∀ e ∈ L, 0 ≤ e.1 ∧ e.1 ≤ 3
def ToR (M : pM) (p : Int) (L : List elt) : Prop := M 260 p = L.length ∧ ∀ i : Int, 0 ≤ i → i < L.length → M 261 (201 * p + i) = (el L i).1 ∧ M 262 (201 * p + i) = (el L i).2.1 ∧ M 263 (201 * p + i) = (el L i).2.2.1 ∧ M 264 (201 * p + i) = (el L i).2.2.2
/-- only what is told of p changes -/
def frX (p : Int) (M M' : pM) : Prop := (∀ x, x < 260 ∨ 264 < x → M' x = M x) ∧ ∀ (q : Int) (L : List elt), q ≠ p → 0 ≤ q → L.length ≤ 201 → ToR M q L → ToR M' q L
theorem frX.refl (p : Int) (M : pM) : frX p M M := ⟨fun _ _ => rfl, fun _ _ _ _ _ h => h⟩
theorem frX.trans {p : Int} {M M1 M2 : pM} (a : frX p M M1) (b : frX p M1 M2) : frX p M M2 := ⟨fun x h => (b.1 x h).trans (a.1 x h), fun q L h1 h2 h3 h => b.2 q L h1 h2 h3 (a.2 q L h1 h2 h3 h)⟩
theorem putL_len (L A : List elt) : (putL L A).length ≤ 201 := by unfold putL; rw [List.length_take]; omega
theorem okK.put {L A : List elt} (h : okK L) (hA : ∀ e ∈ A, 0 ≤ e.1 ∧ e.1 ≤ 3) : okK (putL L A) := ⟨putL_len _ _, fun e he => by
  unfold putL at he
  rcases List.mem_append.1 (List.mem_of_mem_take he) with w | w
  · exact h.2 e w
  · exact hA e w⟩
theorem putL_nil {L : List elt} (h : L.length ≤ 201) : putL L [] = L := by unfold putL; rw [List.append_nil, List.take_of_length_le h]
theorem putL_app {L A B : List elt} : putL (putL L A) B = putL L (A ++ B) := by
  unfold putL
  rw [← List.append_assoc]
  by_cases h : (L ++ A).length ≤ 201
  · rw [List.take_of_length_le h]
  · have h1 : ((L ++ A).take 201).length = 201 := by rw [List.length_take]; omega
    rw [List.take_append_of_le_length (by omega), List.take_take, List.take_append_of_le_length (show 201 ≤ (L ++ A).length by omega)]
    rfl
section
variable {X : px} {S : List psh} {M : pM}
theorem tl_put {F : pM → Prop} {p : Int} {L : List elt} {e : elt} (hp : 0 ≤ p ∧ p < 9) (hi : M 241 34 = p) (to : ToR M p L) (hL : L.length ≤ 201) (k : ∀ M', frX p M M' → ToR M' p (putL L [e]) → F M') : pNv true X mX6_put 1 [pR 241, pI e.1, pI e.2.1, pI e.2.2.1, pI e.2.2.2] S M F := by
  obtain ⟨t1, t2⟩ := to
  refine eX6_put (bX6_put_0 ?_)
  rw [hi, t1]
  refine ⟨hp.1, hp.2, by constructor <;> omega, fun y => ?_, fun y => ?_⟩
  · have c0 : 0 ≤ 201 * p + (L.length : Int) := by omega
    have c1 : 201 * p + (L.length : Int) < 1809 := by omega
    refine ⟨hp.1, hp.2, c0, c1, fun M8 e8 => ⟨c0, c1, fun M11 e11 => ⟨c0, c1, fun M14 e14 => ⟨c0, c1, fun M17 e17 => ?_⟩⟩⟩⟩
    have z34 : M17 241 34 = p := by rw [e17, up_ne (by decide), e14, up_ne (by decide), e11, up_ne (by decide), e8, up_ne (by decide)]; exact hi
    have z60 : M17 260 p = L.length := by rw [e17, up_ne (by decide), e14, up_ne (by decide), e11, up_ne (by decide), e8, up_ne (by decide)]; exact t1
    rw [z34, z60]
    refine ⟨hp.1, hp.2, hp.1, hp.2, fun M22 e22 => ?_⟩
    generalize hc : 201 * p + (L.length : Int) = c at *
    have v0 : M22 260 = pu_up M 260 p (L.length + 1) 260 := by
      rw [e22]
      exact up_cong (by rw [e17, up_ne (by decide), e14, up_ne (by decide), e11, up_ne (by decide), e8, up_ne (by decide)])
    have v1 : M22 261 = pu_up M 261 c e.1 261 := by rw [e22, up_ne (by decide), e17, up_ne (by decide), e14, up_ne (by decide), e11, up_ne (by decide), e8]
    have v2 : M22 262 = pu_up M 262 c e.2.1 262 := by
      rw [e22, up_ne (by decide), e17, up_ne (by decide), e14, up_ne (by decide), e11]
      exact up_cong (by rw [e8, up_ne (by decide)])
    have v3 : M22 263 = pu_up M 263 c e.2.2.1 263 := by
      rw [e22, up_ne (by decide), e17, up_ne (by decide), e14]
      exact up_cong (by rw [e11, up_ne (by decide), e8, up_ne (by decide)])
    have v4 : M22 264 = pu_up M 264 c e.2.2.2 264 := by
      rw [e22, up_ne (by decide), e17]
      exact up_cong (by rw [e14, up_ne (by decide), e11, up_ne (by decide), e8, up_ne (by decide)])
    have pl : putL L [e] = L ++ [e] := by unfold putL; rw [List.take_of_length_le (by rw [List.length_append, List.length_cons, List.length_nil]; omega)]
    refine k M22 ⟨fun x hx => ?_, fun q L' h1 h2 h3 to' => ⟨?_, fun i a b => ?_⟩⟩ ?_
    · rw [e22, up_ne (by omega), e17, up_ne (by omega), e14, up_ne (by omega), e11, up_ne (by omega), e8, up_ne (by omega)]
    · rw [v0, up_oi h1]; exact to'.1
    · have ne : 201 * q + i ≠ c := by omega
      rw [v1, v2, v3, v4, up_oi ne, up_oi ne, up_oi ne, up_oi ne]
      exact to'.2 i a b
    · rw [pl]
      refine ⟨by rw [v0, up_same]; simp, fun i a b => ?_⟩
      rw [List.length_append, List.length_cons, List.length_nil] at b
      rw [v1, v2, v3, v4]
      by_cases f : i = L.length
      · rw [f, el_snoc, hc, up_same, up_same, up_same, up_same]
        exact ⟨rfl, rfl, rfl, rfl⟩
      · have ne : 201 * p + i ≠ c := by omega
        rw [el_app a (by omega), up_oi ne, up_oi ne, up_oi ne, up_oi ne]
        exact t2 i a (by omega)
  · have pl : putL L [e] = L := by unfold putL; rw [List.take_append_of_le_length (by omega), List.take_of_length_le hL]
    have := k M (frX.refl _ _)
    rw [pl] at this
    exact this ⟨t1, t2⟩
theorem mb_take_snoc {L : List elt} {i : Int} (h0 : 0 ≤ i) (h1 : i < L.length) : mb (L.take (i + 1).toNat) = mb (L.take i.toNat) + (if (el L i).1 = 3 then 1 else 0) := by
  rw [take_snoc h0 h1, mb_app, mb_one]
theorem tl_isLong {F : Int → pM → Prop} {p : Int} {L : List elt} (hp : 0 ≤ p ∧ p < 9) (hi : M 241 34 = p) (to : ToR M p L) (ok : okK L) (k1 : lgT L = true → F 1 M) (k0 : lgT L = false → F 0 M) : pNi true X mX6_isLong 1 [pR 241] S M F := by
  obtain ⟨t1, t2⟩ := to
  have loop : ∀ (d : Nat) (i : Int), i + d = L.length → 0 ≤ i → wX6_isLong_4 X F (mb (L.take i.toNat)) i S M := by
    intro d
    induction d with
    | zero =>
      intro i h1 h2
      have m := mb_bd L
      have l201 := ok.1
      refine bX6_isLong_4 ?_
      rw [hi, t1, List.take_of_length_le (by omega)]
      exact ⟨hp.1, hp.2, by constructor <;> omega, by constructor <;> omega, fun _ => ⟨hp.1, hp.2, by constructor <;> omega, fun y => k1 (decide_eq_true (Or.inl (by omega))), fun y => ⟨by constructor <;> omega, fun z => k0 (decide_eq_false (by omega)), fun z => k1 (decide_eq_true (Or.inr z))⟩⟩, fun y => by omega⟩
    | succ d ih =>
      intro i h1 h2
      have l201 := ok.1
      have kb := ok.2 _ (el_mem h2 (show i < L.length by omega))
      refine bX6_isLong_4 ?_
      rw [hi, t1, (t2 i h2 (by omega)).1]
      have nx := ih (i + 1) (by omega) (by omega)
      rw [mb_take_snoc h2 (by omega)] at nx
      refine ⟨hp.1, hp.2, by constructor <;> omega, by constructor <;> omega, fun y => by omega, fun _ => ⟨by omega, by omega, by constructor <;> omega, fun y => bX6_isLong_39 ?_, fun y => bX6_isLong_39 ?_⟩⟩
      · rw [if_neg y, Int.add_zero] at nx; exact nx
      · rw [if_pos y] at nx; exact nx
  exact eX6_isLong (bX6_isLong_0 (loop L.length 0 (by omega) (by omega)))
end
/-- what the twin holds -/
abbrev tst : Type := List elt × List elt × Bool × List (Int × Nat) × List (Int × List elt) × Int × Int
def fdL : List (Int × List elt) → Int → Option (List elt)
  | [], _ => none
  | (x, s) :: l, v => match fdL l v with
    | some r => some r
    | none => if x = v then some s else none
def inT (ip : Bool) (m : Nat) : Int := if ip = true then (m : Int) else 8
def chk (Ts : List tok) (ip : Bool) (st : List (Int × Nat)) (a : Nat) (L : List elt) (w : Int × Int) : Int × Int := if ip = false ∧ st.length = 0 then wrI (lgT L) w 6 (tP Ts a) else w
def elR (Ts : List tok) (h : Nat) : elt := (tK Ts h - 12, tV Ts (h + 1), 0, 1)
def myR (Ts : List tok) (h : Nat) : elt := (3, tV Ts (h + 1), tV Ts (h + 2), tV Ts (h + 3))
def myV (Ts : List tok) (n : Int) (h : Nat) (w : Int × Int) : Int × Int := wrI (decide (tV Ts (h + 3) < tV Ts (h + 2))) (wrI (decide (tV Ts (h + 3) < 1 ∨ 4 < tV Ts (h + 3))) (elW Ts n h w) 5 (tP Ts (h + 3))) 5 (tP Ts (h + 2))
def usL (Ts : List tok) (n : Int) (h : Nat) (L : List elt) (pts : List (Int × List elt)) : List elt := match fdL pts (tV Ts (h + 1)) with
  | none => L
  | some P => putL L (chL (usU Ts h) (usT Ts h) n P)
def usV (Ts : List tok) (h : Nat) (pts : List (Int × List elt)) (w : Int × Int) : Int × Int := match fdL pts (tV Ts (h + 1)) with
  | none => wr w 4 (tP Ts (h + 1))
  | some _ => w
def ptV (Ts : List tok) (h : Nat) (pts : List (Int × List elt)) (w : Int × Int) : Int × Int := match fdL pts (tV Ts (h + 1)) with
  | none => w
  | some _ => wr w 3 (tP Ts (h + 1))
def tmL (L : List elt) (t : Int) (fr : Nat) : List elt := if t = 0 then L.take fr else putL L (rep (L.drop fr) (t.toNat - 1))
def shT (Ts : List tok) (a : Nat) (s : tst) : tst := match s.2.2.2.1 with
  | [] => s
  | (t, fr) :: st => if t = -1 then (s.2.1, [], false, st, s.2.2.2.2.1 ++ [(tV Ts fr, s.1.take 200)], chk Ts false st a s.2.1 (wrI (lgT s.1) s.2.2.2.2.2 6 (tP Ts fr)))
    else (tmL s.1 t fr, s.2.1, s.2.2.1, st, s.2.2.2.2.1, chk Ts s.2.2.1 st a (tmL s.1 t fr) s.2.2.2.2.2)
def fsT (h a : Nat) (st : List (Int × Nat)) : Nat := if st.length = 0 then h else a
def tsm (Ts : List tok) (n : Int) : Nat → Nat → Nat → tst → Ot
  | 0, _, _, _ => (0, 0, 0, [])
  | f + 1, h, a, s =>
    if tK Ts h = 0 then (if s.2.2.2.2.2.1 ≠ 0 then (s.2.2.2.2.2.1, s.2.2.2.2.2.2, 0, []) else (0, -1, n, s.1))
    else if tK Ts h = 6 then tsm Ts n f (h + 1) (fsT h a s.2.2.2.1) (shT Ts (fsT h a s.2.2.2.1) s)
    else if tK Ts h = 11 then tsm Ts n f (h + 3) (fsT h a s.2.2.2.1) ([], s.1, true, [(-1, h + 1)], s.2.2.2.2.1, ptV Ts h s.2.2.2.2.1 s.2.2.2.2.2)
    else if tK Ts h = 12 ∨ tK Ts h = 13 ∨ tK Ts h = 14 then tsm Ts n f (h + 3) (fsT h a s.2.2.2.1) (putL s.1 [elR Ts h], s.2.1, s.2.2.1, s.2.2.2.1, s.2.2.2.2.1, chk Ts s.2.2.1 s.2.2.2.1 (fsT h a s.2.2.2.1) (putL s.1 [elR Ts h]) (elW Ts n h s.2.2.2.2.2))
    else if tK Ts h = 15 then tsm Ts n f (h + 5) (fsT h a s.2.2.2.1) (putL s.1 [myR Ts h], s.2.1, s.2.2.1, s.2.2.2.1, s.2.2.2.2.1, chk Ts s.2.2.1 s.2.2.2.1 (fsT h a s.2.2.2.1) (putL s.1 [myR Ts h]) (myV Ts n h s.2.2.2.2.2))
    else if tK Ts h = 16 then tsm Ts n f (usH Ts h) (fsT h a s.2.2.2.1) (usL Ts n h s.1 s.2.2.2.2.1, s.2.1, s.2.2.1, s.2.2.2.1, s.2.2.2.2.1, chk Ts s.2.2.1 s.2.2.2.1 (fsT h a s.2.2.2.1) (usL Ts n h s.1 s.2.2.2.2.1) (usV Ts h s.2.2.2.2.1 s.2.2.2.2.2))
    else if tK Ts h = 19 then tsm Ts n f (h + 3) (fsT h a s.2.2.2.1) (s.1, s.2.1, s.2.2.1, (tV Ts (h + 1), s.1.length) :: s.2.2.2.1, s.2.2.2.2.1, tmW Ts h s.2.2.2.2.2)
    else (0, 0, 0, [])
/-- a good grammar, step by step -/
theorem no_gO {Ts : List tok} {h : Nat} {p : Option (Int × Int)} (e : gO Ts h p = none) : h ≠ 400 ∧ p = none := by
  unfold gO at e
  split at e
  · cases e
  · exact ⟨by assumption, e⟩
theorem no_mU {Ts : List tok} {h : Nat} {kd : Int} {p : Option (Int × Int)} (e : mU Ts h kd p = none) : tK Ts h = kd ∧ h ≠ 400 ∧ p = none := by
  unfold mU at e
  split at e
  · exact ⟨by assumption, no_gO e⟩
  · cases e
theorem no_oP {Ts : List tok} {h d : Nat} {p : Option (Int × Int)} (e : oP Ts h d p = none) : tK Ts h = 5 ∧ d ≠ 4 ∧ h ≠ 400 ∧ p = none := by
  unfold oP at e
  split at e
  · split at e
    · cases e
    · exact ⟨by assumption, by assumption, no_gO e⟩
  · cases e
theorem no_oW {Ts : List tok} {h : Nat} {kd : Int} {p : Nat → Option (Int × Int)} (e : oW Ts h kd p = none) : (tK Ts h = kd ∧ h ≠ 400 ∧ p (h + 1) = none) ∨ (tK Ts h ≠ kd ∧ p h = none) := by
  unfold oW at e
  split at e
  · rename_i q
    exact Or.inl ⟨q, no_gO e⟩
  · rename_i q
    exact Or.inr ⟨q, e⟩
/-- after a whole statement the head stands well -/
theorem no_el {Ts : List tok} {N : Int} (t : okT Ts N) {h f d m : Nat} (o : okH Ts h) (e : tK Ts h = 12 ∨ tK Ts h = 13 ∨ tK Ts h = 14) (hp : prs Ts (f + 1) h d m = none) : okH Ts (h + 1) ∧ tK Ts (h + 1) = 2 ∧ okH Ts (h + 3) ∧ prs Ts f (h + 3) d m = none := by
  rw [kd_12 e] at hp
  obtain ⟨a1, hp⟩ := no_gO hp
  obtain ⟨b1, b2, hp⟩ := no_mU hp
  obtain ⟨c1, c2, hp⟩ := no_mU hp
  have o1 : okH Ts (h + 1) := o.next t a1 (by omega) (by omega)
  have o2 : okH Ts (h + 2) := o1.next t b2 (by omega) (by omega)
  exact ⟨o1, b1, o2.next t c2 (by omega) (by omega), hp⟩
theorem no_my {Ts : List tok} {N : Int} (t : okT Ts N) {h f d m : Nat} (o : okH Ts h) (e : tK Ts h = 15) (hp : prs Ts (f + 1) h d m = none) : (okH Ts (h + 1) ∧ tK Ts (h + 1) = 2) ∧ (okH Ts (h + 2) ∧ tK Ts (h + 2) = 2) ∧ (okH Ts (h + 3) ∧ tK Ts (h + 3) = 2) ∧ okH Ts (h + 5) ∧ prs Ts f (h + 5) d m = none := by
  rw [kd_15 e] at hp
  obtain ⟨a1, hp⟩ := no_gO hp
  obtain ⟨b1, b2, hp⟩ := no_mU hp
  obtain ⟨c1, c2, hp⟩ := no_mU hp
  obtain ⟨d1, d2, hp⟩ := no_mU hp
  obtain ⟨e1, e2, hp⟩ := no_mU hp
  have o1 : okH Ts (h + 1) := o.next t a1 (by omega) (by omega)
  have o2 : okH Ts (h + 2) := o1.next t b2 (by omega) (by omega)
  have o3 : okH Ts (h + 3) := o2.next t c2 (by omega) (by omega)
  have o4 : okH Ts (h + 4) := o3.next t d2 (by omega) (by omega)
  exact ⟨⟨o1, b1⟩, ⟨o2, c1⟩, ⟨o3, d1⟩, o4.next t e2 (by omega) (by omega), hp⟩
theorem no_us {Ts : List tok} {N : Int} (t : okT Ts N) {h f d m : Nat} (o : okH Ts h) (e : tK Ts h = 16) (hp : prs Ts (f + 1) h d m = none) : (okH Ts (h + 1) ∧ tK Ts (h + 1) = 1) ∧ okH Ts (h + 2) ∧ okH Ts (h + 2 + usU Ts h) ∧ okH Ts (usH Ts h) ∧ prs Ts f (usH Ts h) d m = none := by
  rw [kd_16 e] at hp
  obtain ⟨a1, hp⟩ := no_gO hp
  obtain ⟨b1, b2, hp⟩ := no_mU hp
  have o1 : okH Ts (h + 1) := o.next t a1 (by omega) (by omega)
  have o2 : okH Ts (h + 2) := o1.next t b2 (by omega) (by omega)
  have s1 : okH Ts (h + 2 + usU Ts h) ∧ oW Ts (h + 2 + usU Ts h) 18 (fun j => mU Ts j 4 (prs Ts f (j + 1) d m)) = none := by
    rcases no_oW hp with ⟨q1, q2, q3⟩ | ⟨q1, q2⟩
    · have eU : usU Ts h = 1 := by unfold usU; rw [if_pos q1]
      rw [eU]
      exact ⟨o2.next t q2 (show tK Ts (h + 2) ≠ 0 by omega) (show tK Ts (h + 2) ≠ 3 by omega), q3⟩
    · have eU : usU Ts h = 0 := by unfold usU; rw [if_neg q1]
      rw [eU]
      exact ⟨o2, q2⟩
  have s2 : okH Ts (h + 2 + usU Ts h + usT Ts h) ∧ mU Ts (h + 2 + usU Ts h + usT Ts h) 4 (prs Ts f (h + 2 + usU Ts h + usT Ts h + 1) d m) = none := by
    rcases no_oW s1.2 with ⟨q1, q2, q3⟩ | ⟨q1, q2⟩
    · have eT : usT Ts h = 1 := by unfold usT; rw [if_pos q1]
      rw [eT]
      exact ⟨s1.1.next t q2 (by omega) (by omega), q3⟩
    · have eT : usT Ts h = 0 := by unfold usT; rw [if_neg q1]
      rw [eT]
      exact ⟨s1.1, q2⟩
  obtain ⟨c1, c2, hp⟩ := no_mU s2.2
  have eH : usH Ts h = h + 2 + usU Ts h + usT Ts h + 1 := by unfold usH; omega
  rw [eH]
  exact ⟨⟨o1, b1⟩, o2, s1.1, s2.1.next t c2 (by omega) (by omega), hp⟩
theorem no_pt {Ts : List tok} {N : Int} (t : okT Ts N) {h f d m : Nat} (o : okH Ts h) (e : tK Ts h = 11) (hp : prs Ts (f + 1) h d m = none) : d = 0 ∧ m ≠ 8 ∧ (okH Ts (h + 1) ∧ tK Ts (h + 1) = 1) ∧ okH Ts (h + 3) ∧ prs Ts f (h + 3) 1 (m + 1) = none := by
  rw [kd_11 e] at hp
  split at hp
  · cases hp
  · rename_i d0
    split at hp
    · cases hp
    · rename_i m8
      obtain ⟨a1, hp⟩ := no_gO hp
      obtain ⟨b1, b2, hp⟩ := no_mU hp
      obtain ⟨c1, _, c2, hp⟩ := no_oP hp
      have o1 : okH Ts (h + 1) := o.next t a1 (by omega) (by omega)
      have o2 : okH Ts (h + 2) := o1.next t b2 (by omega) (by omega)
      exact ⟨by omega, m8, ⟨o1, b1⟩, o2.next t c2 (by omega) (by omega), hp⟩
theorem no_tm {Ts : List tok} {N : Int} (t : okT Ts N) {h f d m : Nat} (o : okH Ts h) (e : tK Ts h = 19) (hp : prs Ts (f + 1) h d m = none) : d ≠ 4 ∧ (okH Ts (h + 1) ∧ tK Ts (h + 1) = 2) ∧ okH Ts (h + 3) ∧ prs Ts f (h + 3) (d + 1) m = none := by
  rw [kd_19 e] at hp
  obtain ⟨a1, hp⟩ := no_gO hp
  obtain ⟨b1, b2, hp⟩ := no_mU hp
  obtain ⟨c1, c0, c2, hp⟩ := no_oP hp
  have o1 : okH Ts (h + 1) := o.next t a1 (by omega) (by omega)
  have o2 : okH Ts (h + 2) := o1.next t b2 (by omega) (by omega)
  exact ⟨c0, ⟨o1, b1⟩, o2.next t c2 (by omega) (by omega), hp⟩
theorem no_sh {Ts : List tok} {N : Int} (t : okT Ts N) {h f d m : Nat} (o : okH Ts h) (e : tK Ts h = 6) (hp : prs Ts (f + 1) h d m = none) : d ≠ 0 ∧ okH Ts (h + 1) ∧ prs Ts f (h + 1) (d - 1) m = none := by
  rw [kd_6 e] at hp
  split at hp
  · cases hp
  · rename_i d0
    obtain ⟨a1, hp⟩ := no_gO hp
    exact ⟨d0, o.next t a1 (by omega) (by omega), hp⟩
theorem no_kd {Ts : List tok} {h f d m : Nat} (hp : prs Ts (f + 1) h d m = none) : tK Ts h = 0 ∨ tK Ts h = 6 ∨ tK Ts h = 11 ∨ (tK Ts h = 12 ∨ tK Ts h = 13 ∨ tK Ts h = 14) ∨ tK Ts h = 15 ∨ tK Ts h = 16 ∨ tK Ts h = 19 := by
  by_cases x : tK Ts h ≠ 0 ∧ tK Ts h ≠ 6 ∧ tK Ts h ≠ 11 ∧ tK Ts h ≠ 12 ∧ tK Ts h ≠ 13 ∧ tK Ts h ≠ 14 ∧ tK Ts h ≠ 15 ∧ tK Ts h ≠ 16 ∧ tK Ts h ≠ 19
  · rw [kd_x x] at hp; cases hp
  · omega
