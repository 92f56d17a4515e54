/-! ===== the component reads: small steps ===== -/
set_option maxRecDepth 100000
def RdW (S0 : List psh) (M0 : pM) (B : Int) (S : List psh) (M : pM) : Prop := S0 <+: S ∧ (∀ x : Int, 0 ≤ x → x < S0.length → x ≠ 16 → x ≠ 17 → x ≠ 18 → M x = M0 x) ∧ (S.length : Int) ≤ S0.length + B ∧ (pu_hs S : Int) ≤ pu_hs S0 + 8 * B
theorem RdW.u16 {S0 S : List psh} {M0 M M' : pM} {B : Int} (h : RdW S0 M0 B S M) (f : ∀ x, x ≠ 16 → M' x = M x) : RdW S0 M0 B S M' := ⟨h.1, fun x a b c d e => by rw [f x c]; exact h.2.1 x a b c d e, h.2.2⟩
theorem RdW.le {S0 S : List psh} {M0 M : pM} {B B' : Int} (h : RdW S0 M0 B S M) (l : B ≤ B') : RdW S0 M0 B' S M := ⟨h.1, h.2.1, by have := h.2.2.1; omega, by have := h.2.2.2; omega⟩
theorem RdW.grow {S0 S S' : List psh} {M0 M M' : pM} {B c s : Int} (h : RdW S0 M0 B S M) (g : grw S S' c s) (hs : s ≤ 8 * c) (f : ∀ x : Int, 0 ≤ x → x < S0.length → M' x = M x) : RdW S0 M0 (B + c) S' M' := ⟨h.1.trans g.1, fun x a b c d e => by rw [f x a b]; exact h.2.1 x a b c d e, by have := h.2.2.1; have := g.2.1; omega, by have := h.2.2.2; have := g.2.2; omega⟩
def RdF (M : pM) (h d : Nat) (n : Int) (m : Nat) (w : Int × Int) : Prop := M 16 1 = h ∧ M 16 2 = d ∧ M 16 3 = n ∧ M 16 4 = w.1 ∧ (w.1 ≠ 0 → M 16 5 = w.2) ∧ (M 16 8 = m ∧ m ≤ 8)
def okFw (w : Int × Int) : Prop := (0 ≤ w.1 ∧ w.1 ≤ 6) ∧ (w.1 ≠ 0 → 0 ≤ w.2 ∧ w.2 ≤ 2000)
theorem okFw.w1 {w : Int × Int} {k p : Int} (h : okFw w) (hk : 1 ≤ k ∧ k ≤ 6) (hp : 0 ≤ p ∧ p ≤ 2000) : okFw (wr w k p) := by
  unfold wr
  split
  · exact h
  · exact ⟨⟨show (0 : Int) ≤ k by omega, show k ≤ 6 by omega⟩, fun _ => hp⟩
theorem okFw.wI {b : Bool} {w : Int × Int} {k p : Int} (h : okFw w) (hk : 1 ≤ k ∧ k ≤ 6) (hp : 0 ≤ p ∧ p ≤ 2000) : okFw (wrI b w k p) := by
  unfold wrI
  split
  · exact h.w1 hk hp
  · exact h
def exS (s : sps) : Prop := s.2.1 ≤ 200 → (s.1.length : Int) = s.2.1 ∧ mb s.1 = s.2.2
def okSp (s : sps) : Prop := (s.1.length ≤ 200 ∧ exS s) ∧ (0 ≤ s.2.1 ∧ s.2.1 ≤ 100000) ∧ (0 ≤ s.2.2 ∧ s.2.2 ≤ 100000)
def StA (S0 : List psh) (β : Int) (S : List psh) (M : pM) (s : Int) (cur : sps) : Prop := (∃ c, StB β S M s cur.1 c cur.2.1 cur.2.2) ∧ (S0.length : Int) ≤ β ∧ β ≤ S.length ∧ okSp cur
def ptd (pts : List (Int × sps)) (k : Nat) : Int × sps := pts.getD k (0, emS)
def PtR (S : List psh) (M : pM) (s : Int) (pts : List (Int × sps)) : Prop := ∀ k : Nat, k < pts.length → M 17 k = (ptd pts k).1 ∧ (∃ c, StB 288 S M (M 18 k) (ptd pts k).2.1 c (ptd pts k).2.2.1 (ptd pts k).2.2.2) ∧ okSp (ptd pts k).2 ∧ apS M (M 18 k) s ∧ 0 ≤ (ptd pts k).1 ∧ (ptd pts k).1 < 282429536481
def FtR (S0 : List psh) (M0 : pM) (O : Ot) (NB : Int) (r : Int) (S : List psh) (M : pM) : Prop := shq S r = some (.inl 11, 8) ∧ (∃ k p, O = (k, p, 0, []) ∧ (1 ≤ k ∧ k ≤ 6) ∧ M r 6 = k ∧ M r 7 = p) ∧ RdW S0 M0 NB S M
theorem StA.u16 {S0 S : List psh} {β s : Int} {M M' : pM} {cur : sps} (h : StA S0 β S M s cur) (f : ∀ x, x ≠ 16 → M' x = M x) : StA S0 β S M' s cur := by
  obtain ⟨⟨c, a⟩, b⟩ := h
  exact ⟨⟨c, a.fr (List.prefix_refl _) (fun x p _ => f x (by omega))⟩, b⟩
theorem apS.fr {M M' : pM} {o s : Int} (h : apS M o s) (h1 : M' o = M o) (h2 : M' (M o 0) = M (M o 0)) (h3 : M' s = M s) (h4 : M' (M s 0) = M (M s 0)) : apS M' o s := by
  unfold apS
  rw [h1, h2, h3, h4]
  exact h
theorem StB.cells {β : Int} {S : List psh} {M : pM} {s c sz mbs : Int} {L : List elt} (h : StB β S M s L c sz mbs) : (288 ≤ s ∧ s < S.length) ∧ 288 ≤ M s 0 ∧ M s 0 < S.length := by
  obtain ⟨l, a0, a1, a2, a3, a4, _⟩ := h
  exact ⟨⟨by omega, (shq_lt a2).2⟩, by omega, (shq_lt a4.1).2⟩
/-- parts stay when old cells stay -/
theorem PtR.fr {S S' : List psh} {M M' : pM} {s : Int} {pts : List (Int × sps)} (h : PtR S M s pts) (hs : S <+: S') (ss : (288 ≤ s ∧ s < S.length) ∧ 288 ≤ M s 0 ∧ M s 0 < S.length) (h17 : M' 17 = M 17) (h18 : M' 18 = M 18) (f : ∀ x : Int, 288 ≤ x → x < S.length → M' x = M x) : PtR S' M' s pts := by
  intro k hk
  obtain ⟨a1, ⟨c, a2⟩, a3, a4, a5⟩ := h k hk
  have cc := a2.cells
  rw [h17, h18]
  exact ⟨a1, ⟨c, a2.fr hs f⟩, a3, a4.fr (f _ cc.1.1 cc.1.2) (f _ cc.2.1 cc.2.2) (f _ ss.1.1 ss.1.2) (f _ ss.2.1 ss.2.2), a5⟩
/-- parts stay when the steps beside them grow -/
theorem PtR.ly {β : Int} {S S' : List psh} {M M' : pM} {s c sz mbs : Int} {L : List elt} {pts : List (Int × sps)} (h : PtR S M s pts) (st : StB β S M s L c sz mbs) (hb : 288 ≤ β) (f : frLy β s S M S' M') : PtR S' M' s pts := by
  intro k hk
  obtain ⟨a1, ⟨c', a2⟩, a3, a4, a5⟩ := h k hk
  have w := st.w
  obtain ⟨f1, f2, f3, f4⟩ := f
  obtain ⟨o1, o2, o3⟩ := a2.other f1.1 w.2.2.2.1 w.2.2.2.2.1 a4 f2 st.arr
  rw [f1.2 17 (by decide) (by omega), f1.2 18 (by decide) (by omega)]
  refine ⟨a1, ⟨c', o1⟩, a3, ⟨a4.1, by rw [o2, f3]; exact a4.2.1, ?_⟩, a5⟩
  rw [o2, o3, f3]
  rcases f4 with z | z
  · rw [z]; exact a4.2.2
  · rcases a2.arr with y | ⟨n, y⟩
    · exact Or.inl y
    · exact Or.inr (by have := (shq_lt y).2; omega)
section
variable {Q : Prop} {X : px} {S0 S : List psh} {M0 M : pM} {Ts : List tok} {N : Int} {O : Ot} {E : Int → List psh → pM → Prop} {B : Int} {h d : Nat} {n : Int} {m : Nat} {w : Int × Int} {NB : Int}
/-- where the reader stands -/
def PS0 (Q : Prop) (S0 : List psh) (M0 : pM) (Ts : List tok) (NB : Int) (B : Int) (S : List psh) (M : pM) (h d : Nat) (n : Int) (m : Nat) (w : Int × Int) : Prop := RdW S0 M0 B S M ∧ RdF M h d n m w ∧ (okFw w ∧ (Q → w.1 ≠ 0)) ∧ okH Ts h ∧ B ≤ NB
/-- the tokens in the heap, and the room -/
def TkR (S0 : List psh) (M0 : pM) (Ts : List tok) (NB : Int) : Prop := 288 ≤ S0.length ∧ okT Ts 2000 ∧ (∀ j : Nat, j < Ts.length → j ≤ 400 → M0 13 j = tK Ts j ∧ M0 14 j = tP Ts j ∧ M0 15 j = tV Ts j) ∧ RM S0 (NB + 1000) (8 * (NB + 1000))
theorem tk_at (tk : TkR S0 M0 Ts NB) (rw' : RdW S0 M0 B S M) {j : Nat} (h1 : j < Ts.length) (h2 : j ≤ 400) : M 13 j = tK Ts j ∧ M 14 j = tP Ts j ∧ M 15 j = tV Ts j := by
  have l := tk.1
  rw [rw'.2.1 13 (by decide) (by omega) (by decide) (by decide) (by decide), rw'.2.1 14 (by decide) (by omega) (by decide) (by decide) (by decide), rw'.2.1 15 (by decide) (by omega) (by decide) (by decide) (by decide)]
  exact tk.2.2.1 j h1 h2
theorem tk_bd (tk : TkR S0 M0 Ts NB) {j : Nat} (h1 : j < Ts.length) : (0 ≤ tK Ts j ∧ tK Ts j ≤ 19) ∧ (0 ≤ tP Ts j ∧ tP Ts j ≤ 2000) ∧ (0 ≤ tV Ts j ∧ tV Ts j < 282429536481) ∧ (tK Ts j = 2 → tV Ts j ≤ 9999) := by
  obtain ⟨_, ⟨t1, _, _, _, _, t6, t7, t8⟩, _⟩ := tk
  exact ⟨t6 j h1, ⟨by have := (t1 j h1).1; omega, (t1 j h1).2⟩, t7 j h1, t8 j h1⟩
theorem rd_rm (tk : TkR S0 M0 Ts NB) (rw' : RdW S0 M0 B S M) (hB : B ≤ NB) : RM S 1000 8000 := ⟨by have := tk.2.2.2.1; have := rw'.2.2.1; omega, by have := tk.2.2.2.2; have := rw'.2.2.2; omega⟩
theorem rd_is {F : Int → pM → Prop} {x : Int} (tk : TkR S0 M0 Ts NB) (ps : PS0 Q S0 M0 Ts NB B S M h d n m w) (hx : inR x) (k1 : tK Ts h = x → F 1 M) (k0 : tK Ts h ≠ x → F 0 M) : pNi true X mX3_is 1 [pR 16, pI x] S M F := by
  obtain ⟨p1, p2, p3, p4, p5⟩ := ps
  have b := tk_bd tk p4.2.1
  have h4 := p4.1
  refine eX3_is (bX3_is_0 ?_)
  rw [p2.1, (tk_at tk p1 p4.2.1 p4.1).1]
  exact ⟨by omega, by omega, by constructor <;> omega, hx, fun y => k0 y, fun y => k1 y⟩
theorem x7_init {b : Bool} {F : pM → Prop} {r k p : Int} (h288 : 288 ≤ r) (hs : shq S r = some (.inl 11, 8)) (kk : ∀ M', (∀ x, x ≠ r → M' x = M x) → M' r 6 = k → M' r 7 = p → F M') : pNv b X mX7_init 5 [pR r, pI k, pI p] S M F := by
  refine eX7_init (bX7_init_0 ⟨⟨_, hs⟩, eJ9_init (bJ9_init_0 ⟨⟨_, hs⟩, eJ8_init (bJ8_init_0 ⟨⟨_, hs⟩, eJ7_init_2 (bJ7_init_2_0 ⟨⟨_, hs⟩, hs, nc_hi h288, fun M2 e2 => ⟨hs, nc_hi h288, fun M5 e5 => ⟨hs, nc_hi h288, fun M8 e8 => ⟨by constructor <;> decide, fun _ => ⟨hs, nc_hi h288, fun M12 e12 => ⟨hs, nc_hi h288, fun M15 e15 => ⟨hs, nc_hi h288, fun M18 e18 => ⟨by constructor <;> decide, fun y => absurd rfl y, fun _ => ⟨hs, nc_hi h288, fun M22 e22 => ⟨hs, nc_hi h288, fun M3 e3 => ⟨hs, nc_hi h288, fun M6 e6 => ?_⟩⟩⟩⟩⟩⟩⟩, fun y => absurd rfl y⟩⟩⟩⟩)⟩)⟩)⟩)
  refine kk M6 (fun x hx => ?_) ?_ ?_
  · rw [e6, up_ne hx, e3, up_ne hx, e22, up_ne hx, e18, up_ne hx, e15, up_ne hx, e12, up_ne hx, e8, up_ne hx, e5, up_ne hx, e2, up_ne hx]
  · rw [e6, up_oi (by decide), e3, up_same]
  · rw [e6, up_same]
theorem rd_fault {kd : Int} (tk : TkR S0 M0 Ts NB) (ps : PS0 Q S0 M0 Ts NB B S M h d n m w) (hk : 1 ≤ kd ∧ kd ≤ 6) (hO : O = (kd, tP Ts h, 0, [])) (hE : ∀ r S' M', FtR S0 M0 O (NB + 1) r S' M' → E r S' M') : pAr true X mX3_fault 6 [pR 16, pI kd] S M (fun r S' M' => S <+: S' → (shq S' r = some (.inl 11, 8)) ∧ E r S' M') := by
  obtain ⟨p1, p2, p3, p4, p5⟩ := ps
  have h4 := p4.1
  have rm := rd_rm tk p1 p5
  have l0 := pre_len p1.1
  have h288 := tk.1
  refine eX3_fault (bX3_fault_0 ⟨by have := rm.1; omega, by have := rm.2; omega, fun r3 S4 M5 e3 e4 e5 => ?_⟩)
  subst e3
  subst e4
  have c16 : M5 16 = M 16 := by rw [e5, zo_ne (by omega)]
  have c14 : M5 14 = M 14 := by rw [e5, zo_ne (by omega)]
  rw [c16, c14, p2.1, (tk_at tk p1 p4.2.1 p4.1).2.1]
  refine ⟨by omega, by omega, ⟨_, shq_new⟩, x7_init (by omega) shq_new (fun M9 f9 k6 k7 _ => ⟨shq_new, hE _ _ _ ⟨shq_new, ⟨kd, tP Ts h, hO, hk, k6, k7⟩, ?_⟩⟩)⟩
  exact (p1.grow (grw_one (σ := (.inl 11, 8))) (by decide) (fun x a b => by rw [f9 x (by omega), e5, zo_ne (by omega)])).le (by omega)
theorem PS0.at (tk : TkR S0 M0 Ts NB) (ps : PS0 Q S0 M0 Ts NB B S M h d n m w) (h4 : h ≠ 400) (h0 : tK Ts h ≠ 0) (h3 : tK Ts h ≠ 3) {M' : pM} (e : M' = pu_up M 16 1 ((h : Int) + 1)) : PS0 Q S0 M0 Ts NB B S M' (h + 1) d n m w := by
  obtain ⟨p1, p2, p3, p4, p5⟩ := ps
  refine ⟨p1.u16 (fun x hx => by rw [e, up_ne hx]), ⟨by rw [e, up_same]; rfl, ?_, ?_, ?_, ?_, ?_⟩, p3, p4.next tk.2.1 h4 h0 h3, p5⟩
  · rw [e, up_oi (by decide)]; exact p2.2.1
  · rw [e, up_oi (by decide)]; exact p2.2.2.1
  · rw [e, up_oi (by decide)]; exact p2.2.2.2.1
  · rw [e, up_oi (by decide)]; exact p2.2.2.2.2.1
  · rw [e, up_oi (by decide)]; exact p2.2.2.2.2.2
theorem rd_go {F : Int → List psh → pM → Prop} {p : Option (Int × Int)} {s : Ot} (tk : TkR S0 M0 Ts NB) (ps : PS0 Q S0 M0 Ts NB B S M h d n m w) (h0 : tK Ts h ≠ 0) (h3 : tK Ts h ≠ 3) (hO : O = cmb (gO Ts h p) s) (hE : ∀ r S' M', FtR S0 M0 O (NB + 1) r S' M' → E r S' M') (k : ∀ M', (∀ x, x ≠ 16 → M' x = M x) → PS0 Q S0 M0 Ts NB B S M' (h + 1) d n m w → O = cmb p s → F h S M') : pXi true X mX3_go 7 [pR 16] S M F E := by
  have p2 := ps.2.1
  have h4 := ps.2.2.2.1.1
  refine eX3_go (bX3_go_0 ?_)
  rw [p2.1]
  rw [cmb_gO] at hO
  refine ⟨by constructor <;> omega, fun y M2 e2 => ?_, fun y => rd_fault tk ps (by decide) (by rw [if_pos (by omega)] at hO; exact hO) hE⟩
  rw [if_neg (by omega)] at hO
  have := k M2 (fun x hx => by rw [e2, up_ne hx]) (ps.at tk (by omega) h0 h3 e2) hO
  rw [show M2 16 1 - 1 = (h : Int) by rw [e2, up_same]; omega]
  exact this
theorem rd_must {F : Int → List psh → pM → Prop} {kd : Int} {p : Option (Int × Int)} {s : Ot} (tk : TkR S0 M0 Ts NB) (ps : PS0 Q S0 M0 Ts NB B S M h d n m w) (hk : inR kd) (k0 : kd ≠ 0) (k3 : kd ≠ 3) (hO : O = cmb (mU Ts h kd p) s) (hE : ∀ r S' M', FtR S0 M0 O (NB + 1) r S' M' → E r S' M') (k : ∀ M', (∀ x, x ≠ 16 → M' x = M x) → PS0 Q S0 M0 Ts NB B S M' (h + 1) d n m w → tK Ts h = kd → O = cmb p s → F h S M') : pXi true X mX3_must 8 [pR 16, pI kd] S M F E := by
  rw [cmb_mU] at hO
  refine eX3_must (bX3_must_0 (rd_is tk ps hk (fun y => ⟨by constructor <;> decide, fun _ => rd_go tk ps (by omega) (by omega) (by rw [if_pos y] at hO; exact hO) hE (fun M' f' ps' hO' _ => k M' f' ps' y hO'), fun z => by omega⟩) (fun y => ⟨by constructor <;> decide, fun z => absurd rfl z, fun _ => rd_fault tk ps (by decide) (by rw [if_neg y] at hO; exact hO) hE⟩)))
theorem rd_wrong {F : pM → Prop} {kd : Int} {j : Nat} (tk : TkR S0 M0 Ts NB) (ps : PS0 Q S0 M0 Ts NB B S M h d n m w) (hk : 1 ≤ kd ∧ kd ≤ 6) (hj : j < Ts.length) (j4 : j ≤ 400) (k : ∀ M', (∀ x, x ≠ 16 → M' x = M x) → PS0 Q S0 M0 Ts NB B S M' h d n m (wr w kd (tP Ts j)) → F M') : pNv true X mX3_wrong 1 [pR 16, pI kd, pI j] S M F := by
  obtain ⟨p1, p2, p3, p4, p5⟩ := ps
  obtain ⟨r1, r2, r3, r4, r5, r6⟩ := p2
  obtain ⟨_, ⟨b1, b2⟩, _⟩ := tk_bd tk hj
  obtain ⟨⟨w1, w2⟩, wq⟩ := p3
  have same : (w.1 ≠ 0 ∧ (w.2 < tP Ts j ∨ (tP Ts j = w.2 ∧ w.1 ≤ kd))) → F M := fun z => by
    have e : wr w kd (tP Ts j) = w := by unfold wr; rw [if_pos z]
    have := k M (fun _ _ => rfl)
    rw [e] at this
    exact this ⟨p1, ⟨r1, r2, r3, r4, r5, r6⟩, ⟨⟨w1, w2⟩, wq⟩, p4, p5⟩
  have set : ¬ (w.1 ≠ 0 ∧ (w.2 < tP Ts j ∨ (tP Ts j = w.2 ∧ w.1 ≤ kd))) → wX3_wrong_42 X F kd (tP Ts j) S M := fun z => by
    have e : wr w kd (tP Ts j) = (kd, tP Ts j) := by unfold wr; rw [if_neg z]
    refine bX3_wrong_42 (fun M1 e1 M2 e2 => ?_)
    have := k M2 (fun x hx => by rw [e2, up_ne hx, e1, up_ne hx])
    rw [e] at this
    refine this ⟨p1.u16 (fun x hx => by rw [e2, up_ne hx, e1, up_ne hx]), ⟨?_, ?_, ?_, ?_, fun _ => by rw [e2, up_same], ?_⟩, ⟨⟨⟨show (0 : Int) ≤ kd by omega, show kd ≤ 6 by omega⟩, fun _ => ⟨b1, b2⟩⟩, fun _ => show kd ≠ 0 by omega⟩, p4, p5⟩
    · rw [e2, up_oi (by decide), e1, up_oi (by decide)]; exact r1
    · rw [e2, up_oi (by decide), e1, up_oi (by decide)]; exact r2
    · rw [e2, up_oi (by decide), e1, up_oi (by decide)]; exact r3
    · rw [e2, up_oi (by decide), e1, up_same]
    · rw [e2, up_oi (by decide), e1, up_oi (by decide)]; exact r6
  refine eX3_wrong (bX3_wrong_0 ?_)
  rw [(tk_at tk p1 hj j4).2.1, r4]
  refine ⟨by omega, by omega, by constructor <;> omega, fun z => set (fun y => y.1 z), fun z => ?_⟩
  have w2' := w2 z
  rw [r5 z]
  exact ⟨by constructor <;> omega, by constructor <;> omega, fun y => same ⟨z, by omega⟩, fun y => ⟨by constructor <;> omega, by constructor <;> omega, fun q => set (fun u => by omega), fun q => ⟨by constructor <;> omega, by constructor <;> omega, fun u => set (fun u => by omega), fun u => same ⟨z, by omega⟩⟩⟩⟩
theorem rd_bounded {F : Int → List psh → pM → Prop} {lo hi : Int} {p : Option (Int × Int)} {s : Ot} (tk : TkR S0 M0 Ts NB) (ps : PS0 Q S0 M0 Ts NB B S M h d n m w) (hlo : 0 ≤ lo ∧ lo ≤ 100) (hhi : 0 ≤ hi ∧ hi ≤ 100) (hO : O = cmb (mU Ts h 2 p) s) (hE : ∀ r S' M', FtR S0 M0 O (NB + 1) r S' M' → E r S' M') (k : ∀ M', (∀ x, x ≠ 16 → M' x = M x) → PS0 Q S0 M0 Ts NB B S M' (h + 1) d n m (wrI (decide (tV Ts h < lo ∨ hi < tV Ts h)) w 5 (tP Ts h)) → tK Ts h = 2 → O = cmb p s → F (min (max (tV Ts h) lo) hi) S M') : pXi true X mX3_bounded 9 [pR 16, pI lo, pI hi] S M F E := by
  have hl := ps.2.2.2.1
  obtain ⟨_, _, ⟨v0, _⟩, v2⟩ := tk_bd tk hl.2.1
  have h4 := hl.1
  refine eX3_bounded (bX3_bounded_0 (rd_must tk ps (by constructor <;> decide) (by decide) (by decide) hO hE (fun M' f' ps' hK hO' _ => ?_)))
  have vv := v2 hK
  rw [(tk_at tk ps'.1 hl.2.1 hl.1).2.2]
  refine ⟨by omega, by omega, c_within (by constructor <;> omega) (by constructor <;> omega) (by constructor <;> omega) (fun a b => ⟨by constructor <;> decide, fun _ => bX3_bounded_34 ⟨by constructor <;> omega, by constructor <;> omega, by constructor <;> omega, by constructor <;> omega, k M' f' ?_ hK hO'⟩, fun z => by omega⟩) (fun a => ⟨by constructor <;> decide, fun z => absurd rfl z, fun _ => rd_wrong tk ps' (by decide) hl.2.1 hl.1 (fun M2 f2 ps2 => bX3_bounded_34 ⟨by constructor <;> omega, by constructor <;> omega, by constructor <;> omega, by constructor <;> omega, k M2 (fun x hx => (f2 x hx).trans (f' x hx)) ?_ hK hO'⟩)⟩)⟩
  · unfold wrI
    rw [decide_eq_false (by omega), if_neg (by decide)]
    exact ps'
  · unfold wrI
    rw [decide_eq_true a, if_pos rfl]
    exact ps2
end
