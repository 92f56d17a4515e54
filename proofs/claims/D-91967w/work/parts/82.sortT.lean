/-! ===== sorts, unsorted, fails, firstFail, idle, needed, unlike: the twin ===== -/
set_option maxRecDepth 100000
theorem cnt_zero {p : Int → Bool} : ∀ (m : Nat), cnt p 0 m = 0 ↔ ∀ i : Nat, i < m → p i = false
  | 0 => ⟨fun _ i h => by omega, fun _ => rfl⟩
  | m + 1 => by
    have ih := cnt_zero (p := p) m
    have b := cnt_bd (p := p) m 0
    rw [cnt_snoc, Int.zero_add]
    constructor
    · intro h i hi
      cases hp : p (m : Int) with
      | true => rw [hp, if_pos rfl] at h; omega
      | false =>
        rw [hp] at h
        by_cases c : i = m
        · rw [c]; exact hp
        · exact ih.1 (by simpa using h) i (by omega)
    · intro h
      rw [h m (by omega), ih.2 (fun i hi => h i (by omega))]
      rfl
noncomputable def unB (n : Nat) (bt : Int) (L : List elt) : Int := cnt (fun o => decide (gob n 0 bt L 0 o 0 ≠ 0)) 0 (fac n).toNat
/-- no row of bits fails just if no order does -/
theorem fl_un {n : Nat} {bt : Int} {L : List elt} (hn : n ≤ 7) (he : ∀ e ∈ L, okE n e ∧ e.1 ≠ 3) : flC n bt L = 0 ↔ unB n bt L = 0 := by
  have fp := fac_pos n
  have zs := zo_sorts (th := 0) (bt := bt) (i := 0) (m := 0) hn he
  unfold flC unB
  rw [cnt_zero, cnt_zero]
  constructor
  · intro h i hi
    have := zs.1 (fun r hr => by have := h r hr; rw [Int.toNat_natCast] at this; simpa using this) i (by omega) (by omega)
    simp [this]
  · intro h r hr
    have := zs.2 (fun o o0 o1 => by
      have := h o.toNat (by omega)
      rw [show ((o.toNat : Nat) : Int) = o by omega] at this
      simpa using this) r hr
    rw [Int.toNat_natCast, this]
    rfl
section
variable {X : px} {S : List psh} {M : pM} {σ : sgm}
theorem tw_unsortedBut {F : Int → pM → Prop} {t bt : Int} {N : Nat} (ti : TI M σ) (ok : okS σ) (a : 0 ≤ t) (b : t < σ.1.length) (e : (lad σ.1 t).1 = N) (hbt : inR bt) (k : ∀ M', frT M M' → TT M' → F (unB N bt (lad σ.1 t).2) M') : pNi true X mX6_unsortedBut 4 [pR 241, pI t, pI bt] S M F := by
  have okl := ok.at a b
  rw [e] at okl
  have h2 : 2 ≤ N := by have := okl.1; omega
  have h7 : N ≤ 7 := by have := okl.2.1; omega
  have hf := fac_le h7
  have fp := fac_pos N
  refine eX6_unsortedBut (bX6_unsortedBut_0 ⟨a, ok.tl b, ?_⟩)
  rw [(ti.2.1.2 t a b).1, e]
  refine tw_layT h2 h7 ti.1 (fun M1 f1 t1 => ?_)
  have kk := k M1 f1 (t1.T h2 h7)
  have loop : ∀ (m v : Nat), (v : Int) + m = fac N → wX6_unsortedBut_15 X F t bt (cnt (fun o => decide (gob N 0 bt (lad σ.1 t).2 0 o 0 ≠ 0)) 0 v) v S M1 := by
    intro m
    induction m with
    | zero =>
      intro v q1
      refine bX6_unsortedBut_15 ?_
      rw [t1.2.1]
      refine ⟨by constructor <;> omega, by constructor <;> omega, fun _ => ?_, fun y => by omega⟩
      unfold unB at kk
      rw [show (fac N).toNat = v by omega] at kk
      exact kk
    | succ m ih =>
      intro v q1
      have nxt := ih (v + 1) (by omega)
      rw [cnt_snoc, Int.zero_add, Int.natCast_succ] at nxt
      have gb := gob_bd (n := N) (th := 0) (bt := bt) (lad σ.1 t).2 0 v 0 okl.2.2.2.2 (by omega) (by omega)
      refine bX6_unsortedBut_15 ?_
      rw [t1.2.1]
      refine ⟨by constructor <;> omega, by constructor <;> omega, fun y => by omega, fun _ => tw_endOf (ti.2.1.fr f1) ok a b e t1 (by omega) (by omega) hbt ⟨by constructor <;> omega, fun y => bX6_unsortedBut_42 ?_, fun y => bX6_unsortedBut_42 ?_⟩⟩
      · rw [if_pos (by simpa using y)] at nxt
        exact nxt
      · rw [if_neg (by simpa using y)] at nxt
        exact nxt
  exact loop (fac N).toNat 0 (by omega)
theorem unB_bd {n : Nat} {bt : Int} {L : List elt} (hn : n ≤ 7) : 0 ≤ unB n bt L ∧ unB n bt L ≤ 5040 := by
  have hf := fac_le hn
  have fp := fac_pos n
  have := cnt_bd (p := fun o => decide (gob n 0 bt L 0 o 0 ≠ 0)) (fac n).toNat 0
  unfold unB
  omega
theorem n3_of {n : Int} {L : List elt} (ok : okL n L) (c : mb L ≤ 0) : ∀ e ∈ L, okE n e ∧ e.1 ≠ 3 := fun e h => ⟨ok.2.2.2.2 e h, mb_zero c e h⟩
theorem tw_sorts_op {F : Int → pM → Prop} {t : Int} (ht : inR t) (ti : TI M σ) (ok : okS σ) (k : ∀ M', frT M M' → TT M' → F (q_sorts σ t) M') : pNi true X mX6_sorts 5 [pR 241, pI t] S M F := by
  have k0 := k M (frT.refl _) ti.1
  unfold q_sorts at k k0
  refine eX6_sorts (bX6_sorts_0 (tw_isLadder ht ti.2.1 ok (fun a b => ⟨by constructor <;> decide, fun _ => tw_maybes ti.2.1 ok a b ?_, fun z => by omega⟩) (fun h => ⟨by constructor <;> decide, fun z => by omega, fun _ => by rw [q_ask0 h] at k0; exact k0⟩)))
  have okl := ok.at a b
  have hm := mb_bd (lad σ.1 t).2
  have h20 := okl.2.2.2.1
  obtain ⟨N, e, h2, h7⟩ := okl.nat
  refine ⟨by constructor <;> omega, fun z => tw_unsortedBut ti ok a b e (by constructor <;> decide) (fun M1 f1 t1 => ?_), fun z => by rw [q_ask2 a b z] at k0; exact k0⟩
  have kk := k M1 f1 t1
  rw [q_ask1 a b z, e, Int.toNat_natCast] at kk
  have ub := unB_bd (bt := -1) (L := (lad σ.1 t).2) h7
  rw [e] at okl
  have fu := fl_un (bt := -1) h7 (n3_of okl z)
  refine ⟨by constructor <;> omega, fun y => ?_, fun y => ?_⟩
  · rw [if_neg (fun w => y (fu.1 w))] at kk; exact kk
  · rw [if_pos (fu.2 y)] at kk; exact kk
theorem tw_unsorted_op {F : Int → pM → Prop} {t : Int} (ht : inR t) (ti : TI M σ) (ok : okS σ) (k : ∀ M', frT M M' → TT M' → F (q_unsorted σ t) M') : pNi true X mX6_unsorted 5 [pR 241, pI t] S M F := by
  have k0 := k M (frT.refl _) ti.1
  unfold q_unsorted at k k0
  refine eX6_unsorted (bX6_unsorted_0 (tw_isLadder ht ti.2.1 ok (fun a b => ⟨by constructor <;> decide, fun _ => tw_maybes ti.2.1 ok a b ?_, fun z => by omega⟩) (fun h => ⟨by constructor <;> decide, fun z => by omega, fun _ => by rw [q_ask0 h] at k0; exact k0⟩)))
  have okl := ok.at a b
  have hm := mb_bd (lad σ.1 t).2
  have h20 := okl.2.2.2.1
  obtain ⟨N, e, h2, h7⟩ := okl.nat
  refine ⟨by constructor <;> omega, fun z => tw_unsortedBut ti ok a b e (by constructor <;> decide) (fun M1 f1 t1 => ?_), fun z => by rw [q_ask2 a b z] at k0; exact k0⟩
  have kk := k M1 f1 t1
  rw [q_ask1 a b z, e, Int.toNat_natCast] at kk
  exact kk
theorem tw_bitsPassed {F : Int → pM → Prop} {n r : Nat} {e : elt} (hn : n ≤ 7) (he : okE n e) (h3 : e.1 ≠ 3) (hr : r < 2 ^ n) (k : F (bsp e r : Int) M) : pNi true X mX6_bitsPassed 1 [pI r, pI e.1, pI e.2.1] S M F := by
  have p128 := pow_128 hn
  obtain ⟨g, hg⟩ : ∃ g : Nat, e.2.1 = g := ⟨e.2.1.toNat, by have := he.1; omega⟩
  have g1 : g + 1 < n := by have := he.2.1; omega
  have b1 := bN_bd r g
  have b2 := bN_bd r (g + 1)
  have e1 := sh_bN g (by omega) r (by omega)
  have e2 := sh_bN (g + 1) (by omega) r (by omega)
  rw [Int.natCast_succ] at e2
  have hk : e.1 = 0 ∨ e.1 = 1 ∨ e.1 = 2 := by obtain ⟨_, _, h⟩ := he; omega
  unfold bsp at k
  rw [hg, Int.toNat_natCast] at k
  have yes : (bN r g ≠ bN r (g + 1) ∧ chg e (bN r g) (bN r (g + 1)) 0 = 1) → wX6_bitsPassed_62 X F r g S M := fun z => by
    refine bX6_bitsPassed_62 (bX6_bitsPassed_67 ⟨by constructor <;> decide, fun y => by omega, fun _ => ?_⟩)
    rw [f_xor2 g (by omega) r (by omega) z.1]
    rw [if_pos z] at k
    exact k
  have no : ¬ (bN r g ≠ bN r (g + 1) ∧ chg e (bN r g) (bN r (g + 1)) 0 = 1) → wX6_bitsPassed_66 X F r g S M := fun z => by
    refine bX6_bitsPassed_66 (bX6_bitsPassed_67 ⟨by constructor <;> decide, fun _ => ?_, fun y => absurd rfl y⟩)
    rw [if_neg z] at k
    exact k
  have cyes : (e.1 = 0 ∨ (e.1 = 1 ∧ (bN r (g + 1) : Int) < bN r g) ∨ (e.1 = 2 ∧ (bN r g : Int) < bN r (g + 1))) → chg e (bN r g) (bN r (g + 1)) 0 = 1 := fun z => by unfold chg; rw [if_pos (by omega)]
  have cno : ¬ (e.1 = 0 ∨ (e.1 = 1 ∧ (bN r (g + 1) : Int) < bN r g) ∨ (e.1 = 2 ∧ (bN r g : Int) < bN r (g + 1))) → chg e (bN r g) (bN r (g + 1)) 0 = 0 := fun z => by unfold chg; rw [if_neg (by omega)]
  have g52 : ∀ y : Int, y = bN r (g + 1) → bN r g ≠ bN r (g + 1) → e.1 ≠ 0 → (e.1 = 1 → bN r g = 0) → wX6_bitsPassed_52 X F r e.1 g y S M := by
    intro y hy ne h0 h1
    refine bX6_bitsPassed_52 ⟨by constructor <;> omega, fun z => no (fun w => ?_), fun z => ⟨by constructor <;> omega, fun w => no (fun u => ?_), fun w => yes ⟨ne, cyes (by omega)⟩⟩⟩
    · have := cno (by omega)
      omega
    · have := cno (by omega)
      omega
  have g31 : ∀ x y : Int, x = bN r g → y = bN r (g + 1) → wX6_bitsPassed_31 X F r e.1 g x y S M := by
    intro x y hx hy
    refine bX6_bitsPassed_31 ⟨by constructor <;> omega, by constructor <;> omega, fun z => no (fun w => w.1 (by omega)), fun z => ⟨by constructor <;> omega, fun w => yes ⟨by omega, cyes (by omega)⟩, fun w => ⟨by constructor <;> omega, fun u => g52 y hy (by omega) w (by omega), fun u => ⟨by constructor <;> omega, fun v => yes ⟨by omega, cyes (by omega)⟩, fun v => g52 y hy (by omega) w (by omega)⟩⟩⟩⟩
  have g14 : ∀ x : Int, x = bN r g → wX6_bitsPassed_14 X F r e.1 g x S M := by
    intro x hx
    refine bX6_bitsPassed_14 ?_
    rw [e2]
    exact ⟨by constructor <;> omega, fun z => g31 x 0 hx (by omega), fun z => g31 x 1 hx (by omega)⟩
  rw [hg]
  refine eX6_bitsPassed (bX6_bitsPassed_0 ?_)
  rw [e1]
  exact ⟨by constructor <;> omega, fun z => g14 0 (by omega), fun z => g14 1 (by omega)⟩
theorem tw_bitsEnd {F : Int → pM → Prop} {t : Int} {N r : Nat} (th : THl M σ.1) (ok : okS σ) (a : 0 ≤ t) (b : t < σ.1.length) (e : (lad σ.1 t).1 = N) (c : mb (lad σ.1 t).2 ≤ 0) (hr : r < 2 ^ N) (k : F (brun (-1) (lad σ.1 t).2 0 r : Int) M) : pNi true X mX6_bitsEnd 2 [pR 241, pI t, pI r] S M F := by
  have okl := ok.at a b
  rw [e] at okl
  have h7 : N ≤ 7 := by have := okl.2.1; omega
  have hl := okl.2.2.1
  have h6 := ok.tl b
  have n3 := n3_of okl c
  obtain ⟨u1, u2, u3⟩ := th.2 t a b
  have loop : ∀ (s : List elt) (i : Int) (r : Nat), (lad σ.1 t).2.drop i.toNat = s → 0 ≤ i → i ≤ (lad σ.1 t).2.length → r < 2 ^ N → F (brun (-1) s i r : Int) M → wX6_bitsEnd_5 X F t r i S M := by
    intro s
    induction s with
    | nil =>
      intro i r q0 q1 q2 hr k
      have := drop_nil q0 q1
      refine bX6_bitsEnd_5 ?_
      rw [u2]
      exact ⟨a, h6, by constructor <;> omega, by constructor <;> omega, fun _ => k, fun y => by omega⟩
    | cons x s ih =>
      intro i r q0 q1 q2 hr k
      obtain ⟨e1, e2, e3⟩ := drop_cons q0 q1
      have hx := n3 _ (el_mem q1 e3)
      have m4 := u3 i q1 e3
      rw [e1] at hx m4
      rw [brun, if_neg (by omega)] at k
      refine bX6_bitsEnd_5 ?_
      rw [u2, m4.1, m4.2.1]
      exact ⟨a, h6, by constructor <;> omega, by constructor <;> omega, fun y => by omega, fun _ => ⟨by omega, by omega, by omega, by omega, tw_bitsPassed h7 hx.1 hx.2 hr (ih (i + 1) _ e2 (by omega) (by omega) (bsp_bd h7 hx.1 hr) k)⟩⟩
  exact eX6_bitsEnd (bX6_bitsEnd_0 (loop _ 0 r rfl (by omega) (by omega) hr k))
theorem tw_isSorted {F : Int → pM → Prop} {n r : Nat} (hn : n ≤ 7) (h2 : 2 ≤ n) (hr : r < 2 ^ n) (k1 : srtB n r = true → F 1 M) (k0 : srtB n r = false → F 0 M) : pNi true X mX6_isSorted 1 [pI n, pI r] S M F := by
  have p128 := pow_128 hn
  have loop : ∀ (m i : Nat), i + m + 1 = n → (∀ j, j < i → ¬ (bN r j = 1 ∧ bN r (j + 1) = 0)) → wX6_isSorted_2 X F n r i S M := by
    intro m
    induction m with
    | zero =>
      intro i q1 h
      exact bX6_isSorted_2 ⟨by constructor <;> omega, by constructor <;> omega, fun _ => k1 (srtB_iff.2 (fun j hj => h j (by omega))), fun y => by omega⟩
    | succ m ih =>
      intro i q1 h
      have b1 := bN_bd r i
      have b2 := bN_bd r (i + 1)
      have e1 := sh_bN i (by omega) r (by omega)
      have e2 := sh_bN (i + 1) (by omega) r (by omega)
      rw [Int.natCast_succ] at e2
      have nxt : ¬ (bN r i = 1 ∧ bN r (i + 1) = 0) → wX6_isSorted_30 X F n r i S M := fun w => by
        have := ih (i + 1) (by omega) (fun j hj => by
          by_cases d : j = i
          · subst d; exact w
          · exact h j (by omega))
        rw [Int.natCast_succ] at this
        exact bX6_isSorted_30 this
      refine bX6_isSorted_2 ?_
      rw [e1, e2]
      refine ⟨by constructor <;> omega, by constructor <;> omega, fun y => by omega, fun _ => ⟨by constructor <;> omega, fun y => nxt (by omega), fun y => ⟨by constructor <;> omega, fun w => nxt (by omega), fun w => k0 ?_⟩⟩⟩
      cases hs : srtB n r with
      | false => rfl
      | true => exact absurd ⟨by omega, by omega⟩ (srtB_iff.1 hs i (by omega))
  exact eX6_isSorted (bX6_isSorted_0 (loop (n - 1) 0 (by omega) (fun j hj => by omega)))
theorem tw_fails_op {F : Int → pM → Prop} {t : Int} (ht : inR t) (ti : TI M σ) (ok : okS σ) (k : F (q_fails σ t) M) : pNi true X mX6_fails 3 [pR 241, pI t] S M F := by
  unfold q_fails at k
  refine eX6_fails (bX6_fails_0 (tw_isLadder ht ti.2.1 ok (fun a b => ⟨by constructor <;> decide, fun _ => tw_maybes ti.2.1 ok a b ?_, fun z => by omega⟩) (fun h => ⟨by constructor <;> decide, fun z => by omega, fun _ => by rw [q_ask0 h] at k; exact k⟩)))
  have okl := ok.at a b
  have hm := mb_bd (lad σ.1 t).2
  have h20 := okl.2.2.2.1
  have h6 := ok.tl b
  obtain ⟨N, e, h2, h7⟩ := okl.nat
  have p128 := pow_128 h7
  refine ⟨by constructor <;> omega, fun z => ?_, fun z => by rw [q_ask2 a b z] at k; exact k⟩
  rw [q_ask1 a b z, e, Int.toNat_natCast] at k
  have lgl : M 242 t = N := by rw [(ti.2.1.2 t a b).1, e]
  rw [e] at okl
  have loop : ∀ (m r : Nat), r + m = 2 ^ N → wX6_fails_25 X F t (cnt (fun r => !srtB N (brun (-1) (lad σ.1 t).2 0 r.toNat)) 0 r) r S M := by
    intro m
    induction m with
    | zero =>
      intro r q1
      refine bX6_fails_25 ?_
      rw [lgl, pow_ishl h7]
      refine ⟨a, h6, by constructor <;> omega, by constructor <;> omega, fun _ => ?_, fun y => by omega⟩
      unfold flC at k
      rw [show 2 ^ N = r by omega] at k
      exact k
    | succ m ih =>
      intro r q1
      have nxt := ih (r + 1) (by omega)
      rw [cnt_snoc, Int.zero_add, Int.toNat_natCast, Int.natCast_succ] at nxt
      have bd := brun_bd (bt := -1) h7 (lad σ.1 t).2 0 r okl.2.2.2.2 (by omega)
      refine bX6_fails_25 ?_
      rw [lgl, pow_ishl h7]
      refine ⟨a, h6, by constructor <;> omega, by constructor <;> omega, fun y => by omega, fun _ => ⟨a, h6, tw_bitsEnd ti.2.1 ok a b e z (by omega) (tw_isSorted h7 h2 bd (fun s => ⟨by constructor <;> decide, fun y => by omega, fun _ => bX6_fails_61 ?_⟩) (fun s => ⟨by constructor <;> decide, fun _ => bX6_fails_61 ?_, fun y => by omega⟩))⟩⟩
      · rw [s] at nxt
        simpa using nxt
      · rw [s] at nxt
        simpa using nxt
  exact loop (2 ^ N) 0 (by omega)
theorem tw_firstFail_op {F : Int → pM → Prop} {t : Int} (ht : inR t) (ti : TI M σ) (ok : okS σ) (k : F (q_firstFail σ t) M) : pNi true X mX6_firstFail 3 [pR 241, pI t] S M F := by
  unfold q_firstFail at k
  refine eX6_firstFail (bX6_firstFail_0 (tw_isLadder ht ti.2.1 ok (fun a b => ⟨by constructor <;> decide, fun _ => tw_maybes ti.2.1 ok a b ?_, fun z => by omega⟩) (fun h => ⟨by constructor <;> decide, fun z => by omega, fun _ => by rw [q_ask0 h] at k; exact k⟩)))
  have okl := ok.at a b
  have hm := mb_bd (lad σ.1 t).2
  have h20 := okl.2.2.2.1
  have h6 := ok.tl b
  obtain ⟨N, e, h2, h7⟩ := okl.nat
  have p128 := pow_128 h7
  refine ⟨by constructor <;> omega, fun z => ?_, fun z => by rw [q_ask2 a b z] at k; exact k⟩
  rw [q_ask1 a b z, e, Int.toNat_natCast] at k
  have lgl : M 242 t = N := by rw [(ti.2.1.2 t a b).1, e]
  rw [e] at okl
  have loop : ∀ (m v : Nat), v + m = 2 ^ N → F (ffs N (lad σ.1 t).2 m v) M → wX6_firstFail_23 X F t v S M := by
    intro m
    induction m with
    | zero =>
      intro v q1 k
      refine bX6_firstFail_23 ?_
      rw [lgl, pow_ishl h7]
      exact ⟨a, h6, by constructor <;> omega, by constructor <;> omega, fun _ => k, fun y => by omega⟩
    | succ m ih =>
      intro v q1 k
      rw [ffs] at k
      have bd := brun_bd (bt := -1) h7 (lad σ.1 t).2 0 v okl.2.2.2.2 (by omega)
      have nxt := ih (v + 1) (by omega)
      rw [Int.natCast_succ] at nxt
      refine bX6_firstFail_23 ?_
      rw [lgl, pow_ishl h7]
      refine ⟨a, h6, by constructor <;> omega, by constructor <;> omega, fun y => by omega, fun _ => ⟨a, h6, tw_bitsEnd ti.2.1 ok a b e z (by omega) (tw_isSorted h7 h2 bd (fun s => ⟨by constructor <;> decide, fun _ => nxt ?_, fun y => by omega⟩) (fun s => ⟨by constructor <;> decide, fun y => by omega, fun _ => ?_⟩))⟩⟩
      · rw [s, if_pos rfl] at k; exact k
      · rw [s] at k; simpa using k
  exact loop (2 ^ N) 0 (by omega) k
theorem tw_idle_op {F : Int → pM → Prop} {t i : Int} (ht : inR t) (hi : inR i) (ti : TI M σ) (ok : okS σ) (k : ∀ M', frT M M' → TT M' → F (q_idle σ t i) M') : pNi true X mX6_idle 4 [pR 241, pI t, pI i] S M F := by
  have k0 := k M (frT.refl _) ti.1
  unfold q_idle at k k0
  have bad : ¬ elC σ t i → F (-1) M := fun z => by rw [if_neg z] at k0; exact k0
  refine eX6_idle (bX6_idle_0 (tw_isLadder ht ti.2.1 ok (fun a b => ⟨by constructor <;> decide, fun z => by omega, fun _ => ?_⟩) (fun h => ⟨by constructor <;> decide, fun _ => bad (fun z => h ⟨z.1, z.2.1⟩), fun z => by omega⟩)))
  have okl := ok.at a b
  have hm := mb_bd (lad σ.1 t).2
  have h20 := okl.2.2.2.1
  have hl := okl.2.2.1
  have h6 := ok.tl b
  obtain ⟨N, e, h2, h7⟩ := okl.nat
  obtain ⟨u1, u2, u3⟩ := ti.2.1.2 t a b
  rw [u2]
  refine ⟨hi, fun z => bad (fun w => by have := w.2.2; omega), fun i0 => ⟨a, h6, hi, by constructor <;> omega, fun i1 => ?_, fun z => bad (fun w => by have := w.2.2; omega)⟩⟩
  have hel : elC σ t i := ⟨a, b, i0, i1⟩
  refine tw_maybes ti.2.1 ok a b ⟨by constructor <;> omega, fun c => ⟨a, h6, ?_⟩, fun c => by rw [if_pos hel, if_pos c] at k0; exact k0⟩
  rw [u1, e]
  refine tw_layT h2 h7 ti.1 (fun M1 f1 t1 => ?_)
  have kk := k M1 f1 (t1.T h2 h7)
  rw [if_pos hel, if_neg (by omega), e, Int.toNat_natCast] at kk
  rw [e] at okl
  have hf := fac_le h7
  have fp := fac_pos N
  have n3 := n3_of okl c
  have m4 : ∀ j : Int, 0 ≤ j → j < (lad σ.1 t).2.length → M1 244 (200 * t + j) = (el (lad σ.1 t).2 j).1 ∧ M1 245 (200 * t + j) = (el (lad σ.1 t).2 j).2.1 := fun j a b => by
    rw [f1.1 244 (by decide), f1.1 245 (by decide)]
    exact ⟨(u3 j a b).1, (u3 j a b).2.1⟩
  have gbd : ∀ (j v : Int), 0 ≤ v → v < fac N → 0 ≤ gob N 0 (-1) ((lad σ.1 t).2.take j.toNat) 0 v 0 ∧ gob N 0 (-1) ((lad σ.1 t).2.take j.toNat) 0 v 0 < fac N := fun j v v0 v1 => gob_bd _ _ _ _ (fun x hx => okl.2.2.2.2 x (List.mem_of_mem_take hx)) v0 v1
  have loop : ∀ (m : Nat) (v : Int), v + m = fac N → 0 ≤ v → (∀ o, 0 ≤ o → o < v → pas N (gob N 0 (-1) ((lad σ.1 t).2.take i.toNat) 0 o 0) (el (lad σ.1 t).2 i) 0 = gob N 0 (-1) ((lad σ.1 t).2.take i.toNat) 0 o 0) → wX6_idle_47 X F t i v S M1 := by
    intro m
    induction m with
    | zero =>
      intro v q1 q2 h
      refine bX6_idle_47 ?_
      rw [t1.2.1]
      refine ⟨by constructor <;> omega, by constructor <;> omega, fun _ => ?_, fun y => by omega⟩
      rw [if_neg (fun (w : idC N (lad σ.1 t).2 i) => by
        obtain ⟨o, o0, o1, hne⟩ := w
        exact hne (h o o0 (by omega)))] at kk
      exact kk
    | succ m ih =>
      intro v q1 q2 h
      refine bX6_idle_47 ?_
      rw [t1.2.1]
      refine ⟨by constructor <;> omega, by constructor <;> omega, fun y => by omega, fun _ => ?_⟩
      have l61 : ∀ (mm : Nat) (j : Int), j + mm = i → 0 ≤ j → wX6_idle_61 X F t i v (gob N 0 (-1) ((lad σ.1 t).2.take j.toNat) 0 v 0) j S M1 := by
        intro mm
        induction mm with
        | zero =>
          intro j p1 p2
          have ej : j = i := by omega
          subst ej
          have gb := gbd j v q2 (by omega)
          have pb := pas_bd (t := 0) (okl.at i0 i1) gb.1 gb.2
          refine bX6_idle_61 ?_
          rw [(m4 j i0 i1).1, (m4 j i0 i1).2]
          refine ⟨by constructor <;> omega, by constructor <;> omega, fun _ => ⟨by omega, by omega, by omega, by omega, tw_passed h7 t1 gb.1 gb.2 (okl.at i0 i1) (by constructor <;> decide) ⟨by constructor <;> omega, by constructor <;> omega, fun y => ih (v + 1) (by omega) (by omega) (fun o o0 o1 => ?_), fun y => ?_⟩⟩, fun y => by omega⟩
          · by_cases d : o = v
            · subst d; exact y
            · exact h o o0 (by omega)
          · rw [if_pos (show idC N (lad σ.1 t).2 j from ⟨v, q2, by omega, y⟩)] at kk
            exact kk
        | succ mm ihm =>
          intro j p1 p2
          have gb := gbd j v q2 (by omega)
          have j1 : j < (lad σ.1 t).2.length := by omega
          refine bX6_idle_61 ?_
          rw [(m4 j p2 j1).1, (m4 j p2 j1).2]
          refine ⟨by constructor <;> omega, by constructor <;> omega, fun y => by omega, fun _ => ⟨by omega, by omega, by omega, by omega, tw_passed h7 t1 gb.1 gb.2 (okl.at p2 j1) (by constructor <;> decide) ?_⟩⟩
          have := ihm (j + 1) (by omega) (by omega)
          rw [take_snoc p2 j1, gob_snoc (n3 _ (el_mem p2 j1)).2 _ _ _ _ 0 (Int.le_refl _)] at this
          exact this
      exact l61 i.toNat 0 (by omega) (by omega)
  exact loop (fac N).toNat 0 (by omega) (by omega) (fun o o0 o1 => by omega)
theorem tw_needed_op {F : Int → pM → Prop} {t i : Int} (ht : inR t) (hi : inR i) (ti : TI M σ) (ok : okS σ) (k : ∀ M', frT M M' → TT M' → F (q_needed σ t i) M') : pNi true X mX6_needed 5 [pR 241, pI t, pI i] S M F := by
  have k0 := k M (frT.refl _) ti.1
  unfold q_needed at k k0
  have bad : ¬ elC σ t i → F (-1) M := fun z => by rw [if_neg z] at k0; exact k0
  refine eX6_needed (bX6_needed_0 (tw_isLadder ht ti.2.1 ok (fun a b => ⟨by constructor <;> decide, fun z => by omega, fun _ => ?_⟩) (fun h => ⟨by constructor <;> decide, fun _ => bad (fun z => h ⟨z.1, z.2.1⟩), fun z => by omega⟩)))
  have okl := ok.at a b
  have hm := mb_bd (lad σ.1 t).2
  have h20 := okl.2.2.2.1
  have hl := okl.2.2.1
  have h6 := ok.tl b
  obtain ⟨N, e, h2, h7⟩ := okl.nat
  obtain ⟨u1, u2, u3⟩ := ti.2.1.2 t a b
  rw [u2]
  refine ⟨hi, fun z => bad (fun w => by have := w.2.2; omega), fun i0 => ⟨a, h6, hi, by constructor <;> omega, fun i1 => ?_, fun z => bad (fun w => by have := w.2.2; omega)⟩⟩
  have hel : elC σ t i := ⟨a, b, i0, i1⟩
  refine tw_maybes ti.2.1 ok a b ⟨by constructor <;> omega, fun c => tw_unsortedBut ti ok a b e hi (fun M1 f1 t1 => ?_), fun c => by rw [if_pos hel, if_pos c] at k0; exact k0⟩
  have kk := k M1 f1 t1
  rw [if_pos hel, if_neg (by omega), e, Int.toNat_natCast] at kk
  have ub := unB_bd (bt := i) (L := (lad σ.1 t).2) h7
  rw [e] at okl
  have fu := fl_un (bt := i) h7 (n3_of okl c)
  have cb := cnt_bd (p := fun r => !srtB N (brun i (lad σ.1 t).2 0 r.toNat)) (2 ^ N) 0
  have hfl : 0 ≤ flC N i (lad σ.1 t).2 := by unfold flC; omega
  refine ⟨by constructor <;> omega, fun y => ?_, fun y => ?_⟩
  · rw [if_neg (fun w => by have := fu.2 (by omega); omega)] at kk; exact kk
  · rw [if_pos (by
      by_cases w : flC N i (lad σ.1 t).2 = 0
      · have := fu.1 w; omega
      · omega)] at kk
    exact kk
theorem tw_unlike_op {F : Int → pM → Prop} {t u : Int} (ht : inR t) (hu : inR u) (ti : TI M σ) (ok : okS σ) (k : ∀ M', frT M M' → TT M' → F (q_unlike σ t u) M') : pNi true X mX6_unlike 4 [pR 241, pI t, pI u] S M F := by
  have k0 := k M (frT.refl _) ti.1
  unfold q_unlike at k k0
  refine eX6_unlike (bX6_unlike_0 (tw_isLadder ht ti.2.1 ok (fun a b => ⟨by constructor <;> decide, fun z => by omega, fun _ => ?_⟩) (fun h => ⟨by constructor <;> decide, fun _ => by rw [if_neg (fun z => h ⟨z.1, z.2.1⟩)] at k0; exact k0, fun z => by omega⟩)))
  refine tw_isLadder hu ti.2.1 ok (fun a' b' => ⟨by constructor <;> decide, fun _ => ?_, fun z => by omega⟩) (fun h => ⟨by constructor <;> decide, fun z => by omega, fun _ => by rw [if_neg (fun z => h ⟨z.2.2.1, z.2.2.2⟩)] at k0; exact k0⟩)
  rw [if_pos ⟨a, b, a', b'⟩] at k0
  have bad : ¬ (mb (lad σ.1 t).2 ≤ 0 ∧ mb (lad σ.1 u).2 ≤ 0 ∧ (lad σ.1 t).1 = (lad σ.1 u).1) → F (-2) M := fun z => by rw [if_neg z] at k0; exact k0
  have okl := ok.at a b
  have okl' := ok.at a' b'
  have hm := mb_bd (lad σ.1 t).2
  have hm' := mb_bd (lad σ.1 u).2
  have h20 := okl.2.2.2.1
  have h20' := okl'.2.2.2.1
  have h6 := ok.tl b
  have h6' := ok.tl b'
  obtain ⟨N, e, h2, h7⟩ := okl.nat
  obtain ⟨N', e', h2', h7'⟩ := okl'.nat
  refine tw_maybes ti.2.1 ok a b ⟨by constructor <;> omega, fun c => bad (fun z => by omega), fun c => tw_maybes ti.2.1 ok a' b' ⟨by constructor <;> omega, fun c' => bad (fun z => by omega), fun c' => ?_⟩⟩
  rw [(ti.2.1.2 t a b).1, (ti.2.1.2 u a' b').1, e, e']
  refine ⟨a, h6, a', h6', by constructor <;> omega, by constructor <;> omega, fun q => ⟨a, h6, ?_⟩, fun q => bad (fun z => by omega)⟩
  have eN : N' = N := by omega
  subst eN
  refine tw_layT h2 h7 ti.1 (fun M1 f1 t1 => ?_)
  have kk := k M1 f1 (t1.T h2 h7)
  rw [if_pos ⟨a, b, a', b'⟩, if_pos ⟨c, c', by omega⟩, e, Int.toNat_natCast] at kk
  have hf := fac_le h7
  have fp := fac_pos N'
  rw [e] at okl
  rw [e'] at okl'
  have loop : ∀ (m v : Nat), (v : Int) + m = fac N' → wX6_unlike_67 X F t u (cnt (fun o => decide (gob N' 0 (-1) (lad σ.1 t).2 0 o 0 ≠ gob N' 0 (-1) (lad σ.1 u).2 0 o 0)) 0 v) v S M1 := by
    intro m
    induction m with
    | zero =>
      intro v q1
      refine bX6_unlike_67 ?_
      rw [t1.2.1]
      refine ⟨by constructor <;> omega, by constructor <;> omega, fun _ => ?_, fun y => by omega⟩
      unfold ulC at kk
      rw [show (fac N').toNat = v by omega] at kk
      exact kk
    | succ m ih =>
      intro v q1
      have nxt := ih (v + 1) (by omega)
      rw [cnt_snoc, Int.zero_add, Int.natCast_succ] at nxt
      have gb := gob_bd (n := N') (th := 0) (bt := -1) (lad σ.1 t).2 0 v 0 okl.2.2.2.2 (by omega) (by omega)
      have gb' := gob_bd (n := N') (th := 0) (bt := -1) (lad σ.1 u).2 0 v 0 okl'.2.2.2.2 (by omega) (by omega)
      refine bX6_unlike_67 ?_
      rw [t1.2.1]
      refine ⟨by constructor <;> omega, by constructor <;> omega, fun y => by omega, fun _ => tw_endOf (ti.2.1.fr f1) ok a b e t1 (by omega) (by omega) (by constructor <;> decide) (tw_endOf (ti.2.1.fr f1) ok a' b' e' t1 (by omega) (by omega) (by constructor <;> decide) ⟨by constructor <;> omega, by constructor <;> omega, fun y => bX6_unlike_103 ?_, fun y => bX6_unlike_103 ?_⟩)⟩
      · rw [if_neg (by simpa using y)] at nxt
        exact nxt
      · rw [if_pos (by simpa using y)] at nxt
        exact nxt
  exact loop (fac N').toNat 0 (by omega)
end
