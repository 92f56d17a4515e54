/-! ===== sorts, unsorted, fails, firstFail, idle, needed, unlike: the component ===== -/
set_option maxRecDepth 100000
theorem sh_bN : ∀ k : Nat, k < 7 → ∀ r : Nat, r < 128 → iand (ishr (r : Int) (k : Int)) 1 = (bN r k : Int) := by decide
theorem pow_ishl {n : Nat} (h : n ≤ 7) : ishl 1 (n : Int) = ((2 ^ n : Nat) : Int) := by
  have : ∀ j : Nat, j < 8 → ishl 1 (j : Int) = ((2 ^ j : Nat) : Int) := by decide
  exact this n (by omega)
/-- how many rows of bits fail -/
def flC (n : Nat) (bt : Int) (L : List elt) : Int := cnt (fun r => !srtB n (brun bt L 0 r.toNat)) 0 (2 ^ n)
def ffs (n : Nat) (L : List elt) : Nat → Nat → Int
  | 0, _ => -3
  | m + 1, r => if srtB n (brun (-1) L 0 r) then ffs n L m (r + 1) else (r : Int)
noncomputable def unC (n : Nat) (L : List elt) : Int := cnt (fun o => decide (gob n 0 (-1) L 0 o 0 ≠ 0)) 0 (fac n).toNat
noncomputable def ulC (n : Nat) (L L' : List elt) : Int := cnt (fun o => decide (gob n 0 (-1) L 0 o 0 ≠ gob n 0 (-1) L' 0 o 0)) 0 (fac n).toNat
def idC (n : Nat) (L : List elt) (i : Int) : Prop := ∃ o, 0 ≤ o ∧ o < fac n ∧ pas n (gob n 0 (-1) (L.take i.toNat) 0 o 0) (el L i) 0 ≠ gob n 0 (-1) (L.take i.toNat) 0 o 0
noncomputable def q_ask (σ : sgm) (t x : Int) : Int := @ite _ (0 ≤ t ∧ t < σ.1.length) (Classical.propDecidable _) (if 0 < mb (lad σ.1 t).2 then -2 else x) (-1)
noncomputable def q_sorts (σ : sgm) (t : Int) : Int := q_ask σ t (if flC (lad σ.1 t).1.toNat (-1) (lad σ.1 t).2 = 0 then 1 else 0)
noncomputable def q_unsorted (σ : sgm) (t : Int) : Int := q_ask σ t (unC (lad σ.1 t).1.toNat (lad σ.1 t).2)
noncomputable def q_fails (σ : sgm) (t : Int) : Int := q_ask σ t (flC (lad σ.1 t).1.toNat (-1) (lad σ.1 t).2)
noncomputable def q_firstFail (σ : sgm) (t : Int) : Int := q_ask σ t (ffs (lad σ.1 t).1.toNat (lad σ.1 t).2 (2 ^ (lad σ.1 t).1.toNat) 0)
def elC (σ : sgm) (t i : Int) : Prop := 0 ≤ t ∧ t < σ.1.length ∧ 0 ≤ i ∧ i < (lad σ.1 t).2.length
noncomputable def q_idle (σ : sgm) (t i : Int) : Int := @ite _ (elC σ t i) (Classical.propDecidable _) (if 0 < mb (lad σ.1 t).2 then -2 else @ite _ (idC (lad σ.1 t).1.toNat (lad σ.1 t).2 i) (Classical.propDecidable _) 0 1) (-1)
noncomputable def q_needed (σ : sgm) (t i : Int) : Int := @ite _ (elC σ t i) (Classical.propDecidable _) (if 0 < mb (lad σ.1 t).2 then -2 else if 0 < flC (lad σ.1 t).1.toNat i (lad σ.1 t).2 then 1 else 0) (-1)
noncomputable def q_unlike (σ : sgm) (t u : Int) : Int := @ite _ (0 ≤ t ∧ t < σ.1.length ∧ 0 ≤ u ∧ u < σ.1.length) (Classical.propDecidable _) (@ite _ (mb (lad σ.1 t).2 ≤ 0 ∧ mb (lad σ.1 u).2 ≤ 0 ∧ (lad σ.1 t).1 = (lad σ.1 u).1) (Classical.propDecidable _) (ulC (lad σ.1 t).1.toNat (lad σ.1 t).2 (lad σ.1 u).2) (-2)) (-1)
theorem mb_zero : ∀ {L : List elt}, mb L ≤ 0 → ∀ e ∈ L, e.1 ≠ 3
  | [], _, e, h => by cases h
  | x :: L, hm, e, h => by
    rw [mb] at hm
    have := mb_bd L
    rcases List.mem_cons.1 h with w | w
    · rw [w]
      intro z
      rw [if_pos z] at hm
      omega
    · refine mb_zero (L := L) ?_ e w
      split at hm <;> omega
section
variable {X : px} {S : List psh} {M : pM}
theorem c_bitsAfter {F : Int → pM → Prop} {n r : Nat} {q : Int} {e : elt} (hn : n ≤ 7) (st : StepR S M q e) (he : okE n e) (hr : r < 2 ^ n) (k : F (bsp e r : Int) M) : pNi true X mX0_bitsAfter 3 [pR q, pI r] S M F := by
  have p128 := pow_128 hn
  obtain ⟨g, hg⟩ : ∃ g : Nat, e.2.1 = g := ⟨e.2.1.toNat, by have := he.1; omega⟩
  have g1 : g + 1 < n := by have := he.2.1; omega
  have b1 := bN_bd r g
  have b2 := bN_bd r (g + 1)
  have e1 := sh_bN g (by omega) r (by omega)
  have e2 := sh_bN (g + 1) (by omega) r (by omega)
  rw [Int.natCast_succ] at e2
  refine eX0_bitsAfter (bX0_bitsAfter_0 ?_)
  rw [st.2.1, hg, e1, e2]
  unfold bsp at k
  rw [hg, Int.toNat_natCast] at k
  refine ⟨st.is, st.is, by constructor <;> omega, by constructor <;> omega, fun z => ?_, fun z => ?_⟩
  · rw [if_neg (fun w => w.1 (by omega))] at k
    exact k
  · have ne : bN r g ≠ bN r (g + 1) := by omega
    refine d_changes (G := fun r6 M7 => inR r6 ∧ (r6 = 0 → F r M7) ∧ (r6 ≠ 0 → isStep S q ∧ F (ixor r (ishl 3 (M7 q 0))) M7)) st (by constructor <;> omega) (by constructor <;> omega) (by constructor <;> decide) ?_
    have hc : chg e (bN r g) (bN r (g + 1)) 0 = 0 ∨ chg e (bN r g) (bN r (g + 1)) 0 = 1 := by unfold chg; split <;> omega
    rw [st.2.1, hg, f_xor g (by omega) r (by omega) ne]
    refine ⟨by constructor <;> omega, fun w => ?_, fun w => ⟨st.is, ?_⟩⟩
    · rw [if_neg (fun y => by have := y.2; omega)] at k
      exact k
    · rw [if_pos ⟨ne, by omega⟩] at k
      exact k
theorem c_bitsDown {F : Int → pM → Prop} {n r : Nat} {q z bt : Int} {L : List elt} (hn : n ≤ 7) (lr : LadR z S M q n L) (ok : okL n L) (hbt : inR bt) (hr : r < 2 ^ n) (k : F (brun bt L 0 r : Int) M) : pNi true X mX0_bitsDown 5 [pR q, pI r, pI bt] S M F := by
  have hl := ok.2.2.1
  have loop : ∀ (s : List elt) (i : Int) (r : Nat), L.drop i.toNat = s → 0 ≤ i → i ≤ L.length → r < 2 ^ n → F (brun bt s i r : Int) M → wX0_bitsDown_5 X F q bt r i S M := by
    intro s
    induction s with
    | nil =>
      intro i r q0 q1 q2 hr k
      have := drop_nil q0 q1
      exact bX0_bitsDown_5 ⟨lr.w.1, l_size lr ⟨by constructor <;> omega, by constructor <;> omega, fun _ => k, fun y => by omega⟩⟩
    | cons e s ih =>
      intro i r q0 q1 q2 hr k
      obtain ⟨e1, e2, e3⟩ := drop_cons q0 q1
      have he := ok.at q1 e3
      rw [e1] at he
      rw [brun] at k
      refine bX0_bitsDown_5 ⟨lr.w.1, l_size lr ⟨by constructor <;> omega, by constructor <;> omega, fun y => by omega, fun _ => ⟨by constructor <;> omega, hbt, fun c => bX0_bitsDown_31 (ih (i + 1) r e2 (by omega) (by omega) hr ?_), fun c => ⟨lr.w.1, l_at lr q1 e3 (fun rr st => c_bitsAfter hn st (by rw [e1]; exact he) hr ?_)⟩⟩⟩⟩
      · rw [if_pos c] at k; exact k
      · rw [e1]
        rw [if_neg c] at k
        exact bX0_bitsDown_31 (ih (i + 1) _ e2 (by omega) (by omega) (bsp_bd hn he hr) k)
  exact eX0_bitsDown (bX0_bitsDown_0 (loop L 0 r rfl (by omega) (by omega) hr k))
theorem bcn_bd (r : Nat) : bcn r ≤ 7 := by unfold bcn; omega
theorem c_isSorted {F : Int → pM → Prop} {n r : Nat} (hn : n ≤ 7) (h2 : 2 ≤ n) (hr : r < 2 ^ n) (k1 : srtB n r = true → F 1 M) (k0 : srtB n r = false → F 0 M) : pNi true X mX0_isSorted 2 [pI r, pI n] S M F := by
  have p128 := pow_128 hn
  have fs := f_srt n (by omega) h2 r (by omega) hr
  have bo := bc_ok r (by omega)
  refine eX0_isSorted (bX0_isSorted_0 (eJ14_bitCount (bJ14_bitCount_0 ?_)))
  unfold bcf at bo
  rw [bo]
  refine ⟨by constructor <;> omega, i32_bd _, fun z => k0 ?_, fun z => k1 (fs.1 z)⟩
  cases h : srtB n r with
  | false => rfl
  | true => exact absurd (fs.2 h) z
theorem c_failing {F : Int → pM → Prop} {n : Nat} {q z bt : Int} {L : List elt} (hn : n ≤ 7) (h2 : 2 ≤ n) (lr : LadR z S M q n L) (ok : okL n L) (hbt : inR bt) (k : F (flC n bt L) M) : pNi true X mX0_failing 6 [pR q, pI bt] S M F := by
  have p128 := pow_128 hn
  have loop : ∀ (m r : Nat), r + m = 2 ^ n → wX0_failing_4 X F q bt (cnt (fun r => !srtB n (brun bt L 0 r.toNat)) 0 r) r S M := by
    intro m
    induction m with
    | zero =>
      intro r q1
      refine bX0_failing_4 ?_
      rw [lr.w.2.2.2.1, pow_ishl hn]
      refine ⟨lr.w.1, by constructor <;> omega, by constructor <;> omega, fun _ => ?_, fun y => by omega⟩
      unfold flC at k
      rw [show 2 ^ n = r by omega] at k
      exact k
    | succ m ih =>
      intro r q1
      have nxt := ih (r + 1) (by omega)
      rw [cnt_snoc, Int.zero_add, Int.toNat_natCast, Int.natCast_succ] at nxt
      have bd := brun_bd (bt := bt) hn L 0 r ok.2.2.2.2 (by omega)
      refine bX0_failing_4 ?_
      rw [lr.w.2.2.2.1, pow_ishl hn]
      refine ⟨lr.w.1, by constructor <;> omega, by constructor <;> omega, fun y => by omega, fun _ => c_bitsDown hn lr ok hbt (by omega) ?_⟩
      rw [lr.w.2.2.2.1]
      refine ⟨lr.w.1, c_isSorted hn h2 bd (fun s => ⟨by constructor <;> decide, fun _ => bX0_failing_33 ?_, fun y => by omega⟩) (fun s => ⟨by constructor <;> decide, fun y => by omega, fun _ => bX0_failing_33 ?_⟩)⟩
      · rw [s] at nxt
        simpa using nxt
      · rw [s] at nxt
        simpa using nxt
  exact eX0_failing (bX0_failing_0 (loop (2 ^ n) 0 (by omega)))
end
section
variable {X : px} {S : List psh} {M : pM} {σ : sgm}
theorem c_asked {F : Int → pM → Prop} {t : Int} (ht : inR t) (cp : CP S M σ) (k1 : 0 ≤ t → t < σ.1.length → mb (lad σ.1 t).2 ≤ 0 → F 0 M) (k2 : 0 ≤ t → t < σ.1.length → 0 < mb (lad σ.1 t).2 → F (-2) M) (k0 : ¬ (0 ≤ t ∧ t < σ.1.length) → F (-1) M) : pNi true X mX0_asked 4 [pR 0, pI t] S M F := by
  refine eX0_asked (bX0_asked_0 (c_isLadder cp.2.1 ht (fun a b => ⟨by constructor <;> decide, fun _ => c_get cp.2.1 a b (fun r lr ok hs => ⟨hs, hs, lr.w.2.1, ?_⟩), fun z => by omega⟩) (fun h => ⟨by constructor <;> decide, fun z => by omega, fun _ => k0 h⟩)))
  have := mb_bd (lad σ.1 t).2
  have := ok.2.2.2.1
  rw [lr.w.2.2.2.2]
  exact ⟨by constructor <;> omega, fun z => k1 a b z, fun z => k2 a b z⟩
theorem q_ask1 {σ : sgm} {t x : Int} (a : 0 ≤ t) (b : t < σ.1.length) (h : mb (lad σ.1 t).2 ≤ 0) : q_ask σ t x = x := by unfold q_ask; rw [if_pos ⟨a, b⟩, if_neg (by omega)]
theorem q_ask2 {σ : sgm} {t x : Int} (a : 0 ≤ t) (b : t < σ.1.length) (h : 0 < mb (lad σ.1 t).2) : q_ask σ t x = -2 := by unfold q_ask; rw [if_pos ⟨a, b⟩, if_pos h]
theorem q_ask0 {σ : sgm} {t x : Int} (h : ¬ (0 ≤ t ∧ t < σ.1.length)) : q_ask σ t x = -1 := by unfold q_ask; rw [if_neg h]
theorem c_askN {F : Int → pM → Prop} {t x : Int} (ht : inR t) (cp : CP S M σ) (h : ¬ (0 ≤ t ∧ t < σ.1.length ∧ mb (lad σ.1 t).2 ≤ 0)) (k : F (q_ask σ t x) M) : pNi true X mX0_asked 4 [pR 0, pI t] S M F := by
  refine c_asked ht cp (fun a b c => absurd ⟨a, b, c⟩ h) (fun a b c => ?_) (fun h => ?_)
  · rw [q_ask2 a b c] at k; exact k
  · rw [q_ask0 h] at k; exact k
theorem c_sorts_op {F : Int → pM → Prop} {t : Int} (ht : inR t) (cp : CP S M σ) (k : F (q_sorts σ t) M) : pNi true X mX0_sorts 7 [pR 0, pI t] S M F := by
  unfold q_sorts at k
  refine eX0_sorts (bX0_sorts_0 (c_asked ht cp (fun a b c => ⟨by constructor <;> decide, fun _ => ?_, fun z => by omega⟩) (fun a b c => ⟨by constructor <;> decide, fun z => by omega, fun _ => c_askN ht cp (fun z => by omega) k⟩) (fun h => ⟨by constructor <;> decide, fun z => by omega, fun _ => c_askN ht cp (fun z => h ⟨z.1, z.2.1⟩) k⟩)))
  rw [q_ask1 a b c] at k
  refine c_get cp.2.1 a b (fun r lr ok hs => ⟨hs, ?_⟩)
  obtain ⟨N, e, h2, h7⟩ := ok.nat
  rw [e] at lr ok
  rw [e, Int.toNat_natCast] at k
  have cb := cnt_bd (p := fun r => !srtB N (brun (-1) (lad σ.1 t).2 0 r.toNat)) (2 ^ N) 0
  have p128 := pow_128 h7
  have hfl : 0 ≤ flC N (-1) (lad σ.1 t).2 ∧ flC N (-1) (lad σ.1 t).2 ≤ 128 := by unfold flC; omega
  refine c_failing h7 h2 lr ok (by constructor <;> decide) ⟨by constructor <;> omega, fun z => ?_, fun z => ?_⟩
  · rw [if_neg z] at k; exact k
  · rw [if_pos z] at k; exact k
theorem c_fails_op {F : Int → pM → Prop} {t : Int} (ht : inR t) (cp : CP S M σ) (k : F (q_fails σ t) M) : pNi true X mX0_fails 7 [pR 0, pI t] S M F := by
  unfold q_fails at k
  refine eX0_fails (bX0_fails_0 (c_asked ht cp (fun a b c => ⟨by constructor <;> decide, fun _ => ?_, fun z => by omega⟩) (fun a b c => ⟨by constructor <;> decide, fun z => by omega, fun _ => c_askN ht cp (fun z => by omega) k⟩) (fun h => ⟨by constructor <;> decide, fun z => by omega, fun _ => c_askN ht cp (fun z => h ⟨z.1, z.2.1⟩) k⟩)))
  rw [q_ask1 a b c] at k
  refine c_get cp.2.1 a b (fun r lr ok hs => ⟨hs, ?_⟩)
  obtain ⟨N, e, h2, h7⟩ := ok.nat
  rw [e] at lr ok
  rw [e, Int.toNat_natCast] at k
  exact c_failing h7 h2 lr ok (by constructor <;> decide) k
theorem c_firstFail_op {F : Int → pM → Prop} {t : Int} (ht : inR t) (cp : CP S M σ) (k : F (q_firstFail σ t) M) : pNi true X mX0_firstFail 6 [pR 0, pI t] S M F := by
  unfold q_firstFail at k
  refine eX0_firstFail (bX0_firstFail_0 (c_asked ht cp (fun a b c => ⟨by constructor <;> decide, fun _ => ?_, fun z => by omega⟩) (fun a b c => ⟨by constructor <;> decide, fun z => by omega, fun _ => c_askN ht cp (fun z => by omega) k⟩) (fun h => ⟨by constructor <;> decide, fun z => by omega, fun _ => c_askN ht cp (fun z => h ⟨z.1, z.2.1⟩) k⟩)))
  rw [q_ask1 a b c] at k
  refine c_get cp.2.1 a b (fun r lr ok hs => ⟨hs, ?_⟩)
  obtain ⟨N, e, h2, h7⟩ := ok.nat
  rw [e] at lr ok
  rw [e, Int.toNat_natCast] at k
  have p128 := pow_128 h7
  have loop : ∀ (m v : Nat), v + m = 2 ^ N → F (ffs N (lad σ.1 t).2 m v) M → wX0_firstFail_28 X F r v S M := by
    intro m
    induction m with
    | zero =>
      intro v q1 k
      refine bX0_firstFail_28 ?_
      rw [lr.w.2.2.2.1, pow_ishl h7]
      exact ⟨lr.w.1, by constructor <;> omega, by constructor <;> omega, fun _ => k, fun y => by omega⟩
    | succ m ih =>
      intro v q1 k
      rw [ffs] at k
      have bd := brun_bd (bt := -1) h7 (lad σ.1 t).2 0 v ok.2.2.2.2 (by omega)
      have nxt := ih (v + 1) (by omega)
      rw [Int.natCast_succ] at nxt
      refine bX0_firstFail_28 ?_
      rw [lr.w.2.2.2.1, pow_ishl h7]
      refine ⟨lr.w.1, by constructor <;> omega, by constructor <;> omega, fun y => by omega, fun _ => c_bitsDown h7 lr ok (by constructor <;> decide) (by omega) ?_⟩
      rw [lr.w.2.2.2.1]
      refine ⟨lr.w.1, c_isSorted h7 h2 bd (fun s => ⟨by constructor <;> decide, fun _ => nxt ?_, fun y => by omega⟩) (fun s => ⟨by constructor <;> decide, fun y => by omega, fun _ => ?_⟩)⟩
      · rw [s, if_pos rfl] at k; exact k
      · rw [s] at k; simpa using k
  exact loop (2 ^ N) 0 (by omega) k
theorem c_unsorted_op {F : Int → pM → Prop} {t : Int} (ht : inR t) (cp : CP S M σ) (k : ∀ M', frC M M' → SC M' → F (q_unsorted σ t) M') : pNi true X mX0_unsorted 5 [pR 0, pI t] S M F := by
  have k0 := k M (frC.refl _) cp.1
  unfold q_unsorted at k k0
  refine eX0_unsorted (bX0_unsorted_0 (c_asked ht cp (fun a b c => ⟨by constructor <;> decide, fun _ => ?_, fun z => by omega⟩) (fun a b c => ⟨by constructor <;> decide, fun z => by omega, fun _ => c_askN ht cp (fun z => by omega) k0⟩) (fun h => ⟨by constructor <;> decide, fun z => by omega, fun _ => c_askN ht cp (fun z => h ⟨z.1, z.2.1⟩) k0⟩)))
  refine c_get cp.2.1 a b (fun r lr ok hs => ⟨hs, hs, ?_⟩)
  obtain ⟨N, e, h2, h7⟩ := ok.nat
  rw [lr.w.2.2.2.1, e]
  refine c_of h2 h7 cp.1.1 (fun M1 f1 t1 => ?_)
  have lr1 : LadR (M 19 1) S M1 r N (lad σ.1 t).2 := by
    rw [← e]
    exact lr.fr cp.2.1.z ⟨List.prefix_refl _, fun x p _ _ => f1 x (by omega)⟩
  rw [e] at ok
  have kk := k M1 (fr14_C f1) (cp.1.of14 f1 (t1.C h2 h7))
  rw [q_ask1 a b c, e, Int.toNat_natCast] at kk
  have hf := fac_le h7
  have fp := fac_pos N
  have loop : ∀ (m v : Nat), (v : Int) + m = fac N → wX0_unsorted_42 X F r (cnt (fun o => decide (gob N 0 (-1) (lad σ.1 t).2 0 o 0 ≠ 0)) 0 v) v S M1 := by
    intro m
    induction m with
    | zero =>
      intro v q1
      refine bX0_unsorted_42 ?_
      rw [t1.2.1]
      refine ⟨by constructor <;> omega, by constructor <;> omega, fun _ => ?_, fun y => by omega⟩
      unfold unC at kk
      rw [show (fac N).toNat = v by omega] at kk
      exact kk
    | succ m ih =>
      intro v q1
      have nxt := ih (v + 1) (by omega)
      rw [cnt_snoc, Int.zero_add, Int.natCast_succ] at nxt
      have gb := gob_bd (n := N) (th := 0) (bt := -1) (lad σ.1 t).2 0 v 0 ok.2.2.2.2 (by omega) (by omega)
      refine bX0_unsorted_42 ?_
      rw [t1.2.1]
      refine ⟨by constructor <;> omega, by constructor <;> omega, fun y => by omega, fun _ => c_goes h7 t1 (by omega) (by omega) lr1 ok ⟨by constructor <;> omega, fun y => bX0_unsorted_68 ?_, fun y => bX0_unsorted_68 ?_⟩⟩
      · rw [if_neg (by simpa using y), Int.add_zero] at nxt
        exact nxt
      · rw [if_pos (by simpa using y)] at nxt
        exact nxt
  exact loop (fac N).toNat 0 (by omega)
theorem c_isElement {F : Int → pM → Prop} {t i : Int} (ht : inR t) (hi : inR i) (cp : CP S M σ) (k1 : elC σ t i → F 1 M) (k0 : ¬ elC σ t i → F 0 M) : pNi true X mX0_isElement 4 [pR 0, pI t, pI i] S M F := by
  refine eX0_isElement (bX0_isElement_0 (c_isLadder cp.2.1 ht (fun a b => ⟨by constructor <;> decide, fun z => by omega, fun _ => c_get cp.2.1 a b (fun r lr ok hs => ⟨hs, hs, l_size lr ?_⟩)⟩) (fun h => ⟨by constructor <;> decide, fun _ => k0 (fun z => h ⟨z.1, z.2.1⟩), fun z => by omega⟩)))
  have := ok.2.2.1
  exact c_within hi (by constructor <;> decide) (by constructor <;> omega) (fun c d => ⟨by constructor <;> decide, fun z => by omega, fun _ => k1 ⟨a, b, c, by omega⟩⟩) (fun h => ⟨by constructor <;> decide, fun _ => k0 (fun z => by have := z.2.2; omega), fun z => by omega⟩)
theorem c_needed_op {F : Int → pM → Prop} {t i : Int} (ht : inR t) (hi : inR i) (cp : CP S M σ) (k : F (q_needed σ t i) M) : pNi true X mX0_needed 7 [pR 0, pI t, pI i] S M F := by
  unfold q_needed at k
  refine eX0_needed (bX0_needed_0 (c_isElement ht hi cp (fun el => ⟨by constructor <;> decide, fun _ => ?_, fun z => by omega⟩) (fun el => ⟨by constructor <;> decide, fun z => by omega, fun _ => ?_⟩)))
  · rw [if_pos el] at k
    refine c_asked ht cp (fun a b c => ⟨by constructor <;> decide, fun _ => c_get cp.2.1 a b (fun r lr ok hs => ⟨hs, ?_⟩), fun z => by omega⟩) (fun a b c => ⟨by constructor <;> decide, fun z => by omega, fun _ => ?_⟩) (fun h => absurd ⟨el.1, el.2.1⟩ h)
    · rw [if_neg (by omega)] at k
      obtain ⟨N, e, h2, h7⟩ := ok.nat
      rw [e] at lr ok
      rw [e, Int.toNat_natCast] at k
      have cb := cnt_bd (p := fun r => !srtB N (brun i (lad σ.1 t).2 0 r.toNat)) (2 ^ N) 0
      have p128 := pow_128 h7
      have hfl : 0 ≤ flC N i (lad σ.1 t).2 ∧ flC N i (lad σ.1 t).2 ≤ 128 := by unfold flC; omega
      refine c_failing h7 h2 lr ok hi ⟨by constructor <;> omega, fun z => ?_, fun z => ?_⟩
      · rw [if_neg (by omega)] at k; exact k
      · rw [if_pos z] at k; exact k
    · rw [if_pos c] at k; exact k
  · rw [if_neg el] at k; exact k
theorem c_unlike_op {F : Int → pM → Prop} {t u : Int} (ht : inR t) (hu : inR u) (cp : CP S M σ) (k : ∀ M', frC M M' → SC M' → F (q_unlike σ t u) M') : pNi true X mX0_unlike 5 [pR 0, pI t, pI u] S M F := by
  have k0 := k M (frC.refl _) cp.1
  unfold q_unlike at k k0
  refine eX0_unlike (bX0_unlike_0 (c_isLadder cp.2.1 ht (fun a b => ⟨by constructor <;> decide, fun z => by omega, fun _ => ?_⟩) (fun h => ⟨by constructor <;> decide, fun _ => by rw [if_neg (fun z => h ⟨z.1, z.2.1⟩)] at k0; exact k0, fun z => by omega⟩)))
  refine c_isLadder cp.2.1 hu (fun a' b' => ⟨by constructor <;> decide, fun _ => ?_, fun z => by omega⟩) (fun h => ⟨by constructor <;> decide, fun z => by omega, fun _ => by rw [if_neg (fun z => h ⟨z.2.2.1, z.2.2.2⟩)] at k0; exact k0⟩)
  rw [if_pos ⟨a, b, a', b'⟩] at k0
  refine c_get cp.2.1 a b (fun r lr ok hs => ⟨hs, c_get cp.2.1 a' b' (fun r' lr' ok' hs' => ⟨hs', ?_⟩)⟩)
  have bad : ¬ (mb (lad σ.1 t).2 ≤ 0 ∧ mb (lad σ.1 u).2 ≤ 0 ∧ (lad σ.1 t).1 = (lad σ.1 u).1) → F (-2) M := fun z => by rw [if_neg z] at k0; exact k0
  refine c_asked ht cp (fun _ _ c => ⟨by constructor <;> decide, fun z => by omega, fun _ => ?_⟩) (fun _ _ c => ⟨by constructor <;> decide, fun _ => bad (fun z => by omega), fun z => by omega⟩) (fun h => absurd ⟨a, b⟩ h)
  refine c_asked hu cp (fun _ _ c' => ⟨by constructor <;> decide, fun z => by omega, fun _ => ?_⟩) (fun _ _ c' => ⟨by constructor <;> decide, fun _ => bad (fun z => by omega), fun z => by omega⟩) (fun h => absurd ⟨a', b'⟩ h)
  obtain ⟨N, e, h2, h7⟩ := ok.nat
  obtain ⟨N', e', h2', h7'⟩ := ok'.nat
  rw [lr.w.2.2.2.1, lr'.w.2.2.2.1, e, e']
  refine ⟨hs, hs', by constructor <;> omega, by constructor <;> omega, fun q => ⟨hs, ?_⟩, fun q => bad (fun z => by omega)⟩
  have eN : N' = N := by omega
  subst eN
  refine c_of h2 h7 cp.1.1 (fun M1 f1 t1 => ?_)
  have lr1 : LadR (M 19 1) S M1 r N' (lad σ.1 t).2 := by
    rw [← e]
    exact lr.fr cp.2.1.z ⟨List.prefix_refl _, fun x p _ _ => f1 x (by omega)⟩
  have lr2 : LadR (M 19 1) S M1 r' N' (lad σ.1 u).2 := by
    rw [← e']
    exact lr'.fr cp.2.1.z ⟨List.prefix_refl _, fun x p _ _ => f1 x (by omega)⟩
  rw [e] at ok
  rw [e'] at ok'
  have kk := k M1 (fr14_C f1) (cp.1.of14 f1 (t1.C h2 h7))
  rw [if_pos ⟨a, b, a', b'⟩, if_pos ⟨c, c', by omega⟩, e, Int.toNat_natCast] at kk
  have hf := fac_le h7
  have fp := fac_pos N'
  have loop : ∀ (m v : Nat), (v : Int) + m = fac N' → wX0_unlike_91 X F r r' (cnt (fun o => decide (gob N' 0 (-1) (lad σ.1 t).2 0 o 0 ≠ gob N' 0 (-1) (lad σ.1 u).2 0 o 0)) 0 v) v S M1 := by
    intro m
    induction m with
    | zero =>
      intro v q1
      refine bX0_unlike_91 ?_
      rw [t1.2.1]
      refine ⟨by constructor <;> omega, by constructor <;> omega, fun _ => ?_, fun y => by omega⟩
      unfold ulC at kk
      rw [show (fac N').toNat = v by omega] at kk
      exact kk
    | succ m ih =>
      intro v q1
      have nxt := ih (v + 1) (by omega)
      rw [cnt_snoc, Int.zero_add, Int.natCast_succ] at nxt
      have gb := gob_bd (n := N') (th := 0) (bt := -1) (lad σ.1 t).2 0 v 0 ok.2.2.2.2 (by omega) (by omega)
      have gb' := gob_bd (n := N') (th := 0) (bt := -1) (lad σ.1 u).2 0 v 0 ok'.2.2.2.2 (by omega) (by omega)
      refine bX0_unlike_91 ?_
      rw [t1.2.1]
      refine ⟨by constructor <;> omega, by constructor <;> omega, fun y => by omega, fun _ => c_goes h7 t1 (by omega) (by omega) lr1 ok (c_goes h7 t1 (by omega) (by omega) lr2 ok' ⟨by constructor <;> omega, by constructor <;> omega, fun y => bX0_unlike_126 ?_, fun y => bX0_unlike_126 ?_⟩)⟩
      · rw [if_neg (by simpa using y), Int.add_zero] at nxt
        exact nxt
      · rw [if_pos (by simpa using y)] at nxt
        exact nxt
  exact loop (fac N').toNat 0 (by omega)
end
