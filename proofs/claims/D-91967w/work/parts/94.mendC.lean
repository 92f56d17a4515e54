/-! ===== mend, mendAt: the component ===== -/
set_option maxRecDepth 100000
theorem tb_all : ∀ c : Nat, c < 32 → tb (-1) c = true := by decide
def ini (n : Nat) (L : List elt) : Int := fld (fun r => brun (-1) L 0 r) (-1) (2 ^ n)
theorem ini_ok {n : Nat} {L : List elt} (hn : n ≤ 5) (he : ∀ e ∈ L, okE n e) : inR (ini n L) ∧ ∀ c, c < 32 → tb (ini n L) c = true → c < 2 ^ n := by
  have p := pow_32 hn
  refine ⟨fld_in _, fun c hc h => ?_⟩
  have bd : ∀ b, b < 2 ^ n → brun (-1) L 0 b < 2 ^ n := fun b hb => brun_bd (by omega) L 0 b he hb
  obtain ⟨b, b1, _, b3⟩ := (fld_tb hc _ p (fun b hb => by have := bd b hb; omega)).1 h
  have := bd b b1
  omega
/-- the letter at i of a word -/
def ltN (i : Nat) : Nat → Nat
  | 0 => 0
  | N + 1 => if lnN (N / 4) ≤ i then N % 4 else ltN i (N / 4)
termination_by N => N
decreasing_by omega
theorem ltN_ch {i g P : Nat} (h : g < 4) : ltN i (4 * P + g + 1) = if lnN P ≤ i then g else ltN i P := by
  rw [ltN, show (4 * P + g) % 4 = g by omega, show (4 * P + g) / 4 = P by omega]
noncomputable def mdN (σ : sgm) (t : Int) : Nat := mN (lad σ.1 t).1.toNat (ini (lad σ.1 t).1.toNat (lad σ.1 t).2)
noncomputable def q_mend (σ : sgm) (t : Int) : Int := q_ask σ t (if (lad σ.1 t).1 ≤ 5 then (lnN (mdN σ t) : Int) else -3)
def mdC (σ : sgm) (t : Int) : Prop := 0 ≤ t ∧ t < σ.1.length ∧ mb (lad σ.1 t).2 ≤ 0 ∧ (lad σ.1 t).1 ≤ 5
noncomputable def q_mendAt (σ : sgm) (t i : Int) : Int := if (0 ≤ t ∧ t < σ.1.length ∧ mb (lad σ.1 t).2 ≤ 0 ∧ (lad σ.1 t).1 ≤ 5) ∧ 0 ≤ i ∧ i < (lnN (mdN σ t) : Int) then (ltN i.toNat (mdN σ t) : Int) else -1
def frMd (M M' : pM) : Prop := (∀ x, x ≠ 0 → x ≠ 233 → x ≠ 234 → x ≠ 235 → M' x = M x) ∧ ∀ j, j ≠ 25 → M' 0 j = M 0 j
theorem frMd.refl (M : pM) : frMd M M := ⟨fun _ _ _ _ _ => rfl, fun _ _ => rfl⟩
theorem frMd.trans {M M1 M2 : pM} (a : frMd M M1) (b : frMd M1 M2) : frMd M M2 := ⟨fun x h1 h2 h3 h4 => (b.1 x h1 h2 h3 h4).trans (a.1 x h1 h2 h3 h4), fun j h => (b.2 j h).trans (a.2 j h)⟩
theorem frMd.C {M M' : pM} (a : frMd M M') : frC M M' := ⟨fun x h => a.1 x (by omega) (by omega) (by omega) (by omega), fun j h => a.2 j (by omega)⟩
theorem frMd.SC {M M' : pM} (a : frMd M M') (s : SC M) : SC M' := s.fr (fun j h => a.2 j (by omega)) (fun x h => a.1 x (by omega) (by omega) (by omega) (by omega))
theorem frMd_up {M : pM} {c i v : Int} (h : c = 233 ∨ c = 234 ∨ c = 235 ∨ (c = 0 ∧ i = 25)) : frMd M (pu_up M c i v) := by
  refine ⟨fun x h1 h2 h3 h4 => up_ne (by omega), fun j hj => ?_⟩
  by_cases d : c = 0
  · subst d; exact up_oi (by omega)
  · rw [up_ne (fun e => d e.symm)]
/-- the list as it grows -/
def BF (n : Nat) (x : Int) (M : pM) (f : Nat) (w : Nat → Nat) : Prop := M 0 25 = f ∧ 1 ≤ f ∧ w 0 = 0 ∧ M 234 0 = -1 ∧ (∀ i : Nat, i < f → M 233 i = aN n x (w i) ∧ vN n (w i)) ∧ (∀ i : Nat, 0 < i → i < f → ∃ j g : Nat, j < i ∧ g < 4 ∧ M 234 i = j ∧ M 235 i = g ∧ w i = 4 * w j + g + 1) ∧ (∀ i j, i < j → j < f → w i < w j) ∧ (∀ i j, i < j → j < f → aN n x (w i) ≠ aN n x (w j))
def PRm (n : Nat) (x : Int) (f : Nat) (w : Nat → Nat) (k g0 : Nat) : Prop := ∀ i, i < f → ∀ g, g < 4 → g + 1 < n → (i < k ∨ (i = k ∧ g < g0)) → ∃ i', i' < f ∧ aN n x (w i') = gd n g (aN n x (w i)) ∧ w i' ≤ 4 * w i + g + 1
theorem bf_cov {n : Nat} {x : Int} {M : pM} {f k : Nat} {w : Nat → Nat} (bf : BF n x M f w) (pr : PRm n x f w k 0) (hk : k ≤ f) : ∀ N, vN n N → (k = f ∨ (k < f ∧ N < w k)) → ∃ j, j < k ∧ aN n x (w j) = aN n x N ∧ w j ≤ N := by
  obtain ⟨_, b2, b3, _, _, _, b7, _⟩ := bf
  intro N
  induction N using Nat.strongRecOn with
  | _ N ih =>
    intro v c
    rcases N_cases N with rfl | ⟨P, g, g4, hP, rfl⟩
    · refine ⟨0, ?_, by rw [b3], by omega⟩
      rcases c with c | c
      · omega
      · rcases Nat.eq_zero_or_pos k with z | z
        · rw [z, b3] at c; omega
        · exact z
    · obtain ⟨v1, v2⟩ := (vN_ch g4).1 v
      obtain ⟨j, j1, j2, j3⟩ := ih P hP v2 (by omega)
      obtain ⟨i, i1, i2, i3⟩ := pr j (by omega) g g4 v1 (Or.inl j1)
      refine ⟨i, ?_, by rw [i2, j2, aN_ch g4], by omega⟩
      rcases c with c | c
      · omega
      · rcases Nat.lt_or_ge i k with z | z
        · exact z
        · rcases Nat.eq_or_lt_of_le z with z | z
          · rw [← z] at i3; omega
          · have := b7 k i z i1; omega
section
variable {X : px} {S : List psh} {M : pM}
theorem c_gateAfter {F : Int → pM → Prop} {n r g : Nat} {q : Int} (hn : n ≤ 7) (hs : shq S q = some (.inl 6, 1)) (hm : M q 0 = g) (g1 : g + 1 < n) (hr : r < 2 ^ n) (k : F (bsp (gt g) r : Int) M) : pNi true X mX0_bitsAfter 3 [pR q, pI r] S M F := by
  have p128 := pow_128 hn
  have b1 := bN_bd r g
  have b2 := bN_bd r (g + 1)
  have e1 := sh_bN g (by omega) r (by omega)
  have e2 := sh_bN (g + 1) (by omega) r (by omega)
  rw [Int.natCast_succ] at e2
  have is : isStep S q := Or.inr (Or.inl hs)
  refine eX0_bitsAfter (bX0_bitsAfter_0 ?_)
  rw [hm, e1, e2]
  unfold bsp at k
  rw [show (gt g).2.1.toNat = g from Int.toNat_natCast g] at k
  refine ⟨is, is, by constructor <;> omega, by constructor <;> omega, fun z => ?_, fun z => ?_⟩
  · rw [if_neg (fun w => w.1 (by omega))] at k
    exact k
  · have ne : bN r g ≠ bN r (g + 1) := by omega
    refine ⟨is, fun y => (by rw [hs] at y; cases y), fun _ => eX5_changes (bX5_changes_0 ⟨by constructor <;> omega, by constructor <;> omega, fun w => ?_, fun w => ?_⟩), fun y => (by rw [hs] at y; cases y), fun y => (by rw [hs] at y; cases y)⟩
    · refine ⟨by constructor <;> decide, fun _ => ?_, fun y => absurd rfl y⟩
      have hc : chg (gt g) (bN r g) (bN r (g + 1)) 0 = 0 := by
        unfold chg gt
        simp
        omega
      rw [if_neg (fun y => by have := y.2; omega)] at k
      exact k
    · refine ⟨by constructor <;> decide, fun y => by omega, fun _ => ⟨is, ?_⟩⟩
      rw [hm, f_xor g (by omega) r (by omega) ne]
      have hc : chg (gt g) (bN r g) (bN r (g + 1)) 0 = 1 := by
        unfold chg gt
        rw [if_pos (Or.inr (Or.inl ⟨rfl, w⟩))]
      rw [if_pos ⟨ne, hc⟩] at k
      exact k
theorem c_setAfter {F : Int → pM → Prop} {n g : Nat} {q x : Int} (hn : n ≤ 5) (hs : shq S q = some (.inl 6, 1)) (hm : M q 0 = g) (g1 : g + 1 < n) (k : F (gd n g x) M) : pNi true X mX0_setAfter 4 [pI x, pR q, pI n] S M F := by
  have p := pow_32 hn
  have e := pow_ishl (n := n) (by omega)
  have loop : ∀ (d b : Nat), b + d = 2 ^ n → wX0_setAfter_5 X F x q n (fld (bsp (gt g)) x b) b S M := by
    intro d
    induction d with
    | zero =>
      intro b h
      refine bX0_setAfter_5 ?_
      rw [e]
      refine ⟨by constructor <;> omega, by constructor <;> omega, fun _ => ?_, fun y => by omega⟩
      rw [show b = 2 ^ n by omega]
      exact k
    | succ d ih =>
      intro b h
      have nx := ih (b + 1) (by omega)
      rw [Int.natCast_succ, fld] at nx
      refine bX0_setAfter_5 ?_
      rw [e, tb_u (by omega)]
      by_cases t : tb x b = true
      · rw [if_pos t] at nx ⊢
        exact ⟨by constructor <;> omega, by constructor <;> omega, fun y => by omega, fun _ => ⟨by constructor <;> decide, fun y => absurd rfl y, fun _ => c_gateAfter (n := n) (by omega) hs hm g1 (by omega) (bX0_setAfter_34 nx)⟩⟩
      · rw [if_neg t] at nx ⊢
        exact ⟨by constructor <;> omega, by constructor <;> omega, fun y => by omega, fun _ => ⟨by constructor <;> decide, fun _ => bX0_setAfter_34 nx, fun y => by omega⟩⟩
  exact eX0_setAfter (bX0_setAfter_0 (loop (2 ^ n) 0 (by omega)))
theorem c_areSorted {F : Int → pM → Prop} {n : Nat} {x : Int} (hn : n ≤ 5) (h2 : 2 ≤ n) (k1 : srM n x → F 1 M) (k0 : ¬ srM n x → F 0 M) : pNi true X mX0_areSorted 3 [pI x, pI n] S M F := by
  have p := pow_32 hn
  have e := pow_ishl (n := n) (by omega)
  have loop : ∀ (d b : Nat), b + d = 2 ^ n → (∀ c, c < b → tb x c = true → srtB n c = true) → wX0_areSorted_2 X F x n b S M := by
    intro d
    induction d with
    | zero =>
      intro b h hb
      refine bX0_areSorted_2 ?_
      rw [e]
      exact ⟨by constructor <;> omega, by constructor <;> omega, fun _ => k1 (fun c hc t => hb c (by omega) t), fun y => by omega⟩
    | succ d ih =>
      intro b h hb
      have nx := fun q => ih (b + 1) (by omega) q
      rw [Int.natCast_succ] at nx
      refine bX0_areSorted_2 ?_
      rw [e, tb_u (by omega)]
      by_cases t : tb x b = true
      · rw [if_pos t]
        refine ⟨by constructor <;> omega, by constructor <;> omega, fun y => by omega, fun _ => ⟨by constructor <;> decide, fun y => absurd rfl y, fun _ => c_isSorted (by omega) h2 (by omega) (fun s => ⟨by constructor <;> decide, fun _ => bX0_areSorted_28 (nx (fun c hc tc => ?_)), fun y => by omega⟩) (fun s => ⟨by constructor <;> decide, fun y => absurd rfl y, fun _ => k0 (fun q => ?_)⟩)⟩⟩
        · by_cases z : c = b
          · subst z; exact s
          · exact hb c (by omega) tc
        · rw [q b (by omega) t] at s; cases s
      · rw [if_neg t]
        refine ⟨by constructor <;> omega, by constructor <;> omega, fun y => by omega, fun _ => ⟨by constructor <;> decide, fun _ => bX0_areSorted_28 (nx (fun c hc tc => ?_)), fun y => by omega⟩⟩
        by_cases z : c = b
        · subst z; exact absurd tc t
        · exact hb c (by omega) tc
  exact eX0_areSorted (bX0_areSorted_0 (loop (2 ^ n) 0 (by omega) (fun c hc => by omega)))
theorem c_isFound {F : Int → pM → Prop} {f : Nat} {v : Int} (hf : M 0 25 = f) (f4 : f ≤ 4000) (hv : inR v) (hi : ∀ i : Nat, i < f → inR (M 233 i)) (k1 : ∀ i : Nat, i < f → M 233 i = v → F 1 M) (k0 : (∀ i : Nat, i < f → M 233 i ≠ v) → F 0 M) : pNi true X mX0_isFound 1 [pR 0, pI v] S M F := by
  have loop : ∀ (d i : Nat), i + d = f → (∀ j : Nat, j < i → M 233 j ≠ v) → wX0_isFound_2 X F v i S M := by
    intro d
    induction d with
    | zero =>
      intro i h hb
      refine bX0_isFound_2 ?_
      rw [hf]
      exact ⟨by constructor <;> omega, by constructor <;> omega, fun _ => k0 (fun j hj => hb j (by omega)), fun y => by omega⟩
    | succ d ih =>
      intro i h hb
      have nx := fun q => ih (i + 1) (by omega) q
      rw [Int.natCast_succ] at nx
      refine bX0_isFound_2 ?_
      rw [hf]
      refine ⟨by constructor <;> omega, by constructor <;> omega, fun y => by omega, fun _ => ⟨by omega, by omega, hi i (by omega), hv, fun y => nx (fun j hj => ?_), fun y => k1 i (by omega) y⟩⟩
      by_cases z : j = i
      · subst z; exact y
      · exact hb j (by omega)
  exact eX0_isFound (bX0_isFound_0 (loop f 0 (by omega) (fun j hj => by omega)))
theorem c_gatesTo {F : Int → pM → Prop} {n f k : Nat} {x : Int} {w : Nat → Nat} (bf : BF n x M f w) (f4 : f ≤ 120) (hk : k < f) (kk : F (lnN (w k)) M) : pNi true X mX0_gatesTo 1 [pR 0, pI k] S M F := by
  obtain ⟨_, _, b3, b4, _, b6, _⟩ := bf
  have loop : ∀ (k acc : Nat), k < f → F ((acc : Int) + lnN (w k)) M → wX0_gatesTo_4 X F acc k S M := by
    intro k
    induction k using Nat.strongRecOn with
    | _ k ih =>
      intro acc hk kk
      refine bX0_gatesTo_4 ⟨by omega, by omega, ?_⟩
      rcases Nat.eq_zero_or_pos k with z | z
      · subst z
        rw [b3, lnN] at kk
        rw [show M 234 ((0 : Nat) : Int) = -1 from b4]
        exact ⟨by constructor <;> decide, fun _ => by simpa using kk, fun y => absurd rfl y⟩
      · obtain ⟨j, g, h1, h2, h3, h4, h5⟩ := b6 k z hk
        rw [h3]
        refine ⟨by constructor <;> omega, fun y => by omega, fun _ => ⟨by omega, by omega, ?_⟩⟩
        rw [h5, lnN_ch h2] at kk
        have := ih j h1 (acc + 1) (by omega) (by rw [show ((acc + 1 : Nat) : Int) + (lnN (w j) : Int) = (acc : Int) + ((lnN (w j) + 1 : Nat) : Int) by omega]; exact kk)
        rw [Int.natCast_succ] at this
        exact this
  exact eX0_gatesTo (bX0_gatesTo_0 (loop k 0 hk (by simpa using kk)))
theorem c_mendAt71 {F : Int → pM → Prop} {n f i : Nat} {x : Int} {w : Nat → Nat} (bf : BF n x M f w) (f4 : f ≤ 120) : ∀ (k j : Nat), k < f → i ≤ j → j < 1000 → lnN (w k) = j + 1 → F (ltN i (w k)) M → wX0_mendAt_71 X F i k j S M := by
  obtain ⟨_, _, b3, b4, _, b6, _⟩ := bf
  intro k
  induction k using Nat.strongRecOn with
  | _ k ih =>
    intro j hk ij j1 hl kk
    rcases Nat.eq_zero_or_pos k with z | z
    · subst z
      rw [b3, lnN] at hl
      omega
    · obtain ⟨m, g, h1, h2, h3, h4, h5⟩ := b6 k z hk
      rw [h5, lnN_ch h2] at hl
      rw [h5, ltN_ch h2] at kk
      refine bX0_mendAt_71 ?_
      rw [h3, h4]
      refine ⟨by constructor <;> omega, by constructor <;> omega, fun y => ⟨by omega, by omega, ?_⟩, fun y => ⟨by omega, by omega, ?_⟩⟩
      · rw [if_pos (by omega)] at kk
        exact kk
      · rw [if_neg (by omega)] at kk
        have := ih m h1 (j - 1) (by omega) (by omega) (by omega) (by omega) kk
        rw [show ((j - 1 : Nat) : Int) = (j : Int) + -1 by omega] at this
        exact this
theorem c_mends {F : Int → pM → Prop} {n : Nat} {q z : Int} {L : List elt} (hn : n ≤ 5) (h2 : 2 ≤ n) (lr : LadR z S M q n L) (ok : okL n L) (k : ∀ (c f : Nat) (w : Nat → Nat) (M' : pM), frMd M M' → BF n (ini n L) M' f w → f ≤ 120 → c < f → w c = mN n (ini n L) → F c M') : pNi true X mX0_mends 6 [pR 0, pR q] S M F := by
  have p := pow_32 hn
  have e := pow_ishl (n := n) (by omega)
  obtain ⟨ix, hx⟩ := ini_ok (L := L) hn ok.2.2.2.2
  have q288 := lr.1
  have hq := lr.2.1
  have hM : ∀ M', frMd M M' → M' q 0 = n := fun M' f => by rw [f.1 q (by omega) (by omega) (by omega) (by omega)]; exact lr.2.2.1
  have l52 : ∀ (d k : Nat) (f : Nat) (w : Nat → Nat) (M' : pM), k + d = 121 → k ≤ f → frMd M M' → BF n (ini n L) M' f w → PRm n (ini n L) f w k 0 → (∀ i, i < k → ¬ srM n (aN n (ini n L) (w i))) → (k < f → ∀ i, i < f → w i ≤ 4 * w k) → wX0_mends_52 X F q k S M' := by
    intro d
    induction d with
    | zero =>
      intro k f w M' h1 h2 fr bf pr ns ub
      have := few hn hx ix f w (fun i hi => (bf.2.2.2.2.1 i hi).2) bf.2.2.2.2.2.2.2
      omega
    | succ d ih =>
      intro k f w M' h1 hkf fr bf pr ns ub
      have f120 := few hn hx ix f w (fun i hi => (bf.2.2.2.2.1 i hi).2) bf.2.2.2.2.2.2.2
      have b1 := bf.1
      refine bX0_mends_52 ?_
      rw [b1, hM M' fr]
      refine ⟨by constructor <;> omega, by constructor <;> omega, fun y => ?_, fun y => ⟨by omega, by omega, hq, ?_⟩⟩
      · exfalso
        obtain ⟨N, g1, _⟩ := ex_good h2 hn hx
        obtain ⟨j, j1, j2, _⟩ := bf_cov bf pr hkf N g1.1 (Or.inl (by omega))
        exact ns j j1 (by rw [j2]; exact g1.2)
      · have kf : k < f := by omega
        rw [(bf.2.2.2.2.1 k kf).1]
        refine c_areSorted hn h2 (fun s => ⟨by constructor <;> decide, fun y => by omega, fun _ => ?_⟩) (fun s => ⟨by constructor <;> decide, fun _ => ?_, fun y => absurd rfl y⟩)
        · refine (‹∀ (c f : Nat) (w : Nat → Nat) (M' : pM), frMd M M' → BF n (ini n L) M' f w → f ≤ 120 → c < f → w c = mN n (ini n L) → F c M'›) k f w M' fr bf f120 kf ?_
          refine (mN_eq ⟨(bf.2.2.2.2.1 k kf).2, s⟩ (fun N' hN' gn => ?_)).symm
          obtain ⟨j, j1, j2, _⟩ := bf_cov bf pr hkf N' gn.1 (Or.inr ⟨kf, hN'⟩)
          exact ns j j1 (by rw [j2]; exact gn.2)
        · have l81 : ∀ (dd g : Nat) (f : Nat) (w : Nat → Nat) (M' : pM), g + dd + 1 = n → k < f → frMd M M' → BF n (ini n L) M' f w → PRm n (ini n L) f w k g → (∀ i, i < k + 1 → ¬ srM n (aN n (ini n L) (w i))) → (∀ i, i < f → w i ≤ 4 * w k + g) → wX0_mends_81 X F q k g S M' := by
            intro dd
            induction dd with
            | zero =>
              intro g f w M' hg kf fr bf pr ns ub
              refine bX0_mends_81 ?_
              rw [hM M' fr]
              refine ⟨hq, by constructor <;> omega, by constructor <;> omega, fun _ => ?_, fun y => by omega⟩
              have := ih (k + 1) f w M' (by omega) (by omega) fr bf (fun i hi g' g4 gn c => pr i hi g' g4 gn (by omega)) ns (fun kf' i hi => by
                have := ub i hi
                have := bf.2.2.2.2.2.2.1 k (k + 1) (by omega) kf'
                omega)
              rw [Int.natCast_succ] at this
              exact this
            | succ dd ihh =>
              intro g f w M' hg kf fr bf pr ns ub
              have f120 := few hn hx ix f w (fun i hi => (bf.2.2.2.2.1 i hi).2) bf.2.2.2.2.2.2.2
              obtain ⟨c1, c2, c3, c4, c5, c6, c7, c8⟩ := bf
              have bf : BF n (ini n L) M' f w := ⟨c1, c2, c3, c4, c5, c6, c7, c8⟩
              have aw : aN n (ini n L) (4 * w k + g + 1) = gd n g (aN n (ini n L) (w k)) := aN_ch (by omega)
              refine pw_perm (fun hp hc => bX0_mends_81 ?_)
              obtain ⟨r1, r2⟩ := gt_ref hc (g := g) (by omega) (by omega)
              rw [hM M' fr, r1, (c5 k kf).1]
              refine ⟨hq, by constructor <;> omega, by constructor <;> omega, fun y => by omega, fun _ => ⟨by omega, by omega, by omega, by omega, hq, c_setAfter hn (gt_sh hp (by omega) (by omega)) r2 (by omega) ?_⟩⟩
              rw [← aw]
              refine c_isFound c1 (by omega) (aN_in ix _) (fun i hi => by rw [(c5 i hi).1]; exact aN_in ix _) (fun i hi ei => ⟨by constructor <;> decide, fun y => by omega, fun _ => bX0_mends_169 ?_⟩) (fun nf => ⟨by constructor <;> decide, fun _ => ?_, fun y => absurd rfl y⟩)
              · have := ihh (g + 1) f w M' (by omega) kf fr bf (fun i' hi' g' g4 gn c => by
                  by_cases dk : i' = k ∧ g' = g
                  · obtain ⟨rfl, rfl⟩ := dk
                    refine ⟨i, hi, ?_, ?_⟩
                    · rw [← aw, ← ei, (c5 i hi).1]
                    · have := ub i hi; omega
                  · exact pr i' hi' g' g4 gn (by omega)) ns (fun i hi => by have := ub i hi; omega)
                rw [Int.natCast_succ] at this
                exact this
              · rw [c1]
                refine ⟨by omega, by omega, fun M16 e16 => ?_⟩
                have z16 : M16 0 25 = f := by rw [e16, up_ne (by decide)]; exact c1
                rw [z16]
                refine ⟨by omega, by omega, fun M19 e19 => ?_⟩
                have z19 : M19 0 25 = f := by rw [e19, up_ne (by decide)]; exact z16
                have ib : i2bb (g : Int) = g := i2bb_id (by omega) (by omega)
                rw [z19, ib]
                refine ⟨by omega, by omega, by omega, by omega, fun M24 e24 => ?_⟩
                have z24 : M24 0 25 = f := by rw [e24, up_ne (by decide)]; exact z19
                rw [z24]
                intro M25 e25
                have v3 : M25 233 = pu_up M' 233 f (aN n (ini n L) (4 * w k + g + 1)) 233 := by rw [e25, up_ne (by decide), e24, up_ne (by decide), e19, up_ne (by decide), e16]
                have v4 : M25 234 = pu_up M' 234 f k 234 := by
                  rw [e25, up_ne (by decide), e24, up_ne (by decide), e19]
                  exact up_cong (by rw [e16, up_ne (by decide)])
                have v5 : M25 235 = pu_up M' 235 f g 235 := by
                  rw [e25, up_ne (by decide), e24]
                  exact up_cong (by rw [e19, up_ne (by decide), e16, up_ne (by decide)])
                have fr' : frMd M M25 := by
                  refine fr.trans (((?_ : frMd M' M16).trans (?_ : frMd M16 M19)).trans ((?_ : frMd M19 M24).trans (?_ : frMd M24 M25)))
                  · rw [e16]; exact frMd_up (by omega)
                  · rw [e19]; exact frMd_up (by omega)
                  · rw [e24]; exact frMd_up (by omega)
                  · rw [e25]; exact frMd_up (by omega)
                have wf : ∀ i, i < f → (fun i => if i = f then 4 * w k + g + 1 else w i) i = w i := fun i hi => if_neg (by omega)
                have wn : (fun i => if i = f then 4 * w k + g + 1 else w i) f = 4 * w k + g + 1 := if_pos rfl
                generalize (fun i => if i = f then 4 * w k + g + 1 else w i) = w' at wf wn
                have fresh : ∀ i, i < f → aN n (ini n L) (w i) ≠ aN n (ini n L) (4 * w k + g + 1) := fun i hi => by rw [← (c5 i hi).1]; exact nf i hi
                have bf' : BF n (ini n L) M25 (f + 1) w' := by
                  refine ⟨by rw [e25, up_same]; omega, by omega, by rw [wf 0 (by omega)]; exact c3, ?_, fun i hi => ?_, fun i i0 hi => ?_, fun i j h1 h2 => ?_, fun i j h1 h2 => ?_⟩
                  · rw [v4, up_oi (by omega)]; exact c4
                  · rw [v3]
                    by_cases di : i = f
                    · subst di
                      rw [wn, up_same]
                      exact ⟨rfl, (vN_ch (by omega)).2 ⟨by omega, (c5 k kf).2⟩⟩
                    · rw [wf i (by omega), up_oi (by omega)]
                      exact c5 i (by omega)
                  · rw [v4, v5]
                    by_cases di : i = f
                    · subst di
                      rw [wn, up_same, up_same]
                      exact ⟨k, g, kf, by omega, rfl, rfl, by rw [wf k kf]⟩
                    · rw [wf i (by omega), up_oi (by omega), up_oi (by omega)]
                      obtain ⟨j, g', u1, u2, u3, u4, u5⟩ := c6 i i0 (by omega)
                      exact ⟨j, g', u1, u2, u3, u4, by rw [wf j (by omega)]; exact u5⟩
                  · by_cases dj : j = f
                    · subst dj
                      rw [wn, wf i h1]
                      have := ub i h1
                      omega
                    · rw [wf j (by omega), wf i (by omega)]
                      exact c7 i j h1 (by omega)
                  · by_cases dj : j = f
                    · subst dj
                      rw [wn, wf i h1]
                      exact fresh i h1
                    · rw [wf j (by omega), wf i (by omega)]
                      exact c8 i j h1 (by omega)
                have pr' : PRm n (ini n L) (f + 1) w' k (g + 1) := by
                  intro i hi g' g4 gn c
                  rw [wf i (by omega)]
                  by_cases dk : i = k ∧ g' = g
                  · obtain ⟨rfl, rfl⟩ := dk
                    exact ⟨f, by omega, by rw [wn, aw], by rw [wn]; omega⟩
                  · obtain ⟨i', u1, u2, u3⟩ := pr i (by omega) g' g4 gn (by omega)
                    exact ⟨i', by omega, by rw [wf i' u1]; exact u2, by rw [wf i' u1]; exact u3⟩
                have := ihh (g + 1) (f + 1) w' M25 (by omega) (by omega) fr' bf' pr' (fun i hi => by rw [wf i (by omega)]; exact ns i hi) (fun i hi => by
                  rw [wf k kf]
                  by_cases di : i = f
                  · subst di; rw [wn]; omega
                  · rw [wf i (by omega)]; have := ub i (by omega); omega)
                rw [Int.natCast_succ] at this
                exact bX0_mends_169 this
          have := l81 (n - 1) 0 f w M' (by omega) kf fr bf (fun i hi g g4 gn c => pr i hi g g4 gn (by omega)) (fun i hi => by
            by_cases di : i = k
            · subst di; exact s
            · exact ns i (by omega)) (fun i hi => by have := ub kf i hi; omega)
          exact this
  have l4 : ∀ (d b : Nat), b + d = 2 ^ n → wX0_mends_4 X F q (fld (fun r => brun (-1) L 0 r) (-1) b) b S M := by
    intro d
    induction d with
    | zero =>
      intro b h
      refine bX0_mends_4 ?_
      rw [lr.2.2.1, e]
      refine ⟨hq, by constructor <;> omega, by constructor <;> omega, fun _ M4 e4 M5 e5 M6 e6 => ?_, fun y => by omega⟩
      rw [show fld (fun r => brun (-1) L 0 r) (-1) b = ini n L by unfold ini; rw [show b = 2 ^ n by omega]] at e5
      have fr : frMd M M6 := by
        refine ((?_ : frMd M M4).trans (?_ : frMd M4 M5)).trans (?_ : frMd M5 M6)
        · rw [e4]; exact frMd_up (by omega)
        · rw [e5]; exact frMd_up (by omega)
        · rw [e6]; exact frMd_up (by omega)
      have := l52 121 0 1 (fun _ => 0) M6 (by omega) (by omega) fr ⟨?_, by omega, rfl, by rw [e6, up_same], fun i hi => ?_, fun i i0 hi => by omega, fun i j h1 h2 => by omega, fun i j h1 h2 => by omega⟩ (fun i hi g g4 gn c => by omega) (fun i hi => by omega) (fun _ i hi => by omega)
      · exact this
      · rw [e6, up_ne (by decide), e5, up_ne (by decide), e4, up_same]; rfl
      · rw [show i = 0 by omega, e6, up_ne (by decide), e5]
        refine ⟨?_, by rw [vN]; trivial⟩
        rw [show ((0 : Nat) : Int) = 0 from rfl, up_same, aN]
    | succ d ih =>
      intro b h
      have nx := ih (b + 1) (by omega)
      rw [Int.natCast_succ, fld, if_pos (tb_all b (by omega))] at nx
      refine bX0_mends_4 ?_
      rw [lr.2.2.1, e]
      exact ⟨hq, by constructor <;> omega, by constructor <;> omega, fun y => by omega, fun _ => c_bitsDown (n := n) (by omega) lr ok (by constructor <;> decide) (by omega) nx⟩
  exact eX0_mends (bX0_mends_0 (l4 (2 ^ n) 0 (by omega)))
end
theorem lnN_small {n : Nat} {x : Int} (h2 : 2 ≤ n) (hn : n ≤ 5) (hx : ∀ c, c < 32 → tb x c = true → c < 2 ^ n) {N : Nat} (hN : ∀ N', gdN n x N' → N ≤ N') : lnN N ≤ 10 := by
  obtain ⟨B, b1, b2⟩ := ex_good h2 hn hx
  have := lnN_mono N B (hN B b1)
  omega
theorem least_ex {p : Nat → Prop} : ∀ N, p N → ∃ K, p K ∧ ∀ N', N' < K → ¬ p N' := by
  intro N
  induction N using Nat.strongRecOn with
  | _ N ih =>
    intro h
    by_cases c : ∃ N', N' < N ∧ p N'
    · obtain ⟨N', a, b⟩ := c
      exact ih N' a b
    · exact ⟨N, h, fun N' a b => c ⟨N', a, b⟩⟩
theorem mN_ok {n : Nat} {x : Int} (h2 : 2 ≤ n) (hn : n ≤ 5) (hx : ∀ c, c < 32 → tb x c = true → c < 2 ^ n) : gdN n x (mN n x) ∧ (∀ N', gdN n x N' → mN n x ≤ N') ∧ lnN (mN n x) ≤ 10 := by
  obtain ⟨B, b1, b2⟩ := ex_good h2 hn hx
  obtain ⟨K, k1, k2⟩ := least_ex (p := gdN n x) B b1
  rw [mN_eq k1 k2]
  have hm : ∀ N', gdN n x N' → K ≤ N' := fun N' h => by
    rcases Nat.lt_or_ge N' K with a | a
    · exact absurd h (k2 N' a)
    · exact a
  exact ⟨k1, hm, lnN_small h2 hn hx hm⟩
section
variable {X : px} {S : List psh} {M : pM} {σ : sgm}
theorem c_mend_op {F : Int → pM → Prop} {t : Int} (ht : inR t) (cp : CP S M σ) (k : ∀ M', frC M M' → SC M' → F (q_mend σ t) M') : pNi true X mX0_mend 7 [pR 0, pI t] S M F := by
  have k0 := k M (frC.refl _) cp.1
  refine eX0_mend (bX0_mend_0 ?_)
  by_cases h : 0 ≤ t ∧ t < σ.1.length ∧ mb (lad σ.1 t).2 ≤ 0
  · obtain ⟨a, b, c⟩ := h
    refine c_asked ht cp (fun _ _ _ => ⟨by constructor <;> decide, fun _ => c_get cp.2.1 a b (fun r lr ok hs => ⟨hs, hs, ?_⟩), fun y => by omega⟩) (fun _ _ z => by omega) (fun z => absurd ⟨a, b⟩ z)
    obtain ⟨N, e, h2, h7⟩ := ok.nat
    unfold q_mend at k k0
    rw [q_ask1 a b c] at k0
    rw [lr.2.2.1, e]
    refine ⟨by constructor <;> omega, fun n5 => ?_, fun n5 => ?_⟩
    · rw [e] at lr ok
      refine c_mends (n := N) (by omega) h2 lr ok (fun c' f w M' fr bf f4 cf wc => c_gatesTo bf f4 cf ?_)
      have kk := k M' fr.C (fr.SC cp.1)
      rw [q_ask1 a b c, if_pos (by omega)] at kk
      unfold mdN at kk
      rw [e, Int.toNat_natCast] at kk
      rw [wc]
      exact kk
    · rw [if_neg (by omega)] at k0
      exact k0
  · have kk := k0
    unfold q_mend at kk
    by_cases hl : 0 ≤ t ∧ t < σ.1.length
    · obtain ⟨a, b⟩ := hl
      have c : 0 < mb (lad σ.1 t).2 := by
        rcases Int.lt_or_le 0 (mb (lad σ.1 t).2) with w | w
        · exact w
        · exact absurd ⟨a, b, w⟩ h
      rw [q_ask2 a b c] at kk
      exact c_asked ht cp (fun _ _ z => by omega) (fun _ _ _ => ⟨by constructor <;> decide, fun y => by omega, fun _ => c_asked ht cp (fun _ _ z => by omega) (fun _ _ _ => kk) (fun z => absurd ⟨a, b⟩ z)⟩) (fun z => absurd ⟨a, b⟩ z)
    · rw [q_ask0 hl] at kk
      exact c_asked ht cp (fun a b _ => absurd ⟨a, b⟩ hl) (fun a b _ => absurd ⟨a, b⟩ hl) (fun _ => ⟨by constructor <;> decide, fun y => by omega, fun _ => c_asked ht cp (fun a b _ => absurd ⟨a, b⟩ hl) (fun a b _ => absurd ⟨a, b⟩ hl) (fun _ => kk)⟩)
theorem c_mendAt_op {F : Int → pM → Prop} {t i : Int} (ht : inR t) (hi : inR i) (cp : CP S M σ) (k : ∀ M', frC M M' → SC M' → F (q_mendAt σ t i) M') : pNi true X mX0_mendAt 7 [pR 0, pI t, pI i] S M F := by
  have bad : ¬ ((0 ≤ t ∧ t < σ.1.length ∧ mb (lad σ.1 t).2 ≤ 0 ∧ (lad σ.1 t).1 ≤ 5) ∧ 0 ≤ i ∧ i < (lnN (mdN σ t) : Int)) → ∀ M', frC M M' → SC M' → F (-1) M' := fun z M' a b => by
    have := k M' a b
    unfold q_mendAt at this
    rw [if_neg z] at this
    exact this
  refine eX0_mendAt (bX0_mendAt_0 (c_asked ht cp (fun a b c => ⟨by constructor <;> decide, fun y => by omega, fun _ => c_get cp.2.1 a b (fun r lr ok hs => ⟨hs, hs, ?_⟩)⟩) (fun a b c => ⟨by constructor <;> decide, fun _ => bad (fun z => by have := z.1.2.2.1; omega) M (frC.refl _) cp.1, fun y => by omega⟩) (fun h => ⟨by constructor <;> decide, fun _ => bad (fun z => h ⟨z.1.1, z.1.2.1⟩) M (frC.refl _) cp.1, fun y => by omega⟩)))
  obtain ⟨N, e, h2, h7⟩ := ok.nat
  rw [lr.2.2.1, e]
  refine ⟨by constructor <;> omega, fun n5 => c_get cp.2.1 a b (fun r lr ok hs => ⟨hs, ?_⟩), fun n5 => bad (fun z => by have := z.1.2.2.2; omega) M (frC.refl _) cp.1⟩
  rw [e] at lr ok
  obtain ⟨ix, hx⟩ := ini_ok (L := (lad σ.1 t).2) (by omega) ok.2.2.2.2
  have md : mdN σ t = mN N (ini N (lad σ.1 t).2) := by unfold mdN; rw [e, Int.toNat_natCast]
  obtain ⟨_, _, l10⟩ := mN_ok h2 (by omega) hx
  rw [← md] at l10
  refine c_mends (n := N) (by omega) h2 lr ok (fun c' f w M' fr bf f4 cf wc => c_gatesTo bf f4 cf ?_)
  rw [wc, ← md]
  refine c_within hi (by constructor <;> decide) (by constructor <;> omega) (fun i0 i1 => ⟨by constructor <;> decide, fun _ => ?_, fun z => by omega⟩) (fun h => ⟨by constructor <;> decide, fun z => by omega, fun _ => bad (fun z => by have := z.2; omega) M' fr.C (fr.SC cp.1)⟩)
  have kk := k M' fr.C (fr.SC cp.1)
  unfold q_mendAt at kk
  rw [if_pos ⟨⟨a, b, c, by omega⟩, i0, by omega⟩] at kk
  have := c_mendAt71 (X := X) (S := S) (F := F) (i := i.toNat) bf f4 c' (lnN (mdN σ t) - 1) cf (by omega) (by omega) (by rw [wc, ← md]; omega) (by rw [wc, ← md]; exact kk)
  rw [show ((i.toNat : Nat) : Int) = i by omega, show ((lnN (mdN σ t) - 1 : Nat) : Int) = (lnN (mdN σ t) : Int) - 1 by omega] at this
  exact this
end
