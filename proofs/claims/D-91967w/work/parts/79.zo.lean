/-! ===== rows of zeros and ones ===== -/
set_option maxRecDepth 100000
def bcf (x0 : Int) : Int := (iand (((iand (((iand (x0 - (iand (iushr x0 1) 1431655765)) 858993459) + (iand (iushr (x0 - (iand (iushr x0 1) 1431655765)) 2) 858993459)) + (iushr ((iand (x0 - (iand (iushr x0 1) 1431655765)) 858993459) + (iand (iushr (x0 - (iand (iushr x0 1) 1431655765)) 2) 858993459)) 4)) 252645135) + (iushr (iand (((iand (x0 - (iand (iushr x0 1) 1431655765)) 858993459) + (iand (iushr (x0 - (iand (iushr x0 1) 1431655765)) 2) 858993459)) + (iushr ((iand (x0 - (iand (iushr x0 1) 1431655765)) 858993459) + (iand (iushr (x0 - (iand (iushr x0 1) 1431655765)) 2) 858993459)) 4)) 252645135) 8)) + (iushr ((iand (((iand (x0 - (iand (iushr x0 1) 1431655765)) 858993459) + (iand (iushr (x0 - (iand (iushr x0 1) 1431655765)) 2) 858993459)) + (iushr ((iand (x0 - (iand (iushr x0 1) 1431655765)) 858993459) + (iand (iushr (x0 - (iand (iushr x0 1) 1431655765)) 2) 858993459)) 4)) 252645135) + (iushr (iand (((iand (x0 - (iand (iushr x0 1) 1431655765)) 858993459) + (iand (iushr (x0 - (iand (iushr x0 1) 1431655765)) 2) 858993459)) + (iushr ((iand (x0 - (iand (iushr x0 1) 1431655765)) 858993459) + (iand (iushr (x0 - (iand (iushr x0 1) 1431655765)) 2) 858993459)) 4)) 252645135) 8)) 16)) 63)
def bcn (r : Nat) : Nat := r % 2 + r / 2 % 2 + r / 4 % 2 + r / 8 % 2 + r / 16 % 2 + r / 32 % 2 + r / 64 % 2
theorem bc_ok : ∀ r : Nat, r < 128 → bcf (r : Int) = (bcn r : Int) := by decide
theorem f_and : ∀ r : Nat, r < 128 → iand (r : Int) 1 = ((r % 2 : Nat) : Int) := by decide
/-- the bit at a place -/
def bN (r i : Nat) : Nat := r / 2 ^ i % 2
theorem bN_bd (r i : Nat) : bN r i = 0 ∨ bN r i = 1 := by unfold bN; omega
def srtB (n r : Nat) : Bool := (List.range (n - 1)).all (fun i => !(decide (bN r i = 1 ∧ bN r (i + 1) = 0)))
theorem srtB_iff {n r : Nat} : srtB n r = true ↔ ∀ i, i + 1 < n → ¬ (bN r i = 1 ∧ bN r (i + 1) = 0) := by
  unfold srtB
  rw [List.all_eq_true]
  constructor
  · intro h i hi
    have := h i (List.mem_range.2 (by omega))
    simp at this
    omega
  · intro h i hi
    have := h i (by have := List.mem_range.1 hi; omega)
    simp
    omega
def fl (r k : Nat) : Nat := if bN r k = 1 then r + 2 ^ k else r - 2 ^ k
theorem f_xor : ∀ k : Nat, k < 6 → ∀ r : Nat, r < 128 → (bN r k ≠ bN r (k + 1) → ixor (r : Int) (ishl 3 (k : Int)) = (fl r k : Int)) := by decide
theorem f_xor2 : ∀ k : Nat, k < 6 → ∀ r : Nat, r < 128 → (bN r k ≠ bN r (k + 1) → ixor (ixor (r : Int) (ishl 1 (k : Int))) (ishl 1 ((k : Int) + 1)) = (fl r k : Int)) := by decide
theorem f_srt : ∀ n : Nat, n < 8 → 2 ≤ n → ∀ r : Nat, r < 128 → r < 2 ^ n → (((r : Int) = ishl ((ishl 1 (bcn r : Int)) - 1) ((n : Int) - (bcn r : Int))) ↔ srtB n r = true) := by decide
theorem f_fl : ∀ k : Nat, k < 6 → ∀ r : Nat, r < 128 → bN r k ≠ bN r (k + 1) → ∀ i : Nat, i < 7 → bN (fl r k) i = bN r (if i = k then k + 1 else if i = k + 1 then k else i) := by decide
theorem f_flb : ∀ n : Nat, n < 8 → ∀ k : Nat, k < 6 → ∀ r : Nat, r < 128 → (k + 1 < n ∧ r < 2 ^ n ∧ bN r k ≠ bN r (k + 1)) → fl r k < 2 ^ n := by decide
theorem pow_128 {n : Nat} (h : n ≤ 7) : 2 ^ n ≤ 128 := by
  have : ∀ j, j < 8 → 2 ^ j ≤ 128 := by decide
  exact this n (by omega)
/-- a row of bits at an element -/
def bsp (e : elt) (r : Nat) : Nat := if bN r e.2.1.toNat ≠ bN r (e.2.1.toNat + 1) ∧ chg e (bN r e.2.1.toNat) (bN r (e.2.1.toNat + 1)) 0 = 1 then fl r e.2.1.toNat else r
theorem bsp_bd {n r : Nat} {e : elt} (hn : n ≤ 7) (he : okE n e) (hr : r < 2 ^ n) : bsp e r < 2 ^ n := by
  have h1 := he.1
  have h2 := he.2.1
  have := pow_128 hn
  unfold bsp
  split
  · rename_i c
    exact f_flb n (by omega) e.2.1.toNat (by omega) r (by omega) ⟨by omega, hr, c.1⟩
  · exact hr
def brun (bt : Int) : List elt → Int → Nat → Nat
  | [], _, r => r
  | e :: L, i, r => brun bt L (i + 1) (if i = bt then r else bsp e r)
theorem brun_bd {n : Nat} {bt : Int} (hn : n ≤ 7) : ∀ (L : List elt) (i : Int) (r : Nat), (∀ e ∈ L, okE n e) → r < 2 ^ n → brun bt L i r < 2 ^ n
  | [], i, r, _, h => h
  | e :: L, i, r, he, h => by
    rw [brun]
    refine brun_bd hn L _ _ (fun x hx => he x (List.mem_cons_of_mem _ hx)) ?_
    split
    · exact h
    · exact bsp_bd hn (he e (List.mem_cons_self ..)) h
/-- the bits tell which numbers are so great -/
def Rz (n : Nat) (o τ : Int) (r : Nat) : Prop := r < 2 ^ n ∧ ∀ i : Nat, i < n → (bN r i = 1 ↔ τ ≤ dg n o i)
theorem Rz_step {n r : Nat} {o τ t : Int} {e : elt} (hn : n ≤ 7) (he : okE n e) (h3 : e.1 ≠ 3) (h : Rz n o τ r) : Rz n (pas n o e t) τ (bsp e r) := by
  obtain ⟨hr, hb⟩ := h
  have h1 := he.1
  have h2 := he.2.1
  have p128 := pow_128 hn
  refine ⟨bsp_bd hn he hr, fun i hi => ?_⟩
  obtain ⟨k, hk⟩ : ∃ k : Nat, e.2.1 = k := ⟨e.2.1.toNat, by omega⟩
  have hx := hb k (by omega)
  have hy := hb (k + 1) (by omega)
  have bx := bN_bd r k
  have by' := bN_bd r (k + 1)
  rw [Int.natCast_succ] at hy
  have trn : tr (k : Int) (i : Int) = ((if i = k then k + 1 else if i = k + 1 then k else i : Nat) : Int) := by
    unfold tr
    split <;> split <;> (try split) <;> (try split) <;> omega
  have swp : dg n (sw n o k) i = dg n o ((if i = k then k + 1 else if i = k + 1 then k else i : Nat) : Int) := by rw [dg_sw (by omega) (by omega) (by omega) (by omega), trn]
  have hp : ((if i = k then k + 1 else if i = k + 1 then k else i) : Nat) < n := by split <;> (try split) <;> omega
  have hs := hb _ hp
  unfold pas bsp
  rw [hk, Int.toNat_natCast]
  by_cases c : bN r k ≠ bN r (k + 1) ∧ chg e (bN r k) (bN r (k + 1)) 0 = 1
  · rw [if_pos c, f_fl k (by omega) r (by omega) c.1 i (by omega)]
    have cc : chg e (dg n o k) (dg n o (k + 1)) t = 1 := by
      obtain ⟨c1, c2⟩ := c
      unfold chg at c2 ⊢
      split at c2
      · rename_i d
        refine if_pos ?_
        rcases d with d | d | d | d
        · exact Or.inl d
        · refine Or.inr (Or.inl ⟨d.1, ?_⟩)
          omega
        · refine Or.inr (Or.inr (Or.inl ⟨d.1, ?_⟩))
          omega
        · exact absurd d.1 h3
      · omega
    rw [if_pos cc, swp]
    exact hs
  · rw [if_neg c]
    by_cases d : chg e (dg n o k) (dg n o (k + 1)) t = 1
    · rw [if_pos d, swp]
      have eq : bN r k = bN r (k + 1) := by
        by_cases q : bN r k = bN r (k + 1)
        · exact q
        · exfalso
          refine c ⟨q, ?_⟩
          unfold chg at d ⊢
          split at d
          · rename_i w
            refine if_pos ?_
            rcases w with w | w | w | w
            · exact Or.inl w
            · refine Or.inr (Or.inl ⟨w.1, ?_⟩)
              omega
            · refine Or.inr (Or.inr (Or.inl ⟨w.1, ?_⟩))
              omega
            · exact absurd w.1 h3
          · omega
      rw [← hs]
      have : bN r i = bN r (if i = k then k + 1 else if i = k + 1 then k else i) := by
        by_cases q : i = k
        · rw [if_pos q, q, eq]
        · rw [if_neg q]
          by_cases q2 : i = k + 1
          · rw [if_pos q2, q2, eq]
          · rw [if_neg q2]
      rw [this]
    · rw [if_neg d]
      exact hb i hi
theorem Rz_run {n : Nat} {τ th bt : Int} (hn : n ≤ 7) : ∀ (L : List elt) (i o m : Int) (r : Nat), (∀ e ∈ L, okE n e ∧ e.1 ≠ 3) → Rz n o τ r → Rz n (gob n th bt L i o m) τ (brun bt L i r)
  | [], i, o, m, r, _, h => h
  | e :: L, i, o, m, r, he, h => by
    have h1 := he e (List.mem_cons_self ..)
    rw [gob, brun]
    refine Rz_run hn L _ _ _ _ (fun x hx => he x (List.mem_cons_of_mem _ hx)) ?_
    by_cases c : i = bt
    · rw [if_pos c, if_pos c]; exact h
    · rw [if_neg c, if_neg c]; exact Rz_step hn h1.1 h1.2 h
/-- bits as one wishes -/
theorem bits_ex {n : Nat} (hn : n ≤ 7) (p : Nat → Prop) : ∃ r, r < 2 ^ n ∧ ∀ i, i < n → (bN r i = 1 ↔ p i) := by
  have key : ∀ m : Nat, m ≤ n → ∃ r, r < 2 ^ m ∧ ∀ i, i < m → (bN r i = 1 ↔ p i) := by
    intro m
    induction m with
    | zero => intro _; exact ⟨0, by decide, fun i hi => by omega⟩
    | succ m ih =>
      intro hm
      obtain ⟨r, r1, r2⟩ := ih (by omega)
      have hpow : 2 ^ (m + 1) = 2 * 2 ^ m := by rw [Nat.pow_succ]; omega
      have fin : ∀ m : Nat, m < 7 → ∀ r : Nat, r < 2 ^ m → (bN r m = 0 ∧ bN (r + 2 ^ m) m = 1 ∧ ∀ i : Nat, i < m → bN (r + 2 ^ m) i = bN r i) := by decide
      have f := fin m (by omega) r r1
      by_cases c : p m
      · refine ⟨r + 2 ^ m, by omega, fun i hi => ?_⟩
        by_cases d : i = m
        · subst d
          exact ⟨fun _ => c, fun _ => f.2.1⟩
        · rw [f.2.2 i (by omega)]
          exact r2 i (by omega)
      · refine ⟨r, by omega, fun i hi => ?_⟩
        by_cases d : i = m
        · subst d
          exact ⟨fun h => by omega, fun h => absurd h c⟩
        · exact r2 i (by omega)
  exact key n (Nat.le_refl _)
theorem Rz_of {n : Nat} (hn : n ≤ 7) (o τ : Int) : ∃ r, Rz n o τ r := bits_ex hn (fun i => τ ≤ dg n o i)
theorem cnt_mono {p : Int → Bool} {i j : Nat} (h : i ≤ j) : cnt p 0 i ≤ cnt p 0 j := by
  obtain ⟨d, rfl⟩ := Nat.exists_eq_add_of_le h
  induction d with
  | zero => exact Int.le_refl _
  | succ d ih =>
    have := ih (by omega)
    rw [← Nat.add_assoc, cnt_snoc]
    split <;> omega
theorem cnt_lt {p : Int → Bool} {i j : Nat} (h : i < j) (hp : p i = true) : cnt p 0 i < cnt p 0 j := by
  have := cnt_mono (p := p) (i := i + 1) (j := j) h
  rw [cnt_snoc, Int.zero_add, hp, if_pos rfl] at this
  omega
theorem cnt_not {p : Int → Bool} : ∀ (m : Nat), cnt p 0 m + cnt (fun x => !p x) 0 m = m
  | 0 => rfl
  | m + 1 => by
    rw [cnt_snoc, cnt_snoc, Int.zero_add]
    have := cnt_not (p := p) m
    cases h : p (m : Int) <;> simp <;> omega
/-- every row of bits comes from an order -/
theorem Rz_ex {n r : Nat} (hn : n ≤ 7) (hr : r < 2 ^ n) : ∃ o τ, 0 ≤ o ∧ o < fac n ∧ Rz n o τ r := by
  let p : Int → Bool := fun i => decide (bN r i.toNat = 0)
  let z : Int := cnt p 0 n
  let h : Int → Int := fun i => if p i then cnt p 0 i.toNat else z + cnt (fun x => !p x) 0 i.toNat
  have rng : ∀ i : Nat, i < n → (p i = true → 0 ≤ h i ∧ h i < z) ∧ (p i = false → z ≤ h i ∧ h i < n) := by
    intro i hi
    constructor
    · intro hp
      have : h i = cnt p 0 i := by show (if p i then cnt p 0 ((i : Int)).toNat else _) = _; rw [if_pos hp, Int.toNat_natCast]
      have a := cnt_lt (p := p) hi hp
      have b := (cnt_bd (p := p) i 0).1
      omega
    · intro hp
      have : h i = z + cnt (fun x => !p x) 0 i := by show (if p i then _ else z + cnt (fun x => !p x) 0 ((i : Int)).toNat) = _; rw [if_neg (by simp [hp]), Int.toNat_natCast]
      have a := cnt_lt (p := fun x => !p x) hi (by simp [hp])
      have b := (cnt_bd (p := fun x => !p x) i 0).1
      have c := cnt_not (p := p) n
      omega
  have inj : ∀ i j : Nat, i < j → j < n → h i ≠ h j := by
    intro i j hij hj e
    have ri := rng i (by omega)
    have rj := rng j hj
    cases pi : p (i : Int) with
    | true =>
      cases pj : p (j : Int) with
      | true =>
        have a : h i = cnt p 0 i := by show (if p i then cnt p 0 ((i : Int)).toNat else _) = _; rw [if_pos pi, Int.toNat_natCast]
        have b : h j = cnt p 0 j := by show (if p j then cnt p 0 ((j : Int)).toNat else _) = _; rw [if_pos pj, Int.toNat_natCast]
        have := cnt_lt (p := p) hij pi
        omega
      | false =>
        have := ri.1 pi
        have := rj.2 pj
        omega
    | false =>
      cases pj : p (j : Int) with
      | true =>
        have := ri.2 pi
        have := rj.1 pj
        omega
      | false =>
        have a : h i = z + cnt (fun x => !p x) 0 i := by show (if p i then _ else z + cnt (fun x => !p x) 0 ((i : Int)).toNat) = _; rw [if_neg (by simp [pi]), Int.toNat_natCast]
        have b : h j = z + cnt (fun x => !p x) 0 j := by show (if p j then _ else z + cnt (fun x => !p x) 0 ((j : Int)).toNat) = _; rw [if_neg (by simp [pj]), Int.toNat_natCast]
        have := cnt_lt (p := fun x => !p x) hij (by simp [pi])
        omega
  have zb : z ≤ n := by have := (cnt_bd (p := p) n 0).2; exact this
  have hF : isF n h := isF_of (fun i a b => by
    have := rng i.toNat (by omega)
    rw [show ((i.toNat : Nat) : Int) = i by omega] at this
    cases c : p i with
    | true => have := this.1 c; omega
    | false =>
      have := this.2 c
      have := (cnt_bd (p := p) n 0).1
      omega) (fun i j a b c d e => by
    rcases Int.lt_trichotomy i j with w | w | w
    · have := inj i.toNat j.toNat (by omega) (by omega)
      rw [show ((i.toNat : Nat) : Int) = i by omega, show ((j.toNat : Nat) : Int) = j by omega] at this
      exact absurd e this
    · exact w
    · have := inj j.toNat i.toNat (by omega) (by omega)
      rw [show ((i.toNat : Nat) : Int) = i by omega, show ((j.toNat : Nat) : Int) = j by omega] at this
      exact absurd e.symm this)
  refine ⟨rk (seg h 0 n), z, rk_nonneg _, isP.lt hF, hr, fun i hi => ?_⟩
  rw [← dg_of hF rfl (show (0 : Int) ≤ (i : Int) by omega) (show (i : Int) < n by omega)]
  have := rng i hi
  cases c : p (i : Int) with
  | true =>
    have h1 := this.1 c
    have : bN r i = 0 := by have := of_decide_eq_true c; rwa [Int.toNat_natCast] at this
    omega
  | false =>
    have h1 := this.2 c
    have : ¬ bN r i = 0 := by have := of_decide_eq_false c; rwa [Int.toNat_natCast] at this
    have := bN_bd r i
    omega
theorem Rz_zero {n r : Nat} {τ : Int} (h : Rz n 0 τ r) : srtB n r = true := by
  rw [srtB_iff]
  intro i hi c
  have a := (h.2 i (by omega)).1 c.1
  have b := h.2 (i + 1) hi
  rw [dg_zero (by omega) (by omega)] at a
  rw [dg_zero (by omega) (by omega)] at b
  have := b.2 (by omega)
  omega
theorem Rz_all {n : Nat} {o : Int} (hn : n ≤ 7) (o0 : 0 ≤ o) (o1 : o < fac n) (h : ∀ τ, ∃ r, Rz n o τ r ∧ srtB n r = true) : o = 0 := by
  have mono : ∀ i : Nat, i + 1 < n → dg n o i < dg n o (i + 1) := by
    intro i hi
    obtain ⟨r, hr, hs⟩ := h (dg n o i)
    have s := (srtB_iff.1 hs) i hi
    have a := (hr.2 i (by omega)).2 (Int.le_refl _)
    have b := hr.2 (i + 1) hi
    have c := bN_bd r (i + 1)
    have d : bN r (i + 1) = 1 := by
      rcases c with c | c
      · exact absurd ⟨a, c⟩ s
      · exact c
    have e := b.1 d
    rw [Int.natCast_succ] at e
    have ne : dg n o i ≠ dg n o (i + 1) := fun w => by
      have := (dg_F (n := n) (v := o)).inj (by omega) (by omega) (by omega) (by omega) w
      omega
    omega
  have low : ∀ i : Nat, i < n → (i : Int) ≤ dg n o i := by
    intro i
    induction i with
    | zero => intro hi; have := dg_rng (o := o) hn (show (0 : Int) ≤ ((0 : Nat) : Int) by omega) (by omega); omega
    | succ i ih =>
      intro hi
      have := ih (by omega)
      have := mono i hi
      rw [Int.natCast_succ]
      omega
  have up : ∀ d i : Nat, i + d + 1 = n → dg n o i ≤ i := by
    intro d
    induction d with
    | zero => intro i hi; have := dg_rng (o := o) hn (show (0 : Int) ≤ (i : Int) by omega) (by omega); omega
    | succ d ih =>
      intro i hi
      have := ih (i + 1) (by omega)
      have := mono i (by omega)
      rw [Int.natCast_succ] at *
      omega
  refine ord_ext o0 o1 (Int.le_refl _) (fac_pos n) (fun i a b => ?_)
  rw [dg_zero a b]
  have l := low i.toNat (by omega)
  have u := up (n - i.toNat - 1) i.toNat (by omega)
  rw [show ((i.toNat : Nat) : Int) = i by omega] at l u
  omega
/-- what sorts all zeros and ones sorts all -/
theorem zo_sorts {n : Nat} {th bt i m : Int} {L : List elt} (hn : n ≤ 7) (he : ∀ e ∈ L, okE n e ∧ e.1 ≠ 3) : (∀ r, r < 2 ^ n → srtB n (brun bt L i r) = true) ↔ (∀ o, 0 ≤ o → o < fac n → gob n th bt L i o m = 0) := by
  constructor
  · intro h o o0 o1
    have gb := gob_bd (n := n) (th := th) (bt := bt) L i o m (fun e h => (he e h).1) o0 o1
    refine Rz_all hn gb.1 gb.2 (fun τ => ?_)
    obtain ⟨r0, hr0⟩ := Rz_of hn o τ
    exact ⟨_, Rz_run (th := th) (bt := bt) hn L i o m r0 he hr0, h r0 hr0.1⟩
  · intro h r hr
    obtain ⟨o, τ, o0, o1, hR⟩ := Rz_ex hn hr
    have := Rz_run (th := th) (bt := bt) hn L i o m r he hR
    rw [h o o0 o1] at this
    exact Rz_zero this
