/-! ===== frames; digit, fewest, ladders, rung ===== -/
set_option maxRecDepth 100000
/-- what the component keeps -/
def frC (M M' : pM) : Prop := (∀ x, x = 11 ∨ x = 12 ∨ x = 19 ∨ x = 25 ∨ x = 26 ∨ x = 27 ∨ 241 ≤ x → M' x = M x) ∧ (∀ j, j = 10 ∨ j = 17 → M' 0 j = M 0 j)
def NW (M : pM) : Prop := (M 0 15 = 23 ∧ M 0 16 = 24) ∨ (M 0 15 = 24 ∧ M 0 16 = 23)
/-- the word in hand holds bytes -/
def WB (M : pM) : Prop := ∀ i : Int, 0 ≤ i → i < 21 → -128 ≤ M 6 i ∧ M 6 i < 128
def SC (M : pM) : Prop := TC M ∧ LC M ∧ NW M ∧ WB M
theorem WB.fr {M M' : pM} (h : WB M) (e : M' 6 = M 6) : WB M' := by unfold WB; rw [e]; exact h
theorem WB.word {n : Nat} {M M' : pM} {w : List Int} (h : WB M) (hl : lets n w) (hn : n ≤ 7) (h1 : ∀ x : Int, 0 ≤ x → x < w.length → M' 6 x = at0 w x) (h2 : ∀ x : Int, w.length ≤ x → M' 6 x = M 6 x) : WB M' := by
  intro i a b
  by_cases c : i < w.length
  · rw [h1 i a c]
    have := hl _ (at0_mem a c)
    omega
  · rw [h2 i (by omega)]
    exact h i a b
/-- what the twin keeps -/
def frT (M M' : pM) : Prop := (∀ x, x ≤ 240 ∨ (242 ≤ x ∧ x ≤ 252) ∨ 288 ≤ x → M' x = M x) ∧ (∀ j, j = 0 ∨ j = 7 ∨ j = 12 ∨ j = 21 → M' 241 j = M 241 j)
theorem frC.refl (M : pM) : frC M M := ⟨fun _ _ => rfl, fun _ _ => rfl⟩
theorem frC.trans {M M1 M2 : pM} (a : frC M M1) (b : frC M1 M2) : frC M M2 := ⟨fun x h => (b.1 x h).trans (a.1 x h), fun j h => (b.2 j h).trans (a.2 j h)⟩
theorem frT.refl (M : pM) : frT M M := ⟨fun _ _ => rfl, fun _ _ => rfl⟩
theorem frT.trans {M M1 M2 : pM} (a : frT M M1) (b : frT M1 M2) : frT M M2 := ⟨fun x h => (b.1 x h).trans (a.1 x h), fun j h => (b.2 j h).trans (a.2 j h)⟩
theorem NW.fr {M M' : pM} (h : NW M) (a : M' 0 15 = M 0 15) (b : M' 0 16 = M 0 16) : NW M' := by unfold NW; rw [a, b]; exact h
theorem TabC.C {n : Nat} {M : pM} (h2 : 2 ≤ n) (hn : n ≤ 7) (t : TabC n M) : TC M := Or.inr ⟨n, h2, hn, t⟩
theorem TabT.T {n : Nat} {M : pM} (h2 : 2 ≤ n) (hn : n ≤ 7) (t : TabT n M) : TT M := Or.inr ⟨n, h2, hn, t⟩
theorem frW.C {M M' : pM} (a : frW M M') : frC M M' := ⟨fun x h => a.1 x (by omega) (by omega) (by omega) (by omega), fun j h => a.2 j (by omega)⟩
theorem frW.nw {M M' : pM} (a : frW M M') (h : NW M) : NW M' := h.fr (a.2 15 (by decide)) (a.2 16 (by decide))
/-- an order of n -/
def isO (n o : Int) : Prop := 2 ≤ n ∧ n ≤ 7 ∧ 0 ≤ o ∧ o < fac n.toNat
section
variable {X : px} {S : List psh} {M : pM}
theorem c_within {F : Int → pM → Prop} {x a b : Int} (hx : inR x) (ha : inR a) (hb : inR b) (k1 : a ≤ x → x ≤ b → F 1 M) (k0 : x < a ∨ b < x → F 0 M) : pNi true X mX0_within 1 [pI x, pI a, pI b] S M F := by
  refine eX0_within (bX0_within_0 ?_)
  ((repeat' (first | (with_reducible apply And.intro) | (with_reducible intro _ e; subst e) | (with_reducible intro _))) <;> (try (first | omega | (with_reducible assumption))))
  · exact k0 (by omega)
  · exact k0 (by omega)
  · exact k1 (by omega) (by omega)
theorem c_isOrder {F : Int → pM → Prop} {n o : Int} (hn : inR n) (ho : inR o) (sc : SC M) (k1 : ∀ N : Nat, 2 ≤ N → N ≤ 7 → n = N → 0 ≤ o → o < fac N → ∀ M' : pM, (∀ x, x < 1 ∨ 4 < x → M' x = M x) → TabC N M' → F 1 M') (k0 : ¬ isO n o → ∀ M' : pM, (∀ x, x < 1 ∨ 4 < x → M' x = M x) → TC M' → F 0 M') : pNi true X mX0_isOrder 4 [pR 0, pI n, pI o] S M F := by
  refine eX0_isOrder (bX0_isOrder_0 (c_within hn (by constructor <;> decide) (by constructor <;> decide) (fun a b => ?_) (fun h => ?_)))
  · obtain ⟨N, hN⟩ : ∃ N : Nat, n = N := ⟨n.toNat, by omega⟩
    subst hN
    have hf := fac_le (n := N) (by omega)
    have hfp := fac_pos N
    ((repeat' (first | (with_reducible apply And.intro) | (with_reducible intro _ e; subst e) | (with_reducible intro _))) <;> (try (first | omega | (with_reducible assumption))))
    refine c_of (by omega) (by omega) sc.1 (fun M1 a1 t1 => ?_)
    rw [t1.2.1]
    refine c_within ho (by constructor <;> decide) (by constructor <;> omega) (fun c d => ?_) (fun h => ?_)
    · ((repeat' (first | (with_reducible apply And.intro) | (with_reducible intro _ e; subst e) | (with_reducible intro _))) <;> (try (first | omega | (with_reducible assumption))))
      exact k1 N (by omega) (by omega) rfl c (by omega) M1 a1 t1
    · ((repeat' (first | (with_reducible apply And.intro) | (with_reducible intro _ e; subst e) | (with_reducible intro _))) <;> (try (first | omega | (with_reducible assumption))))
      exact k0 (fun z => by have := z.2.2.2; rw [Int.toNat_natCast] at this; have := z.2.2.1; omega) M1 a1 (t1.C (by omega) (by omega))
  · ((repeat' (first | (with_reducible apply And.intro) | (with_reducible intro _ e; subst e) | (with_reducible intro _))) <;> (try (first | omega | (with_reducible assumption))))
    exact k0 (fun z => by have := z.1; have := z.2.1; omega) M (fun _ _ => rfl) sc.1
theorem tw_isLegs {F : Int → pM → Prop} {n : Int} (hn : inR n) (k1 : 2 ≤ n → n ≤ 7 → F 1 M) (k0 : n < 2 ∨ 7 < n → F 0 M) : pNi true X mX6_isLegs 1 [pI n] S M F := by
  refine eX6_isLegs (bX6_isLegs_0 ?_)
  ((repeat' (first | (with_reducible apply And.intro) | (with_reducible intro _ e; subst e) | (with_reducible intro _))) <;> (try (first | omega | (with_reducible assumption))))
  · exact k0 (by omega)
  · exact k0 (by omega)
  · exact k1 (by omega) (by omega)
theorem tw_isOrder {F : Int → pM → Prop} {n o : Int} (hn : inR n) (ho : inR o) (k1 : ∀ N : Nat, 2 ≤ N → N ≤ 7 → n = N → 0 ≤ o → o < fac N → F 1 M) (k0 : ¬ isO n o → F 0 M) : pNi true X mX6_isOrder 2 [pR 241, pI n, pI o] S M F := by
  refine eX6_isOrder (bX6_isOrder_0 (tw_isLegs hn (fun a b => ?_) (fun h => ?_)))
  · obtain ⟨N, hN⟩ : ∃ N : Nat, n = N := ⟨n.toNat, by omega⟩
    subst hN
    have hf := fac_le (n := N) (by omega)
    have hfp := fac_pos N
    ((repeat' (first | (with_reducible apply And.intro) | (with_reducible intro _ e; subst e) | (with_reducible intro _))) <;> (try (first | omega | (with_reducible assumption))))
    · exact k0 (fun z => by have := z.2.2.1; omega)
    · refine t_ordersOf (by omega) (by omega) ?_
      ((repeat' (first | (with_reducible apply And.intro) | (with_reducible intro _ e; subst e) | (with_reducible intro _))) <;> (try (first | omega | (with_reducible assumption))))
      · exact k0 (fun z => by have := z.2.2.2; rw [Int.toNat_natCast] at this; omega)
      · exact k1 N (by omega) (by omega) rfl (by omega) (by omega)
  · ((repeat' (first | (with_reducible apply And.intro) | (with_reducible intro _ e; subst e) | (with_reducible intro _))) <;> (try (first | omega | (with_reducible assumption))))
    exact k0 (fun z => by have := z.1; have := z.2.1; omega)
theorem isO_nat {N : Nat} {o : Int} (h2 : 2 ≤ N) (hn : N ≤ 7) (a : 0 ≤ o) (b : o < fac N) : isO N o := ⟨by omega, by omega, a, by rw [Int.toNat_natCast]; exact b⟩
theorem LC.fr14 {M M' : pM} (l : LC M) (h : ∀ x, x < 1 ∨ 4 < x → M' x = M x) : LC M' := l.fr (by rw [h 0 (by decide)]) (h 5 (by decide))
theorem fr14_C {M M' : pM} (h : ∀ x, x < 1 ∨ 4 < x → M' x = M x) : frC M M' := ⟨fun x hx => h x (by omega), fun j _ => by rw [h 0 (by decide)]⟩
theorem SC.of14 {M M' : pM} (sc : SC M) (h : ∀ x, x < 1 ∨ 4 < x → M' x = M x) (t : TC M') : SC M' := ⟨t, sc.2.1.fr14 h, sc.2.2.1.fr (by rw [h 0 (by decide)]) (by rw [h 0 (by decide)]), sc.2.2.2.fr (h 6 (by decide))⟩
theorem SC.ofL {n : Nat} {M M' : pM} (sc : SC M) (h2 : 2 ≤ n) (hn : n ≤ 7) (f : frL M M') (t : TabC n M') (l : LC M') : SC M' := ⟨t.C h2 hn, l, f.W.nw sc.2.2.1, sc.2.2.2.fr (f.1 6 (by decide) (by decide) (by decide))⟩
theorem tw_layT {F : pM → Prop} {n : Nat} (h2 : 2 ≤ n) (hn : n ≤ 7) (ht : TT M) (k : ∀ M' : pM, frT M M' → TabT n M' → F M') : pNv true X mX6_lay 3 [pR 241, pI n] S M F :=
  tw_lay h2 hn ht (fun M' a b t => k M' ⟨fun x h => a x (by omega) (by omega), fun j h => b j (by omega) (by omega)⟩ t)
noncomputable def q_digit (n o i : Int) : Int := @ite _ (isO n o ∧ 0 ≤ i ∧ i < n) (Classical.propDecidable _) (dg n.toNat o i) (-1)
noncomputable def q_fewest (n o : Int) : Int := @ite _ (isO n o) (Classical.propDecidable _) (iv n.toNat o) (-1)
noncomputable def q_ladders (n o : Int) : Int := @ite _ (isO n o) (Classical.propDecidable _) (FF n.toNat o) (-1)
noncomputable def q_rung (n o r i : Int) : Int := @ite _ (isO n o ∧ 0 ≤ r ∧ r < FF n.toNat o ∧ 0 ≤ i ∧ i < iv n.toNat o) (Classical.propDecidable _) (at0 (wd n.toNat o r) i) (-1)
theorem c_digit_op {F : Int → pM → Prop} {n o i : Int} (hn : inR n) (ho : inR o) (hi : inR i) (sc : SC M) (k : ∀ M', frC M M' → SC M' → F (q_digit n o i) M') : pNi true X mX0_digit 5 [pR 0, pI n, pI o, pI i] S M F := by
  refine eX0_digit (bX0_digit_0 (c_isOrder hn ho sc (fun N h2 h7 e a b M1 f1 t1 => ?_) (fun hno M1 f1 t1 => ?_)))
  · subst e
    have hf := fac_le h7
    have hO := isO_nat h2 h7 a b
    ((repeat' (first | (with_reducible apply And.intro) | (with_reducible intro _ e; subst e) | (with_reducible intro _))) <;> (try (first | omega | (with_reducible assumption))))
    refine c_within hi (by constructor <;> decide) (by constructor <;> omega) (fun c d => ?_) (fun h => ?_)
    · ((repeat' (first | (with_reducible apply And.intro) | (with_reducible intro _ e; subst e) | (with_reducible intro _))) <;> (try (first | omega | (with_reducible assumption))))
      refine c_digit a (by omega) c (by omega) ?_
      rw [t1.row a b i c (by omega)]
      have := k M1 (fr14_C f1) (sc.of14 f1 (t1.C h2 h7))
      unfold q_digit at this
      rw [if_pos ⟨hO, c, by omega⟩, Int.toNat_natCast] at this
      exact this
    · ((repeat' (first | (with_reducible apply And.intro) | (with_reducible intro _ e; subst e) | (with_reducible intro _))) <;> (try (first | omega | (with_reducible assumption))))
      have := k M1 (fr14_C f1) (sc.of14 f1 (t1.C h2 h7))
      unfold q_digit at this
      rw [if_neg (by omega)] at this
      exact this
  · ((repeat' (first | (with_reducible apply And.intro) | (with_reducible intro _ e; subst e) | (with_reducible intro _))) <;> (try (first | omega | (with_reducible assumption))))
    have := k M1 (fr14_C f1) (sc.of14 f1 t1)
    unfold q_digit at this
    rw [if_neg (fun z => hno z.1)] at this
    exact this
theorem tw_digit_op {F : Int → pM → Prop} {n o i : Int} (hn : inR n) (ho : inR o) (hi : inR i) (tt : TT M) (k : ∀ M', frT M M' → TT M' → F (q_digit n o i) M') : pNi true X mX6_digit 4 [pR 241, pI n, pI o, pI i] S M F := by
  refine eX6_digit (bX6_digit_0 (tw_isOrder hn ho (fun N h2 h7 e a b => ?_) (fun hno => ?_)))
  · subst e
    have hf := fac_le h7
    have hO := isO_nat h2 h7 a b
    have bad : (i < 0 ∨ (N : Int) ≤ i) → F (-1) M := fun h => by
      have := k M (frT.refl _) tt
      unfold q_digit at this
      rw [if_neg (by omega)] at this
      exact this
    ((repeat' (first | (with_reducible apply And.intro) | (with_reducible intro _ e; subst e) | (with_reducible intro _))) <;> (try (first | omega | (with_reducible assumption))))
    · exact bad (by omega)
    · refine tw_layT h2 h7 tt (fun M1 f1 t1 => ?_)
      rw [t1.row a b i (by omega) (by omega)]
      ((repeat' (first | (with_reducible apply And.intro) | (with_reducible intro _ e; subst e) | (with_reducible intro _))) <;> (try (first | omega | (with_reducible assumption))))
      have := k M1 f1 (t1.T h2 h7)
      unfold q_digit at this
      rw [if_pos ⟨hO, by omega, by omega⟩, Int.toNat_natCast] at this
      exact this
    · exact bad (by omega)
  · ((repeat' (first | (with_reducible apply And.intro) | (with_reducible intro _ e; subst e) | (with_reducible intro _))) <;> (try (first | omega | (with_reducible assumption))))
    have := k M (frT.refl _) tt
    unfold q_digit at this
    rw [if_neg (fun z => hno z.1)] at this
    exact this
theorem c_fewest_op {F : Int → pM → Prop} {n o : Int} (hn : inR n) (ho : inR o) (sc : SC M) (k : ∀ M', frC M M' → SC M' → F (q_fewest n o) M') : pNi true X mX0_fewest 5 [pR 0, pI n, pI o] S M F := by
  refine eX0_fewest (bX0_fewest_0 (c_isOrder hn ho sc (fun N h2 h7 e a b M1 f1 t1 => ?_) (fun hno M1 f1 t1 => ?_)))
  · subst e
    ((repeat' (first | (with_reducible apply And.intro) | (with_reducible intro _ e; subst e) | (with_reducible intro _))) <;> (try (first | omega | (with_reducible assumption))))
    refine c_inv h7 t1 a b ?_
    have := k M1 (fr14_C f1) (sc.of14 f1 (t1.C h2 h7))
    unfold q_fewest at this
    rw [if_pos (isO_nat h2 h7 a b), Int.toNat_natCast] at this
    exact this
  · ((repeat' (first | (with_reducible apply And.intro) | (with_reducible intro _ e; subst e) | (with_reducible intro _))) <;> (try (first | omega | (with_reducible assumption))))
    have := k M1 (fr14_C f1) (sc.of14 f1 t1)
    unfold q_fewest at this
    rw [if_neg hno] at this
    exact this
theorem tw_fewest_op {F : Int → pM → Prop} {n o : Int} (hn : inR n) (ho : inR o) (tt : TT M) (k : ∀ M', frT M M' → TT M' → F (q_fewest n o) M') : pNi true X mX6_fewest 4 [pR 241, pI n, pI o] S M F := by
  refine eX6_fewest (bX6_fewest_0 (tw_isOrder hn ho (fun N h2 h7 e a b => ?_) (fun hno => ?_)))
  · subst e
    have hf := fac_le h7
    ((repeat' (first | (with_reducible apply And.intro) | (with_reducible intro _ e; subst e) | (with_reducible intro _))) <;> (try (first | omega | (with_reducible assumption))))
    refine tw_layT h2 h7 tt (fun M1 f1 t1 => ?_)
    rw [t1.2.2.2.1 o a b]
    ((repeat' (first | (with_reducible apply And.intro) | (with_reducible intro _ e; subst e) | (with_reducible intro _))) <;> (try (first | omega | (with_reducible assumption))))
    have := k M1 f1 (t1.T h2 h7)
    unfold q_fewest at this
    rw [if_pos (isO_nat h2 h7 a b), Int.toNat_natCast] at this
    exact this
  · ((repeat' (first | (with_reducible apply And.intro) | (with_reducible intro _ e; subst e) | (with_reducible intro _))) <;> (try (first | omega | (with_reducible assumption))))
    have := k M (frT.refl _) tt
    unfold q_fewest at this
    rw [if_neg hno] at this
    exact this
theorem c_ladders_op {F : Int → pM → Prop} {n o : Int} (hn : inR n) (ho : inR o) (sc : SC M) (k : ∀ M', frC M M' → SC M' → F (q_ladders n o) M') : pNl true X mX0_ladders 25 [pR 0, pI n, pI o] S M F := by
  refine eX0_ladders (bX0_ladders_0 (c_isOrder hn ho sc (fun N h2 h7 e a b M1 f1 t1 => ?_) (fun hno M1 f1 t1 => ?_)))
  · subst e
    have s1 := sc.of14 f1 (t1.C h2 h7)
    ((repeat' (first | (with_reducible apply And.intro) | (with_reducible intro _ e; subst e) | (with_reducible intro _))) <;> (try (first | omega | (with_reducible assumption))))
    refine c_lf h2 h7 a b t1 s1.2.1 (fun M2 f2 l2 => ?_)
    have := k M2 ((fr14_C f1).trans f2.W.C) (s1.ofL h2 h7 f2 (f2.tab t1) (l2.C h2 h7))
    unfold q_ladders at this
    rw [if_pos (isO_nat h2 h7 a b), Int.toNat_natCast] at this
    exact this
  · ((repeat' (first | (with_reducible apply And.intro) | (with_reducible intro _ e; subst e) | (with_reducible intro _))) <;> (try (first | omega | (with_reducible assumption))))
    have := k M1 (fr14_C f1) (sc.of14 f1 t1)
    unfold q_ladders at this
    rw [if_neg hno] at this
    exact this
theorem tw_ladders_op {F : Int → pM → Prop} {n o : Int} (hn : inR n) (ho : inR o) (tt : TT M) (k : ∀ M', frT M M' → TT M' → F (q_ladders n o) M') : pNl true X mX6_ladders 4 [pR 241, pI n, pI o] S M F := by
  refine eX6_ladders (bX6_ladders_0 (tw_isOrder hn ho (fun N h2 h7 e a b => ?_) (fun hno => ?_)))
  · subst e
    have hf := fac_le h7
    ((repeat' (first | (with_reducible apply And.intro) | (with_reducible intro _ e; subst e) | (with_reducible intro _))) <;> (try (first | omega | (with_reducible assumption))))
    refine tw_layT h2 h7 tt (fun M1 f1 t1 => ?_)
    rw [t1.2.2.2.2.2.2 o a b]
    ((repeat' (first | (with_reducible apply And.intro) | (with_reducible intro _ e; subst e) | (with_reducible intro _))) <;> (try (first | omega | (with_reducible assumption))))
    have := k M1 f1 (t1.T h2 h7)
    unfold q_ladders at this
    rw [if_pos (isO_nat h2 h7 a b), Int.toNat_natCast] at this
    exact this
  · ((repeat' (first | (with_reducible apply And.intro) | (with_reducible intro _ e; subst e) | (with_reducible intro _))) <;> (try (first | omega | (with_reducible assumption))))
    have := k M (frT.refl _) tt
    unfold q_ladders at this
    rw [if_neg hno] at this
    exact this
theorem c_rung_op {F : Int → pM → Prop} {n o r i : Int} (hn : inR n) (ho : inR o) (hr : inL r) (hi : inR i) (sc : SC M) (k : ∀ M', frC M M' → SC M' → F (q_rung n o r i) M') : pNi true X mX0_rung 26 [pR 0, pI n, pI o, pL r, pI i] S M F := by
  refine eX0_rung (bX0_rung_0 (c_isOrder hn ho sc (fun N h2 h7 e a b M1 f1 t1 => ?_) (fun hno M1 f1 t1 => ?_)))
  · subst e
    have s1 := sc.of14 f1 (t1.C h2 h7)
    have hO := isO_nat h2 h7 a b
    have hF := FF_bd h7 o
    have hI := iv_21 (n := N) (v := o) h7
    have hI0 := iv_nonneg (n := N) (v := o)
    have bad : ∀ M' : pM, frC M1 M' → SC M' → ¬ (0 ≤ r ∧ r < FF N o ∧ 0 ≤ i ∧ i < iv N o) → F (-1) M' := fun M' f s h => by
      have := k M' ((fr14_C f1).trans f) s
      unfold q_rung at this
      rw [Int.toNat_natCast, if_neg (fun z => h z.2)] at this
      exact this
    ((repeat' (first | (with_reducible apply And.intro) | (with_reducible intro _ e; subst e) | (with_reducible intro _))) <;> (try (first | omega | (with_reducible assumption))))
    · exact bad M1 (frC.refl _) s1 (by omega)
    · refine c_lf h2 h7 a b t1 s1.2.1 (fun M2 f2 l2 => ?_)
      have t2 := f2.tab t1
      have s2 : SC M2 := s1.ofL h2 h7 f2 t2 (l2.C h2 h7)
      ((repeat' (first | (with_reducible apply And.intro) | (with_reducible intro _ e; subst e) | (with_reducible intro _))) <;> (try (first | omega | (with_reducible assumption))))
      · exact bad M2 f2.W.C s2 (by omega)
      · refine c_inv h7 t2 a b ?_
        refine c_within hi (by constructor <;> decide) (by constructor <;> omega) (fun c d => ?_) (fun h => ?_)
        · have hw := wd_ok (r := r) a b (by omega) (by omega)
          have hlen := vld_len hw.1
          ((repeat' (first | (with_reducible apply And.intro) | (with_reducible intro _ e; subst e) | (with_reducible intro _))) <;> (try (first | omega | (with_reducible assumption))))
          refine c_unranks h2 h7 a b hw.1 hw.2 t2 s2.2.1 (fun M3 f3 l3 g3 g4 => ?_)
          rw [g3 i c (by omega)]
          ((repeat' (first | (with_reducible apply And.intro) | (with_reducible intro _ e; subst e) | (with_reducible intro _))) <;> (try (first | omega | (with_reducible assumption))))
          have := k M3 ((fr14_C f1).trans (f2.W.C.trans f3.C)) ⟨(f3.tab t2).C h2 h7, l3, f3.nw s2.2.2.1, s2.2.2.2.word (vld_lets hw.1) h7 g3 g4⟩
          unfold q_rung at this
          rw [Int.toNat_natCast, if_pos ⟨hO, by omega, by omega, by omega, by omega⟩] at this
          exact this
        · ((repeat' (first | (with_reducible apply And.intro) | (with_reducible intro _ e; subst e) | (with_reducible intro _))) <;> (try (first | omega | (with_reducible assumption))))
          exact bad M2 f2.W.C s2 (by omega)
  · ((repeat' (first | (with_reducible apply And.intro) | (with_reducible intro _ e; subst e) | (with_reducible intro _))) <;> (try (first | omega | (with_reducible assumption))))
    have := k M1 (fr14_C f1) (sc.of14 f1 t1)
    unfold q_rung at this
    rw [if_neg (fun z => hno z.1)] at this
    exact this
theorem tw_rung_op {F : Int → pM → Prop} {n o r i : Int} (hn : inR n) (ho : inR o) (hr : inL r) (hi : inR i) (tt : TT M) (k : ∀ M', frT M M' → TT M' → F (q_rung n o r i) M') : pNi true X mX6_rung 4 [pR 241, pI n, pI o, pL r, pI i] S M F := by
  refine eX6_rung (bX6_rung_0 (tw_isOrder hn ho (fun N h2 h7 e a b => ?_) (fun hno => ?_)))
  · subst e
    have hf := fac_le h7
    have hO := isO_nat h2 h7 a b
    have hF := FF_bd h7 o
    have hI := iv_21 (n := N) (v := o) h7
    have hI0 := iv_nonneg (n := N) (v := o)
    ((repeat' (first | (with_reducible apply And.intro) | (with_reducible intro _ e; subst e) | (with_reducible intro _))) <;> (try (first | omega | (with_reducible assumption))))
    refine tw_layT h2 h7 tt (fun M1 f1 t1 => ?_)
    have bad : ¬ (0 ≤ r ∧ r < FF N o ∧ 0 ≤ i ∧ i < iv N o) → F (-1) M1 := fun h => by
      have := k M1 f1 (t1.T h2 h7)
      unfold q_rung at this
      rw [Int.toNat_natCast, if_neg (fun z => h z.2)] at this
      exact this
    rw [t1.2.2.2.2.2.2 o a b, t1.2.2.2.1 o a b]
    ((repeat' (first | (with_reducible apply And.intro) | (with_reducible intro _ e; subst e) | (with_reducible intro _))) <;> (try (first | omega | (with_reducible assumption))))
    · exact bad (by omega)
    · exact bad (by omega)
    · exact bad (by omega)
    · have hw := wd_ok (r := r) a b (by omega) (by omega)
      have hlen := vld_len hw.1
      refine tw_unrank h2 h7 a b hw.1 hw.2 t1 (fun M3 f3 g3 => ?_)
      rw [g3 i (by omega) (by omega)]
      ((repeat' (first | (with_reducible apply And.intro) | (with_reducible intro _ e; subst e) | (with_reducible intro _))) <;> (try (first | omega | (with_reducible assumption))))
      have := k M3 (f1.trans ⟨fun x h => f3 x (by omega), fun j _ => by rw [f3 241 (by decide)]⟩) ((t1.fr (by rw [f3 241 (by decide)]) (by rw [f3 241 (by decide)]) (fun x p q => f3 x (by omega))).T h2 h7)
      unfold q_rung at this
      rw [Int.toNat_natCast, if_pos ⟨hO, by omega, by omega, by omega, by omega⟩] at this
      exact this
    · exact bad (by omega)
  · ((repeat' (first | (with_reducible apply And.intro) | (with_reducible intro _ e; subst e) | (with_reducible intro _))) <;> (try (first | omega | (with_reducible assumption))))
    have := k M (frT.refl _) tt
    unfold q_rung at this
    rw [if_neg (fun z => hno z.1)] at this
    exact this
end
