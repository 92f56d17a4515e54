/-! ===== down, ends ===== -/
set_option maxRecDepth 100000
def pln : List elt → Int
  | [] => 1
  | e :: L => if e.1 = 0 then pln L else 0
theorem pln_iff : ∀ L : List elt, (pln L = 0 ∨ pln L = 1) ∧ (pln L = 1 → ∀ e ∈ L, e.1 = 0)
  | [] => ⟨Or.inr rfl, fun _ e h => by cases h⟩
  | e :: L => by
    have ih := pln_iff L
    rw [pln]
    split
    · rename_i c
      refine ⟨ih.1, fun h x hx => ?_⟩
      rcases List.mem_cons.1 hx with z | z
      · rw [z]; exact c
      · exact ih.2 h x z
    · exact ⟨Or.inl rfl, fun h => by omega⟩
section
variable {X : px} {S : List psh} {M : pM}
theorem c_after {F : Int → pM → Prop} {n : Nat} {o r t : Int} {e : elt} (hn : n ≤ 7) (tb : TabC n M) (a : 0 ≤ o) (b : o < fac n) (st : StepR S M r e) (he : okE n e) (ht : inR t) (k : F (pas n o e t) M) : pNi true X mX1_after 3 [pR 1, pI o, pR r, pI t] S M F := by
  have hf := fac_le hn
  obtain ⟨e1, e2, e3⟩ := he
  have d1 := dg_rng (o := o) hn e1 (by omega)
  have d2 := dg_rng (o := o) hn (show 0 ≤ e.2.1 + 1 by omega) (by omega)
  refine eX1_after (bX1_after_0 ⟨st.is, st.is, ?_⟩)
  rw [st.2.1]
  refine c_digit a (by omega) e1 (by omega) ⟨st.is, ?_⟩
  rw [st.2.1]
  refine c_digit a (by omega) (by omega) (by omega) ?_
  rw [tb.row a b _ e1 (by omega), tb.row a b _ (by omega) (by omega)]
  refine d_changes (G := fun r9 M10 => pNi true X mX1_swap_2 1 [pR 1, pI o, pI e.2.1, pI r9] S M10 (fun r11 M12 => F r11 M12)) st (by constructor <;> omega) (by constructor <;> omega) ht ?_
  have hc : chg e (dg n o e.2.1) (dg n o (e.2.1 + 1)) t = 0 ∨ chg e (dg n o e.2.1) (dg n o (e.2.1 + 1)) t = 1 := by unfold chg; split <;> omega
  unfold pas at k
  refine eX1_swap_2 (bX1_swap_2_0 ⟨by constructor <;> omega, fun z => ?_, fun z => ⟨by omega, by omega, ?_⟩⟩)
  · rw [z, if_neg (by decide)] at k
    exact k
  · rw [if_pos (by omega)] at k
    rw [tb.2.2.2 o e.2.1 a b e1 (by omega)]
    exact k
theorem c_goes {F : Int → pM → Prop} {n : Nat} {o r th z : Int} {L : List elt} (hn : n ≤ 7) (tb : TabC n M) (a : 0 ≤ o) (b : o < fac n) (lr : LadR z S M r n L) (ok : okL n L) (k : F (gob n th (-1) L 0 o 0) M) : pNi true X mX0_goes 4 [pR 0, pR r, pI o, pI th] S M F := by
  have loop : ∀ (s : List elt) (i v m : Int), L.drop i.toNat = s → 0 ≤ i → i ≤ L.length → 0 ≤ v → v < fac n → F (gob n th (-1) s i v m) M → wX0_goes_9 X F r th v m i S M := by
    intro s
    induction s with
    | nil =>
      intro i v m h0 h1 hh h2 h3 k
      have := drop_nil h0 h1
      have hl := ok.2.2.1
      exact bX0_goes_9 ⟨lr.w.1, lr.w.2.1, lr.w.2.2.1, l_lsize lr ⟨by constructor <;> omega, by constructor <;> omega, fun _ => k, fun _ => by omega⟩⟩
    | cons e s ih =>
      intro i v m h0 h1 hh h2 h3 k
      obtain ⟨q1, q2, q3⟩ := drop_cons h0 h1
      have hl := ok.2.2.1
      have he := ok.at h1 q3
      rw [q1] at he
      refine bX0_goes_9 ⟨lr.w.1, lr.w.2.1, lr.w.2.2.1, l_lsize lr ⟨by constructor <;> omega, by constructor <;> omega, fun _ => by omega, fun _ => ⟨lr.w.1, lr.w.2.1, lr.w.2.2.1, l_get lr h1 q3 (fun q st => ?_)⟩⟩⟩
      rw [q1] at st
      have go : ∀ t, t = bit th m → wX0_goes_64 X F r th m i q v q t S M := by
        intro t ht
        refine bX0_goes_64 (c_after hn tb h2 h3 st he (by rw [ht]; unfold bit; split <;> constructor <;> decide) ?_)
        refine d_sort (G := fun r4 M5 => inR r4 ∧ (r4 ≠ 3 → wX0_goes_81 X F r th (pas n v e t) m i S M5) ∧ (r4 = 3 → wX0_goes_81 X F r th (pas n v e t) (m + 1) i S M5)) st ?_
        have pb := pas_bd (t := t) he h2 h3
        rw [gob, if_neg (by omega), ← ht] at k
        refine ⟨by obtain ⟨_, _, x⟩ := he; constructor <;> omega, fun z => bX0_goes_81 (ih (i + 1) _ m q2 (by omega) (by omega) pb.1 pb.2 ?_), fun z => bX0_goes_81 (ih (i + 1) _ (m + 1) q2 (by omega) (by omega) pb.1 pb.2 ?_)⟩
        · rw [if_neg z] at k; exact k
        · rw [if_pos z] at k; exact k
      refine ⟨st.is, iand_R, fun z => go 0 ?_, fun z => go 1 ?_⟩
      · unfold bit; rw [if_neg z]
      · unfold bit; rw [if_pos z]
  exact eX0_goes (bX0_goes_0 (loop L 0 o 0 rfl (by omega) (by omega) a b k))
theorem l_isPlain {b : Bool} {F : Int → pM → Prop} {r n z : Int} {L : List elt} (lr : LadR z S M r n L) (ok : okL n L) (k : F (pln L) M) : pNi b X mX12_isPlain 4 [pR r] S M F := by
  have loop : ∀ (s : List elt) (i : Int), L.drop i.toNat = s → 0 ≤ i → i ≤ L.length → F (pln s) M → wX12_isPlain_2 b X F r i S M := by
    intro s
    induction s with
    | nil =>
      intro i h0 h1 h2 k
      have := drop_nil h0 h1
      have hl := ok.2.2.1
      exact bX12_isPlain_2 ⟨lr.w.1, lr.w.2.1, lr.w.2.2.1, l_lsize lr ⟨by constructor <;> omega, by constructor <;> omega, fun _ => k, fun _ => by omega⟩⟩
    | cons e s ih =>
      intro i h0 h1 h2 k
      obtain ⟨q1, q2, q3⟩ := drop_cons h0 h1
      have hl := ok.2.2.1
      have he := ok.at h1 q3
      rw [q1] at he
      refine bX12_isPlain_2 ⟨lr.w.1, lr.w.2.1, lr.w.2.2.1, l_lsize lr ⟨by constructor <;> omega, by constructor <;> omega, fun _ => by omega, fun _ => ⟨lr.w.1, lr.w.2.1, lr.w.2.2.1, l_get lr h1 q3 (fun q st => ?_)⟩⟩⟩
      rw [q1] at st
      refine ⟨st.is, d_sort (G := fun r4 M5 => inR r4 ∧ (r4 = 0 → wX12_isPlain_2 b X F r (i + 1) S M5) ∧ (r4 ≠ 0 → F 0 M5)) st ?_⟩
      rw [pln] at k
      refine ⟨by obtain ⟨_, _, x⟩ := he; constructor <;> omega, fun z => ih (i + 1) q2 (by omega) (by omega) ?_, fun z => ?_⟩
      · rw [if_pos z] at k; exact k
      · rw [if_neg z] at k; exact k
  exact eX12_isPlain (bX12_isPlain_0 (loop L 0 rfl (by omega) (by omega) k))
theorem c_isOrderOf {F : Int → pM → Prop} {Ls : List (Int × List elt)} {t o : Int} (ht : inR t) (ho : inR o) (sc : SC M) (ch : CH S M Ls) (k1 : ∀ N : Nat, 0 ≤ t → t < Ls.length → (lad Ls t).1 = N → 2 ≤ N → N ≤ 7 → 0 ≤ o → o < fac N → ∀ M' : pM, (∀ x, x < 1 ∨ 4 < x → M' x = M x) → TabC N M' → F 1 M') (k0 : ¬ (0 ≤ t ∧ t < Ls.length ∧ isO (lad Ls t).1 o) → ∀ M' : pM, (∀ x, x < 1 ∨ 4 < x → M' x = M x) → TC M' → F 0 M') : pNi true X mX0_isOrderOf 5 [pR 0, pI t, pI o] S M F := by
  refine eX0_isOrderOf (bX0_isOrderOf_0 (c_isLadder ch ht (fun a b => ⟨by constructor <;> decide, fun z => by omega, fun _ => c_get ch a b (fun r lr ok hs => ⟨hs, hs, ?_⟩)⟩) (fun h => ⟨by constructor <;> decide, fun _ => k0 (fun z => h ⟨z.1, z.2.1⟩) M (fun _ _ => rfl) sc.1, fun z => by omega⟩)))
  rw [lr.w.2.2.2.1]
  refine c_isOrder (by have := ok.1; have := ok.2.1; constructor <;> omega) ho sc (fun N h2 h7 e p q M1 f1 t1 => ⟨by constructor <;> decide, fun z => by omega, fun _ => k1 N a b e h2 h7 p q M1 f1 t1⟩) (fun hno M1 f1 t1 => ⟨by constructor <;> decide, fun _ => k0 (fun z => hno z.2.2) M1 f1 t1, fun z => by omega⟩)
end
def dnC (σ : sgm) (t o th : Int) : Prop := 0 ≤ t ∧ t < σ.1.length ∧ isO (lad σ.1 t).1 o ∧ 0 ≤ th ∧ th < ishl 1 (mb (lad σ.1 t).2)
noncomputable def q_down (σ : sgm) (t o th : Int) : Int := @ite _ (dnC σ t o th) (Classical.propDecidable _) (gob (lad σ.1 t).1.toNat th (-1) (lad σ.1 t).2 0 o 0) (-1)
noncomputable def q_ends (σ : sgm) (t o th x : Int) : Int := @ite _ (dnC σ t o th ∧ 0 ≤ x ∧ x < (lad σ.1 t).1) (Classical.propDecidable _) (pl (lad σ.1 t).1.toNat (gob (lad σ.1 t).1.toNat th (-1) (lad σ.1 t).2 0 o 0) x) (-1)
theorem fr14_CH {S : List psh} {M M' : pM} {Ls : List (Int × List elt)} (h : CH S M Ls) (f : ∀ x, x < 1 ∨ 4 < x → M' x = M x) : CH S M' Ls := h.frC (fr14_C f)
section
variable {X : px} {S : List psh} {M : pM} {σ : sgm}
theorem c_down {F : Int → pM → Prop} {t o th : Int} (ht : inR t) (ho : inR o) (hth : inR th) (cp : CP S M σ) (k1 : ∀ N : Nat, dnC σ t o th → (lad σ.1 t).1 = N → 2 ≤ N → N ≤ 7 → 0 ≤ gob N th (-1) (lad σ.1 t).2 0 o 0 → gob N th (-1) (lad σ.1 t).2 0 o 0 < fac N → ∀ M', (∀ x, x < 1 ∨ 4 < x → M' x = M x) → TabC N M' → F (gob N th (-1) (lad σ.1 t).2 0 o 0) M') (k0 : ¬ dnC σ t o th → ∀ M', (∀ x, x < 1 ∨ 4 < x → M' x = M x) → TC M' → F (-1) M') : pNi true X mX0_down 6 [pR 0, pI t, pI o, pI th] S M F := by
  refine eX0_down (bX0_down_0 (c_isOrderOf ht ho cp.1 cp.2.1 (fun N a b e h2 h7 p q M1 f1 t1 => ⟨by constructor <;> decide, fun z => by omega, fun _ => ?_⟩) (fun hno M1 f1 t1 => ⟨by constructor <;> decide, fun _ => k0 (fun z => hno ⟨z.1, z.2.1, z.2.2.1⟩) M1 f1 t1, fun z => by omega⟩)))
  have ch1 := fr14_CH cp.2.1 f1
  have okl := cp.2.1.ok a b
  have hmb := mb_bd (lad σ.1 t).2
  have hsh := ishl1 hmb.1 (by have := okl.2.2.2.1; omega)
  refine eX0_isThere (bX0_isThere_0 (c_get ch1 a b (fun r lr ok hs => ⟨hs, hs, lr.w.2.1, ?_⟩)))
  rw [lr.w.2.2.2.2]
  refine c_within hth (by constructor <;> decide) (by constructor <;> omega) (fun c d => ⟨by omega, by omega, by constructor <;> decide, fun _ => c_get ch1 a b (fun r lr ok hs => ⟨hs, ?_⟩), fun z => by omega⟩) (fun h => ⟨by omega, by omega, by constructor <;> decide, fun z => by omega, fun _ => k0 (fun z => ?_) M1 f1 (t1.C h2 h7)⟩)
  · rw [e] at lr ok
    have gb := gob_bd (n := N) (th := th) (bt := -1) (lad σ.1 t).2 0 o 0 ok.2.2.2.2 p q
    exact c_goes h7 t1 p q lr ok (k1 N ⟨a, b, by rw [e]; exact isO_nat h2 h7 p q, c, by omega⟩ e h2 h7 gb.1 gb.2 M1 f1 t1)
  · have := z.2.2.2.2
    have := z.2.2.2.1
    omega
theorem c_down_op {F : Int → pM → Prop} {t o th : Int} (ht : inR t) (ho : inR o) (hth : inR th) (cp : CP S M σ) (k : ∀ M', frC M M' → SC M' → F (q_down σ t o th) M') : pNi true X mX0_down 6 [pR 0, pI t, pI o, pI th] S M F := by
  refine c_down ht ho hth cp (fun N h e h2 h7 g0 g1 M1 f1 t1 => ?_) (fun h M1 f1 t1 => ?_)
  · have := k M1 (fr14_C f1) (cp.1.of14 f1 (t1.C h2 h7))
    unfold q_down at this
    rw [if_pos h, e, Int.toNat_natCast] at this
    exact this
  · have := k M1 (fr14_C f1) (cp.1.of14 f1 t1)
    unfold q_down at this
    rw [if_neg h] at this
    exact this
theorem c_ends_op {F : Int → pM → Prop} {t o th x : Int} (ht : inR t) (ho : inR o) (hth : inR th) (hx : inR x) (cp : CP S M σ) (k : ∀ M', frC M M' → SC M' → F (q_ends σ t o th x) M') : pNi true X mX0_ends 7 [pR 0, pI t, pI o, pI th, pI x] S M F := by
  refine eX0_ends (bX0_ends_0 (c_down ht ho hth cp (fun N h e h2 h7 g0 g1 M1 f1 t1 => ?_) (fun h M1 f1 t1 => ?_)))
  · have hf := fac_le h7
    have hk := k M1 (fr14_C f1) (cp.1.of14 f1 (t1.C h2 h7))
    unfold q_ends at hk
    rw [e, Int.toNat_natCast] at hk
    refine ⟨by constructor <;> omega, fun z => by omega, fun _ => ?_⟩
    rw [t1.1]
    refine c_within hx (by constructor <;> decide) (by constructor <;> omega) (fun c d => ⟨by constructor <;> decide, fun _ => ?_, fun z => by omega⟩) (fun z => ⟨by constructor <;> decide, fun z => by omega, fun _ => ?_⟩)
    · have hp := pl_ok (n := N) (v := gob N th (-1) (lad σ.1 t).2 0 o 0) c (by omega)
      refine c_placeOf h7 g0 (by omega) ?_ hp.1 hp.2.1 ?_ ?_
      · have : seg (fun i => M1 2 (7 * gob N th (-1) (lad σ.1 t).2 0 o 0 + i)) 0 N = seg (dg N (gob N th (-1) (lad σ.1 t).2 0 o 0)) 0 N := seg_congr _ 0 (fun j u w => t1.row g0 g1 j u (by omega))
        unfold isF
        rw [this]
        exact dg_F
      · rw [t1.row g0 g1 _ hp.1 hp.2.1]
        exact hp.2.2
      · rw [if_pos ⟨h, c, by omega⟩] at hk
        exact hk
    · rw [if_neg (fun y => by have := y.2; omega)] at hk
      exact hk
  · refine ⟨by constructor <;> decide, fun _ => ?_, fun z => by omega⟩
    have := k M1 (fr14_C f1) (cp.1.of14 f1 t1)
    unfold q_ends at this
    rw [if_neg (fun z => h z.1)] at this
    exact this
end
