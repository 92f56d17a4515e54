/-! ===== idle ===== -/
set_option maxRecDepth 100000
theorem f_flne : ∀ k : Nat, k < 6 → ∀ r : Nat, r < 128 → bN r k ≠ bN r (k + 1) → fl r k ≠ r := by decide
theorem sw_ne {n : Nat} {o k : Int} (h1 : 0 ≤ k) (h2 : k + 1 < n) : sw n o k ≠ o := by
  intro e
  have a := dg_sw (n := n) (v := o) h1 h2 h1 (by omega)
  rw [e] at a
  have t : tr k k = k + 1 := by unfold tr; rw [if_pos rfl]
  rw [t] at a
  have := (dg_F (n := n) (v := o)).inj h1 (by omega) (by omega) h2 a
  omega
theorem take_snoc {L : List elt} {i : Int} (h0 : 0 ≤ i) (h1 : i < L.length) : L.take (i + 1).toNat = L.take i.toNat ++ [el L i] := by
  rw [show (i + 1).toNat = i.toNat + 1 by omega, List.take_add_one]
  congr 1
  unfold el
  rw [List.getD_eq_getElem?_getD, List.getElem?_eq_getElem (by omega)]
  rfl
theorem brun_snoc {e : elt} : ∀ (L : List elt) (i : Int) (r : Nat), 0 ≤ i → brun (-1) (L ++ [e]) i r = bsp e (brun (-1) L i r)
  | [], i, r, h => by
    rw [List.nil_append, brun, brun, brun, if_neg (by omega)]
  | x :: L, i, r, h => by
    rw [List.cons_append, brun, brun, brun_snoc L (i + 1) _ (by omega)]
theorem gob_snoc {n : Nat} {e : elt} (h3 : e.1 ≠ 3) : ∀ (L : List elt) (i o m t : Int), 0 ≤ i → gob n 0 (-1) (L ++ [e]) i o m = pas n (gob n 0 (-1) L i o m) e t
  | [], i, o, m, t, h => by
    rw [List.nil_append, gob, gob, gob, if_neg (by omega)]
    exact pas_t h3
  | x :: L, i, o, m, t, h => by
    rw [List.cons_append, gob, gob, gob_snoc h3 L (i + 1) _ _ t (by omega)]
theorem idle_iff {n : Nat} {L : List elt} {e : elt} (hn : n ≤ 7) (he : okE n e) (hk : e.1 = 1 ∨ e.1 = 2) (hL : ∀ x ∈ L, okE n x ∧ x.1 ≠ 3) : (∃ r, r < 2 ^ n ∧ bsp e (brun (-1) L 0 r) ≠ brun (-1) L 0 r) ↔ ∃ o, 0 ≤ o ∧ o < fac n ∧ pas n (gob n 0 (-1) L 0 o 0) e 0 ≠ gob n 0 (-1) L 0 o 0 := by
  obtain ⟨k, hg⟩ : ∃ k : Nat, e.2.1 = k := ⟨e.2.1.toNat, by have := he.1; omega⟩
  have g1 : k + 1 < n := by have := he.2.1; omega
  have p128 := pow_128 hn
  constructor
  · rintro ⟨r, hr, hne⟩
    obtain ⟨o, τ, o0, o1, hR⟩ := Rz_ex hn hr
    have hR' := Rz_run (th := 0) (bt := -1) hn L 0 o 0 r hL hR
    refine ⟨o, o0, o1, ?_⟩
    generalize gob n 0 (-1) L 0 o 0 = o' at *
    generalize brun (-1) L 0 r = r' at *
    have b1 := bN_bd r' k
    have b2 := bN_bd r' (k + 1)
    have x1 := hR'.2 k (by omega)
    have x2 := hR'.2 (k + 1) g1
    rw [Int.natCast_succ] at x2
    unfold bsp at hne
    rw [hg, Int.toNat_natCast] at hne
    split at hne
    · rename_i c
      obtain ⟨c1, c2⟩ := c
      have cc : chg e (dg n o' k) (dg n o' (k + 1)) 0 = 1 := by
        unfold chg at c2 ⊢
        split at c2
        · refine if_pos ?_
          omega
        · omega
      unfold pas
      rw [hg, if_pos cc]
      exact sw_ne (by omega) (by omega)
    · exact absurd rfl hne
  · rintro ⟨o, o0, o1, hne⟩
    have gb := gob_bd (n := n) (th := 0) (bt := -1) L 0 o 0 (fun x hx => (hL x hx).1) o0 o1
    unfold pas at hne
    rw [hg] at hne
    split at hne
    · rename_i c
      have key : ∀ τ, (∀ o', o' = gob n 0 (-1) L 0 o 0 → ((τ ≤ dg n o' k ↔ ¬ τ ≤ dg n o' (k + 1)) ∧ (e.1 = 1 → τ ≤ dg n o' k) ∧ (e.1 = 2 → τ ≤ dg n o' (k + 1)))) → ∃ r, r < 2 ^ n ∧ bsp e (brun (-1) L 0 r) ≠ brun (-1) L 0 r := by
        intro τ hτ
        obtain ⟨r, hr⟩ := Rz_of hn o τ
        have hR' := Rz_run (th := 0) (bt := -1) hn L 0 o 0 r hL hr
        have q := hτ _ rfl
        refine ⟨r, hr.1, ?_⟩
        generalize gob n 0 (-1) L 0 o 0 = o' at *
        generalize brun (-1) L 0 r = r' at *
        have b1 := bN_bd r' k
        have b2 := bN_bd r' (k + 1)
        have x1 := hR'.2 k (by omega)
        have x2 := hR'.2 (k + 1) g1
        rw [Int.natCast_succ] at x2
        have ne : bN r' k ≠ bN r' (k + 1) := by omega
        have hcc : chg e (bN r' k) (bN r' (k + 1)) 0 = 1 := by
          unfold chg
          rw [if_pos (by omega)]
        unfold bsp
        rw [hg, Int.toNat_natCast, if_pos ⟨ne, hcc⟩]
        exact f_flne k (by omega) r' (by have := hR'.1; omega) ne
      unfold chg at c
      split at c
      · rename_i d
        rcases hk with hk | hk
        · refine key (dg n (gob n 0 (-1) L 0 o 0) k) (fun o' ho => ?_)
          subst ho
          omega
        · refine key (dg n (gob n 0 (-1) L 0 o 0) (k + 1)) (fun o' ho => ?_)
          subst ho
          omega
      · omega
    · exact absurd rfl hne
section
variable {X : px} {S : List psh} {M : pM} {σ : sgm}
theorem c_idle_op {F : Int → pM → Prop} {t i : Int} (ht : inR t) (hi : inR i) (cp : CP S M σ) (k : F (q_idle σ t i) M) : pNi true X mX0_idle 5 [pR 0, pI t, pI i] S M F := by
  unfold q_idle at k
  refine eX0_idle (bX0_idle_0 (c_isElement ht hi cp (fun hel => ⟨by constructor <;> decide, fun _ => ?_, fun z => by omega⟩) (fun hel => ⟨by constructor <;> decide, fun z => by omega, fun _ => ?_⟩)))
  · rw [if_pos hel] at k
    obtain ⟨_, _, i0, i1⟩ := id hel
    refine c_asked ht cp (fun a b c => ⟨by constructor <;> decide, fun _ => c_get cp.2.1 a b (fun r lr ok hs => ⟨hs, hs, ?_⟩), fun z => by omega⟩) (fun a b c => ⟨by constructor <;> decide, fun z => by omega, fun _ => ?_⟩) (fun h => absurd ⟨hel.1, hel.2.1⟩ h)
    · rw [if_neg (by omega)] at k
      obtain ⟨N, e, h2, h7⟩ := ok.nat
      rw [e] at lr ok
      rw [e, Int.toNat_natCast] at k
      have hl := ok.2.2.1
      have p128 := pow_128 h7
      have oe := ok.at i0 i1
      have n3 := mb_zero c
      have e3 := n3 _ (el_mem i0 i1)
      have hpre : ∀ j : Int, ∀ x ∈ (lad σ.1 t).2.take j.toNat, okE N x ∧ x.1 ≠ 3 := fun j x hx => ⟨ok.2.2.2.2 x (List.mem_of_mem_take hx), n3 x (List.mem_of_mem_take hx)⟩
      refine l_at lr i0 i1 (fun q st => ?_)
      refine d_sort (G := fun r14 M15 => inR r14 ∧ (r14 ≠ 0 → wX0_idle_54 X F i r q 0 S M15) ∧ (r14 = 0 → F 0 M15)) st ?_
      have hkind : (el (lad σ.1 t).2 i).1 = 0 ∨ (el (lad σ.1 t).2 i).1 = 1 ∨ (el (lad σ.1 t).2 i).1 = 2 := by obtain ⟨_, _, h⟩ := oe; omega
      refine ⟨by constructor <;> omega, fun z => ?_, fun z => ?_⟩
      · have iff := idle_iff h7 oe (by omega) (hpre i)
        have loop : ∀ (m v : Nat), v + m = 2 ^ N → (∀ r, r < v → bsp (el (lad σ.1 t).2 i) (brun (-1) ((lad σ.1 t).2.take i.toNat) 0 r) = brun (-1) ((lad σ.1 t).2.take i.toNat) 0 r) → wX0_idle_54 X F i r q v S M := by
          intro m
          induction m with
          | zero =>
            intro v q1 h
            refine bX0_idle_54 ?_
            rw [lr.w.2.2.2.1, pow_ishl h7]
            refine ⟨lr.w.1, by constructor <;> omega, by constructor <;> omega, fun _ => ?_, fun y => by omega⟩
            rw [if_neg (fun (w : idC N (lad σ.1 t).2 i) => by
              obtain ⟨r', hr', hne⟩ := iff.2 w
              exact hne (h r' (by omega)))] at k
            exact k
          | succ m ih =>
            intro v q1 h
            refine bX0_idle_54 ?_
            rw [lr.w.2.2.2.1, pow_ishl h7]
            refine ⟨lr.w.1, by constructor <;> omega, by constructor <;> omega, fun y => by omega, fun _ => ?_⟩
            have l72 : ∀ (mm : Nat) (j : Int), j + mm = i → 0 ≤ j → wX0_idle_72 X F i r q v (brun (-1) ((lad σ.1 t).2.take j.toNat) 0 v : Int) j S M := by
              intro mm
              induction mm with
              | zero =>
                intro j p1 p2
                have ej : j = i := by omega
                subst ej
                have bd := brun_bd (bt := -1) h7 ((lad σ.1 t).2.take j.toNat) 0 v (fun x hx => (hpre j x hx).1) (by omega)
                have bd2 := bsp_bd h7 oe bd
                refine bX0_idle_72 ⟨by constructor <;> omega, by constructor <;> omega, fun _ => c_bitsAfter h7 st oe bd ⟨by constructor <;> omega, by constructor <;> omega, fun y => ?_, fun y => ?_⟩, fun y => by omega⟩
                · have := ih (v + 1) (by omega) (fun r hr => by
                    by_cases d : r = v
                    · subst d; omega
                    · exact h r (by omega))
                  rw [Int.natCast_succ] at this
                  exact this
                · rw [if_pos (show idC N (lad σ.1 t).2 j from iff.1 ⟨v, by omega, by omega⟩)] at k
                  exact k
              | succ mm ihm =>
                intro j p1 p2
                have oj := ok.at p2 (show j < (lad σ.1 t).2.length by omega)
                have bd := brun_bd (bt := -1) h7 ((lad σ.1 t).2.take j.toNat) 0 v (fun x hx => (hpre j x hx).1) (by omega)
                refine bX0_idle_72 ⟨by constructor <;> omega, by constructor <;> omega, fun y => by omega, fun _ => ⟨lr.w.1, l_at lr p2 (by omega) (fun q' st' => c_bitsAfter h7 st' oj bd ?_)⟩⟩
                have := ihm (j + 1) (by omega) (by omega)
                rw [take_snoc p2 (by omega), brun_snoc _ _ _ (Int.le_refl _)] at this
                exact this
            exact l72 i.toNat 0 (by omega) (by omega)
        exact loop (2 ^ N) 0 (by omega) (fun r hr => by omega)
      · rw [if_pos] at k
        · exact k
        · refine ⟨0, Int.le_refl _, fac_pos N, ?_⟩
          unfold pas chg
          rw [if_pos (if_pos (Or.inl z))]
          exact sw_ne oe.1 (by have := oe.2.1; omega)
    · rw [if_pos c] at k; exact k
  · rw [if_neg hel] at k; exact k
end
