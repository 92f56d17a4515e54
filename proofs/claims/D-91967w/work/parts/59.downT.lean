/-! ===== the twin: ladders, down, ends ===== -/
set_option maxRecDepth 100000
section
variable {X : px} {S : List psh} {M : pM} {σ : sgm}
theorem tw_isLadder {F : Int → pM → Prop} {t : Int} (ht : inR t) (h : THl M σ.1) (ok : okS σ) (k1 : 0 ≤ t → t < σ.1.length → F 1 M) (k0 : ¬ (0 ≤ t ∧ t < σ.1.length) → F 0 M) : pNi true X mX6_isLadder 1 [pR 241, pI t] S M F := by
  have := ok.1
  refine eX6_isLadder (bX6_isLadder_0 ?_)
  rw [h.1]
  ((repeat' (first | (with_reducible apply And.intro) | (with_reducible intro _ e; subst e) | (with_reducible intro _))) <;> (try (first | omega | (with_reducible assumption))))
  · exact k0 (by omega)
  · exact k0 (by omega)
  · exact k1 (by omega) (by omega)
theorem tw_maybes {F : Int → pM → Prop} {t : Int} (h : THl M σ.1) (ok : okS σ) (h0 : 0 ≤ t) (h1 : t < σ.1.length) (k : F (mb (lad σ.1 t).2) M) : pNi true X mX6_maybesOf 1 [pR 241, pI t] S M F := by
  have h6 := ok.tl h1
  have okl := ok.at h0 h1
  obtain ⟨t1, t2, t3⟩ := h.2 t h0 h1
  have hl := okl.2.2.1
  have loop : ∀ (s : List elt) (i v : Int), (lad σ.1 t).2.drop i.toNat = s → 0 ≤ i → i ≤ (lad σ.1 t).2.length → F (v + mb s) M → wX6_maybesOf_4 X F t v i S M := by
    intro s
    induction s with
    | nil =>
      intro i v q0 q1 q2 k
      have := drop_nil q0 q1
      refine bX6_maybesOf_4 ?_
      rw [t2]
      ((repeat' (first | (with_reducible apply And.intro) | (with_reducible intro _ e; subst e) | (with_reducible intro _))) <;> (try (first | omega | (with_reducible assumption))))
      rw [mb, Int.add_zero] at k
      exact k
    | cons e s ih =>
      intro i v q0 q1 q2 k
      obtain ⟨e1, e2, e3⟩ := drop_cons q0 q1
      obtain ⟨u1, _⟩ := t3 i q1 e3
      have he := okl.at q1 e3
      rw [e1] at he u1
      obtain ⟨_, _, he⟩ := he
      refine bX6_maybesOf_4 ?_
      rw [t2, u1]
      rw [mb] at k
      ((repeat' (first | (with_reducible apply And.intro) | (with_reducible intro _ e; subst e) | (with_reducible intro _))) <;> (try (first | omega | (with_reducible assumption))))
      · rename_i c
        rw [if_neg c] at k
        refine bX6_maybesOf_36 (ih (i + 1) _ e2 (by omega) (by omega) ?_)
        rw [Int.add_assoc]
        exact k
      · rename_i c
        rw [if_pos c] at k
        refine bX6_maybesOf_36 (ih (i + 1) _ e2 (by omega) (by omega) ?_)
        rw [Int.add_assoc]
        exact k
  refine eX6_maybesOf (bX6_maybesOf_0 (loop _ 0 0 rfl (by omega) (by omega) ?_))
  rw [Int.zero_add]
  exact k
theorem tw_isPlain {F : Int → pM → Prop} {t : Int} (h : THl M σ.1) (ok : okS σ) (h0 : 0 ≤ t) (h1 : t < σ.1.length) (k : F (pln (lad σ.1 t).2) M) : pNi true X mX6_isPlain 1 [pR 241, pI t] S M F := by
  have h6 := ok.tl h1
  have okl := ok.at h0 h1
  obtain ⟨t1, t2, t3⟩ := h.2 t h0 h1
  have hl := okl.2.2.1
  have loop : ∀ (s : List elt) (i : Int), (lad σ.1 t).2.drop i.toNat = s → 0 ≤ i → i ≤ (lad σ.1 t).2.length → F (pln s) M → wX6_isPlain_2 X F t i S M := by
    intro s
    induction s with
    | nil =>
      intro i q0 q1 q2 k
      have := drop_nil q0 q1
      refine bX6_isPlain_2 ?_
      rw [t2]
      ((repeat' (first | (with_reducible apply And.intro) | (with_reducible intro _ e; subst e) | (with_reducible intro _))) <;> (try (first | omega | (with_reducible assumption))))
      exact k
    | cons e s ih =>
      intro i q0 q1 q2 k
      obtain ⟨e1, e2, e3⟩ := drop_cons q0 q1
      obtain ⟨u1, _⟩ := t3 i q1 e3
      have he := okl.at q1 e3
      rw [e1] at he u1
      obtain ⟨_, _, he⟩ := he
      refine bX6_isPlain_2 ?_
      rw [t2, u1]
      rw [pln] at k
      ((repeat' (first | (with_reducible apply And.intro) | (with_reducible intro _ e; subst e) | (with_reducible intro _))) <;> (try (first | omega | (with_reducible assumption))))
      · rename_i c
        rw [if_pos c] at k
        exact ih (i + 1) e2 (by omega) (by omega) k
      · rename_i c
        rw [if_neg c] at k
        exact k
  exact eX6_isPlain (bX6_isPlain_0 (loop _ 0 rfl (by omega) (by omega) k))
theorem tw_passed {F : Int → pM → Prop} {n : Nat} {o x : Int} {e : elt} (hn : n ≤ 7) (tb : TabT n M) (a : 0 ≤ o) (b : o < fac n) (he : okE n e) (hx : inR x) (k : F (pas n o e x) M) : pNi true X mX6_passed 1 [pR 241, pI o, pI e.1, pI e.2.1, pI x] S M F := by
  have hf := fac_le hn
  obtain ⟨e1, e2, e3⟩ := he
  have d1 := dg_rng (o := o) hn e1 (by omega)
  have d2 := dg_rng (o := o) hn (show 0 ≤ e.2.1 + 1 by omega) (by omega)
  have yes : chg e (dg n o e.2.1) (dg n o (e.2.1 + 1)) x = 1 → wX6_passed_66 X F o e.2.1 S M := by
    intro z
    refine bX6_passed_66 (bX6_passed_71 ?_)
    rw [tb.2.2.2.2.1 o e.2.1 a b e1 (by omega)]
    unfold pas at k
    rw [if_pos z] at k
    ((repeat' (first | (with_reducible apply And.intro) | (with_reducible intro _ e; subst e) | (with_reducible intro _))) <;> (try (first | omega | (with_reducible assumption))))
    all_goals exact k
  have no : chg e (dg n o e.2.1) (dg n o (e.2.1 + 1)) x = 0 → wX6_passed_70 X F o e.2.1 S M := by
    intro z
    refine bX6_passed_70 (bX6_passed_71 ?_)
    unfold pas at k
    rw [z, if_neg (by decide)] at k
    ((repeat' (first | (with_reducible apply And.intro) | (with_reducible intro _ e; subst e) | (with_reducible intro _))) <;> (try (first | omega | (with_reducible assumption))))
    all_goals exact k
  have no56 : (e.1 ≠ 3 → chg e (dg n o e.2.1) (dg n o (e.2.1 + 1)) x = 0) → e.1 ≠ 0 → wX6_passed_56 X F o e.1 e.2.1 x S M := by
    intro z z0
    refine bX6_passed_56 ?_
    ((repeat' (first | (with_reducible apply And.intro) | (with_reducible intro _ e; subst e) | (with_reducible intro _))) <;> (try (first | omega | (with_reducible assumption))))
    · rename_i c
      exact no (z c)
    · rename_i c
      exact no (by unfold chg; rw [if_neg (by omega)])
    · exact yes (by unfold chg; rw [if_pos (by omega)])
  have g44 : e.1 ≠ 0 → (e.1 = 1 → dg n o e.2.1 ≤ dg n o (e.2.1 + 1)) → wX6_passed_44 X F o e.1 e.2.1 x (dg n o e.2.1) (dg n o (e.2.1 + 1)) S M := by
    intro z z1
    refine bX6_passed_44 ?_
    ((repeat' (first | (with_reducible apply And.intro) | (with_reducible intro _ e; subst e) | (with_reducible intro _))) <;> (try (first | omega | (with_reducible assumption))))
    · exact no56 (fun _ => by unfold chg; rw [if_neg (by omega)]) z
    · exact yes (by unfold chg; rw [if_pos (by omega)])
    · exact no56 (fun _ => by unfold chg; rw [if_neg (by omega)]) z
  refine eX6_passed (bX6_passed_0 ?_)
  rw [Int.add_assoc, tb.row a b _ e1 (by omega), tb.row a b _ (show 0 ≤ e.2.1 + 1 by omega) (by omega)]
  ((repeat' (first | (with_reducible apply And.intro) | (with_reducible intro _ e; subst e) | (with_reducible intro _))) <;> (try (first | omega | (with_reducible assumption))))
  · exact yes (by unfold chg; rw [if_pos (by omega)])
  · exact g44 (by omega) (by omega)
  · exact yes (by unfold chg; rw [if_pos (by omega)])
  · exact g44 (by omega) (by omega)
theorem pas_t {n : Nat} {o x y : Int} {e : elt} (h : e.1 ≠ 3) : pas n o e x = pas n o e y := by
  unfold pas chg
  have : (e.1 = 0 ∨ e.1 = 1 ∧ dg n o (e.2.1 + 1) < dg n o e.2.1 ∨ e.1 = 2 ∧ dg n o e.2.1 < dg n o (e.2.1 + 1) ∨ e.1 = 3 ∧ x ≠ 0) ↔ (e.1 = 0 ∨ e.1 = 1 ∧ dg n o (e.2.1 + 1) < dg n o e.2.1 ∨ e.1 = 2 ∧ dg n o e.2.1 < dg n o (e.2.1 + 1) ∨ e.1 = 3 ∧ y ≠ 0) := by omega
  simp only [this]
theorem tw_endOf {F : Int → pM → Prop} {n : Nat} {t o th bt : Int} (h : THl M σ.1) (ok : okS σ) (h0 : 0 ≤ t) (h1 : t < σ.1.length) (hn : (lad σ.1 t).1 = n) (tb : TabT n M) (a : 0 ≤ o) (b : o < fac n) (hbt : inR bt) (k : F (gob n th bt (lad σ.1 t).2 0 o 0) M) : pNi true X mX6_endOf 2 [pR 241, pI t, pI o, pI th, pI bt] S M F := by
  have h6 := ok.tl h1
  have okl := ok.at h0 h1
  obtain ⟨t1, t2, t3⟩ := h.2 t h0 h1
  have hl := okl.2.2.1
  have n7 : n ≤ 7 := by have := okl.2.1; omega
  have loop : ∀ (s : List elt) (i v m : Int), (lad σ.1 t).2.drop i.toNat = s → 0 ≤ i → i ≤ (lad σ.1 t).2.length → 0 ≤ v → v < fac n → F (gob n th bt s i v m) M → wX6_endOf_9 X F t th bt v m i S M := by
    intro s
    induction s with
    | nil =>
      intro i v m q0 q1 q2 v0 v1 k
      have := drop_nil q0 q1
      refine bX6_endOf_9 ?_
      rw [t2]
      ((repeat' (first | (with_reducible apply And.intro) | (with_reducible intro _ e; subst e) | (with_reducible intro _))) <;> (try (first | omega | (with_reducible assumption))))
      exact k
    | cons e s ih =>
      intro i v m q0 q1 q2 v0 v1 k
      obtain ⟨e1, e2, e3⟩ := drop_cons q0 q1
      obtain ⟨u1, u2, _⟩ := t3 i q1 e3
      have he := okl.at q1 e3
      rw [e1, hn] at he
      rw [e1] at u1 u2
      have hk : e.1 = 0 ∨ e.1 = 1 ∨ e.1 = 2 ∨ e.1 = 3 := by obtain ⟨_, _, x⟩ := he; omega
      rw [gob] at k
      have g72 : ∀ x m', m' = (if e.1 = 3 then m + 1 else m) → (x = 0 ∨ x = 1) → (e.1 = 3 → x = bit th m) → wX6_endOf_72 X F t th bt v m' i (200 * t + i) x S M := by
        intro x m' hm hx hb
        have hp : pas n v e x = pas n v e (bit th m) := by
          by_cases c : e.1 = 3
          · rw [hb c]
          · exact pas_t c
        have pb := pas_bd (t := bit th m) he v0 v1
        refine bX6_endOf_72 ?_
        rw [u1, u2]
        rw [← hm] at k
        refine ⟨by constructor <;> omega, hbt, fun c => ?_, fun c => ⟨by omega, by omega, by omega, by omega, ?_⟩⟩
        · rw [if_pos c] at k
          exact bX6_endOf_103 (ih (i + 1) v m' e2 (by omega) (by omega) v0 v1 k)
        · rw [if_neg c] at k
          refine tw_passed n7 tb v0 v1 he (by constructor <;> omega) ?_
          rw [hp]
          exact bX6_endOf_103 (ih (i + 1) _ m' e2 (by omega) (by omega) pb.1 pb.2 k)
      have g56 : ∀ x, (x = 0 ∨ x = 1) → (e.1 = 3 → x = bit th m) → wX6_endOf_56 X F t th bt v m i (200 * t + i) x S M := by
        intro x hx hb
        refine bX6_endOf_56 ?_
        rw [u1]
        refine ⟨by omega, by omega, by constructor <;> omega, fun c => ?_, fun c => ?_⟩
        · exact g72 x m (by rw [if_neg c]) hx hb
        · exact g72 x (m + 1) (by rw [if_pos c]) hx hb
      refine bX6_endOf_9 ?_
      rw [t2, u1]
      refine ⟨h0, h6, by constructor <;> omega, by constructor <;> omega, fun z => by omega, fun _ => ⟨by omega, by omega, by constructor <;> omega, fun c => ?_, fun c => ⟨iand_R, fun d => ?_, fun d => ?_⟩⟩⟩
      · exact bX6_endOf_55 (g56 0 (Or.inl rfl) (fun z => absurd z c))
      · exact bX6_endOf_55 (g56 0 (Or.inl rfl) (fun _ => by unfold bit; rw [if_neg d]))
      · exact g56 1 (Or.inr rfl) (fun _ => by unfold bit; rw [if_pos d])
  exact eX6_endOf (bX6_endOf_0 (loop _ 0 o 0 rfl (by omega) (by omega) a b k))
theorem THl.fr {M M' : pM} {Ls : List (Int × List elt)} (h : THl M Ls) (f : frT M M') : THl M' Ls := by
  unfold THl
  rw [f.2 0 (by decide), f.1 242 (by decide), f.1 243 (by decide), f.1 244 (by decide), f.1 245 (by decide), f.1 246 (by decide), f.1 247 (by decide)]
  exact h
theorem tw_isDown {F : Int → pM → Prop} {t o th : Int} (ht : inR t) (ho : inR o) (hth : inR th) (h : THl M σ.1) (ok : okS σ) (k1 : ∀ N : Nat, dnC σ t o th → (lad σ.1 t).1 = N → 2 ≤ N → N ≤ 7 → 0 ≤ o → o < fac N → F 1 M) (k0 : ¬ dnC σ t o th → F 0 M) : pNi true X mX6_isDown 3 [pR 241, pI t, pI o, pI th] S M F := by
  refine eX6_isDown (bX6_isDown_0 (tw_isLadder ht h ok (fun a b => ⟨by constructor <;> decide, fun z => by omega, fun _ => ⟨a, ok.tl b, ?_⟩⟩) (fun hno => ⟨by constructor <;> decide, fun _ => k0 (fun z => hno ⟨z.1, z.2.1⟩), fun z => by omega⟩)))
  have okl := ok.at a b
  rw [(h.2 t a b).1]
  have hmb := mb_bd (lad σ.1 t).2
  have hsh := ishl1 hmb.1 (by have := okl.2.2.2.1; omega)
  refine tw_isOrder (by have := okl.1; have := okl.2.1; constructor <;> omega) ho (fun N h2 h7 e p q => ?_) (fun hno => ⟨by constructor <;> decide, fun _ => k0 (fun z => hno z.2.2.1), fun z => by omega⟩)
  refine ⟨by constructor <;> decide, fun z => by omega, fun _ => ⟨hth, fun z => k0 (fun y => by have := y.2.2.2.1; omega), fun z => tw_maybes h ok a b ⟨hth, by constructor <;> omega, fun y => k0 (fun w => by have := w.2.2.2.2; omega), fun y => k1 N ⟨a, b, by rw [e]; exact isO_nat h2 h7 p q, z, y⟩ e h2 h7 p q⟩⟩⟩
theorem tw_down_op {F : Int → pM → Prop} {t o th : Int} (ht : inR t) (ho : inR o) (hth : inR th) (ti : TI M σ) (ok : okS σ) (k : ∀ M', frT M M' → TT M' → F (q_down σ t o th) M') : pNi true X mX6_down 4 [pR 241, pI t, pI o, pI th] S M F := by
  refine eX6_down (bX6_down_0 (tw_isDown ht ho hth ti.2.1 ok (fun N h e h2 h7 p q => ⟨by constructor <;> decide, fun _ => ⟨h.1, ok.tl h.2.1, ?_⟩, fun z => by omega⟩) (fun h => ⟨by constructor <;> decide, fun z => by omega, fun _ => ?_⟩)))
  · rw [(ti.2.1.2 t h.1 h.2.1).1, e]
    refine tw_layT h2 h7 ti.1 (fun M1 f1 t1 => ?_)
    refine tw_endOf (ti.2.1.fr f1) ok h.1 h.2.1 e t1 p q (by constructor <;> decide) ?_
    have := k M1 f1 (t1.T h2 h7)
    unfold q_down at this
    rw [if_pos h, e, Int.toNat_natCast] at this
    exact this
  · have := k M (frT.refl _) ti.1
    unfold q_down at this
    rw [if_neg h] at this
    exact this
theorem tw_ends_op {F : Int → pM → Prop} {t o th x : Int} (ht : inR t) (ho : inR o) (hth : inR th) (hx : inR x) (ti : TI M σ) (ok : okS σ) (k : ∀ M', frT M M' → TT M' → F (q_ends σ t o th x) M') : pNi true X mX6_ends 4 [pR 241, pI t, pI o, pI th, pI x] S M F := by
  refine eX6_ends (bX6_ends_0 (tw_isDown ht ho hth ti.2.1 ok (fun N h e h2 h7 p q => ⟨by constructor <;> decide, fun z => by omega, fun _ => ?_⟩) (fun h => ⟨by constructor <;> decide, fun _ => ?_, fun z => by omega⟩)))
  · have bad : ¬ (0 ≤ x ∧ x < (lad σ.1 t).1) → F (-1) M := fun z => by
      have := k M (frT.refl _) ti.1
      unfold q_ends at this
      rw [if_neg (fun y => z y.2)] at this
      exact this
    have h6 := ok.tl h.2.1
    rw [e] at bad
    rw [(ti.2.1.2 t h.1 h.2.1).1, e]
    refine ⟨hx, fun z => bad (by omega), fun z => ⟨h.1, h6, hx, by constructor <;> omega, fun y => ⟨h.1, h6, ?_⟩, fun y => bad (by omega)⟩⟩
    refine tw_layT h2 h7 ti.1 (fun M1 f1 t1 => ⟨h.1, h6, ?_⟩)
    have th1 := ti.2.1.fr f1
    refine tw_endOf th1 ok h.1 h.2.1 e t1 p q (by constructor <;> decide) ?_
    rw [(th1.2 t h.1 h.2.1).1, e]
    have hf := fac_le h7
    have okl := ok.at h.1 h.2.1
    rw [e] at okl
    obtain ⟨g0, g1⟩ := gob_bd (n := N) (th := th) (bt := -1) (lad σ.1 t).2 0 o 0 okl.2.2.2.2 p q
    have hp := pl_ok (n := N) (v := gob N th (-1) (lad σ.1 t).2 0 o 0) z (by omega)
    refine t_placeOf h7 g0 (by omega) ?_ hp.1 hp.2.1 ?_ ?_
    · have : seg (fun i => M1 269 (7 * gob N th (-1) (lad σ.1 t).2 0 o 0 + i)) 0 N = seg (dg N (gob N th (-1) (lad σ.1 t).2 0 o 0)) 0 N := seg_congr _ 0 (fun j u w => t1.row g0 g1 j u (by omega))
      unfold isF
      rw [this]
      exact dg_F
    · rw [t1.row g0 g1 _ hp.1 hp.2.1]
      exact hp.2.2
    · have := k M1 f1 (t1.T h2 h7)
      unfold q_ends at this
      rw [e, Int.toNat_natCast, if_pos ⟨h, z, y⟩] at this
      exact this
  · have := k M (frT.refl _) ti.1
    unfold q_ends at this
    rw [if_neg (fun z => h z.1)] at this
    exact this
end
