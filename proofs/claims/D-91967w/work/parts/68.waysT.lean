/-! ===== ways, odds, oddsOf, possible: the twin ===== -/
set_option maxRecDepth 100000
def frV (M M' : pM) : Prop := ∀ x, x ≠ 281 → x ≠ 282 → M' x = M x
theorem frV.T {M M' : pM} (a : frV M M') : frT M M' := ⟨fun x h => a x (by omega) (by omega), fun j _ => by rw [a 241 (by decide) (by decide)]⟩
theorem frV.tab {n : Nat} {M M' : pM} (a : frV M M') (t : TabT n M) : TabT n M' := t.fr (by rw [a 241 (by decide) (by decide)]) (by rw [a 241 (by decide) (by decide)]) (fun x p q => a x (by omega) (by omega))
section
variable {X : px} {S : List psh} {σ : sgm}
theorem tw_sp92 {F : pM → Prop} {N : Nat} {M0 : pM} {t i : Int} {e : elt} {w : Int → Int} (h7 : N ≤ 7) (t0 : TabT N M0) (t6 : 0 ≤ t ∧ t < 6) (i0 : 0 ≤ i) (i2 : i < 200) (m4 : M0 244 (200 * t + i) = e.1 ∧ M0 245 (200 * t + i) = e.2.1 ∧ M0 246 (200 * t + i) = e.2.2.1 ∧ M0 247 (200 * t + i) = e.2.2.2) (he : okE N e) (hw : ∀ v, 0 ≤ v → v < fac N → 0 ≤ w v ∧ w v ≤ 1099511627776) (k : ∀ M, frV M0 M → (∀ v, 0 ≤ v → v < fac N → M 281 v = w v) → (∀ v, 0 ≤ v → v < fac N → M 282 v = spW N e w (fac N).toNat v) → wX6_spread_236 X F t i 0 S M) : ∀ (m c : Nat) (M : pM), (c : Int) + m = fac N → frV M0 M → (∀ v, 0 ≤ v → v < fac N → M 281 v = w v) → (∀ v, 0 ≤ v → v < fac N → M 282 v = spW N e w c v) → wX6_spread_92 X F t i (200 * t + i) c S M := by
  have hf := fac_le h7
  have wy := wy_ok he
  obtain ⟨n1, n2, n3, n4⟩ := m4
  have hk : (e.1 = 0 ∨ e.1 = 1 ∨ e.1 = 2 ∨ e.1 = 3) ∧ 0 ≤ e.2.2.1 ∧ e.2.2.1 ≤ e.2.2.2 ∧ e.2.2.2 ≤ 4 := by obtain ⟨_, _, h⟩ := he; omega
  intro m
  induction m with
  | zero =>
    intro c M q1 fr hA hB
    refine bX6_spread_92 ?_
    rw [(fr.tab t0).2.1]
    refine ⟨by constructor <;> omega, by constructor <;> omega, fun _ => k M fr hA (fun v v0 v1 => ?_), fun y => by omega⟩
    rw [hB v v0 v1, show (fac N).toNat = c by omega]
  | succ m ih =>
    intro c M q1 fr hA hB
    have tb := fr.tab t0
    have hc := hw c (by omega) (by omega)
    have aM := hA c (by omega) (by omega)
    have pb := pas_bd (t := 1) (o := c) he (by omega) (by omega)
    have nxt := fun M' f' a' b' => ih (c + 1) M' (by omega) f' a' b'
    rw [Int.natCast_succ] at nxt
    have g161 : ∀ (M1 : pM) (g : Int → Int), frV M0 M1 → (∀ v, 0 ≤ v → v < fac N → M1 281 v = w v) → (∀ v, 0 ≤ v → v < fac N → M1 282 v = g v) → (∀ v, 0 ≤ v → v < fac N → g v + (if v = pas N c e 1 then w c * wyA e else 0) = spW N e w (c + 1) v) → wX6_spread_161 X F t i (200 * t + i) c S M1 := by
      intro M1 g f1 h1 h2 h3
      have fin : ∀ x, x = w c * wyA e → wX6_spread_225 X F t i (200 * t + i) c (pas N c e 1) (g (pas N c e 1)) x S M1 := by
        intro x hx
        refine bX6_spread_225 ⟨pb.1, by omega, fun M3 e3 => bX6_spread_227 (nxt M3 (fun y y1 y2 => by rw [e3, up_ne y2]; exact f1 y y1 y2) (fun v v0 v1 => by rw [e3, up_ne (by decide)]; exact h1 v v0 v1) (fun v v0 v1 => ?_))⟩
        rw [← h3 v v0 v1, e3]
        by_cases d : v = pas N c e 1
        · rw [if_pos d, d, up_same, hx]
        · rw [if_neg d, up_oi d, h2 v v0 v1, Int.add_zero]
      refine bX6_spread_161 ?_
      rw [f1 244 (by decide) (by decide), f1 245 (by decide) (by decide), n1, n2]
      refine ⟨by omega, by omega, by omega, by omega, tw_passed h7 (f1.tab t0) (by omega) (by omega) he (by constructor <;> decide) ?_⟩
      rw [f1 244 (by decide) (by decide), f1 246 (by decide) (by decide), n1, n3, h2 _ pb.1 pb.2, h1 c (by omega) (by omega)]
      refine ⟨pb.1, by omega, by omega, by omega, by constructor <;> omega, fun y => ⟨by omega, by omega, fin _ ?_⟩, fun y => ⟨by omega, by omega, by omega, by omega, by constructor <;> omega, fin _ ?_⟩⟩
      · unfold wyA; rw [if_neg y, Int.mul_one]
      · unfold wyA; rw [if_pos y]
    refine bX6_spread_92 ?_
    rw [tb.2.1, aM, fr 244 (by decide) (by decide), fr 246 (by decide) (by decide), fr 247 (by decide) (by decide), n1, n3, n4]
    refine ⟨by constructor <;> omega, by constructor <;> omega, fun y => by omega, fun _ => ⟨by omega, by omega, by constructor <;> omega, fun nz => ⟨by omega, by omega, by constructor <;> omega, fun y => ?_, fun y => ⟨by omega, by omega, by omega, by omega, by omega, by omega, by omega, by omega, by constructor <;> omega, by omega, by omega, fun M20 e20 => ?_⟩⟩, fun zz => ?_⟩⟩
    · refine g161 M (spW N e w c) fr hA hB (fun v v0 v1 => ?_)
      rw [spW, show wyB e - wyA e = 0 by unfold wyA wyB; rw [if_neg y, if_neg y]; omega, Int.mul_zero]
      split <;> split <;> omega
    · refine g161 M20 (fun v => spW N e w c v + (if v = (c : Int) then w c * (wyB e - wyA e) else 0)) (fun y y1 y2 => by rw [e20, up_ne y2]; exact fr y y1 y2) (fun v v0 v1 => by rw [e20, up_ne (by decide)]; exact hA v v0 v1) (fun v v0 v1 => ?_) (fun v v0 v1 => ?_)
      · rw [e20]
        by_cases d : v = c
        · simp only [d]
          rw [up_same, hB c (by omega) (by omega)]
          unfold wyA wyB
          rw [if_pos y, if_pos y]
          simp
        · rw [up_oi d, hB v v0 v1]
          simp [d]
      · rw [spW]
        omega
    · refine bX6_spread_227 (nxt M fr hA (fun v v0 v1 => ?_))
      rw [spW, zz, Int.zero_mul, Int.zero_mul, hB v v0 v1]
      split <;> split <;> omega
theorem tw_sp44 {F : pM → Prop} {N : Nat} {M0 : pM} {t : Int} (h : THl M0 σ.1) (ok : okS σ) (h0 : 0 ≤ t) (h1 : t < σ.1.length) (e0 : (lad σ.1 t).1 = N) (h7 : N ≤ 7) (t0 : TabT N M0) : ∀ (s : List elt) (i B0 : Int) (w : Int → Int) (M : pM), (lad σ.1 t).2.drop i.toNat = s → 0 ≤ i → i ≤ (lad σ.1 t).2.length → okW N w B0 → B0 * pr s ≤ 1099511627776 → frV M0 M → (∀ v, 0 ≤ v → v < fac N → M 281 v = w v) → (∀ M', frV M0 M' → (∀ v, 0 ≤ v → v < fac N → M' 281 v = spL N s w v) → F M') → wX6_spread_44 X F t i S M := by
  have h6 := ok.tl h1
  have okl := ok.at h0 h1
  rw [e0] at okl
  obtain ⟨u1, u2, u3⟩ := h.2 t h0 h1
  have hl := okl.2.2.1
  have hf := fac_le h7
  have fp := fac_pos N
  intro s
  induction s with
  | nil =>
    intro i B0 w M q0 q1 q2 ow hB fr hA k
    have := drop_nil q0 q1
    refine bX6_spread_44 ?_
    rw [fr 243 (by decide) (by decide), u2]
    exact ⟨h0, h6, by constructor <;> omega, by constructor <;> omega, fun _ => k M fr hA, fun y => by omega⟩
  | cons e s ih =>
    intro i B0 w M q0 q1 q2 ow hB fr hA k
    obtain ⟨e1, e2, e3⟩ := drop_cons q0 q1
    have he := okl.at q1 e3
    rw [e1] at he
    have hmem : ∀ x ∈ s, okE N x := fun x hx => okl.2.2.2.2 x (by
      have : x ∈ (lad σ.1 t).2.drop i.toNat := by rw [q0]; exact List.mem_cons_of_mem _ hx
      exact List.mem_of_mem_drop this)
    have ps := (pr_bd s hmem).1
    have pes : 1 ≤ pr (e :: s) := (pr_bd (n := (N : Int)) (e :: s) (fun x hx => by rcases List.mem_cons.1 hx with y | y; rw [y]; exact he; exact hmem x y)).1
    have bfin := ow.fin pes hB
    obtain ⟨ow', hB'⟩ := ow.step he ps hB
    have m4 := u3 i q1 e3
    rw [e1] at m4
    refine bX6_spread_44 ?_
    rw [fr 243 (by decide) (by decide), u2]
    refine ⟨h0, h6, by constructor <;> omega, by constructor <;> omega, fun y => by omega, fun _ => ?_⟩
    have cpy : ∀ (m : Nat) (j : Int) (M1 : pM), j + m = fac N → 0 ≤ j → frV M0 M1 → (∀ v, 0 ≤ v → v < fac N → M1 282 v = spW N e w (fac N).toNat v) → (∀ v, 0 ≤ v → v < j → M1 281 v = spW N e w (fac N).toNat v) → wX6_spread_236 X F t i j S M1 := by
      intro m
      induction m with
      | zero =>
        intro j M1 p1 p2 f1 hB1 hA1
        refine bX6_spread_236 ?_
        rw [(f1.tab t0).2.1]
        refine ⟨by constructor <;> omega, by constructor <;> omega, fun _ => ?_, fun y => by omega⟩
        exact ih (i + 1) (wyB e * B0) _ M1 e2 (by omega) (by omega) ow' hB' f1 (fun v v0 v1 => hA1 v v0 (by omega)) k
      | succ m ihm =>
        intro j M1 p1 p2 f1 hB1 hA1
        refine bX6_spread_236 ?_
        rw [(f1.tab t0).2.1]
        refine ⟨by constructor <;> omega, by constructor <;> omega, fun y => by omega, fun _ => ⟨p2, by omega, p2, by omega, fun M7 e7 => ihm (j + 1) M7 (by omega) (by omega) (fun y y1 y2 => by rw [e7, up_ne y1]; exact f1 y y1 y2) (fun v v0 v1 => by rw [e7, up_ne (by decide)]; exact hB1 v v0 v1) (fun v v0 v1 => ?_)⟩⟩
        rw [e7]
        by_cases d : v = j
        · rw [d, up_same]; exact hB1 j p2 (by omega)
        · rw [up_oi d]; exact hA1 v v0 (by omega)
    have zero : ∀ (m : Nat) (j : Int) (M1 : pM), j + m = fac N → 0 ≤ j → frV M0 M1 → (∀ v, 0 ≤ v → v < fac N → M1 281 v = w v) → (∀ v, 0 ≤ v → v < j → M1 282 v = 0) → wX6_spread_66 X F t i (200 * t + i) j S M1 := by
      intro m
      induction m with
      | zero =>
        intro j M1 p1 p2 f1 hA1 hB1
        refine bX6_spread_66 ?_
        rw [(f1.tab t0).2.1]
        refine ⟨by constructor <;> omega, by constructor <;> omega, fun _ => ?_, fun y => by omega⟩
        have := tw_sp92 (X := X) (S := S) (F := F) (M0 := M0) (t := t) (i := i) h7 t0 ⟨h0, h6⟩ q1 (by omega) m4 he (fun v v0 v1 => by have := ow.le v0 v1; omega) (fun M2 f2 _ hB2 => cpy (fac N).toNat 0 M2 (by omega) (by omega) f2 hB2 (fun v v0 v1 => by omega)) (fac N).toNat 0 M1 (by omega) f1 hA1 (fun v v0 v1 => hB1 v v0 (by omega))
        exact this
      | succ m ihm =>
        intro j M1 p1 p2 f1 hA1 hB1
        refine bX6_spread_66 ?_
        rw [(f1.tab t0).2.1]
        refine ⟨by constructor <;> omega, by constructor <;> omega, fun y => by omega, fun _ => ⟨p2, by omega, fun M5 e5 => ihm (j + 1) M5 (by omega) (by omega) (fun y y1 y2 => by rw [e5, up_ne y2]; exact f1 y y1 y2) (fun v v0 v1 => by rw [e5, up_ne (by decide)]; exact hA1 v v0 v1) (fun v v0 v1 => ?_)⟩⟩
        rw [e5]
        by_cases d : v = j
        · rw [d]; exact up_same
        · rw [up_oi d]; exact hB1 v v0 (by omega)
    exact zero (fac N).toNat 0 M (by omega) (by omega) fr hA (fun v v0 v1 => by omega)
theorem tw_spread {F : pM → Prop} {M : pM} {t o : Int} {N : Nat} (ti : TI M σ) (ok : okS σ) (h0 : 0 ≤ t) (h1 : t < σ.1.length) (e0 : (lad σ.1 t).1 = N) (h2 : 2 ≤ N) (h7 : N ≤ 7) (p : 0 ≤ o) (q : o < fac N) (k : ∀ M', frT M M' → TabT N M' → (∀ v, 0 ≤ v → v < fac N → M' 281 v = wyF σ t o v) → okW N (wyF σ t o) 1099511627776 → F M') : pNv true X mX6_spread 4 [pR 241, pI t, pI o] S M F := by
  have h6 := ok.tl h1
  have okl := ok.at h0 h1
  rw [e0] at okl
  have hf := fac_le h7
  have fp := fac_pos N
  refine eX6_spread (bX6_spread_0 ⟨h0, h6, ?_⟩)
  rw [(ti.2.1.2 t h0 h1).1, e0]
  refine tw_layT h2 h7 ti.1 (fun M1 f1 t1 => ?_)
  have ew : wyF σ t o = spL N (lad σ.1 t).2 (w1 o) := by unfold wyF; rw [e0, Int.toNat_natCast]
  have loop : ∀ (m : Nat) (j : Int) (M2 : pM), j + m = fac N → 0 ≤ j → frV M1 M2 → (∀ v, 0 ≤ v → v < j → M2 281 v = w1 o v) → wX6_spread_12 X F t o j S M2 := by
    intro m
    induction m with
    | zero =>
      intro j M2 p1 p2 f2 hA
      refine bX6_spread_12 ?_
      rw [(f2.tab t1).2.1]
      refine ⟨by constructor <;> omega, by constructor <;> omega, fun _ => ?_, fun y => by omega⟩
      refine tw_sp44 (M0 := M1) (ti.2.1.fr f1) ok h0 h1 e0 h7 t1 _ 0 1 (w1 o) M2 rfl (by omega) (by omega) (w1_ok p q) (by rw [Int.one_mul]; exact (pr_20 okl).2) f2 (fun v v0 v1 => hA v v0 (by omega)) (fun M' f' h' => k M' (f1.trans f'.T) (f'.tab t1) (by rw [ew]; exact h') (by rw [ew]; exact spL_20 okl p q))
    | succ m ihm =>
      intro j M2 p1 p2 f2 hA
      have go : ∀ x, x = w1 o j → wX6_spread_35 X F t o j j x S M2 := by
        intro x hx
        refine bX6_spread_35 ⟨p2, by omega, fun M3 e3 => ihm (j + 1) M3 (by omega) (by omega) (fun y y1 y2 => by rw [e3, up_ne y1]; exact f2 y y1 y2) (fun v v0 v1 => ?_)⟩
        rw [e3]
        by_cases d : v = j
        · rw [d, up_same]; exact hx
        · rw [up_oi d]; exact hA v v0 (by omega)
      refine bX6_spread_12 ?_
      rw [(f2.tab t1).2.1]
      refine ⟨by constructor <;> omega, by constructor <;> omega, fun y => by omega, fun _ => ⟨by constructor <;> omega, by constructor <;> omega, fun y => go 0 ?_, fun y => go 1 ?_⟩⟩
      · unfold w1; rw [if_neg y]
      · unfold w1; rw [if_pos y]
  exact loop (fac N).toNat 0 M1 (by omega) (by omega) (fun _ _ _ => rfl) (fun v v0 v1 => by omega)
end
