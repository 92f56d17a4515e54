/-! ===== ways: the component's spreads ===== -/
set_option maxRecDepth 100000
def frY (M M' : pM) : Prop := (∀ x, x ≠ 0 → x ≠ 23 → x ≠ 24 → M' x = M x) ∧ (∀ j, j ≠ 15 → j ≠ 16 → M' 0 j = M 0 j)
theorem frY.refl (M : pM) : frY M M := ⟨fun _ _ _ _ => rfl, fun _ _ _ => rfl⟩
theorem frY.trans {M M1 M2 : pM} (a : frY M M1) (b : frY M1 M2) : frY M M2 := ⟨fun x h1 h2 h3 => (b.1 x h1 h2 h3).trans (a.1 x h1 h2 h3), fun j h1 h2 => (b.2 j h1 h2).trans (a.2 j h1 h2)⟩
theorem frY.C {M M' : pM} (a : frY M M') : frC M M' := ⟨fun x h => a.1 x (by omega) (by omega) (by omega), fun j h => a.2 j (by omega) (by omega)⟩
theorem frY.tab {n : Nat} {M M' : pM} (a : frY M M') (t : TabC n M) : TabC n M' := t.fr (a.1 1 (by decide) (by decide) (by decide)) (a.1 2 (by decide) (by decide) (by decide)) (a.1 3 (by decide) (by decide) (by decide))
theorem frY.SC {M M' : pM} (a : frY M M') (s : SC M) (nw : NW M') : SC M' := by
  obtain ⟨s1, s2, s3, s4⟩ := s
  refine ⟨?_, s2.fr (a.2 2 (by decide) (by decide)) (a.1 5 (by decide) (by decide) (by decide)), nw, s4.fr (a.1 6 (by decide) (by decide) (by decide))⟩
  rcases s1 with z | ⟨n, z1, z2, z3⟩
  · exact Or.inl (by rw [a.1 1 (by decide) (by decide) (by decide)]; exact z)
  · exact Or.inr ⟨n, z1, z2, a.tab z3⟩
theorem frY_w {M : pM} {A i v : Int} (h : A = 23 ∨ A = 24) : frY M (pu_up M A i v) := ⟨fun x _ _ _ => up_ne (by omega), fun j _ _ => by rw [up_ne (by omega)]⟩
/-- the two arrays -/
def ABw (M : pM) (A B : Int) : Prop := M 0 15 = A ∧ M 0 16 = B ∧ ((A = 23 ∧ B = 24) ∨ (A = 24 ∧ B = 23))
theorem ABw.up {M : pM} {A B C i v : Int} (h : ABw M A B) (hC : C = 23 ∨ C = 24) : ABw (pu_up M C i v) A B := by
  obtain ⟨h1, h2, h3⟩ := h
  exact ⟨by rw [up_ne (by omega)]; exact h1, by rw [up_ne (by omega)]; exact h2, h3⟩
section
variable {X : px} {S : List psh}
theorem c_sp141 {F : pM → Prop} {N : Nat} {M0 : pM} {z r q i A B : Int} {e : elt} {L : List elt} {w : Int → Int} (h7 : N ≤ 7) (hz : ∀ n : Nat × Nat, shq S z = some (.inl n.1, n.2) → False) (hp : pu_perm <+: S) (t0 : TabC N M0) (st : StepR S M0 q e) (he : okE N e) (hw : ∀ v, 0 ≤ v → v < fac N → 0 ≤ w v ∧ w v ≤ 1099511627776) (hAB : (A = 23 ∧ B = 24) ∨ (A = 24 ∧ B = 23)) (k : ∀ M, frY M0 M → ABw M B A → (∀ v, 0 ≤ v → v < fac N → M B v = spW N e w (fac N).toNat v) → wX0_spreads_35 X F r (i + 1) S M) : ∀ (m c : Nat) (M : pM), (c : Int) + m = fac N → frY M0 M → ABw M A B → (∀ v, 0 ≤ v → v < fac N → M A v = w v) → (∀ v, 0 ≤ v → v < fac N → M B v = spW N e w c v) → wX0_spreads_141 X F r i q (wyA e) (wyB e) c S M := by
  have hf := fac_le h7
  have wy := wy_ok he
  intro m
  induction m with
  | zero =>
    intro c M q1 fr ab hA hB
    have tb := fr.tab t0
    refine bX0_spreads_141 ?_
    rw [tb.2.1]
    refine ⟨by constructor <;> omega, by constructor <;> omega, fun _ M3 e3 M4 e4 => ?_, fun y => by omega⟩
    rw [ab.2.1] at e3
    rw [ab.1] at e4
    refine k M4 (fr.trans ⟨fun x x1 _ _ => by rw [e4, up_ne x1, e3, up_ne x1], fun j j1 j2 => by rw [e4, up_oi j2, e3, up_oi j1]⟩) ⟨by rw [e4, up_oi (by decide), e3, up_same], by rw [e4, up_same], by omega⟩ (fun v v0 v1 => ?_)
    rw [e4, up_ne (by omega), e3, up_ne (by omega), hB v v0 v1, show (fac N).toNat = c by omega]
  | succ m ih =>
    intro c M q1 fr ab hA hB
    have tb := fr.tab t0
    have stM : StepR S M q e := st.fr (List.prefix_refl _) (fr.1 q (by have := st.1; omega) (by have := st.1; omega) (by have := st.1; omega))
    have hc := hw c (by omega) (by omega)
    have aM := hA c (by omega) (by omega)
    have sA := sh_w hp (a := A) (by omega)
    have sB := sh_w hp (a := B) (by omega)
    have ncB : ∀ j, pu_nc_ true B j := fun j => nc_w (by omega)
    have pb := pas_bd (t := 1) (o := c) he (by omega) (by omega)
    have nxt := fun M' f' ab' a' b' => ih (c + 1) M' (by omega) f' ab' a' b'
    rw [Int.natCast_succ] at nxt
    refine bX0_spreads_141 ?_
    rw [tb.2.1, ab.1, ab.2.1, aM]
    refine ⟨by constructor <;> omega, by constructor <;> omega, fun y => by omega, fun _ => ⟨5040, sA, by omega, by omega, by constructor <;> omega, fun nz => ?_, fun zz => ?_⟩⟩
    · refine c_after h7 tb (by omega) (by omega) stM he (by constructor <;> decide) ?_
      rw [ab.1, aM]
      refine ⟨5040, sB, pb.1, by omega, 5040, sA, by omega, by omega, by constructor <;> omega, 5040, sB, ncB _, pb.1, by omega, fun M26 e26 => ⟨by constructor <;> omega, by constructor <;> omega, fun y => ?_, fun y => ?_⟩⟩
      · refine bX0_spreads_240 (nxt M26 (fr.trans (by rw [e26]; exact frY_w (by omega))) (by rw [e26]; exact ab.up (by omega)) (fun v v0 v1 => by rw [e26, up_ne (by omega)]; exact hA v v0 v1) (fun v v0 v1 => ?_))
        rw [spW, show wyB e - wyA e = 0 by omega, Int.mul_zero, e26]
        by_cases d : v = pas N c e 1
        · rw [if_pos d, d, up_same, hB _ pb.1 pb.2]
          split <;> omega
        · rw [if_neg d, up_oi d, hB v v0 v1]
          split <;> omega
      · have h3 : e.1 = 3 := by
          by_cases h3 : e.1 = 3
          · exact h3
          · unfold wyA wyB at y
            rw [if_neg h3, if_neg h3] at y
            omega
        have p0 : pas N c e 0 = c := by
          unfold pas chg
          rw [if_neg (by rw [if_neg (by omega)]; decide)]
        have fr26 : frY M0 M26 := fr.trans (by rw [e26]; exact frY_w (by omega))
        have ab26 : ABw M26 A B := by rw [e26]; exact ab.up (by omega)
        have a26 : ∀ v, 0 ≤ v → v < fac N → M26 A v = w v := fun v v0 v1 => by rw [e26, up_ne (by omega)]; exact hA v v0 v1
        have st26 : StepR S M26 q e := st.fr (List.prefix_refl _) (fr26.1 q (by have := st.1; omega) (by have := st.1; omega) (by have := st.1; omega))
        refine c_after h7 (fr26.tab t0) (by omega) (by omega) st26 he (by constructor <;> decide) ?_
        rw [p0, ab26.1, ab26.2.1, a26 c (by omega) (by omega)]
        refine ⟨5040, sB, by omega, by omega, 5040, sA, by omega, by omega, by constructor <;> omega, 5040, sB, ncB _, by omega, by omega, fun M45 e45 => ?_⟩
        refine bX0_spreads_240 (nxt M45 (fr26.trans (by rw [e45]; exact frY_w (by omega))) (by rw [e45]; exact ab26.up (by omega)) (fun v v0 v1 => by rw [e45, up_ne (by omega)]; exact a26 v v0 v1) (fun v v0 v1 => ?_))
        have b26 : ∀ u, 0 ≤ u → u < fac N → M26 B u = spW N e w c u + (if u = pas N c e 1 then w c * wyA e else 0) := by
          intro u u0 u1
          rw [e26]
          by_cases d : u = pas N c e 1
          · rw [if_pos d, d, up_same, hB _ pb.1 pb.2]
          · rw [if_neg d, up_oi d, hB u u0 u1, Int.add_zero]
        rw [spW, e45]
        by_cases d : v = c
        · rw [if_pos (c := v = (c : Int)) d, d, up_same, b26 c (by omega) (by omega)]
        · rw [if_neg (c := v = (c : Int)) d, up_oi d, b26 v v0 v1, Int.add_zero]
    · refine bX0_spreads_240 (nxt M fr ab hA (fun v v0 v1 => ?_))
      rw [spW, zz, Int.zero_mul, Int.zero_mul, hB v v0 v1]
      split <;> split <;> omega
theorem c_sp35 {F : pM → Prop} {N : Nat} {M0 : pM} {z r : Int} {L : List elt} (h7 : N ≤ 7) (hz : ∀ n : Nat × Nat, shq S z = some (.inl n.1, n.2) → False) (hp : pu_perm <+: S) (t0 : TabC N M0) (lr : LadR z S M0 r N L) (ok : okL N L) : ∀ (s : List elt) (i B0 A B : Int) (w : Int → Int) (M : pM), L.drop i.toNat = s → 0 ≤ i → i ≤ L.length → okW N w B0 → B0 * pr s ≤ 1099511627776 → frY M0 M → ABw M A B → (∀ v, 0 ≤ v → v < fac N → M A v = w v) → (∀ M' A' B', frY M0 M' → ABw M' A' B' → (∀ v, 0 ≤ v → v < fac N → M' A' v = spL N s w v) → F M') → wX0_spreads_35 X F r i S M := by
  have hl := ok.2.2.1
  have hf := fac_le h7
  have fp := fac_pos N
  intro s
  induction s with
  | nil =>
    intro i B0 A B w M q0 q1 q2 ow hB fr ab hA k
    have := drop_nil q0 q1
    have lm : LadR z S M r N L := lr.fr hz ⟨List.prefix_refl _, fun x p _ _ => fr.1 x (by omega) (by omega) (by omega)⟩
    exact bX0_spreads_35 ⟨lm.w.1, lm.w.2.1, lm.w.2.2.1, l_lsize lm ⟨by constructor <;> omega, by constructor <;> omega, fun _ => k M A B fr ab hA, fun y => by omega⟩⟩
  | cons e s ih =>
    intro i B0 A B w M q0 q1 q2 ow hB fr ab hA k
    obtain ⟨e1, e2, e3⟩ := drop_cons q0 q1
    have he := ok.at q1 e3
    rw [e1] at he
    have hmem : ∀ x ∈ s, okE N x := fun x hx => ok.2.2.2.2 x (by
      have : x ∈ L.drop i.toNat := by rw [q0]; exact List.mem_cons_of_mem _ hx
      exact List.mem_of_mem_drop this)
    have ps := (pr_bd s hmem).1
    have pes : 1 ≤ pr (e :: s) := (pr_bd (n := (N : Int)) (e :: s) (fun x hx => by rcases List.mem_cons.1 hx with y | y; rw [y]; exact he; exact hmem x y)).1
    have bfin := ow.fin pes hB
    obtain ⟨ow', hB'⟩ := ow.step he ps hB
    have lm : LadR z S M r N L := lr.fr hz ⟨List.prefix_refl _, fun x p _ _ => fr.1 x (by omega) (by omega) (by omega)⟩
    refine bX0_spreads_35 ⟨lm.w.1, lm.w.2.1, lm.w.2.2.1, l_lsize lm ⟨by constructor <;> omega, by constructor <;> omega, fun y => by omega, fun _ => ⟨lm.w.1, lm.w.2.1, lm.w.2.2.1, l_get lm q1 e3 (fun q st => ?_)⟩⟩⟩
    rw [e1] at st
    refine ⟨st.is, ?_⟩
    have loop : ∀ (m : Nat) (j : Int) (M1 : pM), j + m = fac N → 0 ≤ j → frY M0 M1 → ABw M1 A B → (∀ v, 0 ≤ v → v < fac N → M1 A v = w v) → (∀ v, 0 ≤ v → v < j → M1 B v = 0) → wX0_spreads_68 X F r i q j S M1 := by
      intro m
      induction m with
      | zero =>
        intro j M1 p1 p2 f1 ab1 hA1 hB1
        have st1 : StepR S M1 q e := st.fr (List.prefix_refl _) (by
          have := st.1
          rw [f1.1 q (by omega) (by omega) (by omega), fr.1 q (by omega) (by omega) (by omega)])
        have go : ∀ x y, x = wyA e → y = wyB e → wX0_spreads_136 X F r i q x y S M1 := by
          intro x y hx hy
          subst hx
          subst hy
          refine bX0_spreads_136 ?_
          have := c_sp141 (X := X) (F := F) (M0 := M1) (r := r) (i := i) (z := z) (L := L) (A := A) (B := B) h7 hz hp (f1.tab t0) st1 he (fun v v0 v1 => by have := ow.le v0 v1; omega) ab1.2.2 (fun M2 f2 ab2 h2 => ih (i + 1) (wyB e * B0) B A _ M2 e2 (by omega) (by omega) ow' hB' (f1.trans f2) ab2 h2 k) (fac N).toNat 0 M1 (by omega) (frY.refl _) ab1 hA1 (fun v v0 v1 => hB1 v v0 (by omega))
          exact this
        refine bX0_spreads_68 ?_
        rw [(f1.tab t0).2.1]
        refine ⟨by constructor <;> omega, by constructor <;> omega, fun _ => ⟨st1.is, fun y => ⟨y, y, ?_⟩, fun y => ?_⟩, fun y => by omega⟩
        · obtain ⟨_, _, c | c | c | c⟩ := st1
          · rw [c.2] at y; cases y
          · rw [c.2] at y; cases y
          · rw [c.2] at y; cases y
          · refine bX0_spreads_114 ⟨Or.inr (Or.inr (Or.inr y)), fun _ => ⟨y, y, go _ _ ?_ ?_⟩, fun nn => absurd y nn⟩
            · unfold wyA; rw [if_pos c.1, c.2.2.1]
            · unfold wyB; rw [if_pos c.1, c.2.2.2]
        · have h3 : e.1 ≠ 3 := by
            obtain ⟨_, _, c | c | c | c⟩ := st1
            · omega
            · omega
            · omega
            · exact absurd c.2.1 y
          refine bX0_spreads_114 ⟨st1.is, fun yy => absurd yy y, fun _ => go _ _ ?_ ?_⟩
          · unfold wyA; rw [if_neg h3]
          · unfold wyB; rw [if_neg h3]
      | succ m ihm =>
        intro j M1 p1 p2 f1 ab1 hA1 hB1
        have hAB := ab1.2.2
        refine bX0_spreads_68 ?_
        rw [(f1.tab t0).2.1, ab1.2.1]
        refine ⟨by constructor <;> omega, by constructor <;> omega, fun y => by omega, fun _ => ⟨5040, sh_w hp (by omega), nc_w (by omega), p2, by omega, fun M11 e11 => ?_⟩⟩
        refine ihm (j + 1) M11 (by omega) (by omega) (f1.trans (by rw [e11]; exact frY_w (by omega))) (by rw [e11]; exact ab1.up (by omega)) (fun v v0 v1 => by rw [e11, up_ne (by omega)]; exact hA1 v v0 v1) (fun v v0 v1 => ?_)
        rw [e11]
        by_cases d : v = j
        · rw [d]; exact up_same
        · rw [up_oi d]; exact hB1 v v0 (by omega)
    exact loop (fac N).toNat 0 M (by omega) (by omega) fr ab hA (fun v v0 v1 => by omega)
theorem c_spreads {F : pM → Prop} {N : Nat} {M : pM} {z r o : Int} {L : List elt} (h7 : N ≤ 7) (hz : ∀ n : Nat × Nat, shq S z = some (.inl n.1, n.2) → False) (t0 : TabC N M) (nw : NW M) (lr : LadR z S M r N L) (ok : okL N L) (a : 0 ≤ o) (b : o < fac N) (k : ∀ M', frY M M' → NW M' → pu_perm <+: S → (∀ v, 0 ≤ v → v < fac N → M' (M' 0 15) v = spL N L (w1 o) v) → F M') : pNv true X mX0_spreads 4 [pR 0, pR r, pI o] S M F := by
  have hf := fac_le h7
  have fp := fac_pos N
  refine eX0_spreads (pw_perm (fun hp _ => bX0_spreads_0 ?_))
  have loop : ∀ (m : Nat) (j A B : Int) (M1 : pM), j + m = fac N → 0 ≤ j → frY M M1 → ABw M1 A B → (∀ v, 0 ≤ v → v < j → M1 A v = 0) → wX0_spreads_2 X F r o j S M1 := by
    intro m
    induction m with
    | zero =>
      intro j A B M1 p1 p2 f1 ab1 hA1
      have hAB := ab1.2.2
      refine bX0_spreads_2 ?_
      rw [(f1.tab t0).2.1, ab1.1]
      refine ⟨by constructor <;> omega, by constructor <;> omega, fun _ => ⟨5040, sh_w hp (by omega), nc_w (by omega), a, by omega, fun M8 e8 => ?_⟩, fun y => by omega⟩
      refine c_sp35 (M0 := M) h7 hz hp t0 lr ok L 0 1 A B (w1 o) M8 rfl (by omega) (by omega) (w1_ok a b) (by rw [Int.one_mul]; exact (pr_20 ok).2) (f1.trans (by rw [e8]; exact frY_w (by omega))) (by rw [e8]; exact ab1.up (by omega)) (fun v v0 v1 => ?_) (fun M' A' B' f' ab' h' => k M' f' ?_ hp ?_)
      · rw [e8]
        unfold w1
        by_cases d : v = o
        · rw [if_pos d, d, up_same]
        · rw [if_neg d, up_oi d]
          exact hA1 v v0 (by omega)
      · have := ab'.2.2
        unfold NW
        rw [ab'.1, ab'.2.1]
        omega
      · rw [ab'.1]; exact h'
    | succ m ihm =>
      intro j A B M1 p1 p2 f1 ab1 hA1
      have hAB := ab1.2.2
      refine bX0_spreads_2 ?_
      rw [(f1.tab t0).2.1, ab1.1]
      refine ⟨by constructor <;> omega, by constructor <;> omega, fun y => by omega, fun _ => ⟨5040, sh_w hp (by omega), nc_w (by omega), p2, by omega, fun M14 e14 => ?_⟩⟩
      refine ihm (j + 1) A B M14 (by omega) (by omega) (f1.trans (by rw [e14]; exact frY_w (by omega))) (by rw [e14]; exact ab1.up (by omega)) (fun v v0 v1 => ?_)
      rw [e14]
      by_cases d : v = j
      · rw [d]; exact up_same
      · rw [up_oi d]; exact hA1 v v0 (by omega)
  exact loop (fac N).toNat 0 (M 0 15) (M 0 16) M (by omega) (by omega) (frY.refl _) ⟨rfl, rfl, by unfold NW at nw; omega⟩ (fun v v0 v1 => by omega)
end
