/-! ===== drawn, drawnAt: the component ===== -/
set_option maxRecDepth 100000
def frN (M M' : pM) : Prop := ∀ x, x < 30 ∨ 231 ≤ x → M' x = M x
theorem frN.refl (M : pM) : frN M M := fun _ _ => rfl
theorem frN.trans {M M1 M2 : pM} (a : frN M M1) (b : frN M1 M2) : frN M M2 := fun x h => (b x h).trans (a x h)
theorem frN.C {M M' : pM} (a : frN M M') : frC M M' := ⟨fun x h => a x (by omega), fun j _ => by rw [a 0 (by decide)]⟩
theorem frN.SC {M M' : pM} (a : frN M M') (s : SC M) : SC M' := s.fr (fun j _ => by rw [a 0 (by decide)]) (fun x hx => a x (by omega))
theorem frN_up {M : pM} {c i v : Int} (h0 : 30 ≤ c) (h1 : c < 231) : frN M (pu_up M c i v) := fun x hx => up_ne (by omega)
/-- one pass to the right -/
def P1 (b : Int → Int) (i v : Int) : Prop := (∃ a : Int, 0 ≤ a ∧ a ≤ i ∧ v = b a + (i - a)) ∧ ∀ a : Int, 0 ≤ a → a ≤ i → v ≤ b a + (i - a)
theorem P1_step {b : Int → Int} {i v : Int} (h : P1 b (i - 1) v) : P1 b i (min (b i) (v + 1)) ∨ i < 0 := by
  by_cases c : i < 0
  · exact Or.inr c
  · left
    obtain ⟨⟨a, a0, a1, a2⟩, h2⟩ := h
    refine ⟨?_, fun x x0 x1 => ?_⟩
    · by_cases d : b i ≤ v + 1
      · exact ⟨i, by omega, by omega, by omega⟩
      · exact ⟨a, a0, by omega, by omega⟩
    · by_cases e : x = i
      · subst e; omega
      · have := h2 x x0 (by omega)
        omega
theorem P2_step {n : Nat} {b : Int → Int} {i v w : Int} (i0 : 0 ≤ i) (i1 : i + 1 < n) (h : P1 b i v) (h' : isMn n b (i + 1) w) : isMn n b i (min v (w + 1)) := by
  obtain ⟨⟨a, a0, a1, a2⟩, h2⟩ := h
  obtain ⟨⟨c, c0, c1, c2⟩, h3⟩ := h'
  have ap : ∀ x, x ≤ i → apt i x = i - x := fun x hx => by unfold apt; split <;> omega
  have ap2 : ∀ x, i < x → apt i x = apt (i + 1) x + 1 := fun x hx => by unfold apt; split <;> split <;> omega
  have ap3 : ∀ x, x ≤ i → apt (i + 1) x = i + 1 - x := fun x hx => by unfold apt; split <;> omega
  have low : ∀ x : Int, 0 ≤ x → x < n → min v (w + 1) ≤ b x + apt i x := by
    intro x x0 x1
    by_cases d : x ≤ i
    · have := h2 x x0 d
      rw [ap x d]
      omega
    · have := h3 x x0 x1
      rw [ap2 x (by omega)]
      omega
  refine ⟨?_, low⟩
  by_cases d : v ≤ w + 1
  · exact ⟨a, a0, by omega, by rw [ap a a1]; omega⟩
  · by_cases e : c ≤ i
    · have := ap3 c e
      have := h2 c c0 e
      omega
    · exact ⟨c, c0, c1, by rw [ap2 c (by omega)]; omega⟩
theorem P1_last {n : Nat} {b : Int → Int} {v : Int} (h : P1 b (n - 1) v) : isMn n b (n - 1) v := by
  obtain ⟨⟨a, a0, a1, a2⟩, h2⟩ := h
  have ap : ∀ x, x ≤ (n : Int) - 1 → apt (n - 1) x = n - 1 - x := fun x hx => by unfold apt; split <;> omega
  exact ⟨⟨a, a0, by omega, by rw [ap a a1]; omega⟩, fun x x0 x1 => by rw [ap x (by omega)]; exact h2 x x0 (by omega)⟩
section
variable {X : px} {S : List psh}
theorem c_moved {F : Int → pM → Prop} {M : pM} {r x n : Int} {e : elt} (st : StepR S M r e) (he : okE n e) (hn : n ≤ 7) (x0 : 0 ≤ x) (x1 : x < n) (k : F (tr e.2.1 x) M) : pNi true X mX0_moved 1 [pR r, pI x] S M F := by
  obtain ⟨e1, e2, _⟩ := he
  unfold tr at k
  refine eX0_moved (bX0_moved_0 ?_)
  rw [st.2.1]
  refine ⟨st.is, by constructor <;> omega, by constructor <;> omega, fun a => ⟨st.is, by constructor <;> omega, by constructor <;> omega, fun b => ?_, fun b => ?_⟩, fun a => ?_⟩
  · rw [if_neg a, if_neg b] at k; exact k
  · rw [if_neg a, if_pos b] at k; rw [show x - 1 = e.2.1 by omega]; exact k
  · rw [if_pos a] at k; rw [show x + 1 = e.2.1 + 1 by omega]; exact k
/-- a gap is worked out from its base -/
theorem c_gap {F : pM → Prop} {M0 : pM} {z r q m g : Int} {n : Nat} {L : List elt} {b : Int → Int} (hp : pu_perm <+: S) (hz : ∀ n : Nat × Nat, shq S z = some (.inl n.1, n.2) → False) (lr : LadR z S M0 r n L) (n2 : 2 ≤ n) (n7 : n ≤ 7) (g0 : 0 ≤ g) (g1 : g < 201) (nr : ∀ j, 0 ≤ j → j < 201 → M0 29 j = 30 + j) (hb : ∀ a : Int, 0 ≤ a → a < n → 0 ≤ b a ∧ b a ≤ 1000) (k : ∀ M, frN M0 M → (∀ c, 30 ≤ c → c < 231 → c ≠ 30 + g → M c = M0 c) → (∀ p : Int, 0 ≤ p → p < n → isMn n b p (M (30 + g) p)) → wX0_needsTo_8 X F r q m (g + -1) S M) : ∀ M, frN M0 M → (∀ c, 30 ≤ c → c < 231 → c ≠ 30 + g → M c = M0 c) → (∀ p : Int, 0 ≤ p → p < n → M (30 + g) p = b p) → wX0_needsTo_87 X F r q m g 1 S M := by
  have sh := nd_sh hp (a := 30 + g) (by omega) (by omega)
  have nc : ∀ i, pu_nc_ true (30 + g) i := fun i => nd_nc (by omega) (by omega)
  have lm : ∀ M, frN M0 M → LadR z S M r n L := fun M f => lr.fr hz ⟨List.prefix_refl _, fun x p _ _ => f x (by omega)⟩
  have p1b : ∀ i v : Int, 0 ≤ i → i < n → P1 b i v → 0 ≤ v ∧ v ≤ 1007 := by
    intro i v i0 i1 h
    obtain ⟨⟨a, a0, a1, a2⟩, _⟩ := h
    have := hb a a0 (by omega)
    omega
  have l147 : ∀ (c : Nat) (i : Int) (M : pM), i + 1 = c → i + 1 < n → frN M0 M → (∀ c, 30 ≤ c → c < 231 → c ≠ 30 + g → M c = M0 c) → (∀ p : Int, 0 ≤ p → p ≤ i → P1 b p (M (30 + g) p)) → (∀ p : Int, i < p → p < n → isMn n b p (M (30 + g) p)) → wX0_needsTo_147 X F r q m g i S M := by
    intro c
    induction c with
    | zero =>
      intro i M q1 q2 f o h1 h2
      exact bX0_needsTo_147 ⟨by constructor <;> omega, fun _ => k M f o (fun p p0 p1 => h2 p (by omega) p1), fun y => by omega⟩
    | succ c ih =>
      intro i M q1 q2 f o h1 h2
      have v1 := h1 i (by omega) (Int.le_refl _)
      have v2 := h2 (i + 1) (by omega) q2
      have b1 := p1b i _ (by omega) (by omega) v1
      have b2 : 0 ≤ M (30 + g) (i + 1) ∧ M (30 + g) (i + 1) ≤ 1007 := by
        obtain ⟨⟨a, a0, a1, a2⟩, _⟩ := v2
        have := hb a a0 a1
        have : 0 ≤ apt (i + 1) a ∧ apt (i + 1) a ≤ 6 := by unfold apt; split <;> omega
        omega
      refine bX0_needsTo_147 ?_
      rw [f 29 (by decide), nr g g0 g1]
      refine ⟨by constructor <;> omega, fun y => by omega, fun _ => ⟨g0, g1, g0, g1, 7, sh, by omega, by omega, g0, g1, 7, sh, by omega, by omega, by constructor <;> omega, by constructor <;> omega, 7, sh, nc _, by omega, by omega, fun M23 e23 => ?_⟩⟩
      refine ih (i + -1) M23 (by omega) (by omega) (f.trans (by rw [e23]; exact frN_up (by omega) (by omega))) (fun c c0 c1 c2 => by rw [e23, up_ne c2]; exact o c c0 c1 c2) (fun p p0 p1 => ?_) (fun p p0 p1 => ?_)
      · rw [e23, up_oi (by omega)]
        exact h1 p p0 (by omega)
      · rw [e23]
        by_cases d : p = i
        · rw [d, up_same]
          exact P2_step (by omega) q2 v1 v2
        · rw [up_oi d]
          exact h2 p (by omega) p1
  have l87 : ∀ (c : Nat) (i : Int) (M : pM), i + c = n → 1 ≤ i → frN M0 M → (∀ c, 30 ≤ c → c < 231 → c ≠ 30 + g → M c = M0 c) → (∀ p : Int, 0 ≤ p → p < i → P1 b p (M (30 + g) p)) → (∀ p : Int, i ≤ p → p < n → M (30 + g) p = b p) → wX0_needsTo_87 X F r q m g i S M := by
    intro c
    induction c with
    | zero =>
      intro i M q1 q2 f o h1 h2
      have lr' := lm M f
      refine bX0_needsTo_87 ?_
      rw [lr'.w.2.2.2.1]
      refine ⟨lr'.w.1, by constructor <;> omega, by constructor <;> omega, fun _ => ⟨lr'.w.1, l147 (n - 1) (n - 2) M (by omega) (by omega) f o (fun p p0 p1 => h1 p p0 (by omega)) (fun p p0 p1 => ?_)⟩, fun y => by omega⟩
      have ep : p = n - 1 := by omega
      subst ep
      exact P1_last (h1 _ (by omega) (by omega))
    | succ c ih =>
      intro i M q1 q2 f o h1 h2
      have lr' := lm M f
      have v1 := h1 (i - 1) (by omega) (by omega)
      have v2 := h2 i (by omega) (by omega)
      have b1 := p1b (i - 1) _ (by omega) (by omega) v1
      have b2 := hb i (by omega) (by omega)
      refine bX0_needsTo_87 ?_
      rw [lr'.w.2.2.2.1, f 29 (by decide), nr g g0 g1, v2]
      refine ⟨lr'.w.1, by constructor <;> omega, by constructor <;> omega, fun y => by omega, fun _ => ⟨g0, g1, g0, g1, 7, sh, by omega, by omega, g0, g1, 7, sh, by omega, by omega, by constructor <;> omega, by constructor <;> omega, 7, sh, nc _, by omega, by omega, fun M26 e26 => ?_⟩⟩
      refine ih (i + 1) M26 (by omega) (by omega) (f.trans (by rw [e26]; exact frN_up (by omega) (by omega))) (fun c c0 c1 c2 => by rw [e26, up_ne c2]; exact o c c0 c1 c2) (fun p p0 p1 => ?_) (fun p p0 p1 => ?_)
      · rw [e26]
        by_cases d : p = i
        · rw [d, up_same]
          exact (P1_step v1).resolve_right (by omega)
        · rw [up_oi d]
          exact h1 p p0 (by omega)
      · rw [e26, up_oi (by omega)]
        exact h2 p (by omega) p1
  intro M f o h
  refine l87 (n - 1) 1 M (by omega) (by omega) f o (fun p p0 p1 => ?_) (fun p p0 p1 => h p (by omega) p1)
  have ep : p = 0 := by omega
  subst ep
  rw [h 0 (by omega) (by omega)]
  exact ⟨⟨0, by omega, by omega, by omega⟩, fun a a0 a1 => by rw [show a = 0 by omega]; omega⟩
theorem c_needsTo {F : pM → Prop} {M : pM} {z r q : Int} {n : Nat} {L : List elt} (hz : ∀ n : Nat × Nat, shq S z = some (.inl n.1, n.2) → False) (lr : LadR z S M r n L) (ok : okL n L) (q0 : 0 ≤ q) (q1 : q < n) (k : ∀ M', frN M M' → pu_perm <+: S → (∀ j, 0 ≤ j → j < 201 → M' 29 j = 30 + j) → (∀ g : Int, 0 ≤ g → g ≤ L.length → ∀ p : Int, 0 ≤ p → p < n → M' (30 + g) p = ndd n q (L.drop g.toNat) p) → F M') : pNv true X mX0_needsTo 5 [pR 0, pR r, pI q] S M F := by
  have n2 : 2 ≤ n := by have := ok.1; omega
  have n7 : n ≤ 7 := by have := ok.2.1; omega
  have hl := ok.2.2.1
  refine eX0_needsTo (pw_perm (fun hp hc => bX0_needsTo_0 ⟨lr.w.1, l_size lr ?_⟩))
  have nr0 : ∀ j, 0 ≤ j → j < 201 → M 29 j = 30 + j := fun j a b => nd_ref hc a b
  have loop : ∀ (c : Nat) (g : Int) (M1 : pM), g + 1 = c → g ≤ L.length → frN M M1 → (∀ h : Int, g < h → h ≤ L.length → ∀ p : Int, 0 ≤ p → p < n → M1 (30 + h) p = ndd n q (L.drop h.toNat) p) → wX0_needsTo_8 X F r q L.length g S M1 := by
    intro c
    induction c with
    | zero =>
      intro g M1 p1 p2 f h
      exact bX0_needsTo_8 ⟨by constructor <;> omega, fun _ => k M1 f hp (by rw [f 29 (by decide)]; exact nr0) (fun g' g0 g1 => h g' (by omega) g1), fun y => by omega⟩
    | succ c ih =>
      intro g M1 p1 p2 f h
      have sh := nd_sh hp (a := 30 + g) (by omega) (by omega)
      have nr1 : ∀ j, 0 ≤ j → j < 201 → M1 29 j = 30 + j := by rw [f 29 (by decide)]; exact nr0
      have lr1 : LadR z S M1 r n L := lr.fr hz ⟨List.prefix_refl _, fun x p _ _ => f x (by omega)⟩
      refine bX0_needsTo_8 ⟨by constructor <;> omega, fun y => by omega, fun _ => ?_⟩
      have fill : ∀ (b : Int → Int), (∀ a : Int, 0 ≤ a → a < n → 0 ≤ b a ∧ b a ≤ 1000) → (∀ p v : Int, 0 ≤ p → p < n → isMn n b p v → v = ndd n q (L.drop g.toNat) p) → (∀ (i : Int) (M2 : pM), 0 ≤ i → i < n → frN M1 M2 → (∀ c, 30 ≤ c → c < 231 → c ≠ 30 + g → M2 c = M1 c) → (∀ M3, M3 = pu_up M2 (30 + g) i (b i) → wX0_needsTo_16 X F r q L.length g (i + 1) S M3) → wX0_needsTo_16 X F r q L.length g i S M2) → wX0_needsTo_16 X F r q L.length g 0 S M1 := by
        intro b hb hm hstep
        have l16 : ∀ (cc : Nat) (i : Int) (M2 : pM), i + cc = n → 0 ≤ i → frN M1 M2 → (∀ c, 30 ≤ c → c < 231 → c ≠ 30 + g → M2 c = M1 c) → (∀ p : Int, 0 ≤ p → p < i → M2 (30 + g) p = b p) → wX0_needsTo_16 X F r q L.length g i S M2 := by
          intro cc
          induction cc with
          | zero =>
            intro i M2 w1 w2 f2 o2 h2
            have lr2 : LadR z S M2 r n L := lr1.fr hz ⟨List.prefix_refl _, fun x p _ _ => f2 x (by omega)⟩
            refine bX0_needsTo_16 ?_
            rw [lr2.w.2.2.2.1]
            refine ⟨lr2.w.1, by constructor <;> omega, by constructor <;> omega, fun _ => ?_, fun y => by omega⟩
            refine c_gap (M0 := M1) (b := b) hp hz lr1 n2 n7 (by omega) (by omega) nr1 hb (fun M3 f3 o3 h3 => ih (g + -1) M3 (by omega) (by omega) (f.trans f3) (fun g' g0 g1 pp pp0 pp1 => ?_)) M2 f2 o2 (fun p p0 p1 => h2 p p0 (by omega))
            by_cases d : g' = g
            · subst d
              exact hm pp _ pp0 pp1 (h3 pp pp0 pp1)
            · rw [o3 (30 + g') (by omega) (by omega) (by omega)]
              exact h g' (by omega) g1 pp pp0 pp1
          | succ cc ihc =>
            intro i M2 w1 w2 f2 o2 h2
            refine hstep i M2 w2 (by omega) f2 o2 (fun M3 e3 => ihc (i + 1) M3 (by omega) (by omega) (f2.trans (by rw [e3]; exact frN_up (by omega) (by omega))) (fun c c0 c1 c2 => by rw [e3, up_ne c2]; exact o2 c c0 c1 c2) (fun p p0 p1 => ?_))
            rw [e3]
            by_cases d : p = i
            · rw [d, up_same]
            · rw [up_oi d]; exact h2 p p0 (by omega)
        exact l16 n 0 M1 (by omega) (by omega) (frN.refl _) (fun _ _ _ _ => rfl) (fun p p0 p1 => by omega)
      by_cases last : g = L.length
      · have dn : L.drop g.toNat = [] := by rw [last]; simp
        refine fill (fun a => if a = q then 0 else 1000) (fun a a0 a1 => by show 0 ≤ (if a = q then (0 : Int) else 1000) ∧ (if a = q then (0 : Int) else 1000) ≤ 1000; split <;> omega) (fun p v p0 p1' hv => by rw [dn]; exact ndd_mn0 n7 q0 q1 p0 p1' hv) (fun i M2 i0 i1 f2 o2 kk => ?_)
        have lr2 : LadR z S M2 r n L := lr1.fr hz ⟨List.prefix_refl _, fun x p _ _ => f2 x (by omega)⟩
        refine bX0_needsTo_16 ?_
        rw [lr2.w.2.2.2.1, f2 29 (by decide), nr1 g (by omega) (by omega)]
        refine ⟨lr2.w.1, by constructor <;> omega, by constructor <;> omega, fun y => by omega, fun _ => ⟨by omega, by omega, by constructor <;> omega, by constructor <;> omega, fun y => absurd last y, fun _ => ⟨by constructor <;> omega, by constructor <;> omega, fun y => bX0_needsTo_77 ⟨7, sh, nd_nc (by omega) (by omega), i0, by omega, fun M6 e6 => kk M6 ?_⟩, fun y => bX0_needsTo_77 ⟨7, sh, nd_nc (by omega) (by omega), i0, by omega, fun M6 e6 => kk M6 ?_⟩⟩⟩⟩
        · rw [e6]
          simp only [if_neg y]
        · rw [e6]
          simp only [if_pos y]
      · obtain ⟨e, s, hs⟩ : ∃ e s, L.drop g.toNat = e :: s := by
          cases hd : L.drop g.toNat with
          | nil => have := drop_nil hd (by omega); omega
          | cons e s => exact ⟨e, s, rfl⟩
        obtain ⟨u1, u2, u3⟩ := drop_cons hs (by omega)
        have he := ok.at (i := g) (by omega) u3
        rw [u1] at he
        have hmem : ∀ x ∈ e :: s, okE n x := fun x hx => ok.2.2.2.2 x (by
          have : x ∈ L.drop g.toNat := by rw [hs]; exact hx
          exact List.mem_of_mem_drop this)
        have bd := ndd_bd q0 q1 s (fun x hx => hmem x (List.mem_cons_of_mem _ hx))
        have tb : ∀ a : Int, 0 ≤ a → a < n → 0 ≤ tr e.2.1 a ∧ tr e.2.1 a < n := fun a a0 a1 => tr_rng he.1 (by have := he.2.1; omega) a0 a1
        refine fill (fun a => ndd n q s (tr e.2.1 a)) (fun a a0 a1 => by have := bd _ (tb a a0 a1).1 (tb a a0 a1).2; show 0 ≤ ndd n q s (tr e.2.1 a) ∧ ndd n q s (tr e.2.1 a) ≤ 1000; omega) (fun p v p0 p1' hv => by rw [hs]; exact isMn_uni hv (ndd_mn q0 q1 hmem p)) (fun i M2 i0 i1 f2 o2 kk => ?_)
        have lr2 : LadR z S M2 r n L := lr1.fr hz ⟨List.prefix_refl _, fun x p _ _ => f2 x (by omega)⟩
        have tbi := tb i i0 i1
        have bdi := bd _ tbi.1 tbi.2
        have sh1 := nd_sh hp (a := 30 + (g + 1)) (by omega) (by omega)
        refine bX0_needsTo_16 ?_
        rw [lr2.w.2.2.2.1, f2 29 (by decide), nr1 g (by omega) (by omega), nr1 (g + 1) (by omega) (by omega)]
        refine ⟨lr2.w.1, by constructor <;> omega, by constructor <;> omega, fun y => by omega, fun _ => ⟨by omega, by omega, by constructor <;> omega, by constructor <;> omega, fun _ => ⟨by omega, by omega, lr2.w.1, l_at lr2 (by omega) u3 (fun rr st => c_moved st (by rw [u1]; exact he) (by omega) i0 i1 ?_)⟩, fun y => absurd y last⟩⟩
        rw [u1, o2 (30 + (g + 1)) (by omega) (by omega) (by omega), h (g + 1) (by omega) (by omega) _ tbi.1 tbi.2, u2]
        exact ⟨7, sh1, tbi.1, by omega, bX0_needsTo_77 ⟨7, sh, nd_nc (by omega) (by omega), i0, by omega, fun M6 e6 => kk M6 e6⟩⟩
  exact loop (L.length + 1) L.length M (by omega) (Int.le_refl _) (frN.refl _) (fun h' h0 h1 => by omega)
theorem drop_ok {n : Int} {L : List elt} (ok : okL n L) (i : Nat) : ∀ x ∈ L.drop i, okE n x := fun x hx => ok.2.2.2.2 x (List.mem_of_mem_drop hx)
theorem c_drawnAt51 {F : Int → pM → Prop} {M : pM} {z r q i v : Int} {n : Nat} {L : List elt} (hp : pu_perm <+: S) (lr : LadR z S M r n L) (ok : okL n L) (q0 : 0 ≤ q) (q1 : q < n) (i0 : 0 ≤ i) (iv : i < v) (hv : v ≤ 7) (nr : ∀ j, 0 ≤ j → j < 201 → M 29 j = 30 + j) (hN : ∀ g : Int, 0 ≤ g → g ≤ L.length → ∀ p : Int, 0 ≤ p → p < n → M (30 + g) p = ndd n q (L.drop g.toNat) p) : ∀ (f : Nat) (g a d : Int), 0 ≤ g → g ≤ L.length → 0 ≤ a → a < n → 0 ≤ d → d ≤ i → ndd n q (L.drop g.toNat) a = v - d → (L.length - g) + (v - d) < f → F (dra n q i f (L.drop g.toNat) g a d) M → wX0_drawnAt_51 X F i r a d g S M := by
  have n7 : n ≤ 7 := by have := ok.2.1; omega
  have hl := ok.2.2.1
  intro f
  induction f with
  | zero => intro g a d g0 g1 a0 a1 d0 d1 hd hf; omega
  | succ f ih =>
    intro g a d g0 g1 a0 a1 d0 d1 hd hf k
    have sh := nd_sh hp (a := 30 + g) (by omega) (by omega)
    have bd := ndd_bd q0 q1 (L.drop g.toNat) (drop_ok ok _)
    have ba := bd a a0 a1
    have va := hN g g0 g1 a a0 a1
    rw [dra] at k
    have g174 : ¬ (0 < a ∧ ndd n q (L.drop g.toNat) (a - 1) = ndd n q (L.drop g.toNat) a - 1) → ¬ (a + 1 < n ∧ ndd n q (L.drop g.toNat) (a + 1) = ndd n q (L.drop g.toNat) a - 1) → wX0_drawnAt_174 X F i r a d g S M := by
      intro c1 c2
      rw [if_neg c1, if_neg c2] at k
      cases hdr : L.drop g.toNat with
      | nil =>
        exfalso
        rw [hdr] at c1 c2 hd
        rcases ndd_last q0 q1 a0 a1 (by omega) with w | w
        · exact c1 w
        · exact c2 w
      | cons e s =>
        obtain ⟨u1, u2, u3⟩ := drop_cons hdr g0
        have he := ok.at g0 u3
        rw [hdr] at k c1 c2 hd
        have dw := ndd_down q0 q1 (by rw [← hdr]; exact drop_ok ok _) a0 a1 c1 c2
        have tb := tr_rng (n := (n : Int)) (k := e.2.1) (x := a) (by rw [← u1]; exact he.1) (by rw [← u1]; have := he.2.1; omega) a0 a1
        refine bX0_drawnAt_174 ⟨lr.w.1, l_at lr g0 u3 (fun rr st => c_moved st he (by omega) a0 a1 ?_)⟩
        rw [u1]
        refine ih (g + 1) (tr e.2.1 a) d (by omega) (by omega) tb.1 tb.2 d0 d1 ?_ (by omega) ?_
        · rw [u2, dw, hd]
        · rw [u2]
          exact k
    have g110 : ¬ (0 < a ∧ ndd n q (L.drop g.toNat) (a - 1) = ndd n q (L.drop g.toNat) a - 1) → wX0_drawnAt_110 X F i r a d g S M := by
      intro c1
      refine bX0_drawnAt_110 ?_
      rw [lr.w.2.2.2.1, nr g g0 (by omega), va]
      refine ⟨lr.w.1, by constructor <;> omega, by constructor <;> omega, fun y => g174 c1 (fun w => by omega), fun y => ⟨g0, by omega, 7, sh, by omega, by omega, g0, by omega, 7, sh, a0, by omega, ?_⟩⟩
      have b2 := bd (a + 1) (by omega) y
      rw [hN g g0 g1 (a + 1) (by omega) y]
      refine ⟨by constructor <;> omega, by constructor <;> omega, fun w => g174 c1 (fun u => w u.2), fun w => ⟨by constructor <;> omega, by constructor <;> omega, fun u => ?_, fun u => ?_⟩⟩
      · rw [if_neg c1, if_pos ⟨y, w⟩, if_neg u] at k
        exact ih g (a + 1) (d + 1) g0 g1 (by omega) y (by omega) (by omega) (by omega) (by omega) k
      · rw [if_neg c1, if_pos ⟨y, w⟩, if_pos u] at k
        exact k
    refine bX0_drawnAt_51 ?_
    rw [nr g g0 (by omega), va]
    refine ⟨by constructor <;> omega, fun y => g110 (fun w => by omega), fun y => ⟨g0, by omega, 7, sh, by omega, by omega, g0, by omega, 7, sh, a0, by omega, ?_⟩⟩
    have b2 := bd (a - 1) (by omega) (by omega)
    rw [hN g g0 g1 (a - 1) (by omega) (by omega)]
    refine ⟨by constructor <;> omega, by constructor <;> omega, fun w => g110 (fun u => w u.2), fun w => ⟨by constructor <;> omega, by constructor <;> omega, fun u => ?_, fun u => ?_⟩⟩
    · rw [if_pos ⟨y, w⟩, if_neg u] at k
      exact ih g (a + -1) (d + 1) g0 g1 (by omega) (by omega) (by omega) (by omega) (by rw [show a + -1 = a - 1 by omega]; omega) (by omega) (by rw [show a + -1 = a - 1 by omega]; exact k)
    · rw [if_pos ⟨y, w⟩, if_pos u] at k
      exact k
end
section
variable {X : px} {S : List psh} {M : pM} {σ : sgm}
theorem c_drawn {F : Int → pM → Prop} {t x l : Int} (ht : inR t) (hx : inR x) (hl : inR l) (cp : CP S M σ) (k1 : ∀ N : Nat, drC σ t x l → pln (lad σ.1 t).2 = 1 → (lad σ.1 t).1 = N → ∀ M', frN M M' → pu_perm <+: S → (∀ j, 0 ≤ j → j < 201 → M' 29 j = 30 + j) → (∀ g : Int, 0 ≤ g → g ≤ (lad σ.1 t).2.length → ∀ p : Int, 0 ≤ p → p < N → M' (30 + g) p = ndd N l ((lad σ.1 t).2.drop g.toNat) p) → F (ndd N l (lad σ.1 t).2 x) M') (k2 : drC σ t x l → pln (lad σ.1 t).2 ≠ 1 → F (-2) M) (k0 : ¬ drC σ t x l → F (-1) M) : pNi true X mX0_drawn 6 [pR 0, pI t, pI x, pI l] S M F := by
  refine eX0_drawn (bX0_drawn_0 (c_isNumber ht hx cp.2.1 (fun a b x0 x1 => ⟨by constructor <;> decide, fun z => by omega, fun _ => ?_⟩) (fun h => ⟨by constructor <;> decide, fun _ => k0 (fun z => h ⟨z.1, z.2.1, z.2.2.1, z.2.2.2.1⟩), fun z => by omega⟩)))
  refine c_isNumber ht hl cp.2.1 (fun _ _ l0 l1 => ⟨by constructor <;> decide, fun _ => c_get cp.2.1 a b (fun r lr ok hs => ⟨hs, hs, l_isPlain lr ok ?_⟩), fun z => by omega⟩) (fun h => ⟨by constructor <;> decide, fun z => by omega, fun _ => k0 (fun z => h ⟨a, b, z.2.2.2.2⟩)⟩)
  have pi := (pln_iff (lad σ.1 t).2).1
  have dc : drC σ t x l := ⟨a, b, x0, x1, l0, l1⟩
  obtain ⟨N, e, h2, h7⟩ := ok.nat
  refine ⟨by constructor <;> omega, fun z => ?_, fun z => k2 dc (by omega)⟩
  rw [e] at lr ok
  refine c_needsTo cp.2.1.z lr ok l0 (by omega) (fun M' f' hp nr hN => ?_)
  rw [nr 0 (by omega) (by omega)]
  have v0 := hN 0 (by omega) (by omega) x x0 (by omega)
  refine ⟨7, nd_sh hp (by omega) (by omega), x0, by omega, ?_⟩
  rw [v0]
  exact k1 N dc (by omega) e M' f' hp nr hN
theorem c_drawn_op {F : Int → pM → Prop} {t x l : Int} (ht : inR t) (hx : inR x) (hl : inR l) (cp : CP S M σ) (k : ∀ M', frC M M' → SC M' → F (q_drawn σ t x l) M') : pNi true X mX0_drawn 6 [pR 0, pI t, pI x, pI l] S M F := by
  refine c_drawn ht hx hl cp (fun N dc hp1 e M' f' _ _ _ => ?_) (fun dc np => ?_) (fun nd => ?_)
  · have := k M' f'.C (f'.SC cp.1)
    unfold q_drawn at this
    rw [if_pos dc, if_pos hp1, e, Int.toNat_natCast] at this
    exact this
  · have := k M (frC.refl _) cp.1
    unfold q_drawn at this
    rw [if_pos dc, if_neg np] at this
    exact this
  · have := k M (frC.refl _) cp.1
    unfold q_drawn at this
    rw [if_neg nd] at this
    exact this
theorem c_drawnAt_op {F : Int → pM → Prop} {t x l i : Int} (ht : inR t) (hx : inR x) (hl : inR l) (hi : inR i) (cp : CP S M σ) (k : ∀ M', frC M M' → SC M' → F (q_drawnAt σ t x l i) M') : pNi true X mX0_drawnAt 7 [pR 0, pI t, pI x, pI l, pI i] S M F := by
  refine eX0_drawnAt (bX0_drawnAt_0 (c_drawn ht hx hl cp (fun N dc hp1 e M' f' hp nr hN => ?_) (fun dc np => ⟨by constructor <;> decide, fun _ => ?_, fun z => by omega⟩) (fun nd => ⟨by constructor <;> decide, fun _ => ?_, fun z => by omega⟩)))
  · obtain ⟨a, b, x0, x1, l0, l1⟩ := dc
    have ok := cp.2.1.ok a b
    rw [e] at ok
    have n7 : N ≤ 7 := by have := ok.2.1; omega
    have bd := ndd_bd (n := N) l0 (by omega) (lad σ.1 t).2 ok.2.2.2.2 x x0 (by omega)
    have kk := k M' f'.C (f'.SC cp.1)
    unfold q_drawnAt at kk
    rw [e, Int.toNat_natCast] at kk
    refine ⟨by constructor <;> omega, fun z => by omega, fun _ => c_within hi (by constructor <;> decide) (by constructor <;> omega) (fun i0 i1 => ⟨by constructor <;> decide, fun _ => ?_, fun z => by omega⟩) (fun h => ⟨by constructor <;> decide, fun z => by omega, fun _ => ?_⟩)⟩
    · rw [if_pos ⟨⟨a, b, x0, by omega, l0, by omega⟩, hp1, i0, by omega⟩] at kk
      have ch' := cp.2.1.frC f'.C
      refine c_get ch' a b (fun r lr _ hs => ⟨hs, ?_⟩)
      rw [e] at lr
      exact c_drawnAt51 (v := ndd N l (lad σ.1 t).2 x) hp lr ok l0 (by omega) i0 (by omega) (by omega) nr hN 300 0 x 0 (by omega) (by omega) x0 (by omega) (by omega) i0 (by rw [show (0 : Int).toNat = 0 from rfl, List.drop_zero]; omega) (by have := ok.2.2.1; omega) kk
    · rw [if_neg (fun z => by have := z.2.2; omega)] at kk
      exact kk
  · have := k M (frC.refl _) cp.1
    unfold q_drawnAt at this
    rw [if_neg (fun z => np z.2.1)] at this
    exact this
  · have := k M (frC.refl _) cp.1
    unfold q_drawnAt at this
    rw [if_neg (fun z => nd z.1)] at this
    exact this
end
