/-! ===== drawn, drawnAt: the twin ===== -/
set_option maxRecDepth 100000
def frD (M M' : pM) : Prop := ∀ x, x ≠ 283 → M' x = M x
theorem frD.T {M M' : pM} (a : frD M M') : frT M M' := ⟨fun x h => a x (by omega), fun j _ => by rw [a 241 (by decide)]⟩
theorem frD.TT {M M' : pM} (a : frD M M') (t : TT M) : TT M' := by
  rcases t with z | ⟨n, z1, z2, z3⟩
  · exact Or.inl (by rw [a 241 (by decide)]; exact z)
  · exact Or.inr ⟨n, z1, z2, z3.fr (by rw [a 241 (by decide)]) (by rw [a 241 (by decide)]) (fun x p q => a x (by omega))⟩
section
variable {X : px} {S : List psh} {σ : sgm}
theorem tw_beside {F : Int → pM → Prop} {M : pM} {x g n : Int} (g0 : 0 ≤ g) (g1 : g + 2 ≤ n) (hn : n ≤ 7) (x0 : 0 ≤ x) (x1 : x < n) (k : F (tr g x) M) : pNi true X mX6_beside 1 [pI x, pI g] S M F := by
  unfold tr at k
  refine eX6_beside (bX6_beside_0 ⟨by constructor <;> omega, by constructor <;> omega, fun a => ⟨by constructor <;> omega, by constructor <;> omega, fun b => ?_, fun b => ?_⟩, fun a => ?_⟩)
  · rw [if_neg a, if_neg b] at k; exact k
  · rw [if_neg a, if_pos b] at k; exact k
  · rw [if_pos a] at k; exact k
theorem tw_needs {F : pM → Prop} {M : pM} {t q : Int} {N : Nat} (th : THl M σ.1) (ok : okS σ) (a : 0 ≤ t) (b : t < σ.1.length) (e : (lad σ.1 t).1 = N) (q0 : 0 ≤ q) (q1 : q < N) (k : ∀ M', frD M M' → (∀ g : Int, 0 ≤ g → g ≤ (lad σ.1 t).2.length → ∀ p : Int, 0 ≤ p → p < N → M' 283 (7 * g + p) = ndd N q ((lad σ.1 t).2.drop g.toNat) p) → F M') : pNv true X mX6_needs 2 [pR 241, pI t, pI q] S M F := by
  have okl := ok.at a b
  rw [e] at okl
  have h6 := ok.tl b
  have n2 : 2 ≤ N := by have := okl.1; omega
  have n7 : N ≤ 7 := by have := okl.2.1; omega
  have hl := okl.2.2.1
  obtain ⟨u1, u2, u3⟩ := th.2 t a b
  refine eX6_needs (bX6_needs_0 ⟨a, h6, a, h6, ?_⟩)
  rw [u1, u2, e]
  have loop : ∀ (c : Nat) (g : Int) (M1 : pM), g + 1 = c → g ≤ (lad σ.1 t).2.length → frD M M1 → (∀ h : Int, g < h → h ≤ (lad σ.1 t).2.length → ∀ p : Int, 0 ≤ p → p < N → M1 283 (7 * h + p) = ndd N q ((lad σ.1 t).2.drop h.toNat) p) → wX6_needs_15 X F t q N g S M1 := by
    intro c
    induction c with
    | zero =>
      intro g M1 p1 p2 f h
      exact bX6_needs_15 ⟨by constructor <;> omega, fun _ => k M1 f (fun g' g0 g1 => h g' (by omega) g1), fun y => by omega⟩
    | succ c ih =>
      intro g M1 p1 p2 f h
      refine bX6_needs_15 ⟨by constructor <;> omega, fun y => by omega, fun _ => ?_⟩
      have l23 : ∀ (cc : Nat) (p : Int) (M2 : pM), p + cc = N → 0 ≤ p → frD M M2 → (∀ h : Int, g < h → h ≤ (lad σ.1 t).2.length → ∀ p : Int, 0 ≤ p → p < N → M2 283 (7 * h + p) = ndd N q ((lad σ.1 t).2.drop h.toNat) p) → (∀ p' : Int, 0 ≤ p' → p' < p → M2 283 (7 * g + p') = ndd N q ((lad σ.1 t).2.drop g.toNat) p') → wX6_needs_23 X F t q N g p S M2 := by
        intro cc
        induction cc with
        | zero =>
          intro p M2 w1 w2 f2 h2 hp
          refine bX6_needs_23 ⟨by constructor <;> omega, by constructor <;> omega, fun _ => ih (g + -1) M2 (by omega) (by omega) f2 (fun h' h0 h1 pp pp0 pp1 => ?_), fun y => by omega⟩
          by_cases d : h' = g
          · subst d
            exact hp pp pp0 (by omega)
          · exact h2 h' (by omega) h1 pp pp0 pp1
        | succ cc ihc =>
          intro p M2 w1 w2 f2 h2 hp
          have fin : wX6_needs_35 X F t q N g p (ndd N q ((lad σ.1 t).2.drop g.toNat) p) N S M2 := by
            refine bX6_needs_35 ⟨by constructor <;> omega, by constructor <;> omega, fun _ => ⟨by omega, by omega, fun M5 e5 => ihc (p + 1) M5 (by omega) (by omega) (fun x hx => by rw [e5, up_ne hx]; exact f2 x hx) (fun h' h0 h1 pp pp0 pp1 => ?_) (fun pp pp0 pp1 => ?_)⟩, fun y => by omega⟩
            · rw [e5, up_oi (by omega)]
              exact h2 h' h0 h1 pp pp0 pp1
            · rw [e5]
              by_cases d : pp = p
              · rw [d, up_same]
              · rw [up_oi (by omega)]
                exact hp pp pp0 (by omega)
          have pb : ∀ x : Int, 0 ≤ x → x < N → 0 ≤ apt p x ∧ apt p x ≤ 6 := fun x x0 x1 => by unfold apt; split <;> omega
          refine bX6_needs_23 ⟨by constructor <;> omega, by constructor <;> omega, fun y => by omega, fun _ => ?_⟩
          by_cases last : g = (lad σ.1 t).2.length
          · have dn : (lad σ.1 t).2.drop g.toNat = [] := by rw [last]; simp
            rw [dn, ndd] at fin
            have l35 : ∀ (m : Nat) (x : Int), x + m = N → 0 ≤ x → wX6_needs_35 X F t q N g p (if q < x then apt p q else -1) x S M2 := by
              intro m
              induction m with
              | zero =>
                intro x y1 y2
                rw [if_pos (by omega), show x = N by omega]
                exact fin
              | succ m ihm =>
                intro x y1 y2
                have nx := ihm (x + 1) (by omega) (by omega)
                have pq := pb q q0 q1
                refine bX6_needs_35 ?_
                rw [f2 243 (by decide), u2]
                refine ⟨by constructor <;> omega, by constructor <;> omega, fun y => by omega, fun _ => ⟨a, h6, by constructor <;> omega, by constructor <;> omega, fun y => absurd last y, fun _ => ⟨by constructor <;> omega, by constructor <;> omega, fun y => ?_, fun y => ?_⟩⟩⟩
                · refine bX6_needs_98 ⟨by constructor <;> decide, fun z => by omega, fun _ => bX6_needs_136 ?_⟩
                  by_cases d : q < x
                  · rw [if_pos d]
                    rw [if_pos (by omega)] at nx
                    exact nx
                  · rw [if_neg d]
                    rw [if_neg (by omega)] at nx
                    exact nx
                · refine bX6_needs_98 ⟨by constructor <;> decide, fun _ => tw_apart (by constructor <;> omega) (by constructor <;> omega) ?_, fun z => by omega⟩
                  rw [if_neg (by omega)]
                  rw [if_pos (by omega)] at nx
                  refine ⟨by constructor <;> decide, fun _ => bX6_needs_132 (bX6_needs_136 ?_), fun z => by omega⟩
                  rw [Int.zero_add, y]
                  rw [y] at nx
                  exact nx
            have := l35 N 0 (by omega) (by omega)
            rw [if_neg (by omega)] at this
            exact this
          · obtain ⟨el', s, hs⟩ : ∃ e s, (lad σ.1 t).2.drop g.toNat = e :: s := by
              cases hd : (lad σ.1 t).2.drop g.toNat with
              | nil => have := drop_nil hd (by omega); omega
              | cons e s => exact ⟨e, s, rfl⟩
            obtain ⟨v1, v2, v3⟩ := drop_cons hs (by omega)
            have he := okl.at (i := g) (by omega) v3
            have lgv := (u3 g (by omega) v3).2.1
            rw [v1] at he lgv
            have hmem : ∀ x ∈ el' :: s, okE N x := fun x hx => okl.2.2.2.2 x (by
              have : x ∈ (lad σ.1 t).2.drop g.toNat := by rw [hs]; exact hx
              exact List.mem_of_mem_drop this)
            have bd := ndd_bd q0 q1 s (fun x hx => hmem x (List.mem_cons_of_mem _ hx))
            have tb : ∀ x : Int, 0 ≤ x → x < N → 0 ≤ tr el'.2.1 x ∧ tr el'.2.1 x < N := fun x x0 x1 => tr_rng he.1 (by have := he.2.1; omega) x0 x1
            rw [hs, ndd] at fin
            have l35 : ∀ (m x : Nat), (x : Int) + m = N → wX6_needs_35 X F t q N g p (mnr (fun x => ndd N q s (tr el'.2.1 x)) p x) x S M2 := by
              intro m
              induction m with
              | zero =>
                intro x y1
                rw [show x = N by omega]
                exact fin
              | succ m ihm =>
                intro x y1
                have nx := ihm (x + 1) (by omega)
                rw [mnr, Int.natCast_succ] at nx
                have tbx := tb x (by omega) (by omega)
                have bdx := bd _ tbx.1 tbx.2
                have ax := pb x (by omega) (by omega)
                have mb' : -1 ≤ mnr (fun x => ndd N q s (tr el'.2.1 x)) p x ∧ mnr (fun x => ndd N q s (tr el'.2.1 x)) p x ≤ 100 := by
                  by_cases x0 : x = 0
                  · subst x0
                    rw [mnr]
                    omega
                  · obtain ⟨⟨w, w0, w1', w2⟩, _⟩ := mnr_ok (f := fun x => ndd N q s (tr el'.2.1 x)) (p := p) x (fun c c0 c1 => (bd _ (tb c c0 (by omega)).1 (tb c c0 (by omega)).2).1) (by omega)
                    have := bd _ (tb w w0 (by omega)).1 (tb w w0 (by omega)).2
                    have := pb w w0 (by omega)
                    simp only [] at w2
                    omega
                refine bX6_needs_35 ?_
                rw [f2 243 (by decide), u2, f2 245 (by decide), lgv]
                refine ⟨by constructor <;> omega, by constructor <;> omega, fun y => by omega, fun _ => ⟨a, h6, by constructor <;> omega, by constructor <;> omega, fun _ => ⟨by omega, by omega, tw_beside he.1 he.2.1 (by omega) (by omega) (by omega) ?_⟩, fun y => absurd y last⟩⟩
                have val := h2 (g + 1) (by omega) (by omega) _ tbx.1 tbx.2
                rw [v2] at val
                rw [show 7 * g + 7 + tr el'.2.1 (x : Int) = 7 * (g + 1) + tr el'.2.1 (x : Int) by omega, val]
                refine ⟨by omega, by omega, bX6_needs_98 ⟨by constructor <;> omega, fun _ => tw_apart (by constructor <;> omega) (by constructor <;> omega) ⟨by constructor <;> omega, fun z => bX6_needs_132 (bX6_needs_136 ?_), fun z => ⟨by constructor <;> omega, by constructor <;> omega, fun y => bX6_needs_136 ?_, fun y => bX6_needs_132 (bX6_needs_136 ?_)⟩⟩, fun z => by omega⟩⟩
                · rw [if_pos (Or.inl z)] at nx
                  exact nx
                · rw [if_neg (by omega)] at nx
                  exact nx
                · rw [if_pos (Or.inr y)] at nx
                  exact nx
            exact l35 N 0 (by omega)
      exact l23 N 0 M1 (by omega) (by omega) f h (fun p' p0 p1 => by omega)
  exact loop ((lad σ.1 t).2.length + 1) (lad σ.1 t).2.length M (by omega) (Int.le_refl _) (fun _ _ => rfl) (fun h' h0 h1 => by omega)
theorem tw_drawn {F : Int → pM → Prop} {M : pM} {t x l : Int} (ht : inR t) (hx : inR x) (hl : inR l) (ti : TI M σ) (ok : okS σ) (k1 : ∀ N : Nat, drC σ t x l → pln (lad σ.1 t).2 = 1 → (lad σ.1 t).1 = N → ∀ M', frD M M' → (∀ g : Int, 0 ≤ g → g ≤ (lad σ.1 t).2.length → ∀ p : Int, 0 ≤ p → p < N → M' 283 (7 * g + p) = ndd N l ((lad σ.1 t).2.drop g.toNat) p) → F (ndd N l (lad σ.1 t).2 x) M') (k2 : drC σ t x l → pln (lad σ.1 t).2 ≠ 1 → F (-2) M) (k0 : ¬ drC σ t x l → F (-1) M) : pNi true X mX6_drawn 3 [pR 241, pI t, pI x, pI l] S M F := by
  refine eX6_drawn (bX6_drawn_0 (tw_isLadder ht ti.2.1 ok (fun a b => ⟨by constructor <;> decide, fun z => by omega, fun _ => ?_⟩) (fun h => ⟨by constructor <;> decide, fun _ => k0 (fun z => h ⟨z.1, z.2.1⟩), fun z => by omega⟩)))
  refine tw_isNumber ti.2.1 ok a b hx (fun x0 x1 => ⟨by constructor <;> decide, fun z => by omega, fun _ => ?_⟩) (fun h => ⟨by constructor <;> decide, fun _ => k0 (fun z => h ⟨z.2.2.1, z.2.2.2.1⟩), fun z => by omega⟩)
  refine tw_isNumber ti.2.1 ok a b hl (fun l0 l1 => ⟨by constructor <;> decide, fun _ => tw_isPlain ti.2.1 ok a b ?_, fun z => by omega⟩) (fun h => ⟨by constructor <;> decide, fun z => by omega, fun _ => k0 (fun z => h z.2.2.2.2)⟩)
  have pi := (pln_iff (lad σ.1 t).2).1
  have dc : drC σ t x l := ⟨a, b, x0, x1, l0, l1⟩
  have okl := ok.at a b
  obtain ⟨N, e, h2, h7⟩ := okl.nat
  refine ⟨by constructor <;> omega, fun z => tw_needs ti.2.1 ok a b e l0 (by omega) (fun M' f' hN => ⟨x0, by omega, ?_⟩), fun z => k2 dc (by omega)⟩
  have v0 := hN 0 (by omega) (by omega) x x0 (by omega)
  rw [show 7 * (0 : Int) + x = x by omega] at v0
  rw [v0]
  exact k1 N dc (by omega) e M' f' hN
theorem tw_drawn_op {F : Int → pM → Prop} {M : pM} {t x l : Int} (ht : inR t) (hx : inR x) (hl : inR l) (ti : TI M σ) (ok : okS σ) (k : ∀ M', frT M M' → TT M' → F (q_drawn σ t x l) M') : pNi true X mX6_drawn 3 [pR 241, pI t, pI x, pI l] S M F := by
  refine tw_drawn ht hx hl ti ok (fun N dc hp1 e M' f' _ => ?_) (fun dc np => ?_) (fun nd => ?_)
  · have := k M' f'.T (f'.TT ti.1)
    unfold q_drawn at this
    rw [if_pos dc, if_pos hp1, e, Int.toNat_natCast] at this
    exact this
  · have := k M (frT.refl _) ti.1
    unfold q_drawn at this
    rw [if_pos dc, if_neg np] at this
    exact this
  · have := k M (frT.refl _) ti.1
    unfold q_drawn at this
    rw [if_neg nd] at this
    exact this
theorem tw_drawnAt59 {F : Int → pM → Prop} {M : pM} {t q i v : Int} {n : Nat} (th : THl M σ.1) (ok : okS σ) (a' : 0 ≤ t) (b' : t < σ.1.length) (e' : (lad σ.1 t).1 = n) (q0 : 0 ≤ q) (q1 : q < n) (i0 : 0 ≤ i) (iv : i < v) (hv : v ≤ 7) (hN : ∀ g : Int, 0 ≤ g → g ≤ (lad σ.1 t).2.length → ∀ p : Int, 0 ≤ p → p < n → M 283 (7 * g + p) = ndd n q ((lad σ.1 t).2.drop g.toNat) p) : ∀ (f : Nat) (g a d told : Int), 0 ≤ g → g ≤ (lad σ.1 t).2.length → 0 ≤ a → a < n → 0 ≤ d → d ≤ i → ndd n q ((lad σ.1 t).2.drop g.toNat) a = v - d → ((lad σ.1 t).2.length - g) + (v - d) < f → F (dra n q i f ((lad σ.1 t).2.drop g.toNat) g a d) M → wX6_drawnAt_59 X F t i v g a told d (v - d - 1) 0 S M := by
  have okl := ok.at a' b'
  rw [e'] at okl
  have n7 : n ≤ 7 := by have := okl.2.1; omega
  have hl := okl.2.2.1
  have h6 := ok.tl b'
  obtain ⟨u1, u2, u3⟩ := th.2 t a' b'
  intro f
  induction f with
  | zero => intro g a d told g0 g1 a0 a1 d0 d1 hd hf; omega
  | succ f ih =>
    intro g a d told g0 g1 a0 a1 d0 d1 hd hf k
    have bd := ndd_bd q0 q1 ((lad σ.1 t).2.drop g.toNat) (drop_ok okl _)
    have ba := bd a a0 a1
    rw [dra] at k
    have done : ∀ g2 a2 told2 : Int, 0 ≤ g2 → g2 ≤ (lad σ.1 t).2.length → 0 ≤ a2 → a2 < (n : Int) → ndd n q ((lad σ.1 t).2.drop g2.toNat) a2 = v - (d + 1) → ((lad σ.1 t).2.length - g2) + (v - (d + 1)) < f → (d = i → F told2 M) → (d ≠ i → F (dra n q i f ((lad σ.1 t).2.drop g2.toNat) g2 a2 (d + 1)) M) → wX6_drawnAt_59 X F t i v g2 a2 told2 d (v - d - 1) 1 S M := by
      intro g2 a2 told2 w0 w1 w2 w3 w4 w5 k1 k2
      refine bX6_drawnAt_59 ⟨by constructor <;> decide, fun _ => bX6_drawnAt_40 ⟨by constructor <;> omega, by constructor <;> omega, fun y => k1 (by omega), fun y => ?_⟩, fun z => by omega⟩
      exact ih g2 a2 (d + 1) told2 w0 w1 w2 w3 (by omega) (by omega) w4 w5 (k2 (by omega))
    have g168 : ¬ (0 < a ∧ ndd n q ((lad σ.1 t).2.drop g.toNat) (a - 1) = ndd n q ((lad σ.1 t).2.drop g.toNat) a - 1) → ¬ (a + 1 < n ∧ ndd n q ((lad σ.1 t).2.drop g.toNat) (a + 1) = ndd n q ((lad σ.1 t).2.drop g.toNat) a - 1) → wX6_drawnAt_168 X F t i v g a told d (v - d - 1) 0 S M := by
      intro c1 c2
      rw [if_neg c1, if_neg c2] at k
      cases hdr : (lad σ.1 t).2.drop g.toNat with
      | nil =>
        exfalso
        rw [hdr] at c1 c2 hd
        rcases ndd_last q0 q1 a0 a1 (by omega) with w | w
        · exact c1 w
        · exact c2 w
      | cons e s =>
        obtain ⟨v1, v2, v3⟩ := drop_cons hdr g0
        have he := okl.at g0 v3
        have lgv := (u3 g g0 v3).2.1
        rw [v1] at he lgv
        rw [hdr] at k c1 c2 hd
        have dw := ndd_down q0 q1 (by rw [← hdr]; exact drop_ok okl _) a0 a1 c1 c2
        have tb := tr_rng (n := (n : Int)) (k := e.2.1) (x := a) he.1 (by have := he.2.1; omega) a0 a1
        refine bX6_drawnAt_168 ?_
        rw [lgv]
        refine ⟨by omega, by omega, tw_beside he.1 he.2.1 (by omega) a0 a1 ?_⟩
        refine ih (g + 1) (tr e.2.1 a) d told (by omega) (by omega) tb.1 tb.2 d0 d1 ?_ (by omega) ?_
        · rw [v2, dw, hd]
        · rw [v2]
          exact k
    have g113 : ¬ (0 < a ∧ ndd n q ((lad σ.1 t).2.drop g.toNat) (a - 1) = ndd n q ((lad σ.1 t).2.drop g.toNat) a - 1) → wX6_drawnAt_113 X F t i v g a told d (v - d - 1) 0 S M := by
      intro c1
      refine bX6_drawnAt_113 ?_
      rw [u1, e']
      refine ⟨a', h6, by constructor <;> omega, by constructor <;> omega, fun y => g168 c1 (fun w => by omega), fun y => ?_⟩
      have b2 := bd (a + 1) (by omega) (by omega)
      rw [show 7 * g + a + 1 = 7 * g + (a + 1) by omega, hN g g0 g1 (a + 1) (by omega) (by omega)]
      refine ⟨by omega, by omega, by constructor <;> omega, by constructor <;> omega, fun w => g168 c1 (fun u => w (by omega)), fun w => ?_⟩
      rw [if_neg c1, if_pos ⟨by omega, by omega⟩] at k
      exact done g (a + 1) _ g0 g1 (by omega) (by omega) (by omega) (by omega) (fun u => by rw [if_pos u] at k; exact k) (fun u => by rw [if_neg u] at k; exact k)
    refine bX6_drawnAt_59 ⟨by constructor <;> decide, fun z => absurd rfl z, fun _ => ⟨by constructor <;> omega, fun y => g113 (fun w => by omega), fun y => ?_⟩⟩
    have b2 := bd (a - 1) (by omega) (by omega)
    rw [show 7 * g + a - 1 = 7 * g + (a - 1) by omega, hN g g0 g1 (a - 1) (by omega) (by omega)]
    refine ⟨by omega, by omega, by constructor <;> omega, by constructor <;> omega, fun w => g113 (fun u => w (by omega)), fun w => ?_⟩
    rw [if_pos ⟨y, by omega⟩] at k
    exact done g (a - 1) _ g0 g1 (by omega) (by omega) (by omega) (by omega) (fun u => by rw [if_pos u] at k; exact k) (fun u => by rw [if_neg u] at k; exact k)
theorem tw_drawnAt_op {F : Int → pM → Prop} {M : pM} {t x l i : Int} (ht : inR t) (hx : inR x) (hl : inR l) (hi : inR i) (ti : TI M σ) (ok : okS σ) (k : ∀ M', frT M M' → TT M' → F (q_drawnAt σ t x l i) M') : pNi true X mX6_drawnAt 4 [pR 241, pI t, pI x, pI l, pI i] S M F := by
  refine eX6_drawnAt (bX6_drawnAt_0 (tw_drawn ht hx hl ti ok (fun N dc hp1 e M' f' hN => ?_) (fun dc np => ⟨by constructor <;> decide, fun _ => ?_, fun z => by omega⟩) (fun nd => ⟨by constructor <;> decide, fun _ => ?_, fun z => by omega⟩)))
  · obtain ⟨a, b, x0, x1, l0, l1⟩ := dc
    have okl := ok.at a b
    rw [e] at okl
    have n7 : N ≤ 7 := by have := okl.2.1; omega
    have bd := ndd_bd (n := N) l0 (by omega) (lad σ.1 t).2 okl.2.2.2.2 x x0 (by omega)
    have kk := k M' f'.T (f'.TT ti.1)
    unfold q_drawnAt at kk
    rw [e, Int.toNat_natCast] at kk
    refine ⟨by constructor <;> omega, fun z => by omega, fun _ => ⟨hi, fun z => ?_, fun i0 => ⟨hi, by constructor <;> omega, fun i1 => ?_, fun z => ?_⟩⟩⟩
    · rw [if_neg (fun z => by have := z.2.2; omega)] at kk
      exact kk
    · rw [if_pos ⟨⟨a, b, x0, by omega, l0, by omega⟩, hp1, i0, by omega⟩] at kk
      refine bX6_drawnAt_40 ⟨by constructor <;> decide, hi, fun z => by omega, fun _ => ?_⟩
      have := tw_drawnAt59 (X := X) (S := S) (F := F) (v := ndd N l (lad σ.1 t).2 x) (i := i) (q := l) (ti.2.1.fr f'.T) ok a b e l0 (by omega) i0 i1 (by omega) hN 300 0 x 0 (-1) (by omega) (by omega) x0 (by omega) (by omega) i0 (by rw [show (0 : Int).toNat = 0 from rfl, List.drop_zero]; omega) (by have := okl.2.2.1; omega) kk
      exact this
    · rw [if_neg (fun z => by have := z.2.2; omega)] at kk
      exact kk
  · have := k M (frT.refl _) ti.1
    unfold q_drawnAt at this
    rw [if_neg (fun z => np z.2.1)] at this
    exact this
  · have := k M (frT.refl _) ti.1
    unfold q_drawnAt at this
    rw [if_neg (fun z => nd z.1)] at this
    exact this
end
