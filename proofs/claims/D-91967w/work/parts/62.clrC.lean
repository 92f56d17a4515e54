/-! ===== cleared, kept: the component ===== -/
set_option maxRecDepth 100000
def rel7 (M : pM) (cr cc : Int) (h : Int → Int) (ca : Int → Int → Int) (i : Int) : Prop := (∀ k, 0 ≤ k → k < 7 → M cr k = h k ∧ 0 ≤ h k ∧ h k < 7) ∧ ∀ a b, 0 ≤ a → a < 7 → 0 ≤ b → b < 7 → M cc (7 * a + b) = ca a b ∧ 0 ≤ ca a b ∧ ca a b ≤ i
theorem tr_rng {k x n : Int} (h1 : 0 ≤ k) (h2 : k + 1 < n) (h3 : 0 ≤ x) (h4 : x < n) : 0 ≤ tr k x ∧ tr k x < n := by unfold tr; split <;> (try split) <;> omega
section
variable {X : px} {S : List psh}
theorem c_und48 {F : Int → pM → Prop} {M0 : pM} {z r n : Int} {L : List elt} (hz : ∀ n : Nat × Nat, shq S z = some (.inl n.1, n.2) → False) (lr : LadR z S M0 r n L) (ok : okL n L) (hb : ∀ j : Int, 0 ≤ j → j < L.length → M0 20 j = 0 ∨ M0 20 j = 1) : ∀ (m : Nat) (i : Int) (h : Int → Int) (ca : Int → Int → Int) (M : pM), i + m = L.length → 0 ≤ i → (∀ x, x ≠ 21 → x ≠ 22 → M x = M0 x) → rel7 M 21 22 h ca i → (fnd L (lft (M0 20) i m) h ca = none → ∀ M', (∀ x, x ≠ 21 → x ≠ 22 → M' x = M0 x) → F 0 M') → (∀ e j, fnd L (lft (M0 20) i m) h ca = some (e, j) → ∀ M', (∀ x, x ≠ 20 → x ≠ 21 → x ≠ 22 → M' x = M0 x) → M' 20 = pu_up (pu_up M0 20 e 1) 20 j 1 20 → F 1 M') → wX0_undoes_48 X F r i S M := by
  have hl := ok.2.2.1
  have hn := ok.2.1
  intro m
  induction m with
  | zero =>
    intro i h ca M q1 q2 fr rl k0 k1
    have lm : LadR z S M r n L := lr.fr hz ⟨List.prefix_refl _, fun x p _ _ => fr x (by omega) (by omega)⟩
    exact bX0_undoes_48 ⟨lm.w.1, l_size lm ⟨by constructor <;> omega, by constructor <;> omega, fun _ => k0 rfl M fr, fun z => by omega⟩⟩
  | succ m ih =>
    intro i h ca M q1 q2 fr rl k0 k1
    have lm : LadR z S M r n L := lr.fr hz ⟨List.prefix_refl _, fun x p _ _ => fr x (by omega) (by omega)⟩
    have e20 := fr 20 (by decide) (by decide)
    have hbi := hb i q2 (by omega)
    refine bX0_undoes_48 ⟨lm.w.1, l_size lm ⟨by constructor <;> omega, by constructor <;> omega, fun z => by omega, fun _ => ?_⟩⟩
    rw [e20]
    refine ⟨q2, by omega, by constructor <;> omega, fun c => ⟨lm.w.1, l_at lm q2 (by omega) (fun q st => ?_)⟩, fun c => ?_⟩
    · obtain ⟨o1, o2, _⟩ := ok.at q2 (show i < L.length by omega)
      rw [lft, if_pos c] at k0 k1
      rw [fnd] at k0 k1
      rw [st.2.1]
      generalize hlg : (el L i).2.1 = lg at *
      obtain ⟨a1, a2, a3⟩ := rl.1 lg o1 (by omega)
      obtain ⟨b1, b2, b3⟩ := rl.1 (lg + 1) (by omega) (by omega)
      obtain ⟨c1, c2, c3⟩ := rl.2 (h lg) (h (lg + 1)) a2 a3 b2 b3
      rw [a1, b1, c1]
      refine ⟨st.is, o1, by omega, by omega, by omega, by omega, by omega, by constructor <;> omega, fun d => ⟨by omega, by omega, fun M22 e22 => ⟨by omega, by omega, fun M25 e25 => ⟨o1, by omega, by omega, by omega, fun M30 e30 => ⟨by omega, by omega, by omega, by omega, fun M35 e35 => ?_⟩⟩⟩⟩, fun d => ⟨by omega, by omega, fun M38 e38 => ⟨q2, by omega, fun M41 e41 => ?_⟩⟩⟩
      · rw [if_neg (by omega)] at k0 k1
        have g21 : ∀ x, M35 21 x = swf h lg x ∨ (x < 0 ∨ 7 ≤ x) := by
          intro x
          by_cases rg : 0 ≤ x ∧ x < 7
          · left
            rw [e35, e30, e25, e22]
            unfold swf tr
            by_cases z1 : x = lg + 1
            · subst z1
              rw [up_same, if_neg (by omega), if_pos rfl]
            · rw [up_oi z1]
              by_cases z2 : x = lg
              · subst z2
                rw [up_same, if_pos rfl]
              · rw [up_oi z2, up_ne (by decide), up_ne (by decide), if_neg z2, if_neg z1]
                exact (rl.1 x rg.1 rg.2).1
          · right; omega
        have g22 : ∀ a b, 0 ≤ a → a < 7 → 0 ≤ b → b < 7 → M35 22 (7 * a + b) = cau ca (h lg) (h (lg + 1)) (i + 1) a b := by
          intro a b p1 p2 p3 p4
          rw [e35, up_ne (by decide), e30, up_ne (by decide), e25, e22]
          unfold cau
          by_cases z1 : a = h (lg + 1) ∧ b = h lg
          · rw [if_pos (Or.inr z1), z1.1, z1.2, up_same]
          · rw [up_oi (by omega)]
            by_cases z2 : a = h lg ∧ b = h (lg + 1)
            · rw [if_pos (Or.inl z2), z2.1, z2.2, up_same]
            · rw [up_oi (by omega), if_neg (fun w => w.elim z2 z1)]
              exact (rl.2 a b p1 p2 p3 p4).1
        refine bX0_undoes_184 (ih (i + 1) (swf h lg) (cau ca (h lg) (h (lg + 1)) (i + 1)) M35 (by omega) (by omega) (fun x x1 x2 => by rw [e35, up_ne x1, e30, up_ne x1, e25, up_ne x2, e22, up_ne x2]; exact fr x x1 x2) ⟨fun x p1 p2 => ?_, fun a b p1 p2 p3 p4 => ?_⟩ k0 k1)
        · have ht := tr_rng (n := 7) o1 (by omega) p1 p2
          have := (rl.1 _ ht.1 ht.2).2
          refine ⟨?_, this⟩
          rcases g21 x with w | w
          · exact w
          · omega
        · refine ⟨g22 a b p1 p2 p3 p4, ?_⟩
          have := (rl.2 a b p1 p2 p3 p4).2
          unfold cau
          split <;> omega
      · rw [if_pos d] at k0 k1
        refine k1 _ _ rfl M41 (fun x x1 x2 x3 => by rw [e41, up_ne x1, e38, up_ne x1]; exact fr x x2 x3) ?_
        rw [e41, e38]
        funext x
        by_cases z1 : x = i
        · subst z1
          rw [up_same, up_same]
        · rw [up_oi z1, up_oi z1]
          by_cases z2 : x = ca (h lg) (h (lg + 1)) - 1
          · subst z2
            rw [up_same, up_same]
          · rw [up_oi z2, up_oi z2, e20]
    · rw [lft, if_neg c] at k0 k1
      refine bX0_undoes_184 (ih (i + 1) h ca M (by omega) (by omega) fr ⟨rl.1, fun a b p1 p2 p3 p4 => ?_⟩ k0 k1)
      have := rl.2 a b p1 p2 p3 p4
      exact ⟨this.1, this.2.1, by omega⟩
theorem c_undoes {F : Int → pM → Prop} {M : pM} {z r n : Int} {L : List elt} (hz : ∀ n : Nat × Nat, shq S z = some (.inl n.1, n.2) → False) (lr : LadR z S M r n L) (ok : okL n L) (hb : ∀ j : Int, 0 ≤ j → j < L.length → M 20 j = 0 ∨ M 20 j = 1) (k0 : fnd0 L (lft (M 20) 0 L.length) = none → ∀ M', (∀ x, x ≠ 21 → x ≠ 22 → M' x = M x) → F 0 M') (k1 : ∀ e j, fnd0 L (lft (M 20) 0 L.length) = some (e, j) → ∀ M', (∀ x, x ≠ 20 → x ≠ 21 → x ≠ 22 → M' x = M x) → M' 20 = pu_up (pu_up M 20 e 1) 20 j 1 20 → F 1 M') : pNi true X mX0_undoes 5 [pR 0, pR r] S M F := by
  have l24 : ∀ (m : Nat) (i : Int) (M1 : pM), i + m = 49 → 0 ≤ i → (∀ x, x ≠ 21 → x ≠ 22 → M1 x = M x) → (∀ k, 0 ≤ k → k < 7 → M1 21 k = k) → (∀ j, 0 ≤ j → j < i → M1 22 j = 0) → wX0_undoes_24 X F r i S M1 := by
    intro m
    induction m with
    | zero =>
      intro i M1 q1 q2 fr h1 h2
      refine bX0_undoes_24 ⟨by constructor <;> omega, fun _ => ?_, fun z => by omega⟩
      refine c_und48 (M0 := M) hz lr ok hb L.length 0 (fun x => x) (fun _ _ => 0) M1 (by omega) (by omega) fr ⟨fun x p q => ⟨h1 x p q, p, q⟩, fun a b p1 p2 p3 p4 => ⟨h2 _ (by omega) (by omega), Int.le_refl _, Int.le_refl _⟩⟩ k0 k1
    | succ m ih =>
      intro i M1 q1 q2 fr h1 h2
      refine bX0_undoes_24 ⟨by constructor <;> omega, fun z => by omega, fun _ => ⟨q2, by omega, fun M4 e4 => ?_⟩⟩
      refine ih (i + 1) M4 (by omega) (by omega) (fun x x1 x2 => by rw [e4, up_ne x2]; exact fr x x1 x2) (fun x p q => by rw [e4, up_ne (by decide)]; exact h1 x p q) (fun j p q => ?_)
      rw [e4]
      by_cases c : j = i
      · subst c; exact up_same
      · rw [up_oi c]; exact h2 j p (by omega)
  have l2 : ∀ (m : Nat) (i : Int) (M1 : pM), i + m = 7 → 0 ≤ i → (∀ x, x ≠ 21 → x ≠ 22 → M1 x = M x) → (∀ k, 0 ≤ k → k < i → M1 21 k = k) → wX0_undoes_2 X F r i S M1 := by
    intro m
    induction m with
    | zero =>
      intro i M1 q1 q2 fr h1
      exact bX0_undoes_2 ⟨by constructor <;> omega, fun _ => l24 49 0 M1 (by omega) (by omega) fr (fun x p q => h1 x p (by omega)) (fun j p q => by omega), fun z => by omega⟩
    | succ m ih =>
      intro i M1 q1 q2 fr h1
      refine bX0_undoes_2 ?_
      rw [i2bb_id (by omega) (by omega)]
      refine ⟨by constructor <;> omega, fun z => by omega, fun _ => ⟨q2, by omega, by omega, by omega, fun M6 e6 => ih (i + 1) M6 (by omega) (by omega) (fun x x1 x2 => by rw [e6, up_ne x1]; exact fr x x1 x2) (fun j p q => ?_)⟩⟩
      rw [e6]
      by_cases c : j = i
      · subst c; exact up_same
      · rw [up_oi c]; exact h1 j p (by omega)
  exact eX0_undoes (bX0_undoes_0 (l2 7 0 M (by omega) (by omega) (fun _ _ _ => rfl) (fun x p q => by omega)))
theorem c_clears28 {F : Int → pM → Prop} {M0 : pM} {z r n : Int} {L : List elt} (hz : ∀ n : Nat × Nat, shq S z = some (.inl n.1, n.2) → False) (lr : LadR z S M0 r n L) (ok : okL n L) : ∀ (f : Nat) (M : pM), (lft (M 20) 0 L.length).length ≤ f → (∀ x, x ≠ 20 → x ≠ 21 → x ≠ 22 → M x = M0 x) → (∀ j : Int, 0 ≤ j → j < L.length → M 20 j = 0 ∨ M 20 j = 1) → (∀ M', (∀ x, x ≠ 20 → x ≠ 21 → x ≠ 22 → M' x = M0 x) → lft (M' 20) 0 L.length = clr L f (lft (M 20) 0 L.length) → (∀ j : Int, 0 ≤ j → j < L.length → M' 20 j = 0 ∨ M' 20 j = 1) → F (clr L f (lft (M 20) 0 L.length)).length M') → wX0_clears_28 X F r (lft (M 20) 0 L.length).length S M := by
  intro f
  induction f with
  | zero =>
    intro M q fr hb k
    have e : lft (M 20) 0 L.length = [] := List.eq_nil_of_length_eq_zero (by omega)
    have lm : LadR z S M r n L := lr.fr hz ⟨List.prefix_refl _, fun x p _ _ => fr x (by omega) (by omega) (by omega)⟩
    refine bX0_clears_28 (c_undoes hz lm ok hb (fun _ M' f' => ⟨by constructor <;> decide, fun _ => ?_, fun w => by omega⟩) (fun e' j h => ?_))
    · exact k M' (fun x x1 x2 x3 => (f' x x2 x3).trans (fr x x1 x2 x3)) (by rw [f' 20 (by decide) (by decide)]; rfl) (fun j p q => by rw [f' 20 (by decide) (by decide)]; exact hb j p q)
    · rw [e] at h
      simp [fnd0, fnd] at h
  | succ f ih =>
    intro M q fr hb k
    have lm : LadR z S M r n L := lr.fr hz ⟨List.prefix_refl _, fun x p _ _ => fr x (by omega) (by omega) (by omega)⟩
    refine bX0_clears_28 (c_undoes hz lm ok hb (fun h M' f' => ⟨by constructor <;> decide, fun _ => ?_, fun w => by omega⟩) (fun e' j h M' f' e20 => ⟨by constructor <;> decide, fun w => by omega, fun _ => ?_⟩))
    · rw [clr, h] at k
      exact k M' (fun x x1 x2 x3 => (f' x x2 x3).trans (fr x x1 x2 x3)) (by rw [f' 20 (by decide) (by decide)]) (fun j p q => by rw [f' 20 (by decide) (by decide)]; exact hb j p q)
    · obtain ⟨s1, s2, s3, s4, s5⟩ := rm2_step (lft_nd _ _) h
      have m3 := (lft_mem _ _).1 s3
      have m4 := (lft_mem _ _).1 s4
      have el : lft (M' 20) 0 L.length = rm2 (lft (M 20) 0 L.length) e' j := by
        refine lft_rm (fun x x1 x2 => ?_) ?_ ?_ _ _
        · rw [e20, up_oi x2, up_oi x1]
        · rw [e20, up_oi s5, up_same]; decide
        · rw [e20, up_same]; decide
      have := ih M' (by rw [el]; omega) (fun x x1 x2 x3 => (f' x x1 x2 x3).trans (fr x x1 x2 x3)) (fun i p q => by
        rw [e20]
        by_cases c1 : i = j
        · subst c1; rw [up_same]; exact Or.inr rfl
        · rw [up_oi c1]
          by_cases c2 : i = e'
          · subst c2; rw [up_same]; exact Or.inr rfl
          · rw [up_oi c2]; exact hb i p q) (fun M'' g1 g2 g3 => by
        rw [clr, h] at k
        rw [el] at g2 ⊢
        exact k M'' g1 g2 g3)
      rw [el] at this
      rw [show (((lft (M 20) 0 L.length).length : Int) + -2) = ((rm2 (lft (M 20) 0 L.length) e' j).length : Int) by omega]
      exact this
theorem c_clears {F : Int → pM → Prop} {M : pM} {z r n : Int} {L : List elt} (hz : ∀ n : Nat × Nat, shq S z = some (.inl n.1, n.2) → False) (lr : LadR z S M r n L) (ok : okL n L) (k : ∀ M', (∀ x, x ≠ 20 → x ≠ 21 → x ≠ 22 → M' x = M x) → lft (M' 20) 0 L.length = clrd L → (∀ j : Int, 0 ≤ j → j < L.length → M' 20 j = 0 ∨ M' 20 j = 1) → F (clrd L).length M') : pNi true X mX0_clears 6 [pR 0, pR r] S M F := by
  have hl := ok.2.2.1
  have loop : ∀ (m : Nat) (i : Int), i + m = L.length → 0 ≤ i → wX0_clears_2 X F r i S (ovr M 20 0 i (fun _ => 0)) := by
    intro m
    induction m with
    | zero =>
      intro i q1 q2
      have e : i = L.length := by omega
      subst e
      generalize hM1 : ovr M 20 0 (L.length : Int) (fun _ => 0) = M1
      have f1 : ∀ x, x ≠ 20 → M1 x = M x := fun x hx => by rw [← hM1, ovr_ne hx]
      have z1 : ∀ j : Int, 0 ≤ j → j < L.length → M1 20 j = 0 := fun j p q => by rw [← hM1, ovr_in p q]
      have lm : LadR z S M1 r n L := lr.fr hz ⟨List.prefix_refl _, fun x p _ _ => f1 x (by omega)⟩
      have el : lft (M1 20) 0 L.length = seg (fun x => x) 0 L.length := lft_all _ _ (fun j p q => z1 j p (by omega))
      have len : (lft (M1 20) 0 L.length).length = L.length := by rw [el, seg_len]
      refine bX0_clears_2 ⟨lm.w.1, l_size lm ⟨by constructor <;> omega, by constructor <;> omega, fun _ => ⟨lm.w.1, l_size lm ?_⟩, fun w => by omega⟩⟩
      have := c_clears28 (F := F) (X := X) (M0 := M) hz lr ok L.length M1 (by omega) (fun x x1 _ _ => f1 x x1) (fun j p q => Or.inl (z1 j p q)) (fun M' g1 g2 g3 => by
        rw [el] at g2 ⊢
        exact k M' g1 g2 g3)
      rw [len] at this
      exact this
    | succ m ih =>
      intro i q1 q2
      have lm : LadR z S (ovr M 20 0 i (fun _ => 0)) r n L := lr.fr hz ⟨List.prefix_refl _, fun x p _ _ => ovr_ne (by omega)⟩
      refine bX0_clears_2 ⟨lm.w.1, l_size lm ⟨by constructor <;> omega, by constructor <;> omega, fun z => by omega, fun _ => ⟨q2, by omega, fun M11 e11 => ?_⟩⟩⟩
      rw [e11, ovr_step q2 rfl]
      exact ih (i + 1) (by omega) (by omega)
  have := loop L.length 0 (by omega) (by omega)
  rw [ovr_nil (by omega)] at this
  exact eX0_clears (bX0_clears_0 this)
end
