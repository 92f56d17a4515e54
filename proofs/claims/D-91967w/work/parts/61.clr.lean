/-! ===== what undoes one another ===== -/
set_option maxRecDepth 100000
def cau (ca : Int → Int → Int) (a b v : Int) : Int → Int → Int := fun x y => if (x = a ∧ y = b) ∨ (x = b ∧ y = a) then v else ca x y
def fnd (L : List elt) : List Int → (Int → Int) → (Int → Int → Int) → Option (Int × Int)
  | [], _, _ => none
  | i :: R, h, ca => if 0 < ca (h (el L i).2.1) (h ((el L i).2.1 + 1)) then some (ca (h (el L i).2.1) (h ((el L i).2.1 + 1)) - 1, i) else fnd L R (swf h (el L i).2.1) (cau ca (h (el L i).2.1) (h ((el L i).2.1 + 1)) (i + 1))
def rm2 (R : List Int) (e i : Int) : List Int := R.filter (fun x => decide (x ≠ e ∧ x ≠ i))
def fnd0 (L : List elt) (R : List Int) : Option (Int × Int) := fnd L R (fun x => x) (fun _ _ => 0)
def clr (L : List elt) : Nat → List Int → List Int
  | 0, R => R
  | f + 1, R => match fnd0 L R with
    | none => R
    | some p => clr L f (rm2 R p.1 p.2)
theorem fnd_in {L : List elt} {T : List Int} : ∀ (R : List Int) (h : Int → Int) (ca : Int → Int → Int) (p : List Int) (e i : Int), T = p ++ R → (∀ x y, 0 < ca x y → ca x y - 1 ∈ p) → fnd L R h ca = some (e, i) → ∃ p' R', T = p' ++ i :: R' ∧ e ∈ p'
  | [], h, ca, p, e, i, _, _, hf => by simp [fnd] at hf
  | j :: R, h, ca, p, e, i, hT, hc, hf => by
    rw [fnd] at hf
    split at hf
    · rename_i c
      injection hf with hf
      injection hf with h1 h2
      subst h2
      rw [← h1]
      exact ⟨p, R, hT, hc _ _ c⟩
    · refine fnd_in R _ _ (p ++ [j]) e i (by rw [hT]; simp) (fun x y hx => ?_) hf
      unfold cau at hx ⊢
      split at hx
      · rename_i c
        rw [if_pos c]
        simp
      · rename_i c
        rw [if_neg c]
        exact List.mem_append_left _ (hc x y hx)
theorem fnd0_in {L : List elt} {R : List Int} {e i : Int} (h : fnd0 L R = some (e, i)) : ∃ p' R', R = p' ++ i :: R' ∧ e ∈ p' := fnd_in (T := R) R _ _ [] e i rfl (fun x y hx => by simp at hx) h
theorem rm2_len {R : List Int} {e i : Int} (nd : R.Nodup) (h1 : e ∈ R) (h2 : i ∈ R) (h3 : e ≠ i) : (rm2 R e i).length + 2 = R.length := by
  unfold rm2
  induction R with
  | nil => cases h1
  | cons x R ih =>
    obtain ⟨n1, n2⟩ := List.nodup_cons.1 nd
    have flt : ∀ (Q : List Int) (y : Int), Q.Nodup → y ∈ Q → (Q.filter (fun z => decide (z ≠ y))).length + 1 = Q.length := by
      intro Q
      induction Q with
      | nil => intro y _ h; cases h
      | cons q Q ihq =>
        intro y nq hy
        obtain ⟨m1, m2⟩ := List.nodup_cons.1 nq
        by_cases c : q = y
        · subst c
          rw [List.filter_cons_of_neg (by simp)]
          have : Q.filter (fun z => decide (z ≠ q)) = Q := List.filter_eq_self.2 (fun z hz => by simp; intro w; subst w; exact m1 hz)
          rw [this]
          simp
        · rw [List.filter_cons_of_pos (by simpa using c)]
          have := ihq y m2 (by rcases List.mem_cons.1 hy with w | w; exact absurd w.symm c; exact w)
          simp only [List.length_cons]
          omega
    by_cases c : x = e
    · subst c
      rw [List.filter_cons_of_neg (by simp)]
      have hi : i ∈ R := by rcases List.mem_cons.1 h2 with w | w; exact absurd w.symm h3; exact w
      have : R.filter (fun z => decide (z ≠ x ∧ z ≠ i)) = R.filter (fun z => decide (z ≠ i)) := List.filter_congr (fun z hz => by
        have : z ≠ x := fun w => by subst w; exact n1 hz
        simp [this])
      rw [this]
      have := flt R i n2 hi
      simp only [List.length_cons]
      omega
    · have he : e ∈ R := by rcases List.mem_cons.1 h1 with w | w; exact absurd w.symm c; exact w
      by_cases d : x = i
      · subst d
        rw [List.filter_cons_of_neg (by simp)]
        have : R.filter (fun z => decide (z ≠ e ∧ z ≠ x)) = R.filter (fun z => decide (z ≠ e)) := List.filter_congr (fun z hz => by
          have : z ≠ x := fun w => by subst w; exact n1 hz
          simp [this])
        rw [this]
        have := flt R e n2 he
        simp only [List.length_cons]
        omega
      · rw [List.filter_cons_of_pos (by simp [c, d])]
        have hi : i ∈ R := by rcases List.mem_cons.1 h2 with w | w; exact absurd w.symm d; exact w
        have := ih n2 he hi
        simp only [List.length_cons]
        omega
theorem rm2_step {L : List elt} {R : List Int} {e i : Int} (nd : R.Nodup) (h : fnd0 L R = some (e, i)) : (rm2 R e i).length + 2 = R.length ∧ (rm2 R e i).Nodup ∧ e ∈ R ∧ i ∈ R ∧ e ≠ i := by
  obtain ⟨p, q, h1, h2⟩ := fnd0_in h
  have he : e ∈ R := by rw [h1]; exact List.mem_append_left _ h2
  have hi : i ∈ R := by rw [h1]; simp
  have hne : e ≠ i := by
    intro w
    subst w
    rw [h1, List.nodup_append] at nd
    exact nd.2.2 e h2 e (List.mem_cons_self ..) rfl
  exact ⟨rm2_len nd he hi hne, nd.filter _, he, hi, hne⟩
/-- those from i on that are not out -/
def lft (f : Int → Int) (i : Int) : Nat → List Int
  | 0 => []
  | m + 1 => if f i = 0 then i :: lft f (i + 1) m else lft f (i + 1) m
theorem lft_mem {f : Int → Int} {x : Int} : ∀ (m : Nat) (i : Int), x ∈ lft f i m ↔ (i ≤ x ∧ x < i + m ∧ f x = 0)
  | 0, i => by simp [lft]; omega
  | m + 1, i => by
    have ih := lft_mem (f := f) (x := x) m (i + 1)
    rw [lft]
    split
    · rename_i c
      rw [List.mem_cons, ih]
      constructor
      · rintro (w | w)
        · subst w; exact ⟨by omega, by omega, c⟩
        · exact ⟨by omega, by omega, w.2.2⟩
      · intro w
        by_cases d : x = i
        · exact Or.inl d
        · exact Or.inr ⟨by omega, by omega, w.2.2⟩
    · rename_i c
      rw [ih]
      constructor
      · intro w
        exact ⟨by omega, by omega, w.2.2⟩
      · intro w
        have : x ≠ i := fun d => by subst d; exact c w.2.2
        exact ⟨by omega, by omega, w.2.2⟩
theorem lft_nd {f : Int → Int} : ∀ (m : Nat) (i : Int), (lft f i m).Nodup
  | 0, i => by simp [lft]
  | m + 1, i => by
    have ih := lft_nd (f := f) m (i + 1)
    rw [lft]
    split
    · refine List.nodup_cons.2 ⟨fun w => ?_, ih⟩
      have := (lft_mem m (i + 1)).1 w
      omega
    · exact ih
theorem lft_rm {f g : Int → Int} {e i : Int} (h1 : ∀ x, x ≠ e → x ≠ i → g x = f x) (h2 : g e ≠ 0) (h3 : g i ≠ 0) : ∀ (m : Nat) (s : Int), lft g s m = rm2 (lft f s m) e i
  | 0, s => rfl
  | m + 1, s => by
    have ih := lft_rm h1 h2 h3 m (s + 1)
    rw [lft, lft]
    by_cases c : s = e ∨ s = i
    · have gs : g s ≠ 0 := by rcases c with c | c <;> (rw [c]; assumption)
      rw [if_neg gs, ih]
      split
      · unfold rm2
        rw [List.filter_cons_of_neg]
        simp
        intro w
        rcases c with c | c
        · exact absurd c w
        · exact c
      · rfl
    · have : g s = f s := h1 s (fun w => c (Or.inl w)) (fun w => c (Or.inr w))
      rw [this]
      split
      · unfold rm2 at ih ⊢
        rw [List.filter_cons_of_pos (by simp; exact ⟨fun w => c (Or.inl w), fun w => c (Or.inr w)⟩), ih]
      · exact ih
theorem lft_all {f : Int → Int} : ∀ (m : Nat) (i : Int), (∀ j, i ≤ j → j < i + m → f j = 0) → lft f i m = seg (fun x => x) i m
  | 0, i, _ => rfl
  | m + 1, i, h => by rw [lft, if_pos (h i (by omega) (by omega)), lft_all m (i + 1) (fun j a b => h j (by omega) (by omega)), seg]
theorem seg_nd : ∀ (m : Nat) (i : Int), (seg (fun x => x) i m).Nodup
  | 0, i => by simp [seg]
  | m + 1, i => by
    rw [seg]
    refine List.nodup_cons.2 ⟨fun w => ?_, seg_nd m (i + 1)⟩
    obtain ⟨j, a, b, c⟩ := seg_mem w
    omega
/-- what is left of a plain ladder -/
def clrd (L : List elt) : List Int := clr L L.length (seg (fun x => x) 0 L.length)
theorem clr_sub {L : List elt} : ∀ (f : Nat) (R : List Int), (clr L f R).length ≤ R.length ∧ (R.Nodup → (clr L f R).Nodup) ∧ ∀ x ∈ clr L f R, x ∈ R
  | 0, R => ⟨Nat.le_refl _, id, fun x h => h⟩
  | f + 1, R => by
    rw [clr]
    split
    · exact ⟨Nat.le_refl _, id, fun x h => h⟩
    · rename_i p hp
      have ih := clr_sub (L := L) f (rm2 R p.1 p.2)
      have hl : (rm2 R p.1 p.2).length ≤ R.length := List.length_filter_le _ _
      exact ⟨by omega, fun nd => ih.2.1 (nd.filter _), fun x h => (List.mem_filter.1 (ih.2.2 x h)).1⟩
noncomputable def q_cleared (σ : sgm) (t : Int) : Int := @ite _ (0 ≤ t ∧ t < σ.1.length) (Classical.propDecidable _) (if pln (lad σ.1 t).2 = 1 then ((clrd (lad σ.1 t).2).length : Int) else -2) (-1)
noncomputable def q_kept (σ : sgm) (t i : Int) : Int := @ite _ (0 ≤ t ∧ t < σ.1.length ∧ pln (lad σ.1 t).2 = 1 ∧ 0 ≤ i ∧ i < (clrd (lad σ.1 t).2).length) (Classical.propDecidable _) (at0 (clrd (lad σ.1 t).2) i) (-1)
