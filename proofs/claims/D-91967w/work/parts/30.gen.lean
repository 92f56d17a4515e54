/-! ===== general: loops, arrays as functions, stretches of arrays as lists ===== -/
set_option maxRecDepth 100000
theorem lp_wf {σ : Type} (μ : σ → Nat) (W I : σ → Prop) (step : ∀ s, I s → (∀ s', I s' → μ s' < μ s → W s') → W s) : ∀ s, I s → W s := by
  have h : ∀ n s, μ s < n → I s → W s := by
    intro n
    induction n with
    | zero => intro s h; omega
    | succ n ih => intro s hlt hI; exact step s hI (fun s' hI' hl => ih s' (by omega) hI')
  intro s hI
  exact h (μ s + 1) s (by omega) hI
theorem up_same {M : pM} {a i v : Int} : pu_up M a i v a i = v := by simp [pu_up]
theorem up_oi {M : pM} {a i v j : Int} (h : j ≠ i) : pu_up M a i v a j = M a j := by simp [pu_up, h]
theorem up_ne {M : pM} {a i v x : Int} (h : x ≠ a) : pu_up M a i v x = M x := pu_up_ne h
theorem up_ne2 {M : pM} {a i v x j : Int} (h : x ≠ a ∨ j ≠ i) : pu_up M a i v x j = M x j := by
  unfold pu_up
  rw [if_neg (fun q => h.elim (fun z => z q.1) (fun z => z q.2))]
/-- an array overwritten from lo to hi -/
def ovr (M : pM) (a lo hi : Int) (g : Int → Int) : pM := fun x j => if x = a ∧ lo ≤ j ∧ j < hi then g j else M x j
theorem ovr_in {M : pM} {a lo hi : Int} {g : Int → Int} {j : Int} (h1 : lo ≤ j) (h2 : j < hi) : ovr M a lo hi g a j = g j := by simp [ovr, h1, h2]
theorem ovr_out {M : pM} {a lo hi : Int} {g : Int → Int} {j : Int} (h : j < lo ∨ hi ≤ j) : ovr M a lo hi g a j = M a j := by
  unfold ovr
  rw [if_neg (by omega)]
theorem ovr_ne {M : pM} {a lo hi : Int} {g : Int → Int} {x : Int} (h : x ≠ a) : ovr M a lo hi g x = M x := by
  funext j
  simp [ovr, h]
theorem ovr_nil {M : pM} {a lo hi : Int} {g : Int → Int} (h : hi ≤ lo) : ovr M a lo hi g = M := by
  funext x j
  unfold ovr
  rw [if_neg (by omega)]
theorem ovr_step {M : pM} {a lo j v : Int} {g : Int → Int} (h : lo ≤ j) (hv : v = g j) : pu_up (ovr M a lo j g) a j v = ovr M a lo (j + 1) g := by
  subst hv
  funext x i
  unfold pu_up ovr
  by_cases h1 : x = a ∧ i = j
  · rw [if_pos h1, if_pos ⟨h1.1, by omega, by omega⟩, h1.2]
  · rw [if_neg h1]
    by_cases h2 : x = a ∧ lo ≤ i ∧ i < j
    · rw [if_pos h2, if_pos ⟨h2.1, h2.2.1, by omega⟩]
    · rw [if_neg h2, if_neg (by
        intro q
        have : ¬ i = j := fun e => h1 ⟨q.1, e⟩
        exact h2 ⟨q.1, q.2.1, by omega⟩)]
theorem ovr_congr {M : pM} {a lo hi : Int} {g g' : Int → Int} (h : ∀ j, lo ≤ j → j < hi → g j = g' j) : ovr M a lo hi g = ovr M a lo hi g' := by
  funext x j
  unfold ovr
  by_cases h1 : x = a ∧ lo ≤ j ∧ j < hi
  · rw [if_pos h1, if_pos h1]; exact h j h1.2.1 h1.2.2
  · rw [if_neg h1, if_neg h1]
/-- m places of an array from i on -/
def seg (f : Int → Int) (i : Int) : Nat → List Int
  | 0 => []
  | m + 1 => f i :: seg f (i + 1) m
theorem seg_len (f : Int → Int) (m : Nat) : ∀ i : Int, (seg f i m).length = m := by
  induction m with
  | zero => intro i; rfl
  | succ m ih => intro i; simp [seg, ih]
theorem seg_congr {f g : Int → Int} (m : Nat) : ∀ i : Int, (∀ j : Int, i ≤ j → j < i + m → f j = g j) → seg f i m = seg g i m := by
  induction m with
  | zero => intro i _; rfl
  | succ m ih =>
    intro i h
    rw [seg, seg, h i (by omega) (by omega), ih (i + 1) (fun j h1 h2 => h j (by omega) (by omega))]
theorem seg_add (f : Int → Int) (m k : Nat) : ∀ i : Int, seg f i (m + k) = seg f i m ++ seg f (i + m) k := by
  induction m with
  | zero => intro i; simp [seg]
  | succ m ih =>
    intro i
    rw [show m + 1 + k = (m + k) + 1 by omega, seg, seg, ih]
    simp only [List.cons_append]
    congr 3
    omega
theorem seg_get (f : Int → Int) (m : Nat) : ∀ (i : Int) (k : Nat), k < m → (seg f i m)[k]? = some (f (i + k)) := by
  induction m with
  | zero => intro i k h; omega
  | succ m ih =>
    intro i k h
    cases k with
    | zero => simp [seg]
    | succ k =>
      rw [seg, List.getElem?_cons_succ, ih (i + 1) k (by omega)]
      congr 2
      omega
theorem seg_mem {f : Int → Int} {m : Nat} {x : Int} : ∀ {i : Int}, x ∈ seg f i m → ∃ j, i ≤ j ∧ j < i + m ∧ f j = x := by
  induction m with
  | zero => intro i h; cases h
  | succ m ih =>
    intro i h
    rcases List.mem_cons.mp h with h | h
    · exact ⟨i, by omega, by omega, h.symm⟩
    · obtain ⟨j, h1, h2, h3⟩ := ih h
      exact ⟨j, by omega, by omega, h3⟩
theorem seg_mem_of {f : Int → Int} {m : Nat} {j : Int} : ∀ {i : Int}, i ≤ j → j < i + m → f j ∈ seg f i m := by
  induction m with
  | zero => intro i h1 h2; omega
  | succ m ih =>
    intro i h1 h2
    by_cases h : i = j
    · subst h; exact List.mem_cons_self
    · exact List.mem_cons_of_mem _ (ih (by omega) (by omega))
theorem seg_rev (f : Int → Int) (m : Nat) : ∀ i c : Int, c = 2 * i + m - 1 → seg (fun x => f (c - x)) i m = (seg f i m).reverse := by
  induction m with
  | zero => intro i c _; rfl
  | succ m ih =>
    intro i c hc
    have e1 : seg f i (m + 1) = f i :: seg f (i + 1) m := rfl
    have e2 : seg (fun x => f (c - x)) i (m + 1) = seg (fun x => f (c - x)) i m ++ seg (fun x => f (c - x)) (i + m) 1 := seg_add _ m 1 i
    have e3 : seg (fun x => f (c - x)) i m = (seg f (i + 1) m).reverse := by
      have h4 := ih (i + 1) (c + 1) (by omega)
      rw [← h4]
      have shift : ∀ (k : Nat) (a : Int), seg (fun x => f (c - x)) a k = seg (fun x => f (c + 1 - x)) (a + 1) k := by
        intro k
        induction k with
        | zero => intro a; rfl
        | succ k ihk =>
          intro a
          rw [seg, seg, ihk (a + 1)]
          congr 2
          omega
      exact shift m i
    rw [e2, e3, e1, List.reverse_cons]
    congr 1
    show [f (c - (i + m))] = [f i]
    congr 2
    omega
theorem seg_inj {f g : Int → Int} (m : Nat) : ∀ i : Int, seg f i m = seg g i m → ∀ j : Int, i ≤ j → j < i + m → f j = g j := by
  induction m with
  | zero => intro i _ j h1 h2; omega
  | succ m ih =>
    intro i h j h1 h2
    have h3 := List.cons.inj h
    by_cases e : i = j
    · subst e; exact h3.1
    · exact ih (i + 1) h3.2 j (by omega) (by omega)
