/-! ===== rungs drawn in: what is needed ===== -/
set_option maxRecDepth 100000
/-- the least of f along the legs -/
def mnr (f : Int → Int) (p : Int) : Nat → Int
  | 0 => -1
  | k + 1 => if mnr f p k < 0 ∨ f k + apt p k < mnr f p k then f k + apt p k else mnr f p k
def isMn (n : Nat) (f : Int → Int) (p v : Int) : Prop := (∃ a : Int, 0 ≤ a ∧ a < n ∧ v = f a + apt p a) ∧ ∀ a : Int, 0 ≤ a → a < n → v ≤ f a + apt p a
theorem apt_nn {a b : Int} : 0 ≤ apt a b := by unfold apt; split <;> omega
theorem mnr_ok {f : Int → Int} {p : Int} : ∀ (n : Nat), (∀ a : Int, 0 ≤ a → a < n → 0 ≤ f a) → 0 < n → isMn n f p (mnr f p n)
  | 0, _, h => by omega
  | k + 1, hf, _ => by
    have fk := hf k (by omega) (by omega)
    have ak := apt_nn (a := p) (b := k)
    rw [mnr]
    by_cases k0 : k = 0
    · subst k0
      rw [mnr, if_pos (Or.inl (by omega))]
      refine ⟨⟨0, by omega, by omega, rfl⟩, fun a a0 a1 => ?_⟩
      have : a = 0 := by omega
      subst this
      exact Int.le_refl _
    · have ih := mnr_ok (f := f) (p := p) k (fun a a0 a1 => hf a a0 (by omega)) (by omega)
      obtain ⟨⟨x, x0, x1, x2⟩, h2⟩ := ih
      have fx := hf x x0 (by omega)
      have ax := apt_nn (a := p) (b := x)
      split
      · refine ⟨⟨k, by omega, by omega, rfl⟩, fun a a0 a1 => ?_⟩
        by_cases c : a = k
        · subst c; exact Int.le_refl _
        · have := h2 a a0 (by omega)
          omega
      · refine ⟨⟨x, x0, by omega, x2⟩, fun a a0 a1 => ?_⟩
        by_cases c : a = k
        · subst c; omega
        · exact h2 a a0 (by omega)
theorem isMn_uni {n : Nat} {f : Int → Int} {p v v' : Int} (h : isMn n f p v) (h' : isMn n f p v') : v = v' := by
  obtain ⟨⟨a, a0, a1, a2⟩, h2⟩ := h
  obtain ⟨⟨b, b0, b1, b2⟩, h2'⟩ := h'
  have := h2 b b0 b1
  have := h2' a a0 a1
  omega
/-- the fewest from a gap on -/
def ndd (n : Nat) (q : Int) : List elt → Int → Int
  | [], p => apt p q
  | e :: s, p => mnr (fun a => ndd n q s (tr e.2.1 a)) p n
theorem ndd_bd {n : Nat} {q : Int} (q0 : 0 ≤ q) (q1 : q < n) : ∀ (s : List elt), (∀ e ∈ s, okE n e) → ∀ p : Int, 0 ≤ p → p < n → 0 ≤ ndd n q s p ∧ ndd n q s p < n
  | [], _, p, p0, p1 => by
    rw [ndd]
    unfold apt
    split <;> omega
  | e :: s, h, p, p0, p1 => by
    have he := h e (List.mem_cons_self ..)
    have ih := ndd_bd q0 q1 s (fun x hx => h x (List.mem_cons_of_mem _ hx))
    have tb : ∀ a : Int, 0 ≤ a → a < n → 0 ≤ tr e.2.1 a ∧ tr e.2.1 a < n := fun a a0 a1 => tr_rng he.1 (by have := he.2.1; omega) a0 a1
    rw [ndd]
    obtain ⟨⟨x, x0, x1, x2⟩, h2⟩ := mnr_ok (f := fun a => ndd n q s (tr e.2.1 a)) (p := p) n (fun a a0 a1 => (ih _ (tb a a0 a1).1 (tb a a0 a1).2).1) (by omega)
    have i1 := ih _ (tb x x0 x1).1 (tb x x0 x1).2
    have i2 := ih _ (tb p p0 p1).1 (tb p p0 p1).2
    have := h2 p p0 p1
    have := apt_nn (a := p) (b := x)
    have : apt p p = 0 := by unfold apt; split <;> omega
    simp only [] at *
    omega
theorem ndd_mn {n : Nat} {q : Int} {e : elt} {s : List elt} (q0 : 0 ≤ q) (q1 : q < n) (h : ∀ x ∈ e :: s, okE n x) (p : Int) : isMn n (fun a => ndd n q s (tr e.2.1 a)) p (ndd n q (e :: s) p) := by
  have he := h e (List.mem_cons_self ..)
  have ih := ndd_bd q0 q1 s (fun x hx => h x (List.mem_cons_of_mem _ hx))
  have tb : ∀ a : Int, 0 ≤ a → a < n → 0 ≤ tr e.2.1 a ∧ tr e.2.1 a < n := fun a a0 a1 => tr_rng he.1 (by have := he.2.1; omega) a0 a1
  rw [ndd]
  exact mnr_ok n (fun a a0 a1 => (ih _ (tb a a0 a1).1 (tb a a0 a1).2).1) (by omega)
theorem ndd_mn0 {n : Nat} {q p v : Int} (hn : n ≤ 7) (q0 : 0 ≤ q) (q1 : q < n) (p0 : 0 ≤ p) (p1 : p < n) (h : isMn n (fun a => if a = q then 0 else 1000) p v) : v = ndd n q [] p := by
  obtain ⟨⟨x, x0, x1, x2⟩, h2⟩ := h
  have h3 := h2 q q0 q1
  rw [ndd]
  simp only [if_pos] at h3
  simp only [] at x2
  by_cases c : x = q
  · subst c
    rw [if_pos rfl] at x2
    omega
  · rw [if_neg c] at x2
    have := apt_nn (a := p) (b := x)
    have : apt p q ≤ 6 := by unfold apt; split <;> omega
    omega
/-- no way is nearer beside: it goes down -/
theorem ndd_down {n : Nat} {q p : Int} {e : elt} {s : List elt} (q0 : 0 ≤ q) (q1 : q < n) (h : ∀ x ∈ e :: s, okE n x) (p0 : 0 ≤ p) (p1 : p < n) (h1 : ¬ (0 < p ∧ ndd n q (e :: s) (p - 1) = ndd n q (e :: s) p - 1)) (h2 : ¬ (p + 1 < n ∧ ndd n q (e :: s) (p + 1) = ndd n q (e :: s) p - 1)) : ndd n q s (tr e.2.1 p) = ndd n q (e :: s) p := by
  obtain ⟨⟨x, x0, x1, x2⟩, m1⟩ := ndd_mn q0 q1 h p
  simp only [] at x2 m1
  have mp := m1 p p0 p1
  have ap : apt p p = 0 := by unfold apt; split <;> omega
  by_cases c : x = p
  · subst c
    omega
  · exfalso
    by_cases d : x < p
    · obtain ⟨⟨y, y0, y1, y2⟩, m2⟩ := ndd_mn q0 q1 h (p - 1)
      simp only [] at y2 m2
      have b1 := m2 x x0 x1
      have b2 := m1 y y0 y1
      have e1 : apt (p - 1) x = apt p x - 1 := by unfold apt; split <;> split <;> omega
      have e2 : apt p y ≤ apt (p - 1) y + 1 := by unfold apt; split <;> split <;> omega
      exact h1 ⟨by omega, by omega⟩
    · obtain ⟨⟨y, y0, y1, y2⟩, m2⟩ := ndd_mn q0 q1 h (p + 1)
      simp only [] at y2 m2
      have b1 := m2 x x0 x1
      have b2 := m1 y y0 y1
      have e1 : apt (p + 1) x = apt p x - 1 := by unfold apt; split <;> split <;> omega
      have e2 : apt p y ≤ apt (p + 1) y + 1 := by unfold apt; split <;> split <;> omega
      exact h2 ⟨by omega, by omega⟩
theorem ndd_last {n : Nat} {q p : Int} (q0 : 0 ≤ q) (q1 : q < n) (p0 : 0 ≤ p) (p1 : p < n) (hp : 0 < ndd n q [] p) : (0 < p ∧ ndd n q [] (p - 1) = ndd n q [] p - 1) ∨ (p + 1 < n ∧ ndd n q [] (p + 1) = ndd n q [] p - 1) := by
  simp only [ndd] at *
  by_cases c : q < p
  · left
    refine ⟨by omega, ?_⟩
    unfold apt
    split <;> split <;> omega
  · right
    unfold apt at *
    split at hp
    · refine ⟨by omega, ?_⟩
      split <;> (try split) <;> omega
    · omega
/-- where the i-th is drawn in -/
def dra (n : Nat) (q i : Int) : Nat → List elt → Int → Int → Int → Int
  | 0, _, _, _, _ => -1
  | f + 1, s, g, a, d => if 0 < a ∧ ndd n q s (a - 1) = ndd n q s a - 1 then (if d = i then 10 * g + a - 1 else dra n q i f s g (a - 1) (d + 1)) else if a + 1 < n ∧ ndd n q s (a + 1) = ndd n q s a - 1 then (if d = i then 10 * g + a else dra n q i f s g (a + 1) (d + 1)) else dra n q i f (s.drop 1) (g + 1) (tr (el s 0).2.1 a) d
def drC (σ : sgm) (t x l : Int) : Prop := 0 ≤ t ∧ t < σ.1.length ∧ 0 ≤ x ∧ x < (lad σ.1 t).1 ∧ 0 ≤ l ∧ l < (lad σ.1 t).1
noncomputable def q_drawn (σ : sgm) (t x l : Int) : Int := @ite _ (drC σ t x l) (Classical.propDecidable _) (if pln (lad σ.1 t).2 = 1 then ndd (lad σ.1 t).1.toNat l (lad σ.1 t).2 x else -2) (-1)
noncomputable def q_drawnAt (σ : sgm) (t x l i : Int) : Int := @ite _ (drC σ t x l ∧ pln (lad σ.1 t).2 = 1 ∧ 0 ≤ i ∧ i < ndd (lad σ.1 t).1.toNat l (lad σ.1 t).2 x) (Classical.propDecidable _) (dra (lad σ.1 t).1.toNat l i 300 (lad σ.1 t).2 0 x 0) (-1)
