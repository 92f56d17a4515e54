/-! ===== orders by number ===== -/
set_option maxRecDepth 100000
theorem rk_surj : ∀ (L : List Int), L.Pairwise (· < ·) → ∀ v, 0 ≤ v → v < fac L.length → ∃ l : List Int, l.Perm L ∧ rk l = v := by
  have main : ∀ (m : Nat) (L : List Int), L.length = m → L.Pairwise (· < ·) → ∀ v, 0 ≤ v → v < fac m → ∃ l : List Int, l.Perm L ∧ rk l = v := by
    intro m
    induction m with
    | zero =>
      intro L hL _ v h1 h2
      have : L = [] := List.eq_nil_of_length_eq_zero hL
      subst this
      exact ⟨[], List.Perm.refl _, by simp only [fac] at h2; simp only [rk]; omega⟩
    | succ m ih =>
      intro L hL hs v h1 h2
      have hf := fac_pos m
      have hq0 : 0 ≤ v / fac m := Int.ediv_nonneg h1 (by omega)
      have hr0 : 0 ≤ v % fac m := Int.emod_nonneg _ (by omega)
      have hr1 : v % fac m < fac m := Int.emod_lt_of_pos _ hf
      have hqr : v / fac m * fac m + v % fac m = v := by rw [Int.mul_comm]; exact Int.mul_ediv_add_emod v (fac m)
      have hq1 : v / fac m < (m : Int) + 1 := by
        apply Int.ediv_lt_of_lt_mul hf
        simpa [fac] using h2
      generalize v / fac m = q at *
      generalize v % fac m = r at *
      have hlt : q.toNat < L.length := by omega
      obtain ⟨L1, a, L2, hL2, hl1⟩ : ∃ L1 a L2, L = L1 ++ a :: L2 ∧ L1.length = q.toNat :=
        ⟨L.take q.toNat, L[q.toNat], L.drop (q.toNat + 1), by rw [List.getElem_cons_drop, List.take_append_drop], by rw [List.length_take]; omega⟩
      subst hL2
      obtain ⟨p1, p2, p3⟩ := List.pairwise_append.mp hs
      obtain ⟨p4, p5⟩ := List.pairwise_cons.mp p2
      have hlen : (L1 ++ L2).length = m := by
        simp only [List.length_append, List.length_cons] at hL ⊢
        omega
      obtain ⟨l, hl, hr⟩ := ih (L1 ++ L2) hlen (List.pairwise_append.mpr ⟨p1, p5, fun x hx y hy => p3 x hx y (List.mem_cons_of_mem _ hy)⟩) r hr0 hr1
      refine ⟨a :: l, (List.Perm.cons a hl).trans List.perm_middle.symm, ?_⟩
      have hc : cl a l = q := by
        rw [cl_perm hl, cl_append, cl_all (fun x hx => p3 x hx a List.mem_cons_self), cl_none (fun x hx => Int.le_of_lt (p4 x hx)), hl1]
        omega
      simp only [rk]
      rw [hc, hl.length_eq, hlen, hr]
      exact hqr
  intro L hs v h1 h2
  exact main L.length L rfl hs v h1 h2
theorem ord_ex (n : Nat) (v : Int) (h1 : 0 ≤ v) (h2 : v < fac n) : ∃ l : List Int, isP n l ∧ rk l = v :=
  rk_surj (idl n) (idl_asc n 0) v h1 (by rw [idl, seg_len]; exact h2)
/-- the order with a number -/
noncomputable def ord (n : Nat) (v : Int) : List Int := Classical.epsilon (fun l : List Int => isP n l ∧ (0 ≤ v → v < fac n → rk l = v))
theorem ord_sp (n : Nat) (v : Int) : isP n (ord n v) ∧ (0 ≤ v → v < fac n → rk (ord n v) = v) := by
  refine Classical.epsilon_spec (p := fun l : List Int => isP n l ∧ (0 ≤ v → v < fac n → rk l = v)) ?_
  by_cases h : 0 ≤ v ∧ v < fac n
  · obtain ⟨l, h1, h2⟩ := ord_ex n v h.1 h.2
    exact ⟨l, h1, fun _ _ => h2⟩
  · exact ⟨idl n, isP_id n, fun a b => absurd ⟨a, b⟩ h⟩
theorem ord_P {n : Nat} {v : Int} : isP n (ord n v) := (ord_sp n v).1
theorem ord_ok {n : Nat} {v : Int} (h1 : 0 ≤ v) (h2 : v < fac n) : isP n (ord n v) ∧ rk (ord n v) = v := ⟨ord_P, (ord_sp n v).2 h1 h2⟩
theorem ord_rk {n : Nat} {v : Int} (h1 : 0 ≤ v) (h2 : v < fac n) : rk (ord n v) = v := (ord_ok h1 h2).2
theorem ord_of {n : Nat} {l : List Int} (h : isP n l) : ord n (rk l) = l := by
  have h1 := ord_ok (n := n) (rk_nonneg l) (isP.lt h)
  exact isP.eq h1.1 h h1.2
theorem ord_zero (n : Nat) : ord n 0 = idl n := by
  have := ord_of (isP_id n)
  rwa [rk_idl] at this
/-- an entry of a list by an Int -/
def at0 (l : List Int) (i : Int) : Int := l.getD i.toNat 0
theorem at0_seg {f : Int → Int} {m : Nat} {s i : Int} (h1 : 0 ≤ i) (h2 : i < m) : at0 (seg f s m) i = f (s + i) := by
  unfold at0
  rw [List.getD_eq_getElem?_getD, seg_get f m s i.toNat (by omega)]
  simp only [Option.getD_some]
  congr 1
  omega
theorem seg_at0 (l : List Int) : seg (at0 l) 0 l.length = l := by
  have gen : ∀ (l : List Int) (s : Int) (f : Int → Int), (∀ k : Nat, k < l.length → f (s + k) = l.getD k 0) → seg f s l.length = l := by
    intro l
    induction l with
    | nil => intro s f _; rfl
    | cons a t ih =>
      intro s f h
      have h0 := h 0 (by simp)
      simp only [List.length_cons, seg]
      rw [ih (s + 1) f (fun k hk => by
        have := h (k + 1) (by simp; omega)
        simp only [List.getD_cons_succ] at this
        rw [← this]
        congr 1
        omega)]
      simp at h0
      rw [h0]
  exact gen l 0 (at0 l) (fun k hk => by unfold at0; congr 1; omega)
theorem at0_mem {l : List Int} {i : Int} (h1 : 0 ≤ i) (h2 : i < l.length) : at0 l i ∈ l := by
  unfold at0
  rw [List.getD_eq_getElem?_getD, List.getElem?_eq_getElem (by omega)]
  simp
/-- orders as functions -/
def isF (n : Nat) (h : Int → Int) : Prop := isP n (seg h 0 n)
theorem isF.bd {n : Nat} {h : Int → Int} (p : isF n h) {i : Int} (h1 : 0 ≤ i) (h2 : i < n) : 0 ≤ h i ∧ h i < n :=
  (isP.mem p).mp (seg_mem_of h1 (by omega))
theorem isF.sur {n : Nat} {h : Int → Int} (p : isF n h) {x : Int} (h1 : 0 ≤ x) (h2 : x < n) : ∃ i : Int, 0 ≤ i ∧ i < n ∧ h i = x := by
  obtain ⟨j, q1, q2, q3⟩ := seg_mem ((isP.mem p).mpr ⟨h1, h2⟩)
  exact ⟨j, q1, by omega, q3⟩
theorem seg_nodup_inj {f : Int → Int} : ∀ (m : Nat) (s : Int), (seg f s m).Nodup → ∀ i j, s ≤ i → i < s + m → s ≤ j → j < s + m → f i = f j → i = j := by
  intro m
  induction m with
  | zero => intro s _ i j h1 h2; omega
  | succ m ih =>
    intro s hn i j h1 h2 h3 h4 e
    obtain ⟨p1, p2⟩ := List.nodup_cons.mp hn
    by_cases hi : i = s
    · by_cases hj : j = s
      · omega
      · exact absurd (hi ▸ e ▸ seg_mem_of (f := f) (i := s + 1) (j := j) (m := m) (by omega) (by omega)) (by rw [← hi]; rw [← hi] at p1; rw [e] at p1; exact fun h => p1 (by simpa [e] using h))
    · by_cases hj : j = s
      · subst hj
        exact absurd (e ▸ seg_mem_of (f := f) (i := j + 1) (j := i) (m := m) (by omega) (by omega)) p1
      · exact ih (s + 1) p2 i j (by omega) (by omega) (by omega) (by omega) e
theorem isF.inj {n : Nat} {h : Int → Int} (p : isF n h) {i j : Int} (h1 : 0 ≤ i) (h2 : i < n) (h3 : 0 ≤ j) (h4 : j < n) (e : h i = h j) : i = j :=
  seg_nodup_inj n 0 (isP.nodup p) i j h1 (by omega) h3 (by omega) e
