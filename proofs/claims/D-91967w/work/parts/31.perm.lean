/-! ===== orders: permutations as lists, their numbers ===== -/
set_option maxRecDepth 100000
/-- how many of t are less than a -/
def cl (a : Int) : List Int → Int
  | [] => 0
  | x :: t => (if x < a then 1 else 0) + cl a t
def fac : Nat → Int
  | 0 => 1
  | n + 1 => (n + 1) * fac n
theorem fac_pos : ∀ n, 0 < fac n
  | 0 => by decide
  | n + 1 => Int.mul_pos (by omega) (fac_pos n)
/-- the number of an order -/
def rk : List Int → Int
  | [] => 0
  | a :: t => cl a t * fac t.length + rk t
theorem cl_nonneg (a : Int) : ∀ t, 0 ≤ cl a t
  | [] => by simp [cl]
  | x :: t => by
    have := cl_nonneg a t
    simp only [cl]
    split <;> omega
theorem cl_le (a : Int) : ∀ t, cl a t ≤ t.length
  | [] => by simp [cl]
  | x :: t => by
    have := cl_le a t
    simp only [cl, List.length_cons]
    split <;> omega
theorem cl_append (a : Int) (s t : List Int) : cl a (s ++ t) = cl a s + cl a t := by
  induction s with
  | nil => simp [cl]
  | cons x s ih => simp only [List.cons_append, cl, ih]; omega
theorem cl_perm {a : Int} {s t : List Int} (h : s.Perm t) : cl a s = cl a t := by
  induction h with
  | nil => rfl
  | cons x _ ih => simp only [cl, ih]
  | swap x y l => simp only [cl]; omega
  | trans _ _ ih1 ih2 => rw [ih1, ih2]
theorem cl_none {a : Int} {t : List Int} (h : ∀ x ∈ t, a ≤ x) : cl a t = 0 := by
  induction t with
  | nil => rfl
  | cons x t ih =>
    have h1 := h x List.mem_cons_self
    simp only [cl, ih (fun y hy => h y (List.mem_cons_of_mem _ hy))]
    rw [if_neg (by omega)]
    rfl
theorem cl_all {a : Int} {t : List Int} (h : ∀ x ∈ t, x < a) : cl a t = t.length := by
  induction t with
  | nil => rfl
  | cons x t ih =>
    have h1 := h x List.mem_cons_self
    simp only [cl, ih (fun y hy => h y (List.mem_cons_of_mem _ hy)), List.length_cons]
    rw [if_pos h1]
    omega
theorem rk_nonneg : ∀ l, 0 ≤ rk l
  | [] => by simp [rk]
  | a :: t => by
    have h1 := Int.mul_nonneg (cl_nonneg a t) (Int.le_of_lt (fac_pos t.length))
    have := rk_nonneg t
    simp only [rk]
    omega
theorem rk_lt : ∀ l, rk l < fac l.length
  | [] => by simp [rk, fac]
  | a :: t => by
    have h1 := rk_lt t
    have h2 := cl_le a t
    have h3 := Int.mul_le_mul_of_nonneg_right h2 (Int.le_of_lt (fac_pos t.length))
    simp only [rk, List.length_cons, fac]
    have e : ((t.length : Int) + 1) * fac t.length = t.length * fac t.length + fac t.length := by rw [Int.add_mul, Int.one_mul]
    omega
/-- counting below: strictly more below the greater of two members -/
theorem cl_lt {a b : Int} (hab : a < b) : ∀ {l : List Int}, a ∈ l → cl a l < cl b l := by
  have mono : ∀ l : List Int, cl a l ≤ cl b l := by
    intro l
    induction l with
    | nil => simp [cl]
    | cons x t ih =>
      simp only [cl]
      split <;> split <;> omega
  intro l
  induction l with
  | nil => intro h; cases h
  | cons x t ih =>
    intro h
    simp only [cl]
    rcases List.mem_cons.mp h with e | e
    · subst e
      have := mono t
      rw [if_neg (by omega), if_pos hab]
      omega
    · have := ih e
      split <;> split <;> omega
theorem div_unique {a b c d m : Int} (hm : 0 < m) (h : a * m + b = c * m + d) (hb : 0 ≤ b) (hb2 : b < m) (hd : 0 ≤ d) (hd2 : d < m) : a = c ∧ b = d := by
  have key : ∀ {x y p q : Int}, x * m + p = y * m + q → 0 ≤ p → q < m → ¬ y < x := by
    intro x y p q h hp hq hlt
    have h1 : (y + 1) * m ≤ x * m := Int.mul_le_mul_of_nonneg_right (by omega) (by omega)
    rw [Int.add_mul, Int.one_mul] at h1
    omega
  have h1 := key h hb hd2
  have h2 := key h.symm hd hb2
  have e : a = c := by omega
  subst e
  exact ⟨rfl, by omega⟩
theorem rk_inj : ∀ {l l' : List Int}, l.Perm l' → l.Nodup → rk l = rk l' → l = l'
  | [], l', h, _, _ => (List.nil_perm.mp h).symm
  | a :: t, [], h, _, _ => absurd h.length_eq (by simp)
  | a :: t, a' :: t', h, hn, e => by
    have hlen : t.length = t'.length := by simpa using h.length_eq
    simp only [rk] at e
    rw [hlen] at e
    obtain ⟨e1, e2⟩ := div_unique (fac_pos t'.length) e (rk_nonneg t) (hlen ▸ rk_lt t) (rk_nonneg t') (rk_lt t')
    have f1 : cl a (a :: t) = cl a t := by simp [cl]
    have f2 : cl a' (a' :: t') = cl a' t' := by simp [cl]
    have f3 : cl a' (a :: t) = cl a' (a' :: t') := cl_perm h
    have haa : a = a' := by
      rcases Int.lt_trichotomy a a' with q | q | q
      · have := cl_lt q (l := a :: t) List.mem_cons_self
        omega
      · exact q
      · have hm : a' ∈ a :: t := h.mem_iff.mpr List.mem_cons_self
        have := cl_lt q hm
        omega
    subst haa
    rw [rk_inj (List.Perm.cons_inv h) (List.nodup_cons.mp hn).2 e2]
/-- ascending: number 0 -/
theorem rk_asc : ∀ {l : List Int}, l.Pairwise (· < ·) → rk l = 0
  | [], _ => rfl
  | a :: t, h => by
    obtain ⟨h1, h2⟩ := List.pairwise_cons.mp h
    simp only [rk, rk_asc h2, cl_none (fun x hx => Int.le_of_lt (h1 x hx))]
    omega
theorem rk_desc : ∀ {l : List Int}, l.Pairwise (· > ·) → rk l = fac l.length - 1
  | [], _ => by simp [rk, fac]
  | a :: t, h => by
    obtain ⟨h1, h2⟩ := List.pairwise_cons.mp h
    simp only [rk, rk_desc h2, cl_all (fun x hx => h1 x hx), List.length_cons, fac]
    rw [Int.add_mul, Int.one_mul]
    omega
theorem rk_app {s s' : List Int} (h : s.Perm s') : ∀ p, rk (p ++ s') - rk (p ++ s) = rk s' - rk s
  | [] => by simp
  | x :: p => by
    have ih := rk_app h p
    have hp : (p ++ s).Perm (p ++ s') := List.Perm.append_left p h
    simp only [List.cons_append, rk, cl_perm hp, hp.length_eq]
    omega
/-- the next order -/
theorem rk_next {p t1 t2 : List Int} {a b : Int} (hd : (t1 ++ b :: t2).Pairwise (· > ·)) (hab : a < b) (ht2 : ∀ x ∈ t2, x < a) : rk (p ++ b :: (t1 ++ a :: t2).reverse) = rk (p ++ a :: (t1 ++ b :: t2)) + 1 ∧ (p ++ b :: (t1 ++ a :: t2).reverse).Perm (p ++ a :: (t1 ++ b :: t2)) := by
  have hperm : (a :: (t1 ++ b :: t2)).Perm (b :: (t1 ++ a :: t2).reverse) := by
    have h1 : (a :: (t1 ++ b :: t2)).Perm (a :: b :: (t1 ++ t2)) := List.Perm.cons a List.perm_middle
    have h2 : (a :: b :: (t1 ++ t2)).Perm (b :: a :: (t1 ++ t2)) := List.Perm.swap b a _
    have h3 : (b :: a :: (t1 ++ t2)).Perm (b :: (t1 ++ a :: t2)) := List.Perm.cons b List.perm_middle.symm
    have h4 : (b :: (t1 ++ a :: t2)).Perm (b :: (t1 ++ a :: t2).reverse) := List.Perm.cons b (List.reverse_perm _).symm
    exact h1.trans (h2.trans (h3.trans h4))
  obtain ⟨q1, q2, q3⟩ := List.pairwise_append.mp hd
  obtain ⟨q4, q5⟩ := List.pairwise_cons.mp q2
  have hbt1 : ∀ x ∈ t1, b < x := fun x hx => q3 x hx b List.mem_cons_self
  have hdesc : (t1 ++ a :: t2).Pairwise (· > ·) := by
    refine List.pairwise_append.mpr ⟨q1, List.pairwise_cons.mpr ⟨fun x hx => ht2 x hx, q5⟩, fun x hx y hy => ?_⟩
    rcases List.mem_cons.mp hy with e | e
    · subst e; have := hbt1 x hx; show y < x; omega
    · exact q3 x hx y (List.mem_cons_of_mem _ e)
  have hasc : (t1 ++ a :: t2).reverse.Pairwise (· < ·) := List.pairwise_reverse.mpr hdesc
  refine ⟨?_, (List.Perm.append_left p hperm).symm⟩
  have h1 := rk_app hperm p
  have h2 : rk (a :: (t1 ++ b :: t2)) = (t2.length : Int) * fac (t1 ++ b :: t2).length + (fac (t1 ++ b :: t2).length - 1) := by
    have hc : cl a (t1 ++ b :: t2) = t2.length := by
      rw [cl_append, cl_none (fun x hx => by have := hbt1 x hx; omega)]
      simp only [cl]
      rw [if_neg (by omega), cl_all ht2]
      omega
    simp only [rk]
    rw [hc, rk_desc hd]
  have h3 : rk (b :: (t1 ++ a :: t2).reverse) = ((t2.length : Int) + 1) * fac (t1 ++ b :: t2).length := by
    have hc : cl b (t1 ++ a :: t2).reverse = (t2.length : Int) + 1 := by
      rw [cl_perm (List.reverse_perm _), cl_append, cl_none (fun x hx => Int.le_of_lt (hbt1 x hx))]
      simp only [cl]
      rw [if_pos hab, cl_all (fun x hx => by have := ht2 x hx; omega)]
      omega
    have hl : (t1 ++ a :: t2).reverse.length = (t1 ++ b :: t2).length := by rw [List.length_reverse, List.length_append, List.length_append]; rfl
    simp only [rk]
    rw [hc, rk_asc hasc, hl, Int.add_zero]
  rw [Int.add_mul, Int.one_mul] at h3
  omega
/-- the orders of n: rearrangements of 0 .. n-1 -/
def idl (n : Nat) : List Int := seg (fun x => x) 0 n
def isP (n : Nat) (l : List Int) : Prop := l.Perm (idl n)
theorem idl_asc : ∀ (m : Nat) (i : Int), (seg (fun x => x) i m).Pairwise (· < ·)
  | 0, _ => List.Pairwise.nil
  | m + 1, i => List.pairwise_cons.mpr ⟨fun x hx => by
      obtain ⟨j, h1, h2, h3⟩ := seg_mem hx
      show i < x
      have h3 : j = x := h3
      omega, idl_asc m (i + 1)⟩
theorem idl_nodup (n : Nat) : (idl n).Nodup := (idl_asc n 0).imp (fun h => Int.ne_of_lt h)
theorem isP.nodup {n : Nat} {l : List Int} (h : isP n l) : l.Nodup := (List.Perm.nodup_iff h).mpr (idl_nodup n)
theorem isP.len {n : Nat} {l : List Int} (h : isP n l) : l.length = n := (List.Perm.length_eq h).trans (seg_len _ _ _)
theorem isP.mem {n : Nat} {l : List Int} (h : isP n l) {x : Int} : x ∈ l ↔ 0 ≤ x ∧ x < n := by
  rw [List.Perm.mem_iff h]
  constructor
  · intro hx
    obtain ⟨j, h1, h2, h3⟩ := seg_mem hx
    have h3 : j = x := h3
    omega
  · intro hx
    exact seg_mem_of (f := fun x => x) (i := 0) hx.1 (by omega)
theorem isP_id (n : Nat) : isP n (idl n) := List.Perm.refl _
theorem isP.eq {n : Nat} {l l' : List Int} (h : isP n l) (h' : isP n l') (e : rk l = rk l') : l = l' := rk_inj (List.Perm.trans h (List.Perm.symm h')) h.nodup e
theorem rk_idl (n : Nat) : rk (idl n) = 0 := rk_asc (idl_asc n 0)
theorem isP.zero {n : Nat} {l : List Int} (h : isP n l) : rk l = 0 ↔ l = idl n := ⟨fun e => h.eq (isP_id n) (e.trans (rk_idl n).symm), fun e => by rw [e, rk_idl]⟩
theorem isP.lt {n : Nat} {l : List Int} (h : isP n l) : rk l < fac n := by have := rk_lt l; rwa [h.len] at this
