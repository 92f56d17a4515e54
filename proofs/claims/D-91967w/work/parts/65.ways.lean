/-! ===== ways: what they are ===== -/
set_option maxRecDepth 100000
def wyA (e : elt) : Int := if e.1 = 3 then e.2.2.1 else 1
def wyB (e : elt) : Int := if e.1 = 3 then e.2.2.2 else 1
theorem wy_ok {n : Int} {e : elt} (h : okE n e) : 0 ≤ wyA e ∧ wyA e ≤ wyB e ∧ 1 ≤ wyB e ∧ wyB e ≤ 4 := by
  obtain ⟨_, _, h⟩ := h
  unfold wyA wyB
  split <;> omega
noncomputable def spW (n : Nat) (e : elt) (w : Int → Int) : Nat → Int → Int
  | 0, _ => 0
  | m + 1, v => spW n e w m v + (if v = pas n m e 1 then w m * wyA e else 0) + (if v = m then w m * (wyB e - wyA e) else 0)
noncomputable def spL (n : Nat) : List elt → (Int → Int) → (Int → Int)
  | [], w => w
  | e :: L, w => spL n L (spW n e w (fac n).toNat)
def pr : List elt → Int
  | [] => 1
  | e :: L => wyB e * pr L
theorem pr_bd {n : Int} : ∀ (L : List elt), (∀ e ∈ L, okE n e) → 1 ≤ pr L ∧ pr L ≤ 4 ^ (mb L).toNat
  | [], _ => by simp [pr, mb]
  | e :: L, h => by
    have he := wy_ok (h e (List.mem_cons_self ..))
    obtain ⟨i1, i2⟩ := pr_bd L (fun x hx => h x (List.mem_cons_of_mem _ hx))
    have hm := (mb_bd L).1
    rw [pr, mb]
    have h1 : 1 ≤ wyB e * pr L := by
      have := Int.mul_le_mul he.2.2.1 i1 (by omega) (by omega)
      omega
    refine ⟨h1, ?_⟩
    by_cases c : e.1 = 3
    · rw [if_pos c, show (1 + mb L).toNat = (mb L).toNat + 1 by omega, Int.pow_succ, Int.mul_comm]
      exact Int.mul_le_mul i2 he.2.2.2 (by omega) (by omega)
    · rw [if_neg c, Int.zero_add]
      have : wyB e = 1 := by unfold wyB; rw [if_neg c]
      rw [this, Int.one_mul]
      exact i2
theorem pr_20 {n : Int} {L : List elt} (h : okL n L) : 1 ≤ pr L ∧ pr L ≤ 1099511627776 := by
  obtain ⟨a, b⟩ := pr_bd L h.2.2.2.2
  refine ⟨a, Int.le_trans b ?_⟩
  have hm := mb_bd L
  have h20 := h.2.2.2.1
  have : ∀ k, k ≤ 20 → (4 : Int) ^ k ≤ 1099511627776 := by decide
  exact this _ (by omega)
theorem sm_add {f g : Int → Int} : ∀ (m : Nat) (i : Int), sm (fun v => f v + g v) i m = sm f i m + sm g i m
  | 0, _ => rfl
  | m + 1, i => by simp only [sm]; rw [sm_add m (i + 1)]; omega
theorem sm_zero : ∀ (m : Nat) (i : Int), sm (fun _ => 0) i m = 0
  | 0, _ => rfl
  | m + 1, i => by simp only [sm]; rw [sm_zero m (i + 1)]; omega
theorem sm_one {p x : Int} : ∀ (m : Nat) (i : Int), i ≤ p → p < i + m → sm (fun v => if v = p then x else 0) i m = x
  | 0, i, h1, h2 => by omega
  | m + 1, i, h1, h2 => by
    simp only [sm]
    by_cases c : i = p
    · subst c
      rw [if_pos rfl, sm_congr (f := fun v => if v = i then x else 0) (g := fun _ => 0) m (i + 1) (fun j a b => if_neg (by omega)), sm_zero]
      omega
    · rw [if_neg c, sm_one m (i + 1) (by omega) (by omega)]
      omega
theorem sm_get {f : Int → Int} {v : Int} : ∀ (m : Nat) (i : Int), (∀ j, i ≤ j → j < i + m → 0 ≤ f j) → i ≤ v → v < i + m → f v ≤ sm f i m
  | 0, i, _, h1, h2 => by omega
  | m + 1, i, h, h1, h2 => by
    simp only [sm]
    have nn := sm_nn' (f := f) m (i + 1) (fun j a b => h j (by omega) (by omega))
    by_cases c : v = i
    · subst c; omega
    · have := sm_get (f := f) (v := v) m (i + 1) (fun j a b => h j (by omega) (by omega)) (by omega) (by omega)
      have := h i (by omega) (by omega)
      omega
theorem spW_sum {n : Nat} {e : elt} {w : Int → Int} (he : okE n e) : ∀ (m : Nat), (m : Int) ≤ fac n → sm (spW n e w m) 0 (fac n).toNat = wyB e * sm w 0 m
  | 0, _ => by
    rw [show spW n e w 0 = fun _ => 0 from rfl, sm_zero]
    simp [sm]
  | m + 1, h => by
    have fp := fac_pos n
    have pb := pas_bd (t := 1) (o := m) he (by omega) (by omega)
    have ih := spW_sum (w := w) he m (by omega)
    rw [show spW n e w (m + 1) = fun v => (spW n e w m v + (if v = pas n m e 1 then w m * wyA e else 0)) + (if v = (m : Int) then w m * (wyB e - wyA e) else 0) from rfl]
    rw [sm_add, sm_add, ih, sm_one _ _ (by omega) (by omega), sm_one _ _ (by omega) (by omega), sm_snoc, Int.zero_add, Int.mul_add, Int.mul_sub, Int.mul_comm (wyB e) (w m)]
    omega
theorem spW_nn {n : Nat} {e : elt} {w : Int → Int} (he : okE n e) (h : ∀ v, 0 ≤ v → v < fac n → 0 ≤ w v) : ∀ (m : Nat) (v : Int), (m : Int) ≤ fac n → 0 ≤ spW n e w m v
  | 0, v, _ => Int.le_refl _
  | m + 1, v, q => by
    have ih := spW_nn he h m v (by omega)
    have hw := h m (by omega) (by omega)
    have wy := wy_ok he
    have h1 : 0 ≤ w m * wyA e := Int.mul_nonneg hw wy.1
    have h2 : 0 ≤ w m * (wyB e - wyA e) := Int.mul_nonneg hw (by omega)
    rw [spW]
    split <;> split <;> omega
theorem spW_congr {n : Nat} {e : elt} {w w' : Int → Int} (h : ∀ v, 0 ≤ v → v < fac n → w v = w' v) : ∀ (m : Nat) (v : Int), (m : Int) ≤ fac n → spW n e w m v = spW n e w' m v
  | 0, v, _ => rfl
  | m + 1, v, q => by rw [spW, spW, spW_congr h m v (by omega), h m (by omega) (by omega)]
/-- ways that are good: none below zero, all together so many -/
def okW (n : Nat) (w : Int → Int) (B : Int) : Prop := (∀ v, 0 ≤ v → v < fac n → 0 ≤ w v) ∧ sm w 0 (fac n).toNat ≤ B
theorem okW.le {n : Nat} {w : Int → Int} {B v : Int} (h : okW n w B) (v0 : 0 ≤ v) (v1 : v < fac n) : 0 ≤ w v ∧ w v ≤ B := by
  refine ⟨h.1 v v0 v1, ?_⟩
  have := sm_get (f := w) (v := v) (fac n).toNat 0 (fun j a b => h.1 j a (by omega)) v0 (by omega)
  have := h.2
  omega
theorem okW.step {n : Nat} {w : Int → Int} {e : elt} {s : List elt} {B : Int} (h : okW n w B) (he : okE n e) (hs : 1 ≤ pr s) (hB : B * pr (e :: s) ≤ 1099511627776) : okW n (spW n e w (fac n).toNat) (wyB e * B) ∧ (wyB e * B) * pr s ≤ 1099511627776 := by
  have fp := fac_pos n
  have wy := wy_ok he
  refine ⟨⟨fun v _ _ => spW_nn he h.1 _ v (by omega), ?_⟩, ?_⟩
  · rw [spW_sum he _ (by omega)]
    exact Int.mul_le_mul_of_nonneg_left h.2 (by omega)
  · rw [pr] at hB
    have : wyB e * B * pr s = B * (wyB e * pr s) := by rw [Int.mul_comm (wyB e) B, Int.mul_assoc]
    omega
theorem okW.fin {n : Nat} {w : Int → Int} {s : List elt} {B : Int} (h : okW n w B) (hs : 1 ≤ pr s) (hB : B * pr s ≤ 1099511627776) : B ≤ 1099511627776 := by
  by_cases c : B ≤ 0
  · omega
  · have : B * 1 ≤ B * pr s := Int.mul_le_mul_of_nonneg_left hs (by omega)
    omega
theorem spL_ok {n : Nat} : ∀ (s : List elt) (w : Int → Int) (B : Int), (∀ e ∈ s, okE n e) → okW n w B → B * pr s ≤ 1099511627776 → okW n (spL n s w) 1099511627776
  | [], w, B, _, h, hB => by
    rw [pr, Int.mul_one] at hB
    exact ⟨h.1, by have := h.2; rw [spL]; omega⟩
  | e :: s, w, B, he, h, hB => by
    have ps := (pr_bd s (fun x hx => he x (List.mem_cons_of_mem _ hx))).1
    obtain ⟨a, b⟩ := h.step (he e (List.mem_cons_self ..)) ps hB
    rw [spL]
    exact spL_ok s _ _ (fun x hx => he x (List.mem_cons_of_mem _ hx)) a b
def w1 (o : Int) (v : Int) : Int := if v = o then 1 else 0
theorem w1_ok {n : Nat} {o : Int} (a : 0 ≤ o) (b : o < fac n) : okW n (w1 o) 1 := by
  refine ⟨fun v _ _ => by unfold w1; split <;> omega, ?_⟩
  rw [show w1 o = fun v => if v = o then (1 : Int) else 0 from rfl, sm_one _ _ (by omega) (by omega)]
  omega
theorem spL_20 {n : Nat} {L : List elt} {o : Int} (ok : okL n L) (a : 0 ≤ o) (b : o < fac n) : okW n (spL n L (w1 o)) 1099511627776 := spL_ok L _ 1 ok.2.2.2.2 (w1_ok a b) (by rw [Int.one_mul]; exact (pr_20 ok).2)
noncomputable def q_ways (σ : sgm) (t : Int) : Int := @ite _ (0 ≤ t ∧ t < σ.1.length) (Classical.propDecidable _) (pr (lad σ.1 t).2) (-1)
def odC (σ : sgm) (t o : Int) : Prop := 0 ≤ t ∧ t < σ.1.length ∧ isO (lad σ.1 t).1 o
noncomputable def wyF (σ : sgm) (t o : Int) : Int → Int := spL (lad σ.1 t).1.toNat (lad σ.1 t).2 (w1 o)
/-- the sum of ways with a number on a leg -/
noncomputable def smD (n : Nat) (w : Int → Int) (x l : Int) : Int := sm (fun v => if dg n v l = x then w v else 0) 0 (fac n).toNat
noncomputable def q_odds (σ : sgm) (t o x l : Int) : Int := @ite _ (odC σ t o ∧ 0 ≤ x ∧ x < (lad σ.1 t).1 ∧ 0 ≤ l ∧ l < (lad σ.1 t).1) (Classical.propDecidable _) (smD (lad σ.1 t).1.toNat (wyF σ t o) x l) (-1)
noncomputable def q_oddsOf (σ : sgm) (t o e : Int) : Int := @ite _ (odC σ t o ∧ isO (lad σ.1 t).1 e) (Classical.propDecidable _) (wyF σ t o e) (-1)
noncomputable def q_possible (σ : sgm) (t o : Int) : Int := @ite _ (odC σ t o) (Classical.propDecidable _) (cnt (fun v => decide (0 < wyF σ t o v)) 0 (fac (lad σ.1 t).1.toNat).toNat) (-1)
