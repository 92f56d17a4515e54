/-! ===== inversions, and how many least ladders ===== -/
set_option maxRecDepth 100000
theorem inv_nonneg : ∀ l, 0 ≤ inv l
  | [] => by simp [inv]
  | a :: t => by have := cl_nonneg a t; have := inv_nonneg t; simp only [inv]; omega
theorem inv_zero_rk : ∀ {l}, inv l = 0 → rk l = 0
  | [], _ => rfl
  | a :: t, h => by
    have h1 := cl_nonneg a t
    have h2 := inv_nonneg t
    simp only [inv] at h
    have h3 : cl a t = 0 := by omega
    simp only [rk, h3, inv_zero_rk (l := t) (by omega)]
    omega
/-- twice the inversions -/
theorem inv_le : ∀ l, 2 * inv l ≤ (l.length : Int) * (l.length - 1)
  | [] => by simp [inv]
  | a :: t => by
    have h1 := cl_le a t
    have h2 := inv_le t
    simp only [inv, List.length_cons]
    have e : ((t.length + 1 : Nat) : Int) * (((t.length + 1 : Nat) : Int) - 1) = (t.length : Int) * (t.length - 1) + 2 * t.length := by
      have e1 : (((t.length + 1 : Nat) : Int) - 1) = t.length := by omega
      rw [e1, Int.natCast_add, Int.add_mul, Int.mul_sub]
      omega
    omega
theorem cl_tr_o {k a : Int} (h1 : a ≠ k) (h2 : a ≠ k + 1) : ∀ t, cl a (t.map (tr k)) = cl a t
  | [] => rfl
  | x :: t => by
    simp only [List.map_cons, cl, cl_tr_o h1 h2 t]
    congr 1
    unfold tr
    split <;> split <;> (try split) <;> first | rfl | omega
theorem cl_tr_k {k : Int} : ∀ t : List Int, t.Nodup → k ∉ t → cl (k + 1) (t.map (tr k)) = cl k t + (if k + 1 ∈ t then 1 else 0)
  | [], _, _ => by simp [cl]
  | x :: t, hn, hk => by
    obtain ⟨p1, p2⟩ := List.nodup_cons.mp hn
    have hx : x ≠ k := fun e => hk (e ▸ List.mem_cons_self)
    have ih := cl_tr_k t p2 (fun h => hk (List.mem_cons_of_mem _ h))
    simp only [List.map_cons, cl, ih]
    by_cases e : x = k + 1
    · subst e
      rw [if_neg p1, if_pos List.mem_cons_self]
      unfold tr
      rw [if_neg hx, if_pos rfl, if_pos (by omega), if_neg (by omega)]
      omega
    · have hm : (k + 1 ∈ x :: t) ↔ (k + 1 ∈ t) := by
        rw [List.mem_cons]
        exact ⟨fun h => h.elim (fun q => absurd q.symm e) id, Or.inr⟩
      unfold tr
      rw [if_neg hx, if_neg e]
      simp only [hm]
      split <;> split <;> split <;> omega
theorem cl_tr_k1 {k : Int} : ∀ t : List Int, t.Nodup → k + 1 ∉ t → cl k (t.map (tr k)) = cl (k + 1) t - (if k ∈ t then 1 else 0)
  | [], _, _ => by simp [cl]
  | x :: t, hn, hk => by
    obtain ⟨p1, p2⟩ := List.nodup_cons.mp hn
    have hx : x ≠ k + 1 := fun e => hk (e ▸ List.mem_cons_self)
    have ih := cl_tr_k1 t p2 (fun h => hk (List.mem_cons_of_mem _ h))
    simp only [List.map_cons, cl, ih]
    by_cases e : x = k
    · subst e
      rw [if_neg p1, if_pos List.mem_cons_self]
      unfold tr
      rw [if_pos rfl, if_neg (by omega), if_pos (by omega)]
      omega
    · have hm : (k ∈ x :: t) ↔ (k ∈ t) := by
        rw [List.mem_cons]
        exact ⟨fun h => h.elim (fun q => absurd q.symm e) id, Or.inr⟩
      unfold tr
      rw [if_neg e, if_neg hx]
      simp only [hm]
      split <;> split <;> split <;> omega
theorem inv_tr_no {k : Int} : ∀ t : List Int, t.Nodup → (k ∉ t ∨ k + 1 ∉ t) → inv (t.map (tr k)) = inv t
  | [], _, _ => rfl
  | x :: t, hn, hk => by
    obtain ⟨p1, p2⟩ := List.nodup_cons.mp hn
    have ih := inv_tr_no t p2 (hk.imp (fun h q => h (List.mem_cons_of_mem _ q)) (fun h q => h (List.mem_cons_of_mem _ q)))
    simp only [List.map_cons, inv, ih]
    congr 1
    by_cases e : x = k
    · subst e
      have hk1 : x + 1 ∉ t := hk.elim (fun h => absurd List.mem_cons_self h) (fun h q => h (List.mem_cons_of_mem _ q))
      have := cl_tr_k t p2 p1
      rw [if_neg hk1] at this
      unfold tr at this ⊢
      rw [if_pos rfl]
      omega
    · by_cases e1 : x = k + 1
      · subst e1
        have hk1 : k ∉ t := hk.elim (fun h q => h (List.mem_cons_of_mem _ q)) (fun h => absurd List.mem_cons_self h)
        have := cl_tr_k1 t p2 p1
        rw [if_neg hk1] at this
        have e2 : tr k (k + 1) = k := by unfold tr; rw [if_neg (by omega), if_pos rfl]
        rw [e2]
        omega
      · have e2 : tr k x = x := by unfold tr; rw [if_neg e, if_neg e1]
        rw [e2, cl_tr_o e e1]
/-- numbers k, k+1 change: one inversion more or less -/
theorem inv_tr {h : Int → Int} {k : Int} : ∀ (m : Nat) (s p q : Int), (seg h s m).Nodup → s ≤ p → p < s + m → s ≤ q → q < s + m → h p = k → h q = k + 1 → inv ((seg h s m).map (tr k)) = inv (seg h s m) + (if p < q then 1 else -1) := by
  intro m
  induction m with
  | zero => intro s p q _ h1 h2; omega
  | succ m ih =>
    intro s p q hn h1 h2 h3 h4 hp hq
    have hn' := hn
    obtain ⟨n1, n2⟩ := List.nodup_cons.mp hn
    have hpq : p ≠ q := fun e => by rw [e, hq] at hp; omega
    simp only [seg, List.map_cons, inv]
    by_cases e : s = p
    · subst e
      rw [if_pos (by omega)]
      have hm : k + 1 ∈ seg h (s + 1) m := by rw [← hq]; exact seg_mem_of (by omega) (by omega)
      have hk : k ∉ seg h (s + 1) m := by rw [← hp]; exact n1
      have e1 := cl_tr_k (k := k) _ n2 hk
      rw [if_pos hm] at e1
      have e2 := inv_tr_no (k := k) _ n2 (Or.inl hk)
      have e3 : tr k (h s) = k + 1 := by unfold tr; rw [if_pos hp]
      rw [e3, hp, e1, e2]
      omega
    · by_cases e' : s = q
      · subst e'
        rw [if_neg (by omega)]
        have hm : k ∈ seg h (s + 1) m := by rw [← hp]; exact seg_mem_of (by omega) (by omega)
        have hk : k + 1 ∉ seg h (s + 1) m := by rw [← hq]; exact n1
        have e1 := cl_tr_k1 (k := k) _ n2 hk
        rw [if_pos hm] at e1
        have e2 := inv_tr_no (k := k) _ n2 (Or.inr hk)
        have e3 : tr k (h s) = k := by unfold tr; rw [if_neg (by omega), if_pos hq]
        rw [e3, hq, e1, e2]
        omega
      · have hs1 : h s ≠ k := fun e2 => e (seg_nodup_inj (m + 1) s hn' s p (by omega) (by omega) h1 h2 (e2.trans hp.symm))
        have hs2 : h s ≠ k + 1 := fun e2 => e' (seg_nodup_inj (m + 1) s hn' s q (by omega) (by omega) h3 h4 (e2.trans hq.symm))
        have e3 : tr k (h s) = h s := by unfold tr; rw [if_neg hs1, if_neg hs2]
        rw [e3, cl_tr_o hs1 hs2, ih (s + 1) p q n2 (by omega) (by omega) (by omega) (by omega) hp hq]
        omega
theorem seg_map (f g : Int → Int) : ∀ (m : Nat) (s : Int), (seg f s m).map g = seg (fun x => g (f x)) s m
  | 0, _ => rfl
  | m + 1, s => by simp only [seg, List.map_cons, seg_map f g m (s + 1)]
/-- the place of a number -/
noncomputable def pl (n : Nat) (v x : Int) : Int := Classical.epsilon (fun i : Int => 0 ≤ i ∧ i < n ∧ dg n v i = x)
theorem pl_ok {n : Nat} {v x : Int} (h1 : 0 ≤ x) (h2 : x < n) : 0 ≤ pl n v x ∧ pl n v x < n ∧ dg n v (pl n v x) = x :=
  Classical.epsilon_spec (p := fun i : Int => 0 ≤ i ∧ i < n ∧ dg n v i = x) (dg_F.sur h1 h2)
theorem pl_eq {n : Nat} {v i : Int} (h1 : 0 ≤ i) (h2 : i < n) : pl n v (dg n v i) = i := by
  have hb := (dg_F (n := n) (v := v)).bd h1 h2
  have := pl_ok (n := n) (v := v) hb.1 hb.2
  exact dg_F.inj this.1 this.2.1 h1 h2 this.2.2
/-- a least ladder may begin with a rung on k -/
abbrev nb (n : Nat) (v k : Int) : Prop := pl n v (k + 1) < pl n v k
theorem iv_rn {n : Nat} {v k : Int} (h1 : 0 ≤ k) (h2 : k + 1 < n) : iv n (rn n v k) = iv n v + (if pl n v k < pl n v (k + 1) then 1 else -1) := by
  have a := pl_ok (n := n) (v := v) h1 (show k < n by omega)
  have b := pl_ok (n := n) (v := v) (show 0 ≤ k + 1 by omega) h2
  have h := inv_tr (h := dg n v) (k := k) n 0 (pl n v k) (pl n v (k + 1)) (isP.nodup dg_F) a.1 (by omega) b.1 (by omega) a.2.2 b.2.2
  rw [seg_map] at h
  unfold iv
  rw [← dg_seg n (rn n v k), ← dg_seg n v, ← h]
  congr 1
  exact seg_congr n 0 (fun j q1 q2 => dg_rn h1 h2 q1 (by omega))
theorem pl_ne {n : Nat} {v k : Int} (h1 : 0 ≤ k) (h2 : k + 1 < n) : pl n v k ≠ pl n v (k + 1) := by
  have a := pl_ok (n := n) (v := v) h1 (show k < n by omega)
  have b := pl_ok (n := n) (v := v) (show 0 ≤ k + 1 by omega) h2
  intro e
  have := a.2.2
  rw [e, b.2.2] at this
  omega
theorem iv_nb {n : Nat} {v k : Int} (h1 : 0 ≤ k) (h2 : k + 1 < n) (h : nb n v k) : iv n (rn n v k) = iv n v - 1 := by
  rw [iv_rn h1 h2, if_neg (by unfold nb at h; omega)]
  omega
theorem iv_nonneg {n : Nat} {v : Int} : 0 ≤ iv n v := inv_nonneg _
theorem iv_zero {n : Nat} {v : Int} (h1 : 0 ≤ v) (h2 : v < fac n) : iv n v = 0 ↔ v = 0 := by
  constructor
  · intro h
    have := inv_zero_rk h
    rwa [ord_rk h1 h2] at this
  · intro h
    subst h
    unfold iv
    rw [ord_zero]
    have : ∀ l : List Int, l.Pairwise (· < ·) → inv l = 0 := by
      intro l
      induction l with
      | nil => intro _; rfl
      | cons a t ih =>
        intro hp
        obtain ⟨q1, q2⟩ := List.pairwise_cons.mp hp
        simp only [inv, ih q2, cl_none (fun x hx => Int.le_of_lt (q1 x hx))]
        rfl
    exact this _ (idl_asc n 0)
theorem iv_le {n : Nat} {v : Int} : 2 * iv n v ≤ (n : Int) * (n - 1) := by
  have := inv_le (ord n v)
  rwa [isP.len ord_P] at this
/-- an order that is not the first has a beginning -/
theorem nb_ex {n : Nat} {v : Int} (h1 : 0 ≤ v) (h2 : v < fac n) (hv : v ≠ 0) : ∃ k : Int, 0 ≤ k ∧ k + 1 < n ∧ nb n v k := by
  apply Classical.byContradiction
  intro hno
  have hup : ∀ k : Int, 0 ≤ k → k + 1 < n → pl n v k < pl n v (k + 1) := by
    intro k a b
    have := pl_ne (n := n) (v := v) a b
    apply Classical.byContradiction
    intro hc
    exact hno ⟨k, a, b, by unfold nb; omega⟩
  have lo : ∀ m : Nat, (m : Int) < n → (m : Int) ≤ pl n v m := by
    intro m
    induction m with
    | zero => intro h; exact (pl_ok (n := n) (v := v) (by omega) h).1
    | succ m ih =>
      intro h
      have a := ih (by omega)
      have b := hup m (by omega) (by omega)
      have e : ((m + 1 : Nat) : Int) = (m : Int) + 1 := by omega
      rw [e]
      omega
  have hi : ∀ m : Nat, (m : Int) < n → pl n v (n - 1 - m) ≤ n - 1 - m := by
    intro m
    induction m with
    | zero => intro h; have := (pl_ok (n := n) (v := v) (x := n - 1 - (0 : Nat)) (by omega) (by omega)).2.1; omega
    | succ m ih =>
      intro h
      have a := ih (by omega)
      have b := hup (n - 1 - ((m + 1 : Nat) : Int)) (by omega) (by omega)
      have e : (n : Int) - 1 - ((m + 1 : Nat) : Int) + 1 = n - 1 - m := by omega
      rw [e] at b
      omega
  have hid : ∀ x : Int, 0 ≤ x → x < n → dg n v x = x := by
    intro x a b
    have h3 := lo x.toNat (by omega)
    have h4 := hi (n - 1 - x).toNat (by omega)
    rw [show ((x.toNat : Nat) : Int) = x by omega] at h3
    rw [show (n : Int) - 1 - ((n - 1 - x).toNat : Int) = x by omega] at h4
    have h5 := (pl_ok (n := n) (v := v) a b).2.2
    rwa [show pl n v x = x by omega] at h5
  have h6 : seg (dg n v) 0 n = idl n := seg_congr n 0 (fun j a b => hid j a (by omega))
  have h7 := dg_rk h1 h2
  rw [h6, rk_idl] at h7
  exact hv h7.symm
/-- sums -/
def sm (f : Int → Int) (i : Int) : Nat → Int
  | 0 => 0
  | m + 1 => f i + sm f (i + 1) m
theorem sm_congr {f g : Int → Int} : ∀ (m : Nat) (i : Int), (∀ j, i ≤ j → j < i + m → f j = g j) → sm f i m = sm g i m
  | 0, _, _ => rfl
  | m + 1, i, h => by
    simp only [sm]
    rw [h i (by omega) (by omega), sm_congr m (i + 1) (fun j a b => h j (by omega) (by omega))]
theorem sm_snoc (f : Int → Int) : ∀ (m : Nat) (i : Int), sm f i (m + 1) = sm f i m + f (i + m)
  | 0, i => by simp [sm]
  | m + 1, i => by
    rw [sm, sm_snoc f m (i + 1), sm]
    have e : i + 1 + (m : Int) = i + ((m + 1 : Nat) : Int) := by omega
    rw [e]
    omega
theorem sm_bd {f : Int → Int} {c : Int} : ∀ (m : Nat) (i : Int), (∀ j, i ≤ j → j < i + m → 0 ≤ f j ∧ f j ≤ c) → 0 ≤ sm f i m ∧ sm f i m ≤ m * c
  | 0, _, _ => by simp [sm]
  | m + 1, i, h => by
    have h1 := h i (by omega) (by omega)
    have h2 := sm_bd m (i + 1) (fun j a b => h j (by omega) (by omega))
    simp only [sm]
    have e : ((m + 1 : Nat) : Int) * c = m * c + c := by rw [Int.natCast_add, Int.add_mul]; simp
    rw [e]
    omega
/-- how many least ladders an order has, that has m inversions -/
noncomputable def LF (n : Nat) : Nat → Int → Int
  | 0, _ => 1
  | m + 1, v => sm (fun k => if nb n v k then LF n m (rn n v k) else 0) 0 (n - 1)
noncomputable def FF (n : Nat) (v : Int) : Int := LF n (iv n v).toNat v
theorem LF_bd {n : Nat} (hn : n ≤ 7) : ∀ (m : Nat) (v : Int), 0 ≤ LF n m v ∧ LF n m v ≤ 6 ^ m
  | 0, v => by simp [LF]
  | m + 1, v => by
    have h := sm_bd (f := fun k => if nb n v k then LF n m (rn n v k) else 0) (c := 6 ^ m) (n - 1) 0 (fun j _ _ => by
      have := LF_bd hn m (rn n v j)
      have hp : (0 : Int) ≤ 6 ^ m := Int.pow_nonneg (by decide)
      show 0 ≤ (if nb n v j then LF n m (rn n v j) else 0) ∧ _
      split
      · exact this
      · exact ⟨Int.le_refl _, hp⟩)
    simp only [LF]
    refine ⟨h.1, Int.le_trans h.2 ?_⟩
    rw [Int.pow_succ, Int.mul_comm]
    exact Int.mul_le_mul_of_nonneg_left (by omega) (Int.pow_nonneg (by decide))
theorem FF_rec {n : Nat} {v : Int} (h1 : 0 ≤ v) (h2 : v < fac n) (hv : v ≠ 0) : FF n v = sm (fun k => if nb n v k then FF n (rn n v k) else 0) 0 (n - 1) := by
  have h3 : iv n v ≠ 0 := fun h => hv ((iv_zero h1 h2).mp h)
  have h4 := iv_nonneg (n := n) (v := v)
  obtain ⟨m, hm⟩ : ∃ m, (iv n v).toNat = m + 1 := ⟨(iv n v).toNat - 1, by omega⟩
  unfold FF
  rw [hm]
  simp only [LF]
  refine sm_congr _ _ (fun k a b => ?_)
  show (if nb n v k then LF n m (rn n v k) else 0) = (if nb n v k then LF n (iv n (rn n v k)).toNat (rn n v k) else 0)
  by_cases e : nb n v k
  · rw [if_pos e, if_pos e, iv_nb a (by omega) e, show (iv n v - 1).toNat = m by omega]
  · rw [if_neg e, if_neg e]
theorem FF_zero (n : Nat) : FF n 0 = 1 := by
  unfold FF
  rw [(iv_zero (n := n) (Int.le_refl 0) (fac_pos n)).mpr rfl]
  rfl
