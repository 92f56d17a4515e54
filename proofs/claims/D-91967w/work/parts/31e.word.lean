/-! ===== least ladders as words ===== -/
set_option maxRecDepth 100000
/-- w is a least ladder of the order v -/
def vld (n : Nat) : Int → List Int → Prop
  | v, [] => v = 0
  | v, k :: w => 0 ≤ k ∧ k + 1 < n ∧ nb n v k ∧ vld n (rn n v k) w
noncomputable def bsum (n : Nat) (v k : Int) : Int := sm (fun j => if nb n v j then FF n (rn n v j) else 0) 0 k.toNat
noncomputable def rnk (n : Nat) : Int → List Int → Int
  | _, [] => 0
  | v, k :: w => bsum n v k + rnk n (rn n v k) w
theorem FF_nn {n : Nat} (v : Int) : 0 ≤ FF n v := by
  have : ∀ (m : Nat) (v : Int), 0 ≤ LF n m v := by
    intro m
    induction m with
    | zero => intro v; simp [LF]
    | succ m ih =>
      intro v
      simp only [LF]
      have : ∀ (c : Nat) (i : Int), 0 ≤ sm (fun k => if nb n v k then LF n m (rn n v k) else 0) i c := by
        intro c
        induction c with
        | zero => intro i; simp [sm]
        | succ c ihc =>
          intro i
          simp only [sm]
          have h1 := ihc (i + 1)
          have h2 := ih (rn n v i)
          split <;> omega
      exact this _ _
  exact this _ _
theorem term_nn {n : Nat} (v j : Int) : 0 ≤ (if nb n v j then FF n (rn n v j) else 0) := by
  split
  · exact FF_nn _
  · exact Int.le_refl _
theorem sm_nn {f : Int → Int} (h : ∀ j, 0 ≤ f j) : ∀ (c : Nat) (i : Int), 0 ≤ sm f i c
  | 0, _ => by simp [sm]
  | c + 1, i => by have := sm_nn h c (i + 1); have := h i; simp only [sm]; omega
theorem sm_mono {f : Int → Int} (h : ∀ j, 0 ≤ f j) (i : Int) : ∀ (d c : Nat), sm f i c ≤ sm f i (c + d)
  | 0, c => by simp
  | d + 1, c => by
    have h1 := sm_mono h i d c
    rw [show c + (d + 1) = (c + d) + 1 by omega, sm_snoc]
    have := h (i + ((c + d : Nat) : Int))
    omega
theorem bsum_step {n : Nat} {v k : Int} (h : 0 ≤ k) : bsum n v (k + 1) = bsum n v k + (if nb n v k then FF n (rn n v k) else 0) := by
  unfold bsum
  rw [show (k + 1).toNat = k.toNat + 1 by omega, sm_snoc, show (0 : Int) + (k.toNat : Int) = k by omega]
theorem bsum_mono {n : Nat} {v a b : Int} (h1 : 0 ≤ a) (h2 : a ≤ b) : bsum n v a ≤ bsum n v b := by
  unfold bsum
  rw [show b.toNat = a.toNat + (b.toNat - a.toNat) by omega]
  exact sm_mono (fun j => term_nn v j) 0 _ _
theorem bsum_all {n : Nat} {v : Int} (h1 : 0 ≤ v) (h2 : v < fac n) (hv : v ≠ 0) (hn : 1 ≤ n) : FF n v = bsum n v (n - 1) := by
  rw [FF_rec h1 h2 hv]
  unfold bsum
  congr 1
  omega
theorem bsum_nn {n : Nat} {v k : Int} : 0 ≤ bsum n v k := sm_nn (fun j => term_nn v j) _ _
theorem nb_ne {n : Nat} {v k : Int} (h1 : 0 ≤ k) (h2 : k + 1 < n) (h : nb n v k) : v ≠ 0 := by
  intro e
  subst e
  have := iv_nb h1 h2 h
  have z0 := (iv_zero (n := n) (Int.le_refl 0) (fac_pos n)).mpr rfl
  have := iv_nonneg (n := n) (v := rn n 0 k)
  omega
theorem vld_len {n : Nat} : ∀ {w : List Int} {v : Int}, vld n v w → (w.length : Int) = iv n v
  | [], v, h => by
    have h : v = 0 := h
    subst h
    rw [(iv_zero (n := n) (Int.le_refl 0) (fac_pos n)).mpr rfl]
    rfl
  | k :: w, v, h => by
    obtain ⟨h1, h2, h3, h4⟩ := h
    have := vld_len h4
    rw [iv_nb h1 h2 h3] at this
    simp only [List.length_cons]
    omega
theorem rnk_bd {n : Nat} : ∀ {w : List Int} {v : Int}, 0 ≤ v → v < fac n → vld n v w → 0 ≤ rnk n v w ∧ rnk n v w < FF n v
  | [], v, _, _, h => by
    have h : v = 0 := h
    subst h
    rw [FF_zero]
    simp [rnk]
  | k :: w, v, a, b, h => by
    obtain ⟨h1, h2, h3, h4⟩ := h
    have hb := rn_bd (n := n) (v := v) h1 h2
    have ih := rnk_bd hb.1 hb.2 h4
    simp only [rnk]
    have e1 := bsum_all a b (nb_ne h1 h2 h3) (by omega)
    have e2 := bsum_step (n := n) (v := v) h1
    rw [if_pos h3] at e2
    have e3 := bsum_mono (n := n) (v := v) (a := k + 1) (b := n - 1) (by omega) (by omega)
    have := bsum_nn (n := n) (v := v) (k := k)
    omega
theorem rnk_inj {n : Nat} : ∀ {w w' : List Int} {v : Int}, 0 ≤ v → v < fac n → vld n v w → vld n v w' → rnk n v w = rnk n v w' → w = w'
  | [], [], _, _, _, _, _, _ => rfl
  | [], k :: w', v, _, _, h, h', _ => absurd h (nb_ne h'.1 h'.2.1 h'.2.2.1)
  | k :: w, [], v, _, _, h, h', _ => absurd h' (nb_ne h.1 h.2.1 h.2.2.1)
  | k :: w, k' :: w', v, a, b, h, h', e => by
    obtain ⟨h1, h2, h3, h4⟩ := h
    obtain ⟨h1', h2', h3', h4'⟩ := h'
    have hb := rn_bd (n := n) (v := v) h1 h2
    have hb' := rn_bd (n := n) (v := v) h1' h2'
    have r := rnk_bd hb.1 hb.2 h4
    have r' := rnk_bd hb'.1 hb'.2 h4'
    simp only [rnk] at e
    have e2 := bsum_step (n := n) (v := v) h1
    rw [if_pos h3] at e2
    have e2' := bsum_step (n := n) (v := v) h1'
    rw [if_pos h3'] at e2'
    have hk : k = k' := by
      rcases Int.lt_trichotomy k k' with q | q | q
      · have := bsum_mono (n := n) (v := v) (a := k + 1) (b := k') (by omega) (by omega)
        omega
      · exact q
      · have := bsum_mono (n := n) (v := v) (a := k' + 1) (b := k) (by omega) (by omega)
        omega
    subst hk
    rw [rnk_inj hb.1 hb.2 h4 h4' (by omega)]
theorem rnk_ex {n : Nat} : ∀ (m : Nat) (v r : Int), 0 ≤ v → v < fac n → iv n v = m → 0 ≤ r → r < FF n v → ∃ w, vld n v w ∧ rnk n v w = r
  | 0, v, r, a, b, hm, h1, h2 => by
    have e := (iv_zero a b).mp hm
    subst e
    rw [FF_zero] at h2
    exact ⟨[], rfl, by simp only [rnk]; omega⟩
  | m + 1, v, r, a, b, hm, h1, h2 => by
    have hv : v ≠ 0 := fun e => by have := (iv_zero a b).mpr e; omega
    have hn : 1 ≤ n := by
      have := iv_le (n := n) (v := v)
      apply Classical.byContradiction
      intro hc
      have : n = 0 := by omega
      subst this
      simp at *
      omega
    rw [bsum_all a b hv hn] at h2
    have find : ∀ c : Nat, r < bsum n v c → (c : Int) ≤ n - 1 → ∃ k : Int, 0 ≤ k ∧ k < c ∧ bsum n v k ≤ r ∧ r < bsum n v (k + 1) := by
      intro c
      induction c with
      | zero => intro h _; simp [bsum, sm] at h; omega
      | succ c ihc =>
        intro h hc
        by_cases q : r < bsum n v c
        · obtain ⟨k, k1, k2, k3⟩ := ihc q (by omega)
          exact ⟨k, k1, by omega, k3⟩
        · exact ⟨c, by omega, by omega, by omega, by rw [show ((c + 1 : Nat) : Int) = (c : Int) + 1 by omega] at h; exact h⟩
    obtain ⟨k, k1, k2, k3, k4⟩ := find (n - 1) (by rw [show ((n - 1 : Nat) : Int) = (n : Int) - 1 by omega]; exact h2) (by omega)
    rw [bsum_step k1] at k4
    have hnb : nb n v k := by
      apply Classical.byContradiction
      intro hc
      rw [if_neg hc] at k4
      omega
    rw [if_pos hnb] at k4
    have hb := rn_bd (n := n) (v := v) k1 (show k + 1 < n by omega)
    obtain ⟨w, w1, w2⟩ := rnk_ex m (rn n v k) (r - bsum n v k) hb.1 hb.2 (by rw [iv_nb k1 (by omega) hnb]; omega) (by omega) (by omega)
    exact ⟨k :: w, ⟨k1, by omega, hnb, w1⟩, by simp only [rnk]; omega⟩
/-- the least ladder with a rank -/
noncomputable def wd (n : Nat) (v r : Int) : List Int := Classical.epsilon (fun w => vld n v w ∧ rnk n v w = r)
theorem wd_ok {n : Nat} {v r : Int} (a : 0 ≤ v) (b : v < fac n) (h1 : 0 ≤ r) (h2 : r < FF n v) : vld n v (wd n v r) ∧ rnk n v (wd n v r) = r :=
  Classical.epsilon_spec (p := fun w => vld n v w ∧ rnk n v w = r) (rnk_ex (iv n v).toNat v r a b (by have := iv_nonneg (n := n) (v := v); omega) h1 h2)
theorem wd_of {n : Nat} {v : Int} {w : List Int} (a : 0 ≤ v) (b : v < fac n) (h : vld n v w) : wd n v (rnk n v w) = w := by
  have hb := rnk_bd a b h
  have := wd_ok a b hb.1 hb.2
  exact rnk_inj a b this.1 h this.2
/-- where a word leads -/
noncomputable def wk (n : Nat) : Int → List Int → Int
  | v, [] => v
  | v, k :: w => wk n (rn n v k) w
theorem wk_app {n : Nat} : ∀ (a b : List Int) (v : Int), wk n v (a ++ b) = wk n (wk n v a) b
  | [], _, _ => rfl
  | k :: a, b, v => by simp only [List.cons_append, wk, wk_app a b]
def lets (n : Nat) (w : List Int) : Prop := ∀ k ∈ w, 0 ≤ k ∧ k + 1 < (n : Int)
theorem wk_bd {n : Nat} : ∀ {w : List Int} {v : Int}, lets n w → 0 ≤ v → v < fac n → 0 ≤ wk n v w ∧ wk n v w < fac n
  | [], _, _, a, b => ⟨a, b⟩
  | k :: w, v, h, _, _ => by
    have h1 := h k List.mem_cons_self
    have hb := rn_bd (n := n) (v := v) h1.1 h1.2
    exact wk_bd (w := w) (fun x hx => h x (List.mem_cons_of_mem _ hx)) hb.1 hb.2
theorem vld_lets {n : Nat} : ∀ {w : List Int} {v : Int}, vld n v w → lets n w
  | [], _, _ => fun k hk => by cases hk
  | k :: w, v, h => fun x hx => by
    rcases List.mem_cons.mp hx with e | e
    · subst e; exact ⟨h.1, h.2.1⟩
    · exact vld_lets h.2.2.2 x e
theorem vld_wk {n : Nat} : ∀ {w : List Int} {v : Int}, vld n v w → wk n v w = 0
  | [], _, h => h
  | k :: w, v, h => vld_wk (w := w) h.2.2.2
theorem iv_wk {n : Nat} : ∀ {w : List Int} {v : Int}, lets n w → iv n v - w.length ≤ iv n (wk n v w)
  | [], v, _ => by simp [wk]
  | k :: w, v, h => by
    have h1 := h k List.mem_cons_self
    have ih := iv_wk (w := w) (v := rn n v k) (fun x hx => h x (List.mem_cons_of_mem _ hx))
    rw [iv_rn h1.1 h1.2] at ih
    simp only [wk, List.length_cons]
    split at ih <;> omega
theorem vld_of {n : Nat} : ∀ {w : List Int} {v : Int}, lets n w → wk n v w = 0 → (w.length : Int) = iv n v → vld n v w
  | [], _, _, h, _ => h
  | k :: w, v, hl, h, e => by
    have h1 := hl k List.mem_cons_self
    have hl' : lets n w := fun x hx => hl x (List.mem_cons_of_mem _ hx)
    have z0 := (iv_zero (n := n) (Int.le_refl 0) (fac_pos n)).mpr rfl
    have i1 := iv_wk (w := w) (v := rn n v k) hl'
    have h' : wk n (rn n v k) w = 0 := h
    rw [h', z0] at i1
    have i2 := iv_rn (n := n) (v := v) h1.1 h1.2
    have hne := pl_ne (n := n) (v := v) h1.1 h1.2
    simp only [List.length_cons] at e
    have hnb : nb n v k := by
      show pl n v (k + 1) < pl n v k
      apply Classical.byContradiction
      intro hc
      rw [if_pos (by omega)] at i2
      omega
    exact ⟨h1.1, h1.2, hnb, vld_of hl' h' (by rw [iv_nb h1.1 h1.2 hnb]; omega)⟩
theorem ord_ext {n : Nat} {v u : Int} (h1 : 0 ≤ v) (h2 : v < fac n) (h3 : 0 ≤ u) (h4 : u < fac n) (h : ∀ i : Int, 0 ≤ i → i < n → dg n v i = dg n u i) : v = u := by
  rw [← dg_rk h1 h2, ← dg_rk h3 h4, seg_congr n 0 (fun j a b => h j a (by omega))]
theorem rn_comm {n : Nat} {v k l : Int} (h1 : 0 ≤ k) (h2 : k + 1 < n) (h3 : 0 ≤ l) (h4 : l + 1 < n) (h : k + 1 < l ∨ l + 1 < k) : rn n (rn n v k) l = rn n (rn n v l) k := by
  have b1 := rn_bd (n := n) (v := rn n v k) h3 h4
  have b2 := rn_bd (n := n) (v := rn n v l) h1 h2
  refine ord_ext b1.1 b1.2 b2.1 b2.2 (fun i a b => ?_)
  rw [dg_rn h3 h4 a b, dg_rn h1 h2 a b, dg_rn h1 h2 a b, dg_rn h3 h4 a b]
  unfold tr
  split <;> split <;> (try split) <;> (try split) <;> omega
theorem rn_braid {n : Nat} {v k l : Int} (h1 : 0 ≤ k) (h2 : k + 1 < n) (h3 : 0 ≤ l) (h4 : l + 1 < n) (h : l = k + 1 ∨ k = l + 1) : rn n (rn n (rn n v k) l) k = rn n (rn n (rn n v l) k) l := by
  have b1 := rn_bd (n := n) (v := rn n (rn n v k) l) h1 h2
  have b2 := rn_bd (n := n) (v := rn n (rn n v l) k) h3 h4
  refine ord_ext b1.1 b1.2 b2.1 b2.2 (fun i a b => ?_)
  rw [dg_rn h1 h2 a b, dg_rn h3 h4 a b, dg_rn h1 h2 a b, dg_rn h3 h4 a b, dg_rn h1 h2 a b, dg_rn h3 h4 a b]
  generalize dg n v i = x
  unfold tr
  rcases h with h | h <;> subst h <;> (repeat' split) <;> omega
theorem slide_vld {n : Nat} {v k l : Int} {a b : List Int} (h : vld n v (a ++ k :: l :: b)) (hkl : k + 1 < l ∨ l + 1 < k) : vld n v (a ++ l :: k :: b) := by
  have hl := vld_lets h
  have hk := hl k (by simp)
  have hl2 := hl l (by simp)
  refine vld_of (fun x hx => hl x ?_) ?_ ?_
  · simp at hx ⊢
    rcases hx with e | e | e | e
    · exact Or.inl e
    · exact Or.inr (Or.inr (Or.inl e))
    · exact Or.inr (Or.inl e)
    · exact Or.inr (Or.inr (Or.inr e))
  · have := vld_wk h
    rw [wk_app] at this ⊢
    simp only [wk] at this ⊢
    rw [rn_comm hl2.1 hl2.2 hk.1 hk.2 (by omega)]
    exact this
  · have := vld_len h
    simp only [List.length_append, List.length_cons] at this ⊢
    exact this
theorem turn_vld {n : Nat} {v k l : Int} {a b : List Int} (h : vld n v (a ++ k :: l :: k :: b)) (hkl : l = k + 1 ∨ k = l + 1) : vld n v (a ++ l :: k :: l :: b) := by
  have hl := vld_lets h
  have hk := hl k (by simp)
  have hl2 := hl l (by simp)
  refine vld_of (fun x hx => ?_) ?_ ?_
  · simp at hx
    rcases hx with e | e | e | e | e
    · exact hl x (by simp [e])
    · exact e ▸ hl2
    · exact e ▸ hk
    · exact e ▸ hl2
    · exact hl x (by simp [e])
  · have := vld_wk h
    rw [wk_app] at this ⊢
    simp only [wk] at this ⊢
    rw [rn_braid hl2.1 hl2.2 hk.1 hk.2 (by omega)]
    exact this
  · have := vld_len h
    simp only [List.length_append, List.length_cons] at this ⊢
    exact this
