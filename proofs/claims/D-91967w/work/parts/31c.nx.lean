/-! ===== the next order, changes of places and numbers, inversions ===== -/
set_option maxRecDepth 100000
theorem seg_desc {h : Int → Int} : ∀ (m : Nat) (i : Int), (∀ x, i ≤ x → x + 1 < i + m → h (x + 1) < h x) → (seg h i m).Pairwise (· > ·) := by
  have key : ∀ (m : Nat) (i : Int), (∀ x, i ≤ x → x + 1 < i + m → h (x + 1) < h x) → ∀ (k : Nat), k < m → h (i + k) ≤ h i := by
    intro m i hd k
    induction k with
    | zero => intro _; simp
    | succ k ih =>
      intro hk
      have h1 := ih (by omega)
      have h2 := hd (i + k) (by omega) (by omega)
      have e : i + ((k + 1 : Nat) : Int) = i + k + 1 := by omega
      rw [e]
      omega
  intro m
  induction m with
  | zero => intro i _; exact List.Pairwise.nil
  | succ m ih =>
    intro i hd
    refine List.pairwise_cons.mpr ⟨fun y hy => ?_, ih (i + 1) (fun x h1 h2 => hd x (by omega) (by omega))⟩
    obtain ⟨j, h1, h2, h3⟩ := seg_mem hy
    have h4 := key m (i + 1) (fun x h1 h2 => hd x (by omega) (by omega)) (j - (i + 1)).toNat (by omega)
    have e : i + 1 + ((j - (i + 1)).toNat : Int) = j := by omega
    rw [e] at h4
    have h5 := hd i (by omega) (by omega)
    show y < h i
    omega
theorem seg_split {f : Int → Int} {n : Nat} {s i : Int} (h1 : s ≤ i) (h2 : i < s + n) : seg f s n = seg f s (i - s).toNat ++ f i :: seg f (i + 1) (n - (i - s).toNat - 1) := by
  have e : n = (i - s).toNat + ((n - (i - s).toNat - 1) + 1) := by omega
  conv => lhs; rw [e, seg_add]
  rw [seg]
  have e2 : s + ((i - s).toNat : Int) = i := by omega
  rw [e2]
theorem nx {h h' : Int → Int} {n : Nat} {i j : Int} (hp : isF n h) (hi : 0 ≤ i) (hij : i < j) (hjn : j < n) (desc : ∀ x, i < x → x + 1 < n → h (x + 1) < h x) (hj : h i ≤ h j) (hl : ∀ x, j < x → x < n → h x < h i) (h1 : ∀ x, 0 ≤ x → x < i → h' x = h x) (h2 : h' i = h j) (h3 : ∀ x, i < x → x < n → h' x = (if n + i - x = j then h i else h (n + i - x))) : isF n h' ∧ rk (seg h' 0 n) = rk (seg h 0 n) + 1 := by
  have hne : h i ≠ h j := fun e => by have := hp.inj hi (by omega) (by omega) hjn e; omega
  let g : Int → Int := fun x => if x = j then h i else h x
  have e1 : seg h 0 n = seg h 0 (i - 0).toNat ++ h i :: (seg h (i + 1) (j - (i + 1)).toNat ++ h j :: seg h (j + 1) (n - (i - 0).toNat - 1 - (j - (i + 1)).toNat - 1)) := by
    rw [seg_split (f := h) (i := i) hi (by omega)]
    congr 2
    exact seg_split (by omega) (by omega)
  have e3 : seg h' (i + 1) (n - (i - 0).toNat - 1) = (seg g (i + 1) (n - (i - 0).toNat - 1)).reverse := by
    rw [← seg_rev g _ (i + 1) (n + i) (by omega)]
    refine seg_congr _ _ (fun x q1 q2 => ?_)
    exact h3 x (by omega) (by omega)
  have e4 : seg g (i + 1) (n - (i - 0).toNat - 1) = seg h (i + 1) (j - (i + 1)).toNat ++ h i :: seg h (j + 1) (n - (i - 0).toNat - 1 - (j - (i + 1)).toNat - 1) := by
    rw [seg_split (f := g) (i := j) (by omega) (by omega)]
    have q1 : g j = h i := by simp [g]
    have gne : ∀ x, x ≠ j → g x = h x := fun x hx => by simp [g, hx]
    rw [q1, seg_congr (f := g) (g := h) _ (i + 1) (fun x q1 q2 => gne x (by omega)), seg_congr (f := g) (g := h) _ (j + 1) (fun x q1 q2 => gne x (by omega))]
  have e2 : seg h' 0 n = seg h 0 (i - 0).toNat ++ h j :: (seg h (i + 1) (j - (i + 1)).toNat ++ h i :: seg h (j + 1) (n - (i - 0).toNat - 1 - (j - (i + 1)).toNat - 1)).reverse := by
    rw [seg_split (f := h') (i := i) hi (by omega), h2, e3, e4, seg_congr (f := h') (g := h) _ 0 (fun x q1 q2 => h1 x q1 (by omega))]
  have hdd : (seg h (i + 1) (j - (i + 1)).toNat ++ h j :: seg h (j + 1) (n - (i - 0).toNat - 1 - (j - (i + 1)).toNat - 1)).Pairwise (· > ·) := by
    rw [← seg_split (f := h) (n := n - (i - 0).toNat - 1) (s := i + 1) (i := j) (by omega) (by omega)]
    exact seg_desc _ _ (fun x q1 q2 => desc x (by omega) (by omega))
  have hlt2 : ∀ x ∈ seg h (j + 1) (n - (i - 0).toNat - 1 - (j - (i + 1)).toNat - 1), x < h i := by
    intro x hx
    obtain ⟨y, q1, q2, q3⟩ := seg_mem hx
    rw [← q3]
    exact hl y (by omega) (by omega)
  obtain ⟨r1, r2⟩ := rk_next (p := seg h 0 (i - 0).toNat) hdd (show h i < h j by omega) hlt2
  refine ⟨?_, ?_⟩
  · show (seg h' 0 n).Perm _
    rw [e2]
    refine r2.trans ?_
    rw [← e1]
    exact hp
  · rw [e2, r1, ← e1]
theorem nx_last {h : Int → Int} {n : Nat} (desc : ∀ x : Int, 0 ≤ x → x + 1 < n → h (x + 1) < h x) : rk (seg h 0 n) = fac n - 1 := by
  rw [rk_desc (seg_desc n 0 (fun x h1 h2 => desc x h1 (by omega))), seg_len]
/-- two numbers change -/
def tr (k v : Int) : Int := if v = k then k + 1 else if v = k + 1 then k else v
theorem tr_tr (k v : Int) : tr k (tr k v) = v := by unfold tr; split <;> split <;> (try split) <;> omega
theorem tr_inj {k a b : Int} (h : tr k a = tr k b) : a = b := by rw [← tr_tr k a, h, tr_tr]
/-- two places change -/
def swf (h : Int → Int) (k : Int) : Int → Int := fun x => h (tr k x)
def ren (h : Int → Int) (k : Int) : Int → Int := fun x => tr k (h x)
theorem perm_of_sub : ∀ {l l' : List Int}, l.Nodup → (∀ x ∈ l, x ∈ l') → l'.length ≤ l.length → l.Perm l'
  | [], l', _, _, hl => by
    have : l' = [] := List.eq_nil_of_length_eq_zero (by simpa using hl)
    rw [this]
  | a :: t, l', hn, hs, hl => by
    obtain ⟨p1, p2⟩ := List.nodup_cons.mp hn
    have ha := hs a List.mem_cons_self
    have hp := List.perm_cons_erase ha
    have hlen := hp.length_eq
    simp only [List.length_cons] at hlen hl
    refine (List.Perm.cons a (perm_of_sub p2 (fun x hx => ?_) (by omega))).trans hp.symm
    have hxa : x ≠ a := fun e => p1 (e ▸ hx)
    exact (List.mem_erase_of_ne hxa).mpr (hs x (List.mem_cons_of_mem _ hx))
theorem isF_of {n : Nat} {h : Int → Int} (h1 : ∀ i : Int, 0 ≤ i → i < n → 0 ≤ h i ∧ h i < n) (h2 : ∀ i j : Int, 0 ≤ i → i < n → 0 ≤ j → j < n → h i = h j → i = j) : isF n h := by
  have nd : ∀ (m : Nat) (s : Int), 0 ≤ s → s + m ≤ n → (seg h s m).Nodup := by
    intro m
    induction m with
    | zero => intro s _ _; exact List.nodup_nil
    | succ m ih =>
      intro s q1 q2
      refine List.nodup_cons.mpr ⟨fun hm => ?_, ih (s + 1) (by omega) (by omega)⟩
      obtain ⟨j, q3, q4, q5⟩ := seg_mem hm
      have := h2 j s (by omega) (by omega) q1 (by omega) q5
      omega
  have hsub : ∀ x ∈ seg h 0 n, x ∈ idl n := by
    intro x hx
    obtain ⟨j, q3, q4, q5⟩ := seg_mem hx
    have := h1 j q3 (by omega)
    exact seg_mem_of (f := fun x => x) (by omega) (by omega)
  have hl : (seg h 0 n).length = (idl n).length := by rw [seg_len, idl, seg_len]
  exact perm_of_sub (nd n 0 (by omega) (by omega)) hsub (by omega)
theorem isF.sw {n : Nat} {h : Int → Int} (p : isF n h) {k : Int} (h1 : 0 ≤ k) (h2 : k + 1 < n) : isF n (swf h k) := by
  have tb : ∀ i : Int, 0 ≤ i → i < n → 0 ≤ tr k i ∧ tr k i < n := by
    intro i _ _
    unfold tr
    split <;> (try split) <;> omega
  exact isF_of (fun i q1 q2 => p.bd (tb i q1 q2).1 (tb i q1 q2).2) (fun i j q1 q2 q3 q4 e => tr_inj (p.inj (tb i q1 q2).1 (tb i q1 q2).2 (tb j q3 q4).1 (tb j q3 q4).2 e))
theorem isF.ren {n : Nat} {h : Int → Int} (p : isF n h) {k : Int} (h1 : 0 ≤ k) (h2 : k + 1 < n) : isF n (ren h k) := by
  have tb : ∀ i : Int, 0 ≤ i → i < n → 0 ≤ tr k i ∧ tr k i < n := by
    intro i _ _
    unfold tr
    split <;> (try split) <;> omega
  exact isF_of (fun i q1 q2 => tb _ (p.bd q1 q2).1 (p.bd q1 q2).2) (fun i j q1 q2 q3 q4 e => p.inj q1 q2 q3 q4 (tr_inj e))
/-- inversions -/
def inv : List Int → Int
  | [] => 0
  | a :: t => cl a t + inv t
/-- tables by order and place -/
noncomputable def dg (n : Nat) (v : Int) : Int → Int := at0 (ord n v)
noncomputable def sw (n : Nat) (v k : Int) : Int := rk (seg (swf (dg n v) k) 0 n)
noncomputable def rn (n : Nat) (v k : Int) : Int := rk (seg (ren (dg n v) k) 0 n)
noncomputable def iv (n : Nat) (v : Int) : Int := inv (ord n v)
theorem dg_seg (n : Nat) (v : Int) : seg (dg n v) 0 n = ord n v := by
  have := seg_at0 (ord n v)
  rwa [isP.len ord_P] at this
theorem dg_F {n : Nat} {v : Int} : isF n (dg n v) := by unfold isF; rw [dg_seg]; exact ord_P
theorem dg_rk {n : Nat} {v : Int} (h1 : 0 ≤ v) (h2 : v < fac n) : rk (seg (dg n v) 0 n) = v := by rw [dg_seg]; exact ord_rk h1 h2
theorem dg_of {n : Nat} {h : Int → Int} {v : Int} (p : isF n h) (e : rk (seg h 0 n) = v) {i : Int} (h1 : 0 ≤ i) (h2 : i < n) : h i = dg n v i := by
  have := ord_of p
  rw [e] at this
  unfold dg
  rw [this, at0_seg h1 h2]
  congr 1
  omega
theorem sw_bd {n : Nat} {v k : Int} (h1 : 0 ≤ k) (h2 : k + 1 < n) : 0 ≤ sw n v k ∧ sw n v k < fac n := ⟨rk_nonneg _, isP.lt (dg_F.sw h1 h2)⟩
theorem rn_bd {n : Nat} {v k : Int} (h1 : 0 ≤ k) (h2 : k + 1 < n) : 0 ≤ rn n v k ∧ rn n v k < fac n := ⟨rk_nonneg _, isP.lt (dg_F.ren h1 h2)⟩
theorem dg_sw {n : Nat} {v k i : Int} (h1 : 0 ≤ k) (h2 : k + 1 < n) (h3 : 0 ≤ i) (h4 : i < n) : dg n (sw n v k) i = dg n v (tr k i) := (dg_of (dg_F.sw h1 h2) rfl h3 h4).symm
theorem dg_rn {n : Nat} {v k i : Int} (h1 : 0 ≤ k) (h2 : k + 1 < n) (h3 : 0 ≤ i) (h4 : i < n) : dg n (rn n v k) i = tr k (dg n v i) := (dg_of (dg_F.ren h1 h2) rfl h3 h4).symm
theorem dg_zero {n : Nat} {i : Int} (h3 : 0 ≤ i) (h4 : i < n) : dg n 0 i = i := by
  have h : isF n (fun x => x) := isP_id n
  exact (dg_of h (rk_idl n) h3 h4).symm
