/-! ===== any two least ladders are led into one another ===== -/
set_option maxRecDepth 100000
theorem pl_rn {n : Nat} {v k x : Int} (h1 : 0 ≤ k) (h2 : k + 1 < n) (h3 : 0 ≤ x) (h4 : x < n) : pl n (rn n v k) x = pl n v (tr k x) := by
  have hb : 0 ≤ tr k x ∧ tr k x < n := by unfold tr; split <;> (try split) <;> omega
  have a := pl_ok (n := n) (v := v) hb.1 hb.2
  have e : dg n (rn n v k) (pl n v (tr k x)) = x := by rw [dg_rn h1 h2 a.1 a.2.1, a.2.2, tr_tr]
  have := pl_eq (n := n) (v := rn n v k) a.1 a.2.1
  rwa [e] at this
/-- one slide or turn -/
def stp (w w' : List Int) : Prop := ∃ (a b : List Int) (k l : Int), ((k + 1 < l ∨ l + 1 < k) ∧ w = a ++ k :: l :: b ∧ w' = a ++ l :: k :: b) ∨ ((l = k + 1 ∨ k = l + 1) ∧ w = a ++ k :: l :: k :: b ∧ w' = a ++ l :: k :: l :: b)
def chn : Nat → List Int → List Int → Prop
  | 0, w, w' => w = w'
  | m + 1, w, w' => ∃ u, chn m w u ∧ stp u w'
theorem chn_trans : ∀ (m' m : Nat) {a b c : List Int}, chn m a b → chn m' b c → chn (m + m') a c
  | 0, m, a, b, c, h, h' => by have h' : b = c := h'; subst h'; exact h
  | m' + 1, m, a, b, c, h, h' => by
    obtain ⟨u, u1, u2⟩ := h'
    exact ⟨u, chn_trans m' m h u1, u2⟩
theorem stp_cons {x : Int} {w w' : List Int} (h : stp w w') : stp (x :: w) (x :: w') := by
  obtain ⟨a, b, k, l, h⟩ := h
  refine ⟨x :: a, b, k, l, ?_⟩
  rcases h with ⟨h1, h2, h3⟩ | ⟨h1, h2, h3⟩
  · exact Or.inl ⟨h1, by rw [h2]; rfl, by rw [h3]; rfl⟩
  · exact Or.inr ⟨h1, by rw [h2]; rfl, by rw [h3]; rfl⟩
theorem chn_cons {x : Int} : ∀ (m : Nat) {w w' : List Int}, chn m w w' → chn m (x :: w) (x :: w')
  | 0, _, _, h => by have h := h; simp only [chn] at h ⊢; rw [h]
  | m + 1, _, _, h => by
    obtain ⟨u, u1, u2⟩ := h
    exact ⟨x :: u, chn_cons m u1, stp_cons u2⟩
theorem vld_ex {n : Nat} (hn : n ≤ 7) {v : Int} (a : 0 ≤ v) (b : v < fac n) : ∃ w, vld n v w := by
  have hp := FF_pos (n := n) (iv n v).toNat v a b (by have := iv_nonneg (n := n) (v := v); omega) hn
  exact ⟨_, (wd_ok (r := 0) a b (by omega) (by omega)).1⟩
theorem mats {n : Nat} (hn : n ≤ 7) : ∀ (m : Nat) (v : Int) (w w' : List Int), 0 ≤ v → v < fac n → w.length = m → vld n v w → vld n v w' → ∃ c, chn c w w' := by
  intro m
  induction m with
  | zero =>
    intro v w w' a b hm h h'
    have e1 : w = [] := List.eq_nil_of_length_eq_zero hm
    have e2 : w' = [] := List.eq_nil_of_length_eq_zero (by have := vld_len h; have := vld_len h'; omega)
    subst e1
    subst e2
    exact ⟨0, rfl⟩
  | succ m ih =>
    intro v w w' a b hm h h'
    have hl := vld_len h
    have hl' := vld_len h'
    match w, w', h, h', hm, hl, hl' with
    | [], _, _, _, hm, _, _ => simp at hm
    | _ :: _, [], _, _, hm, hl, hl' => simp at hm hl hl'; omega
    | k :: u, l :: u', h, h', hm, hl, hl' =>
      obtain ⟨k1, k2, k3, k4⟩ := h
      obtain ⟨l1, l2, l3, l4⟩ := h'
      have hbk := rn_bd (n := n) (v := v) k1 k2
      have hbl := rn_bd (n := n) (v := v) l1 l2
      simp only [List.length_cons] at hm hl hl'
      by_cases e : k = l
      · subst e
        obtain ⟨c, hc⟩ := ih (rn n v k) u u' hbk.1 hbk.2 (by omega) k4 l4
        exact ⟨c, chn_cons c hc⟩
      · by_cases far : k + 1 < l ∨ l + 1 < k
        · have nbl : nb n (rn n v k) l := by
            show pl n (rn n v k) (l + 1) < pl n (rn n v k) l
            rw [pl_rn k1 k2 (by omega) l2, pl_rn k1 k2 l1 (by omega), show tr k (l + 1) = l + 1 by unfold tr; rw [if_neg (by omega), if_neg (by omega)], show tr k l = l by unfold tr; rw [if_neg (by omega), if_neg (by omega)]]
            exact l3
          have nbk : nb n (rn n v l) k := by
            show pl n (rn n v l) (k + 1) < pl n (rn n v l) k
            rw [pl_rn l1 l2 (by omega) k2, pl_rn l1 l2 k1 (by omega), show tr l (k + 1) = k + 1 by unfold tr; rw [if_neg (by omega), if_neg (by omega)], show tr l k = k by unfold tr; rw [if_neg (by omega), if_neg (by omega)]]
            exact k3
          have hb2 := rn_bd (n := n) (v := rn n v k) l1 l2
          obtain ⟨x, hx⟩ := vld_ex hn hb2.1 hb2.2
          have v1 : vld n (rn n v k) (l :: x) := ⟨l1, l2, nbl, hx⟩
          have v2 : vld n (rn n v l) (k :: x) := ⟨k1, k2, nbk, by rw [rn_comm l1 l2 k1 k2 (by omega)]; exact hx⟩
          obtain ⟨c1, h1⟩ := ih (rn n v k) u (l :: x) hbk.1 hbk.2 (by omega) k4 v1
          obtain ⟨c2, h2⟩ := ih (rn n v l) (k :: x) u' hbl.1 hbl.2 (by have := vld_len v2; have := vld_len l4; omega) v2 l4
          have s1 : chn (c1 + 1) (k :: u) (l :: k :: x) := ⟨k :: l :: x, chn_cons c1 h1, [], x, k, l, Or.inl ⟨far, rfl, rfl⟩⟩
          exact ⟨c1 + 1 + c2, chn_trans c2 (c1 + 1) s1 (chn_cons c2 h2)⟩
        · -- neighbours
          have tri : ∀ p q : Int, 0 ≤ p → q = p + 1 → q + 1 < n → nb n v p → nb n v q → (nb n (rn n v p) q ∧ nb n (rn n (rn n v p) q) p) ∧ (nb n (rn n v q) p ∧ nb n (rn n (rn n v q) p) q) := by
            intro p q p0 e1 q2 np nq
            subst e1
            have t1 : tr p p = p + 1 := by unfold tr; rw [if_pos rfl]
            have t2 : tr p (p + 1) = p := by unfold tr; rw [if_neg (by omega), if_pos rfl]
            have t3 : tr p (p + 1 + 1) = p + 1 + 1 := by unfold tr; rw [if_neg (by omega), if_neg (by omega)]
            have t4 : tr (p + 1) p = p := by unfold tr; rw [if_neg (by omega), if_neg (by omega)]
            have t5 : tr (p + 1) (p + 1) = p + 1 + 1 := by unfold tr; rw [if_pos rfl]
            have t6 : tr (p + 1) (p + 1 + 1) = p + 1 := by unfold tr; rw [if_neg (by omega), if_pos rfl]
            refine ⟨⟨?_, ?_⟩, ?_, ?_⟩
            · show pl n (rn n v p) (p + 1 + 1) < pl n (rn n v p) (p + 1)
              rw [pl_rn p0 (by omega) (by omega) (by omega), pl_rn p0 (by omega) (by omega) (by omega), t3, t2]
              omega
            · show pl n (rn n (rn n v p) (p + 1)) (p + 1) < pl n (rn n (rn n v p) (p + 1)) p
              rw [pl_rn (v := rn n v p) (k := p + 1) (x := p + 1) (by omega) (by omega) (by omega) (by omega), pl_rn (v := rn n v p) (k := p + 1) (x := p) (by omega) (by omega) (by omega) (by omega), t5, t4, pl_rn (v := v) (k := p) (x := p + 1 + 1) p0 (by omega) (by omega) (by omega), pl_rn (v := v) (k := p) (x := p) p0 (by omega) (by omega) (by omega), t3, t1]
              exact nq
            · show pl n (rn n v (p + 1)) (p + 1) < pl n (rn n v (p + 1)) p
              rw [pl_rn (by omega) (by omega) (by omega) (by omega), pl_rn (by omega) (by omega) (by omega) (by omega), t5, t4]
              omega
            · show pl n (rn n (rn n v (p + 1)) p) (p + 1 + 1) < pl n (rn n (rn n v (p + 1)) p) (p + 1)
              rw [pl_rn (v := rn n v (p + 1)) (k := p) (x := p + 1 + 1) p0 (by omega) (by omega) (by omega), pl_rn (v := rn n v (p + 1)) (k := p) (x := p + 1) p0 (by omega) (by omega) (by omega), t3, t2, pl_rn (v := v) (k := p + 1) (x := p + 1 + 1) (by omega) (by omega) (by omega) (by omega), pl_rn (v := v) (k := p + 1) (x := p) (by omega) (by omega) (by omega) (by omega), t6, t4]
              exact np
          have two : (nb n (rn n v k) l ∧ nb n (rn n (rn n v k) l) k) ∧ (nb n (rn n v l) k ∧ nb n (rn n (rn n v l) k) l) := by
            by_cases q : l = k + 1
            · exact tri k l k1 q l2 k3 l3
            · exact (tri l k l1 (by omega) k2 l3 k3).symm
          have hb2 := rn_bd (n := n) (v := rn n v k) l1 l2
          have hb3 := rn_bd (n := n) (v := rn n (rn n v k) l) k1 k2
          obtain ⟨x, hx⟩ := vld_ex hn hb3.1 hb3.2
          have v1 : vld n (rn n v k) (l :: k :: x) := ⟨l1, l2, two.1.1, k1, k2, two.1.2, hx⟩
          have v2 : vld n (rn n v l) (k :: l :: x) := ⟨k1, k2, two.2.1, l1, l2, two.2.2, by rw [rn_braid l1 l2 k1 k2 (by omega)]; exact hx⟩
          obtain ⟨c1, h1⟩ := ih (rn n v k) u (l :: k :: x) hbk.1 hbk.2 (by omega) k4 v1
          obtain ⟨c2, h2⟩ := ih (rn n v l) (k :: l :: x) u' hbl.1 hbl.2 (by have := vld_len v2; have := vld_len l4; omega) v2 l4
          have s1 : chn (c1 + 1) (k :: u) (l :: k :: l :: x) := ⟨k :: l :: k :: x, chn_cons c1 h1, [], x, k, l, Or.inr ⟨by omega, rfl, rfl⟩⟩
          exact ⟨c1 + 1 + c2, chn_trans c2 (c1 + 1) s1 (chn_cons c2 h2)⟩
