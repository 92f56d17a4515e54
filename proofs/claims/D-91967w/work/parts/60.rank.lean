/-! ===== rank ===== -/
set_option maxRecDepth 100000
def lgs (L : List elt) : List Int := L.map (fun e => e.2.1)
noncomputable def swk (n : Nat) : Int → List Int → Int
  | v, [] => v
  | v, k :: w => swk n (sw n v k) w
theorem rn_sw {n : Nat} {v k l : Int} (h1 : 0 ≤ k) (h2 : k + 1 < n) (h3 : 0 ≤ l) (h4 : l + 1 < n) : rn n (sw n v k) l = sw n (rn n v l) k := by
  have b1 := rn_bd (v := sw n v k) h3 h4
  have b2 := sw_bd (v := rn n v l) h1 h2
  refine ord_ext b1.1 b1.2 b2.1 b2.2 (fun i a b => ?_)
  have ht : 0 ≤ tr k i ∧ tr k i < n := by unfold tr; split <;> (try split) <;> omega
  rw [dg_rn h3 h4 a b, dg_sw h1 h2 a b, dg_sw h1 h2 a b, dg_rn h3 h4 ht.1 ht.2]
theorem rn_swk {n : Nat} {l : Int} (h3 : 0 ≤ l) (h4 : l + 1 < n) : ∀ (w : List Int) (v : Int), lets n w → rn n (swk n v w) l = swk n (rn n v l) w
  | [], v, _ => rfl
  | k :: w, v, h => by
    have hk := h k (List.mem_cons_self ..)
    rw [swk, swk, rn_swk h3 h4 w _ (fun x hx => h x (List.mem_cons_of_mem _ hx)), rn_sw hk.1 hk.2 h3 h4]
theorem rn_sw0 {n : Nat} {k : Int} (h1 : 0 ≤ k) (h2 : k + 1 < n) : rn n (sw n 0 k) k = 0 := by
  have b1 := rn_bd (v := sw n 0 k) h1 h2
  refine ord_ext b1.1 b1.2 (Int.le_refl _) (fac_pos n) (fun i a b => ?_)
  have ht : 0 ≤ tr k i ∧ tr k i < n := by unfold tr; split <;> (try split) <;> omega
  rw [dg_rn h1 h2 a b, dg_sw h1 h2 a b, dg_zero ht.1 ht.2, dg_zero a b]
  unfold tr
  split <;> (try split) <;> (try split) <;> omega
theorem wk_swk {n : Nat} : ∀ (w : List Int), lets n w → wk n (swk n 0 w) w = 0
  | [], _ => rfl
  | k :: w, h => by
    have hk := h k (List.mem_cons_self ..)
    have hw : lets n w := fun x hx => h x (List.mem_cons_of_mem _ hx)
    rw [swk, wk, rn_swk hk.1 hk.2 w _ hw, rn_sw0 hk.1 hk.2]
    exact wk_swk w hw
theorem gob_plain {n : Nat} {th : Int} : ∀ (L : List elt) (i o m : Int), 0 ≤ i → (∀ e ∈ L, e.1 = 0) → gob n th (-1) L i o m = swk n o (lgs L)
  | [], i, o, m, _, _ => rfl
  | e :: L, i, o, m, hi, h => by
    have he := h e (List.mem_cons_self ..)
    rw [gob, if_neg (by omega), if_neg (by omega), gob_plain L (i + 1) _ m (by omega) (fun x hx => h x (List.mem_cons_of_mem _ hx))]
    rw [show lgs (e :: L) = e.2.1 :: lgs L from rfl, swk]
    congr 1
    unfold pas chg
    rw [if_pos (if_pos (Or.inl he))]
theorem lgs_lets {n : Nat} {L : List elt} (h : ∀ e ∈ L, okE n e) : lets n (lgs L) := by
  intro k hk
  obtain ⟨e, h1, h2⟩ := List.mem_map.1 hk
  subst h2
  have := h e h1
  exact ⟨this.1, by have := this.2.1; omega⟩
theorem at_lgs {L : List elt} {i : Int} (h1 : 0 ≤ i) (h2 : i < L.length) : at0 (lgs L) i = (el L i).2.1 := by
  unfold at0 el lgs
  rw [List.getD_eq_getElem?_getD, List.getD_eq_getElem?_getD, List.getElem?_map, List.getElem?_eq_getElem (by omega)]
  rfl
theorem lgs_vld {n : Nat} {L : List elt} (h : ∀ e ∈ L, okE n e) (hp : pln L = 1) (hl : iv n (gob n 0 (-1) L 0 0 0) = L.length) : vld n (gob n 0 (-1) L 0 0 0) (lgs L) := by
  have e := gob_plain (n := n) (th := 0) L 0 0 0 (by omega) ((pln_iff L).2 hp)
  rw [e] at hl ⊢
  exact vld_of (lgs_lets h) (wk_swk _ (lgs_lets h)) (by rw [hl]; unfold lgs; simp)
noncomputable def q_rank (σ : sgm) (t : Int) : Int := @ite _ (0 ≤ t ∧ t < σ.1.length) (Classical.propDecidable _) (@ite _ (pln (lad σ.1 t).2 = 1 ∧ iv (lad σ.1 t).1.toNat (gob (lad σ.1 t).1.toNat 0 (-1) (lad σ.1 t).2 0 0 0) = (lad σ.1 t).2.length) (Classical.propDecidable _) (rnk (lad σ.1 t).1.toNat (gob (lad σ.1 t).1.toNat 0 (-1) (lad σ.1 t).2 0 0 0) (lgs (lad σ.1 t).2)) (-2)) (-1)
theorem okL.nat {n : Int} {L : List elt} (h : okL n L) : ∃ N : Nat, n = N ∧ 2 ≤ N ∧ N ≤ 7 := ⟨n.toNat, by have := h.1; omega, by have := h.1; omega, by have := h.2.1; omega⟩
section
variable {X : px} {S : List psh} {M : pM} {σ : sgm}
theorem c_rank_op {F : Int → pM → Prop} {t : Int} (ht : inR t) (cp : CP S M σ) (k : ∀ M', frC M M' → SC M' → F (q_rank σ t) M') : pNl true X mX0_rank 26 [pR 0, pI t] S M F := by
  refine eX0_rank (bX0_rank_0 (c_isLadder cp.2.1 ht (fun a b => ⟨by constructor <;> decide, fun _ => ?_, fun z => by omega⟩) (fun h => ⟨by constructor <;> decide, fun z => by omega, fun _ => ?_⟩)))
  · refine c_get cp.2.1 a b (fun r lr ok hs => ⟨hs, hs, ?_⟩)
    obtain ⟨N, e, h2, h7⟩ := ok.nat
    rw [lr.w.2.2.2.1, e]
    refine c_of h2 h7 cp.1.1 (fun M1 f1 t1 => ?_)
    have c1 := fr14_C f1
    have lr1 : LadR (M 19 1) S M1 r N (lad σ.1 t).2 := by
      rw [← e]
      exact lr.fr cp.2.1.z ⟨List.prefix_refl _, fun x p _ _ => f1 x (by omega)⟩
    rw [e] at ok
    have s1 := cp.1.of14 f1 (t1.C h2 h7)
    have bad : ¬ (pln (lad σ.1 t).2 = 1 ∧ iv N (gob N 0 (-1) (lad σ.1 t).2 0 0 0) = (lad σ.1 t).2.length) → F (-2) M1 := fun z => by
      have := k M1 c1 s1
      unfold q_rank at this
      rw [if_pos ⟨a, b⟩, e, Int.toNat_natCast, if_neg z] at this
      exact this
    obtain ⟨g0, g1⟩ := gob_bd (n := N) (th := 0) (bt := -1) (lad σ.1 t).2 0 0 0 ok.2.2.2.2 (Int.le_refl _) (fac_pos N)
    have hI := iv_21 (n := N) (v := gob N 0 (-1) (lad σ.1 t).2 0 0 0) h7
    have hI0 := iv_nonneg (n := N) (v := gob N 0 (-1) (lad σ.1 t).2 0 0 0)
    have pi := (pln_iff (lad σ.1 t).2).1
    refine c_goes h7 t1 (Int.le_refl _) (fac_pos N) lr1 ok ⟨hs, l_isPlain lr1 ok ⟨by constructor <;> omega, fun z => bX0_rank_65 (bad (fun y => by omega)), fun z => ?_⟩⟩
    have hl := ok.2.2.1
    refine c_inv h7 t1 g0 g1 ⟨hs, l_size lr1 ⟨by constructor <;> omega, by constructor <;> omega, fun y => ?_, fun y => bX0_rank_65 (bad (fun w => y w.2))⟩⟩
    have hp : pln (lad σ.1 t).2 = 1 := by omega
    have vl := lgs_vld ok.2.2.2.2 hp y
    have loop : ∀ (m : Nat) (i : Int), i + m = (lad σ.1 t).2.length → 0 ≤ i → wX0_rank_72 X F r (gob N 0 (-1) (lad σ.1 t).2 0 0 0) i S (ovr M1 6 0 i (fun j => (el (lad σ.1 t).2 j).2.1)) := by
      intro m
      induction m with
      | zero =>
        intro i q1 q2
        have lr2 : LadR (M 19 1) S (ovr M1 6 0 i (fun j => (el (lad σ.1 t).2 j).2.1)) r N (lad σ.1 t).2 := lr1.fr cp.2.1.z ⟨List.prefix_refl _, fun x p _ _ => ovr_ne (by omega)⟩
        refine bX0_rank_72 ⟨hs, l_size lr2 ⟨by constructor <;> omega, by constructor <;> omega, fun _ => ?_, fun z => by omega⟩⟩
        have t2 : TabC N (ovr M1 6 0 i (fun j => (el (lad σ.1 t).2 j).2.1)) := t1.fr (ovr_ne (by decide)) (ovr_ne (by decide)) (ovr_ne (by decide))
        have l2 : LC (ovr M1 6 0 i (fun j => (el (lad σ.1 t).2 j).2.1)) := s1.2.1.fr (by rw [ovr_ne (by decide)]) (ovr_ne (by decide))
        refine c_ranked h2 h7 g0 g1 vl t2 l2 (fun x p q => ?_) (fun M3 f3 l3 => ?_)
        · have q' : x < (lad σ.1 t).2.length := by unfold lgs at q; simpa using q
          rw [ovr_in p (by omega), at_lgs p q']
        · have := k M3 (c1.trans (frC.trans ⟨fun x h => ovr_ne (by omega), fun j h => by rw [ovr_ne (by decide)]⟩ f3.W.C)) ⟨(f3.tab t2).C h2 h7, l3, f3.W.nw (s1.2.2.1.fr (by rw [ovr_ne (by decide)]) (by rw [ovr_ne (by decide)])), ?_⟩
          · unfold q_rank at this
            rw [if_pos ⟨a, b⟩, e, Int.toNat_natCast, if_pos ⟨hp, y⟩] at this
            exact this
          · intro j p q
            rw [f3.1 6 (by decide) (by decide) (by decide)]
            by_cases c : j < i
            · rw [ovr_in p c]
              have := ok.at p (show j < (lad σ.1 t).2.length by omega)
              obtain ⟨u1, u2, _⟩ := this
              omega
            · rw [ovr_out (by omega)]
              exact s1.2.2.2 j p q
      | succ m ih =>
        intro i q1 q2
        have lr2 : LadR (M 19 1) S (ovr M1 6 0 i (fun j => (el (lad σ.1 t).2 j).2.1)) r N (lad σ.1 t).2 := lr1.fr cp.2.1.z ⟨List.prefix_refl _, fun x p _ _ => ovr_ne (by omega)⟩
        have oe := ok.at q2 (show i < (lad σ.1 t).2.length by omega)
        obtain ⟨u1, u2, _⟩ := oe
        refine bX0_rank_72 ⟨hs, l_size lr2 ⟨by constructor <;> omega, by constructor <;> omega, fun z => by omega, fun _ => ⟨hs, l_at lr2 q2 (by omega) (fun q st => ?_)⟩⟩⟩
        rw [st.2.1, i2bb_id (by omega) (by omega)]
        refine ⟨st.is, q2, by omega, by omega, by omega, fun M16 e16 => ?_⟩
        rw [e16, ovr_step q2 rfl]
        exact ih (i + 1) (by omega) (by omega)
    have := loop (lad σ.1 t).2.length 0 (by omega) (by omega)
    rwa [ovr_nil (by omega)] at this
  · have := k M (frC.refl _) cp.1
    unfold q_rank at this
    rw [if_neg h] at this
    exact this
theorem tw_rank_op {F : Int → pM → Prop} {t : Int} (ht : inR t) (ti : TI M σ) (ok : okS σ) (k : ∀ M', frT M M' → TT M' → F (q_rank σ t) M') : pNl true X mX6_rank 4 [pR 241, pI t] S M F := by
  refine eX6_rank (bX6_rank_0 (tw_isLadder ht ti.2.1 ok (fun a b => ⟨by constructor <;> decide, fun _ => ?_, fun z => by omega⟩) (fun h => ⟨by constructor <;> decide, fun z => by omega, fun _ => ?_⟩)))
  · have okl := ok.at a b
    have h6 := ok.tl b
    obtain ⟨N, e, h2, h7⟩ := okl.nat
    rw [e] at okl
    have hf := fac_le h7
    have pi := (pln_iff (lad σ.1 t).2).1
    have hl := okl.2.2.1
    obtain ⟨g0, g1⟩ := gob_bd (n := N) (th := 0) (bt := -1) (lad σ.1 t).2 0 0 0 okl.2.2.2.2 (Int.le_refl _) (fac_pos N)
    have hI := iv_21 (n := N) (v := gob N 0 (-1) (lad σ.1 t).2 0 0 0) h7
    have hI0 := iv_nonneg (n := N) (v := gob N 0 (-1) (lad σ.1 t).2 0 0 0)
    have bad : ∀ M1, frT M M1 → TT M1 → ¬ (pln (lad σ.1 t).2 = 1 ∧ iv N (gob N 0 (-1) (lad σ.1 t).2 0 0 0) = (lad σ.1 t).2.length) → F (-2) M1 := fun M1 f1 t1 z => by
      have := k M1 f1 t1
      unfold q_rank at this
      rw [if_pos ⟨a, b⟩, e, Int.toNat_natCast, if_neg z] at this
      exact this
    refine tw_isPlain ti.2.1 ok a b ⟨by constructor <;> omega, fun z => ⟨a, h6, ?_⟩, fun z => bad M (frT.refl _) ti.1 (fun y => by omega)⟩
    rw [(ti.2.1.2 t a b).1, e]
    refine tw_layT h2 h7 ti.1 (fun M1 f1 t1 => ?_)
    have th1 := ti.2.1.fr f1
    obtain ⟨w1, w2, w3⟩ := th1.2 t a b
    refine tw_endOf th1 ok a b e t1 (Int.le_refl _) (fac_pos N) (by constructor <;> decide) ?_
    rw [t1.2.2.2.1 _ g0 g1, w2]
    refine ⟨g0, by omega, a, h6, by constructor <;> omega, by constructor <;> omega, fun y => ?_, fun y => bad M1 f1 (t1.T h2 h7) (fun w => y w.2)⟩
    have hp : pln (lad σ.1 t).2 = 1 := by omega
    have vl := lgs_vld okl.2.2.2.2 hp y
    have loop : ∀ (m : Nat) (i : Int), i + m = (lad σ.1 t).2.length → 0 ≤ i → wX6_rank_64 X F t (gob N 0 (-1) (lad σ.1 t).2 0 0 0) i S (ovr M1 275 0 i (fun j => (el (lad σ.1 t).2 j).2.1)) := by
      intro m
      induction m with
      | zero =>
        intro i q1 q2
        refine bX6_rank_64 ?_
        rw [ovr_ne (show (243 : Int) ≠ 275 by decide), ovr_ne (show (242 : Int) ≠ 275 by decide), w1, w2, e]
        refine ⟨a, h6, by constructor <;> omega, by constructor <;> omega, fun _ => ⟨a, h6, ?_⟩, fun z => by omega⟩
        have t2 : TabT N (ovr M1 275 0 i (fun j => (el (lad σ.1 t).2 j).2.1)) := t1.fr (by rw [ovr_ne (by decide)]) (by rw [ovr_ne (by decide)]) (fun x p q => ovr_ne (by omega))
        refine tw_rankOf h2 h7 g0 g1 vl t2 (fun x p q => ?_) ?_
        · have q' : x < (lad σ.1 t).2.length := by unfold lgs at q; simpa using q
          rw [ovr_in p (by omega), at_lgs p q']
        · have := k _ (f1.trans (⟨fun x h => ovr_ne (by omega), fun j h => by rw [ovr_ne (by decide)]⟩ : frT M1 (ovr M1 275 0 i (fun j => (el (lad σ.1 t).2 j).2.1)))) (t2.T h2 h7)
          unfold q_rank at this
          rw [if_pos ⟨a, b⟩, e, Int.toNat_natCast, if_pos ⟨hp, y⟩] at this
          exact this
      | succ m ih =>
        intro i q1 q2
        have u := (w3 i q2 (by omega)).2.1
        refine bX6_rank_64 ?_
        rw [ovr_ne (show (243 : Int) ≠ 275 by decide), ovr_ne (show (242 : Int) ≠ 275 by decide), ovr_ne (show (245 : Int) ≠ 275 by decide), w1, w2, u]
        refine ⟨a, h6, by constructor <;> omega, by constructor <;> omega, fun z => by omega, fun _ => ⟨by omega, by omega, q2, by omega, fun M13 e13 => ?_⟩⟩
        rw [e13, ovr_step q2 rfl]
        exact ih (i + 1) (by omega) (by omega)
    have := loop (lad σ.1 t).2.length 0 (by omega) (by omega)
    rwa [ovr_nil (by omega)] at this
  · have := k M (frT.refl _) ti.1
    unfold q_rank at this
    rw [if_neg h] at this
    exact this
end
