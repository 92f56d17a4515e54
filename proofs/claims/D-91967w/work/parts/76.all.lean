/-! ===== drawnAll: what it is ===== -/
set_option maxRecDepth 100000
theorem rn_rn {n : Nat} {v k : Int} (a : 0 ≤ v) (b : v < fac n) (h1 : 0 ≤ k) (h2 : k + 1 < n) : rn n (rn n v k) k = v := by
  have b1 := rn_bd (v := rn n v k) h1 h2
  refine ord_ext b1.1 b1.2 a b (fun i i0 i1 => ?_)
  rw [dg_rn h1 h2 i0 i1, dg_rn h1 h2 i0 i1, tr_tr]
theorem sw_sw {n : Nat} {v k : Int} (a : 0 ≤ v) (b : v < fac n) (h1 : 0 ≤ k) (h2 : k + 1 < n) : sw n (sw n v k) k = v := by
  have b1 := sw_bd (v := sw n v k) h1 h2
  refine ord_ext b1.1 b1.2 a b (fun i i0 i1 => ?_)
  have ht := tr_rng (n := (n : Int)) h1 h2 i0 i1
  rw [dg_sw h1 h2 i0 i1, dg_sw h1 h2 ht.1 ht.2, tr_tr]
theorem wk_inj {n : Nat} : ∀ (w : List Int) (u v : Int), lets n w → 0 ≤ u → u < fac n → 0 ≤ v → v < fac n → wk n u w = wk n v w → u = v
  | [], u, v, _, _, _, _, _, h => h
  | k :: w, u, v, hl, u0, u1, v0, v1, h => by
    have hk := hl k (List.mem_cons_self ..)
    have b1 := rn_bd (v := u) hk.1 hk.2
    have b2 := rn_bd (v := v) hk.1 hk.2
    have := wk_inj w (rn n u k) (rn n v k) (fun x hx => hl x (List.mem_cons_of_mem _ hx)) b1.1 b1.2 b2.1 b2.2 h
    rw [← rn_rn u0 u1 hk.1 hk.2, this, rn_rn v0 v1 hk.1 hk.2]
theorem swk_bd {n : Nat} : ∀ (w : List Int) (v : Int), lets n w → 0 ≤ v → v < fac n → 0 ≤ swk n v w ∧ swk n v w < fac n
  | [], v, _, a, b => ⟨a, b⟩
  | k :: w, v, hl, a, b => by
    have hk := hl k (List.mem_cons_self ..)
    have b1 := sw_bd (v := v) hk.1 hk.2
    exact swk_bd w _ (fun x hx => hl x (List.mem_cons_of_mem _ hx)) b1.1 b1.2
/-- every order is come to by few changes -/
theorem swk_ex {n : Nat} (hn : n ≤ 7) {v : Int} (a : 0 ≤ v) (b : v < fac n) : ∃ w, lets n w ∧ swk n 0 w = v ∧ (w.length : Int) ≤ 21 := by
  obtain ⟨w, hw⟩ := vld_ex hn a b
  have hl := vld_lets hw
  have bd := swk_bd w 0 hl (Int.le_refl _) (fac_pos n)
  refine ⟨w, hl, wk_inj w _ _ hl bd.1 bd.2 a b ?_, ?_⟩
  · rw [wk_swk w hl, vld_wk hw]
  · rw [vld_len hw]; exact iv_21 hn
def lip (n : Nat) (f : Int → Int) : Prop := ∀ v k : Int, 0 ≤ v → v < fac n → 0 ≤ k → k + 1 < n → f (sw n v k) ≤ f v + 1
theorem lip_swk {n : Nat} {f : Int → Int} (h : lip n f) : ∀ (w : List Int) (v : Int), lets n w → 0 ≤ v → v < fac n → f (swk n v w) ≤ f v + w.length
  | [], v, _, _, _ => by simp [swk]
  | k :: w, v, hl, a, b => by
    have hk := hl k (List.mem_cons_self ..)
    have b1 := sw_bd (v := v) hk.1 hk.2
    have := lip_swk h w (sw n v k) (fun x hx => hl x (List.mem_cons_of_mem _ hx)) b1.1 b1.2
    have := h v k a b hk.1 hk.2
    rw [swk]
    simp only [List.length_cons]
    omega
def grt (n : Nat) (f g : Int → Int) : Prop := (∀ v, 0 ≤ v → v < fac n → g v ≤ f v) ∧ lip n g ∧ ∀ h : Int → Int, lip n h → (∀ v, 0 ≤ v → v < fac n → h v ≤ f v) → ∀ v, 0 ≤ v → v < fac n → h v ≤ g v
theorem grt_uni {n : Nat} {f g g' : Int → Int} (a : grt n f g) (b : grt n f g') : ∀ v, 0 ≤ v → v < fac n → g v = g' v := by
  intro v v0 v1
  have := a.2.2 g' b.2.1 b.1 v v0 v1
  have := b.2.2 g a.2.1 a.1 v v0 v1
  omega
theorem grt_congr {n : Nat} {f f' g : Int → Int} (h : grt n f g) (e : ∀ v, 0 ≤ v → v < fac n → f v = f' v) : grt n f' g := by
  refine ⟨fun v a b => by rw [← e v a b]; exact h.1 v a b, h.2.1, fun k hk kf => h.2.2 k hk (fun v a b => by rw [e v a b]; exact kf v a b)⟩
noncomputable def rxF (n : Nat) (f : Int → Int) : Int → Int := Classical.epsilon (fun g => grt n f g)
theorem rxF_eq {n : Nat} {f g : Int → Int} (h : grt n f g) : ∀ v, 0 ≤ v → v < fac n → g v = rxF n f v := grt_uni h (Classical.epsilon_spec (p := fun g => grt n f g) ⟨g, h⟩)
theorem rxF_grt {n : Nat} {f g : Int → Int} (h : grt n f g) : grt n f (rxF n f) := Classical.epsilon_spec (p := fun g => grt n f g) ⟨g, h⟩
theorem grt_nn {n : Nat} {f g : Int → Int} (h : grt n f g) (hf : ∀ v, 0 ≤ v → v < fac n → 0 ≤ f v) : ∀ v, 0 ≤ v → v < fac n → 0 ≤ g v := h.2.2 (fun _ => 0) (fun _ _ _ _ _ _ => by simp) hf
noncomputable def csL (n : Nat) : List elt → (Int → Int) → (Int → Int)
  | [], g => g
  | e :: s, g => csL n s (rxF n (fun v => g (sw n v e.2.1)))
noncomputable def cs0 (n : Nat) : Int → Int := rxF n (fun v => if v = 0 then 0 else 1000)
noncomputable def q_drawnAll (σ : sgm) (t o : Int) : Int := @ite _ (odC σ t o) (Classical.propDecidable _) (if pln (lad σ.1 t).2 = 1 then (if (lad σ.1 t).1 ≤ 5 then csL (lad σ.1 t).1.toNat (lad σ.1 t).2 (cs0 (lad σ.1 t).1.toNat) o else -3) else -2) (-1)
