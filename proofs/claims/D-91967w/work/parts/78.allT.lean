/-! ===== drawnAll: the twin ===== -/
set_option maxRecDepth 100000
/-- costs with gaps (below zero) -/
def TIa (n : Nat) (f0 f : Int → Int) : Prop := (∀ v, 0 ≤ v → v < fac n → -1 ≤ f v ∧ f v ≤ 1000 + cnt (fin f) 0 (fac n).toNat ∧ (0 ≤ f0 v → 0 ≤ f v ∧ f v ≤ f0 v)) ∧ ∀ h : Int → Int, lip n h → (∀ v, 0 ≤ v → v < fac n → 0 ≤ f0 v → h v ≤ f0 v) → ∀ v, 0 ≤ v → v < fac n → 0 ≤ f v → h v ≤ f v
def mua (f : Int → Int) (N : Nat) : Int := sm (fun v => if f v < 0 then 2000 else f v) 0 N
theorem mua_nn {f : Int → Int} (N : Nat) : 0 ≤ mua f N := by
  unfold mua
  exact sm_nn (fun j => by show 0 ≤ (if f j < 0 then 2000 else f j); split <;> omega) _ _
theorem TIa_up {n : Nat} {f0 f f' : Int → Int} {v k : Int} (h120 : fac n ≤ 120) (h : TIa n f0 f) (v0 : 0 ≤ v) (v1 : v < fac n) (hv : 0 ≤ f v) (k0 : 0 ≤ k) (k1 : k + 1 < n) (hb : f (sw n v k) < 0 ∨ f v + 1 < f (sw n v k)) (e1 : f' (sw n v k) = f v + 1) (e2 : ∀ x, x ≠ sw n v k → f' x = f x) : TIa n f0 f' ∧ mua f' (fac n).toNat < mua f (fac n).toNat := by
  have sb := sw_bd (v := v) k0 k1
  have a1 := h.1 v v0 v1
  have a2 := h.1 _ sb.1 sb.2
  have cb := cnt_bd (p := fin f) (fac n).toNat 0
  have hcnt : cnt (fin f') 0 (fac n).toNat = cnt (fin f) 0 (fac n).toNat + (if f (sw n v k) < 0 then 1 else 0) := by
    by_cases z : f (sw n v k) < 0
    · rw [if_pos z]
      exact cnt_add (x := sw n v k) (by unfold fin; simp; omega) (by unfold fin; simp; omega) (fun j hj => by unfold fin; rw [e2 j hj]) _ 0 sb.1 (by omega)
    · rw [if_neg z, Int.add_zero]
      refine cnt_congr _ _ (fun j p q => ?_)
      unfold fin
      by_cases c : j = sw n v k
      · subst c
        simp
        omega
      · rw [e2 j c]
  have hup : f v + 1 ≤ 1000 + cnt (fin f') 0 (fac n).toNat := by
    rw [hcnt]
    rcases hb with z | z
    · rw [if_pos z]; omega
    · by_cases y : f (sw n v k) < 0
      · rw [if_pos y]; omega
      · rw [if_neg y]; omega
  refine ⟨⟨fun x x0 x1 => ?_, fun g hg gf x x0 x1 xx => ?_⟩, ?_⟩
  · by_cases c : x = sw n v k
    · rw [c, e1]
      exact ⟨by omega, hup, fun z => by have := a2.2.2 z; omega⟩
    · rw [e2 x c]
      have := h.1 x x0 x1
      refine ⟨this.1, ?_, this.2.2⟩
      rw [hcnt]
      split <;> omega
  · by_cases c : x = sw n v k
    · have b1 := h.2 g hg gf v v0 v1 hv
      have b2 := hg v k v0 v1 k0 k1
      rw [c, e1]; omega
    · rw [e2 x c] at xx ⊢
      exact h.2 g hg gf x x0 x1 xx
  · unfold mua
    have := sm_up (f := fun v => if f v < 0 then 2000 else f v) (g := fun v => if f' v < 0 then 2000 else f' v) (x := sw n v k) (fun j hj => by simp only [e2 j hj]) (fac n).toNat 0 sb.1 (by omega)
    rw [this]
    have q1 : (if f' (sw n v k) < 0 then 2000 else f' (sw n v k)) = f v + 1 := by rw [e1, if_neg (by omega)]
    have q2 : f v + 1 < (if f (sw n v k) < 0 then 2000 else f (sw n v k)) := by
      split
      · omega
      · omega
    simp only [q1]
    omega
def lipT (n : Nat) (f : Int → Int) (v k : Int) : Prop := ∀ u j : Int, 0 ≤ u → u < fac n → 0 ≤ f u → 0 ≤ j → j + 1 < n → (u < v ∨ (u = v ∧ j < k)) → 0 ≤ f (sw n u j) ∧ f (sw n u j) ≤ f u + 1
section
variable {X : px} {S : List psh}
theorem tw_relax2 {F : pM → Prop} {M0 : pM} {n : Nat} {f0 : Int → Int} (n2 : 2 ≤ n) (n5 : n ≤ 5) (t0 : TabT n M0) (k : ∀ M, (∀ x, x ≠ 284 → M x = M0 x) → TIa n f0 (M 284) → lipT n (M 284) (fac n) 0 → F M) : ∀ (c : Nat) (M : pM), mua (M 284) (fac n).toNat < c → (∀ x, x ≠ 284 → M x = M0 x) → TIa n f0 (M 284) → wX6_relax_2 X F n 1 S M := by
  have hf := fac_120 n5
  have fp := fac_pos n
  have tm : ∀ M, (∀ x, x ≠ 284 → M x = M0 x) → TabT n M := fun M f => t0.fr (by rw [f 241 (by decide)]) (by rw [f 241 (by decide)]) (fun x p q => f x (by omega))
  intro c
  induction c with
  | zero =>
    intro M q1 fr ri
    have := mua_nn (f := M 284) (fac n).toNat
    omega
  | succ c ih =>
    intro M q1 fr ri
    refine bX6_relax_2 ⟨by constructor <;> decide, fun y => by omega, fun _ => ?_⟩
    have l33 : ∀ (v : Int), 0 ≤ v → v < fac n → (∀ (x2 : Int) (M1 : pM), (∀ x, x ≠ 284 → M1 x = M0 x) → TIa n f0 (M1 284) → ((x2 = 0 ∧ M1 284 = M 284 ∧ lipT n (M 284) (v + 1) 0) ∨ (x2 = 1 ∧ mua (M1 284) (fac n).toNat < mua (M 284) (fac n).toNat)) → wX6_relax_10 X F n x2 (v + 1) S M1) → ∀ (m : Nat) (j x2 : Int) (M1 : pM), j + m = n - 1 → 0 ≤ j → 0 ≤ M1 284 v → (∀ x, x ≠ 284 → M1 x = M0 x) → TIa n f0 (M1 284) → ((x2 = 0 ∧ M1 284 = M 284 ∧ lipT n (M 284) v j) ∨ (x2 = 1 ∧ mua (M1 284) (fac n).toNat < mua (M 284) (fac n).toNat)) → wX6_relax_33 X F n x2 v j S M1 := by
      intro v v0 v1 kk m
      induction m with
      | zero =>
        intro j x2 M1 p1 p2 pv f1 r1 q
        refine bX6_relax_33 ⟨by constructor <;> omega, by constructor <;> omega, fun _ => bX6_relax_109 (kk x2 M1 f1 r1 (q.imp (fun w => ⟨w.1, w.2.1, fun u i a1 a2 a2' a3 a4 a5 => w.2.2 u i a1 a2 a2' a3 a4 (by omega)⟩) id)), fun y => by omega⟩
      | succ m ihm =>
        intro j x2 M1 p1 p2 pv f1 r1 q
        have t1 := tm M1 f1
        have sb := sw_bd (n := n) (v := v) (k := j) p2 (by omega)
        have bv := r1.1 v v0 v1
        have bs := r1.1 _ sb.1 sb.2
        have cb := cnt_bd (p := fin (M1 284)) (fac n).toNat 0
        have upd : (M1 284 (sw n v j) < 0 ∨ M1 284 v + 1 < M1 284 (sw n v j)) → wX6_relax_86 X F n v j (sw n v j) S M1 := by
          intro hb
          refine bX6_relax_86 ⟨v0, by omega, sb.1, by omega, fun M5 e5 => ?_⟩
          have up := TIa_up (f' := M5 284) hf r1 v0 v1 pv p2 (by omega) hb (by rw [e5, up_same]) (fun x hx => by rw [e5, up_oi hx])
          refine bX6_relax_103 (ihm (j + 1) 1 M5 (by omega) (by omega) ?_ (fun x hx => by rw [e5, up_ne hx]; exact f1 x hx) up.1 (Or.inr ⟨rfl, ?_⟩))
          · rw [e5]
            by_cases d : v = sw n v j
            · rw [← d, up_same]; omega
            · rw [up_oi d]; exact pv
          · rcases q with w | w
            · rw [← w.2.1]; exact up.2
            · have := up.2; omega
        refine bX6_relax_33 ?_
        rw [t1.2.2.2.2.1 v j v0 v1 p2 (by omega)]
        refine ⟨by constructor <;> omega, by constructor <;> omega, fun y => by omega, fun _ => ⟨by omega, by omega, sb.1, by omega, by constructor <;> omega, fun y => upd (Or.inl y), fun y => ⟨sb.1, by omega, v0, by omega, by constructor <;> omega, by constructor <;> omega, fun w => upd (Or.inr w), fun w => ?_⟩⟩⟩
        refine bX6_relax_103 (ihm (j + 1) x2 M1 (by omega) (by omega) pv f1 r1 (q.imp (fun ww => ⟨ww.1, ww.2.1, fun u i a1 a2 a2' a3 a4 a5 => ?_⟩) id))
        by_cases d : u = v ∧ i = j
        · rw [d.1, d.2, ← ww.2.1]
          omega
        · exact ww.2.2 u i a1 a2 a2' a3 a4 (by omega)
    have l10 : ∀ (m : Nat) (v x2 : Int) (M1 : pM), v + m = fac n → 0 ≤ v → (∀ x, x ≠ 284 → M1 x = M0 x) → TIa n f0 (M1 284) → ((x2 = 0 ∧ M1 284 = M 284 ∧ lipT n (M 284) v 0) ∨ (x2 = 1 ∧ mua (M1 284) (fac n).toNat < mua (M 284) (fac n).toNat)) → wX6_relax_10 X F n x2 v S M1 := by
      intro m
      induction m with
      | zero =>
        intro v x2 M1 p1 p2 f1 r1 q
        refine bX6_relax_10 ?_
        rw [(tm M1 f1).2.1]
        refine ⟨by constructor <;> omega, by constructor <;> omega, fun _ => ?_, fun y => by omega⟩
        rcases q with w | w
        · obtain ⟨w1, w2, w3⟩ := w
          subst w1
          refine bX6_relax_2 ⟨by constructor <;> decide, fun _ => k M1 f1 r1 ?_, fun y => absurd rfl y⟩
          rw [w2]
          exact fun u j a1 a2 a2' a3 a4 a5 => w3 u j a1 a2 a2' a3 a4 (by omega)
        · obtain ⟨w1, w2⟩ := w
          subst w1
          exact ih M1 (by omega) f1 r1
      | succ m ihm =>
        intro v x2 M1 p1 p2 f1 r1 q
        have bv := r1.1 v p2 (by omega)
        have cb := cnt_bd (p := fin (M1 284)) (fac n).toNat 0
        refine bX6_relax_10 ?_
        rw [(tm M1 f1).2.1]
        refine ⟨by constructor <;> omega, by constructor <;> omega, fun y => by omega, fun _ => ⟨p2, by omega, by constructor <;> omega, fun y => ?_, fun y => ?_⟩⟩
        · exact l33 v p2 (by omega) (fun x2' M2 f2 r2 q2 => ihm (v + 1) x2' M2 (by omega) (by omega) f2 r2 q2) (n - 1) 0 x2 M1 (by omega) (by omega) y f1 r1 q
        · refine bX6_relax_109 (ihm (v + 1) x2 M1 (by omega) (by omega) f1 r1 (q.imp (fun w => ⟨w.1, w.2.1, fun u i a1 a2 a2' a3 a4 a5 => ?_⟩) id))
          by_cases d : u = v
          · rw [d, ← w.2.1] at a2'
            omega
          · exact w.2.2 u i a1 a2 a2' a3 a4 (by omega)
    exact l10 (fac n).toNat 0 0 M (by omega) (by omega) fr ri (Or.inl ⟨rfl, rfl, fun u j a1 a2 a2' a3 a4 a5 => by omega⟩)
theorem tw_relax {F : pM → Prop} {M : pM} {n : Nat} (n2 : 2 ≤ n) (n5 : n ≤ 5) (t0 : TabT n M) (hM : ∀ v, 0 ≤ v → v < fac n → -1 ≤ M 284 v ∧ M 284 v ≤ 1000) (k : ∀ M', (∀ x, x ≠ 284 → M' x = M x) → TIa n (M 284) (M' 284) → lipT n (M' 284) (fac n) 0 → F M') : pNv true X mX6_relax 1 [pR 241, pI n] S M F := by
  refine eX6_relax (bX6_relax_0 (tw_relax2 (M0 := M) n2 n5 t0 k (mua (M 284) (fac n).toNat + 1).toNat M (by have := mua_nn (f := M 284) (fac n).toNat; omega) (fun _ _ => rfl) ⟨fun v a b => ?_, fun h _ hh v a b c => hh v a b c⟩))
  have cb := cnt_bd (p := fin (M 284)) (fac n).toNat 0
  have := hM v a b
  exact ⟨by omega, by omega, fun z => ⟨z, Int.le_refl _⟩⟩
end
/-- all is come to from the first -/
theorem lipT_all {n : Nat} {f : Int → Int} (hn : n ≤ 7) (h : lipT n f (fac n) 0) (h0 : f 0 = 0) : ∀ v, 0 ≤ v → v < fac n → 0 ≤ f v ∧ f v ≤ 21 := by
  have key : ∀ (w : List Int) (v : Int), lets n w → 0 ≤ v → v < fac n → 0 ≤ f v → 0 ≤ f (swk n v w) ∧ f (swk n v w) ≤ f v + w.length := by
    intro w
    induction w with
    | nil => intro v _ a b c; simp [swk]; exact c
    | cons k w ih =>
      intro v hl a b c
      have hk := hl k (List.mem_cons_self ..)
      have b1 := sw_bd (v := v) hk.1 hk.2
      have s1 := h v k a b c hk.1 hk.2 (Or.inl b)
      have s2 := ih (sw n v k) (fun x hx => hl x (List.mem_cons_of_mem _ hx)) b1.1 b1.2 s1.1
      rw [swk]
      simp only [List.length_cons]
      omega
  intro v a b
  obtain ⟨w, w1, w2, w3⟩ := swk_ex hn a b
  have := key w 0 w1 (Int.le_refl _) (fac_pos n) (by omega)
  rw [w2, h0] at this
  omega
theorem TIa_first {n : Nat} {f : Int → Int} (hn : n ≤ 7) (h : TIa n (fun v => if v = 0 then 0 else -1) f) (l : lipT n f (fac n) 0) : grt n (fun v => if v = 0 then 0 else 1000) f := by
  have fp := fac_pos n
  have f0 := (h.1 0 (Int.le_refl _) fp).2.2 (by simp)
  simp only [if_pos] at f0
  have all := lipT_all hn l (by omega)
  refine ⟨fun v a b => ?_, fun v k a b c d => (l v k a b (all v a b).1 c d (Or.inl b)).2, fun g hg gf v a b => h.2 g hg (fun u u0 u1 z => ?_) v a b (all v a b).1⟩
  · by_cases c : v = 0
    · subst c
      simp only [if_pos]
      omega
    · have := all v a b
      simp only [if_neg c]
      omega
  · by_cases c : u = 0
    · subst c
      exact gf 0 (Int.le_refl _) fp
    · simp only [if_neg c] at z
      omega
theorem TIa_next {n : Nat} {f0 f : Int → Int} (h0 : ∀ v, 0 ≤ v → v < fac n → 0 ≤ f0 v) (h : TIa n f0 f) (l : lipT n f (fac n) 0) : grt n f0 f := by
  have all : ∀ v, 0 ≤ v → v < fac n → 0 ≤ f v := fun v a b => ((h.1 v a b).2.2 (h0 v a b)).1
  exact ⟨fun v a b => ((h.1 v a b).2.2 (h0 v a b)).2, fun v k a b c d => (l v k a b (all v a b) c d (Or.inl b)).2, fun g hg gf v a b => h.2 g hg (fun u u0 u1 _ => gf u u0 u1) v a b (all v a b)⟩
section
variable {X : px} {S : List psh} {M : pM} {σ : sgm}
theorem tw_al101 {F : Int → pM → Prop} {M0 : pM} {t o : Int} {n : Nat} (n2 : 2 ≤ n) (n5 : n ≤ 5) (th : THl M0 σ.1) (ok : okS σ) (a' : 0 ≤ t) (b' : t < σ.1.length) (e' : (lad σ.1 t).1 = n) (t0 : TabT n M0) (o0 : 0 ≤ o) (o1 : o < fac n) : ∀ (s : List elt) (g : Int) (f0 : Int → Int) (M : pM), (lad σ.1 t).2.drop g.toNat = s → 0 ≤ g → g ≤ (lad σ.1 t).2.length → (∀ x, x ≠ 284 → x ≠ 285 → M x = M0 x) → (∀ v, 0 ≤ v → v < fac n → M 284 v = f0 v ∧ 0 ≤ f0 v ∧ f0 v ≤ 1000) → (∀ M', (∀ x, x ≠ 284 → x ≠ 285 → M' x = M0 x) → F (csL n s f0 o) M') → wX6_drawnAll_101 X F t o g S M := by
  have okl := ok.at a' b'
  rw [e'] at okl
  have hl := okl.2.2.1
  have h6 := ok.tl b'
  obtain ⟨u1, u2, u3⟩ := th.2 t a' b'
  have hf := fac_120 n5
  have fp := fac_pos n
  have tm : ∀ M, (∀ x, x ≠ 284 → x ≠ 285 → M x = M0 x) → TabT n M := fun M f => t0.fr (by rw [f 241 (by decide) (by decide)]) (by rw [f 241 (by decide) (by decide)]) (fun x p q => f x (by omega) (by omega))
  intro s
  induction s with
  | nil =>
    intro g f0 M q0 q1 q2 fr hM k
    have := drop_nil q0 q1
    refine bX6_drawnAll_101 ?_
    rw [fr 243 (by decide) (by decide), u2, (hM o o0 o1).1]
    exact ⟨a', h6, by constructor <;> omega, by constructor <;> omega, fun _ => ⟨o0, by omega, k M fr⟩, fun y => by omega⟩
  | cons e s ih =>
    intro g f0 M q0 q1 q2 fr hM k
    obtain ⟨e1, e2, e3⟩ := drop_cons q0 q1
    have he := okl.at q1 e3
    have lgv := (u3 g q1 e3).2.1
    rw [e1] at he lgv
    have k0 : 0 ≤ e.2.1 := he.1
    have k1 : e.2.1 + 1 < n := by have := he.2.1; omega
    refine bX6_drawnAll_101 ?_
    rw [fr 243 (by decide) (by decide), u2]
    refine ⟨a', h6, by constructor <;> omega, by constructor <;> omega, fun y => by omega, fun _ => ?_⟩
    have l167 : ∀ (m : Nat) (v : Int) (M2 : pM), v + m = fac n → 0 ≤ v → (∀ x, x ≠ 284 → x ≠ 285 → M2 x = M0 x) → (∀ u, 0 ≤ u → u < fac n → M2 285 u = f0 (sw n u e.2.1)) → (∀ u, 0 ≤ u → u < v → M2 284 u = f0 (sw n u e.2.1)) → wX6_drawnAll_167 X F t o g v S M2 := by
      intro m
      induction m with
      | zero =>
        intro v M2 p1 p2 f2 h2 h3
        have t2 := tm M2 f2
        refine bX6_drawnAll_167 ?_
        rw [t2.2.1, f2 242 (by decide) (by decide), u1, e']
        have hv : ∀ u, 0 ≤ u → u < fac n → M2 284 u = f0 (sw n u e.2.1) ∧ 0 ≤ M2 284 u ∧ M2 284 u ≤ 1000 := fun u u0 u1 => by
          have sb := sw_bd (n := n) (v := u) k0 k1
          have := hM _ sb.1 sb.2
          have := h3 u u0 (by omega)
          omega
        refine ⟨by constructor <;> omega, by constructor <;> omega, fun _ => ⟨a', h6, tw_relax n2 n5 t2 (fun u u0 u1 => by have := hv u u0 u1; omega) (fun M3 f3 ti li => ?_)⟩, fun y => by omega⟩
        have gr := grt_congr (TIa_next (fun u u0 u1 => (hv u u0 u1).2.1) ti li) (f' := fun u => f0 (sw n u e.2.1)) (fun u u0 u1 => (hv u u0 u1).1)
        refine ih (g + 1) (rxF n (fun u => f0 (sw n u e.2.1))) M3 e2 (by omega) (by omega) (fun x x1 x2 => (f3 x x1).trans (f2 x x1 x2)) (fun u u0 u1 => ?_) k
        have ge := rxF_eq gr u u0 u1
        have g1 := gr.1 u u0 u1
        have g2 := ((ti.1 u u0 u1).2.2 (hv u u0 u1).2.1).1
        have := hv u u0 u1
        simp only [] at g1
        exact ⟨ge, by omega, by omega⟩
      | succ m ihm =>
        intro v M2 p1 p2 f2 h2 h3
        refine bX6_drawnAll_167 ?_
        rw [(tm M2 f2).2.1]
        refine ⟨by constructor <;> omega, by constructor <;> omega, fun y => by omega, fun _ => ⟨p2, by omega, p2, by omega, fun M10 e10 => ihm (v + 1) M10 (by omega) (by omega) (fun x x1 x2 => by rw [e10, up_ne x1]; exact f2 x x1 x2) (fun u u0 u1 => by rw [e10, up_ne (by decide)]; exact h2 u u0 u1) (fun u u0 u1 => ?_)⟩⟩
        rw [e10]
        by_cases d : u = v
        · rw [d, up_same]; exact h2 v p2 (by omega)
        · rw [up_oi d]; exact h3 u u0 (by omega)
    have l114 : ∀ (m : Nat) (v : Int) (M2 : pM), v + m = fac n → 0 ≤ v → (∀ x, x ≠ 284 → x ≠ 285 → M2 x = M0 x) → M2 284 = M 284 → (∀ u, 0 ≤ u → u < v → M2 285 (sw n u e.2.1) = M 284 u) → wX6_drawnAll_114 X F t o g v S M2 := by
      intro m
      induction m with
      | zero =>
        intro v M2 p1 p2 f2 h4 h2
        refine bX6_drawnAll_114 ?_
        rw [(tm M2 f2).2.1]
        refine ⟨by constructor <;> omega, by constructor <;> omega, fun _ => l167 (fac n).toNat 0 M2 (by omega) (by omega) f2 (fun u u0 u1 => ?_) (fun u u0 u1 => by omega), fun y => by omega⟩
        have sb := sw_bd (n := n) (v := u) k0 k1
        have := h2 (sw n u e.2.1) sb.1 (by omega)
        rw [sw_sw u0 u1 k0 k1] at this
        rw [this]
        exact (hM _ sb.1 sb.2).1
      | succ m ihm =>
        intro v M2 p1 p2 f2 h4 h2
        have t2 := tm M2 f2
        have sb := sw_bd (n := n) (v := v) k0 k1
        refine bX6_drawnAll_114 ?_
        rw [t2.2.1, f2 245 (by decide) (by decide), lgv, t2.2.2.2.2.1 v e.2.1 p2 (by omega) k0 k1, h4]
        refine ⟨by constructor <;> omega, by constructor <;> omega, fun y => by omega, fun _ => ⟨by omega, by omega, by omega, by omega, p2, by omega, sb.1, by omega, fun M11 e11 => ihm (v + 1) M11 (by omega) (by omega) (fun x x1 x2 => by rw [e11, up_ne x2]; exact f2 x x1 x2) (by rw [e11, up_ne (by decide)]; exact h4) (fun u u0 u1 => ?_)⟩⟩
        rw [e11]
        by_cases d : u = v
        · rw [d, up_same]
        · rw [up_oi ?_]
          · exact h2 u u0 (by omega)
          · intro w
            have : sw n (sw n u e.2.1) e.2.1 = sw n (sw n v e.2.1) e.2.1 := by rw [w]
            rw [sw_sw u0 (by omega) k0 k1, sw_sw p2 (by omega) k0 k1] at this
            exact d this
    exact l114 (fac n).toNat 0 M (by omega) (by omega) fr rfl (fun u u0 u1 => by omega)
theorem tw_drawnAll_op {F : Int → pM → Prop} {t o : Int} (ht : inR t) (ho : inR o) (ti : TI M σ) (ok : okS σ) (k : ∀ M', frT M M' → TT M' → F (q_drawnAll σ t o) M') : pNi true X mX6_drawnAll 4 [pR 241, pI t, pI o] S M F := by
  have bad : ¬ odC σ t o → F (-1) M := fun z => by
    have := k M (frT.refl _) ti.1
    unfold q_drawnAll at this
    rw [if_neg z] at this
    exact this
  refine eX6_drawnAll (bX6_drawnAll_0 (tw_isLadder ht ti.2.1 ok (fun a b => ⟨by constructor <;> decide, fun z => by omega, fun _ => ⟨a, ok.tl b, ?_⟩⟩) (fun h => ⟨by constructor <;> decide, fun _ => bad (fun z => h ⟨z.1, z.2.1⟩), fun z => by omega⟩)))
  have h6 := ok.tl b
  refine tw_isOrderOf ti.2.1 ok a b ho (fun N h2 h7 e p q => ⟨by constructor <;> decide, fun _ => tw_isPlain ti.2.1 ok a b ?_, fun z => by omega⟩) (fun hno => ⟨by constructor <;> decide, fun z => by omega, fun _ => bad (fun z => hno z.2.2)⟩)
  have od : odC σ t o := ⟨a, b, by rw [e]; exact isO_nat h2 h7 p q⟩
  have pi := (pln_iff (lad σ.1 t).2).1
  rw [(ti.2.1.2 t a b).1, e]
  refine ⟨by constructor <;> omega, fun z => ⟨a, h6, by constructor <;> omega, fun n5 => ⟨a, h6, tw_layT h2 h7 ti.1 (fun M1 f1 t1 => ?_)⟩, fun n5 => ?_⟩, fun z => ?_⟩
  · have hf := fac_120 (n := N) (by omega)
    have fp := fac_pos N
    have th1 := ti.2.1.fr f1
    have loop : ∀ (m : Nat) (v : Int) (M2 : pM), v + m = fac N → 0 ≤ v → (∀ x, x ≠ 284 → M2 x = M1 x) → (∀ u, 0 ≤ u → u < v → M2 284 u = if u = 0 then 0 else -1) → wX6_drawnAll_60 X F t o v S M2 := by
      intro m
      induction m with
      | zero =>
        intro v M2 p1 p2 f2 h3
        have t2 : TabT N M2 := t1.fr (by rw [f2 241 (by decide)]) (by rw [f2 241 (by decide)]) (fun x p q => f2 x (by omega))
        refine bX6_drawnAll_60 ?_
        rw [t2.2.1, f2 242 (by decide), (th1.2 t a b).1, e]
        refine ⟨by constructor <;> omega, by constructor <;> omega, fun _ => ⟨a, h6, tw_relax h2 (by omega) t2 (fun u u0 u1 => by rw [h3 u u0 (by omega)]; split <;> omega) (fun M3 f3 ta li => ?_)⟩, fun y => by omega⟩
        have ta' : TIa N (fun v => if v = 0 then 0 else -1) (M3 284) := by
          refine ⟨fun u u0 u1 => ?_, fun g hg gf u u0 u1 uu => ta.2 g hg (fun w w0 w1 wz => ?_) u u0 u1 uu⟩
          · have := ta.1 u u0 u1
            rw [h3 u u0 (by omega)] at this
            exact this
          · rw [h3 w w0 (by omega)] at wz ⊢
            exact gf w w0 w1 wz
        have gr := TIa_first h7 ta' li
        have gn := grt_nn gr (fun u _ _ => by show 0 ≤ (if u = 0 then (0 : Int) else 1000); split <;> omega)
        have f13 : ∀ x, x ≠ 284 → x ≠ 285 → M3 x = M1 x := fun x x1 _ => (f3 x x1).trans (f2 x x1)
        refine tw_al101 (M0 := M1) h2 (by omega) th1 ok a b e t1 p q _ 0 (cs0 N) M3 rfl (by omega) (by omega) f13 (fun u u0 u1 => ?_) (fun M' f' => ?_)
        · have ge := rxF_eq gr u u0 u1
          have g1 := gr.1 u u0 u1
          have g2 := gn u u0 u1
          have g3 : (if u = 0 then (0 : Int) else 1000) ≤ 1000 := by split <;> omega
          simp only [] at g1
          unfold cs0
          exact ⟨ge, by omega, by omega⟩
        · have := k M' (f1.trans ⟨fun x hx => f' x (by omega) (by omega), fun j _ => by rw [f' 241 (by decide) (by decide)]⟩) ((t1.fr (by rw [f' 241 (by decide) (by decide)]) (by rw [f' 241 (by decide) (by decide)]) (fun x p q => f' x (by omega) (by omega))).T h2 h7)
          unfold q_drawnAll at this
          rw [if_pos od, if_pos (by omega), if_pos (by omega), e, Int.toNat_natCast] at this
          exact this
      | succ m ih =>
        intro v M2 p1 p2 f2 h3
        have t2 : TabT N M2 := t1.fr (by rw [f2 241 (by decide)]) (by rw [f2 241 (by decide)]) (fun x p q => f2 x (by omega))
        have go : ∀ x, x = (if v = 0 then (0 : Int) else -1) → wX6_drawnAll_82 X F t o v v x S M2 := by
          intro x hx
          refine bX6_drawnAll_82 ⟨p2, by omega, fun M3 e3 => ih (v + 1) M3 (by omega) (by omega) (fun y hy => by rw [e3, up_ne hy]; exact f2 y hy) (fun u u0 u1 => ?_)⟩
          rw [e3]
          by_cases d : u = v
          · rw [d, up_same]; exact hx
          · rw [up_oi d]; exact h3 u u0 (by omega)
        refine bX6_drawnAll_60 ?_
        rw [t2.2.1]
        exact ⟨by constructor <;> omega, by constructor <;> omega, fun y => by omega, fun _ => ⟨by constructor <;> omega, fun y => go _ (by rw [if_neg y]), fun y => go _ (by rw [if_pos y])⟩⟩
    exact loop (fac N).toNat 0 M1 (by omega) (by omega) (fun _ _ => rfl) (fun u u0 u1 => by omega)
  · have := k M (frT.refl _) ti.1
    unfold q_drawnAll at this
    rw [if_pos od, if_pos (by omega), if_neg (by omega)] at this
    exact this
  · have := k M (frT.refl _) ti.1
    unfold q_drawnAll at this
    rw [if_pos od, if_neg (by omega)] at this
    exact this
end
