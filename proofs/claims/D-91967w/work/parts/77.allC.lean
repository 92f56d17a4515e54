/-! ===== drawnAll: the component ===== -/
set_option maxRecDepth 100000
theorem fac_120 {n : Nat} (h : n ≤ 5) : fac n ≤ 120 := by
  have : ∀ j, j ≤ 5 → fac j ≤ 120 := by decide
  exact this n h
def RI (n : Nat) (f0 f : Int → Int) : Prop := (∀ v, 0 ≤ v → v < fac n → f v ≤ f0 v ∧ 0 ≤ f v) ∧ ∀ h : Int → Int, lip n h → (∀ v, 0 ≤ v → v < fac n → h v ≤ f0 v) → ∀ v, 0 ≤ v → v < fac n → h v ≤ f v
theorem RI_up {n : Nat} {f0 f f' : Int → Int} {v k : Int} (h : RI n f0 f) (v0 : 0 ≤ v) (v1 : v < fac n) (k0 : 0 ≤ k) (k1 : k + 1 < n) (hb : f v + 1 < f (sw n v k)) (e1 : f' (sw n v k) = f v + 1) (e2 : ∀ x, x ≠ sw n v k → f' x = f x) : RI n f0 f' ∧ sm f' 0 (fac n).toNat < sm f 0 (fac n).toNat := by
  have sb := sw_bd (v := v) k0 k1
  have hv := h.1 v v0 v1
  have hs := h.1 _ sb.1 sb.2
  refine ⟨⟨fun x x0 x1 => ?_, fun g hg gf x x0 x1 => ?_⟩, ?_⟩
  · by_cases c : x = sw n v k
    · rw [c, e1]; omega
    · rw [e2 x c]; exact h.1 x x0 x1
  · by_cases c : x = sw n v k
    · have a1 := h.2 g hg gf v v0 v1
      have a2 := hg v k v0 v1 k0 k1
      rw [c, e1]; omega
    · rw [e2 x c]; exact h.2 g hg gf x x0 x1
  · have := sm_up (f := f) (g := f') (x := sw n v k) e2 (fac n).toNat 0 sb.1 (by omega)
    rw [this, e1]
    omega
/-- edges looked at give no way -/
def lipA (n : Nat) (f : Int → Int) (v k : Int) : Prop := ∀ u j : Int, 0 ≤ u → u < fac n → 0 ≤ j → j + 1 < n → (u < v ∨ (u = v ∧ j < k)) → f (sw n u j) ≤ f u + 1
section
variable {X : px} {S : List psh}
theorem c_swap1 {F : Int → pM → Prop} {M : pM} {n : Nat} {v k : Int} (hn : n ≤ 7) (t : TabC n M) (v0 : 0 ≤ v) (v1 : v < fac n) (k0 : 0 ≤ k) (k1 : k + 1 < n) (kk : F (sw n v k) M) : pNi true X mX1_swap_2 1 [pR 1, pI v, pI k, pI 1] S M F := by
  have hf := fac_le hn
  refine eX1_swap_2 (bX1_swap_2_0 ⟨by constructor <;> decide, fun z => by omega, fun _ => ⟨by omega, by omega, ?_⟩⟩)
  rw [t.2.2.2 v k v0 v1 k0 k1]
  exact kk
theorem c_al99 {F : Int → pM → Prop} {M0 : pM} {z r o g : Int} {n : Nat} {L : List elt} {f0 : Int → Int} (n2 : 2 ≤ n) (n5 : n ≤ 5) (hz : ∀ n : Nat × Nat, shq S z = some (.inl n.1, n.2) → False) (lr : LadR z S M0 r n L) (t0 : TabC n M0) (hf0 : ∀ v, 0 ≤ v → v < fac n → f0 v ≤ 1000) (k : ∀ M, (∀ x, x ≠ 231 → M x = M0 x) → grt n f0 (M 231) → (∀ v, 0 ≤ v → v < fac n → 0 ≤ M 231 v) → wX0_drawnAll_99 X F o r g 0 S M) : ∀ (c : Nat) (M : pM), sm (M 231) 0 (fac n).toNat < c → (∀ x, x ≠ 231 → M x = M0 x) → RI n f0 (M 231) → wX0_drawnAll_99 X F o r g 1 S M := by
  have hf := fac_120 n5
  have fp := fac_pos n
  have lm : ∀ M, (∀ x, x ≠ 231 → M x = M0 x) → LadR z S M r n L := fun M f => lr.fr hz ⟨List.prefix_refl _, fun x p _ _ => f x (by omega)⟩
  have tm : ∀ M, (∀ x, x ≠ 231 → M x = M0 x) → TabC n M := fun M f => t0.fr (f 1 (by decide)) (f 2 (by decide)) (f 3 (by decide))
  intro c
  induction c with
  | zero =>
    intro M q1 fr ri
    have := sm_nn' (f := M 231) (fac n).toNat 0 (fun j a b => (ri.1 j a (by omega)).2)
    omega
  | succ c ih =>
    intro M q1 fr ri
    refine bX0_drawnAll_99 ⟨by constructor <;> decide, fun y => by omega, fun _ => ?_⟩
    have l125 : ∀ (v : Int), 0 ≤ v → v < fac n → (∀ (x5 : Int) (M1 : pM), (∀ x, x ≠ 231 → M1 x = M0 x) → RI n f0 (M1 231) → ((x5 = 0 ∧ M1 231 = M 231 ∧ lipA n (M 231) (v + 1) 0) ∨ (x5 = 1 ∧ sm (M1 231) 0 (fac n).toNat < sm (M 231) 0 (fac n).toNat)) → wX0_drawnAll_110 X F o r g x5 (v + 1) S M1) → ∀ (m : Nat) (j x5 : Int) (M1 : pM), j + m = n - 1 → 0 ≤ j → (∀ x, x ≠ 231 → M1 x = M0 x) → RI n f0 (M1 231) → ((x5 = 0 ∧ M1 231 = M 231 ∧ lipA n (M 231) v j) ∨ (x5 = 1 ∧ sm (M1 231) 0 (fac n).toNat < sm (M 231) 0 (fac n).toNat)) → wX0_drawnAll_125 X F o r g x5 v j S M1 := by
      intro v v0 v1 kk m
      induction m with
      | zero =>
        intro j x5 M1 p1 p2 f1 r1 q
        have lr1 := lm M1 f1
        refine bX0_drawnAll_125 ?_
        rw [lr1.w.2.2.2.1]
        refine ⟨lr1.w.1, by constructor <;> omega, by constructor <;> omega, fun _ => kk x5 M1 f1 r1 (q.imp (fun w => ⟨w.1, w.2.1, fun u i a1 a2 a3 a4 a5 => w.2.2 u i a1 a2 a3 a4 (by omega)⟩) id), fun y => by omega⟩
      | succ m ihm =>
        intro j x5 M1 p1 p2 f1 r1 q
        have lr1 := lm M1 f1
        have t1 := tm M1 f1
        have sb := sw_bd (n := n) (v := v) (k := j) p2 (by omega)
        have bv := r1.1 v v0 v1
        have bs := r1.1 _ sb.1 sb.2
        have fv := hf0 v v0 v1
        have fs := hf0 _ sb.1 sb.2
        refine bX0_drawnAll_125 ?_
        rw [lr1.w.2.2.2.1]
        refine ⟨lr1.w.1, by constructor <;> omega, by constructor <;> omega, fun y => by omega, fun _ => c_swap1 (by omega) t1 v0 v1 p2 (by omega) ⟨sb.1, by omega, v0, by omega, by constructor <;> omega, by constructor <;> omega, fun y => ⟨v0, by omega, sb.1, by omega, fun M16 e16 => ?_⟩, fun y => ?_⟩⟩
        · have up := RI_up (f' := M16 231) r1 v0 v1 p2 (by omega) y (by rw [e16, up_same]) (fun x hx => by rw [e16, up_oi hx])
          refine bX0_drawnAll_191 (ihm (j + 1) 1 M16 (by omega) (by omega) (fun x hx => by rw [e16, up_ne hx]; exact f1 x hx) up.1 (Or.inr ⟨rfl, ?_⟩))
          rcases q with w | w
          · rw [← w.2.1]; exact up.2
          · have := up.2; omega
        · refine bX0_drawnAll_191 (ihm (j + 1) x5 M1 (by omega) (by omega) f1 r1 (q.imp (fun w => ⟨w.1, w.2.1, fun u i a1 a2 a3 a4 a5 => ?_⟩) id))
          by_cases d : u = v ∧ i = j
          · rw [d.1, d.2, ← w.2.1]
            omega
          · exact w.2.2 u i a1 a2 a3 a4 (by omega)
    have l110 : ∀ (m : Nat) (v x5 : Int) (M1 : pM), v + m = fac n → 0 ≤ v → (∀ x, x ≠ 231 → M1 x = M0 x) → RI n f0 (M1 231) → ((x5 = 0 ∧ M1 231 = M 231 ∧ lipA n (M 231) v 0) ∨ (x5 = 1 ∧ sm (M1 231) 0 (fac n).toNat < sm (M 231) 0 (fac n).toNat)) → wX0_drawnAll_110 X F o r g x5 v S M1 := by
      intro m
      induction m with
      | zero =>
        intro v x5 M1 p1 p2 f1 r1 q
        refine bX0_drawnAll_110 ?_
        rw [(tm M1 f1).2.1]
        refine ⟨by constructor <;> omega, by constructor <;> omega, fun _ => ?_, fun y => by omega⟩
        rcases q with w | w
        · obtain ⟨w1, w2, w3⟩ := w
          subst w1
          refine k M1 f1 ⟨fun v a b => (r1.1 v a b).1, fun u j a1 a2 a3 a4 => ?_, r1.2⟩ (fun v a b => (r1.1 v a b).2)
          rw [w2]
          exact w3 u j a1 a2 a3 a4 (by omega)
        · obtain ⟨w1, w2⟩ := w
          subst w1
          exact ih M1 (by omega) f1 r1
      | succ m ihm =>
        intro v x5 M1 p1 p2 f1 r1 q
        refine bX0_drawnAll_110 ?_
        rw [(tm M1 f1).2.1]
        refine ⟨by constructor <;> omega, by constructor <;> omega, fun y => by omega, fun _ => ?_⟩
        exact l125 v p2 (by omega) (fun x5' M2 f2 r2 q2 => ihm (v + 1) x5' M2 (by omega) (by omega) f2 r2 q2) (n - 1) 0 x5 M1 (by omega) (by omega) f1 r1 q
    exact l110 (fac n).toNat 0 0 M (by omega) (by omega) fr ri (Or.inl ⟨rfl, rfl, fun u j a1 a2 a3 a4 a5 => by omega⟩)
theorem c_al87 {F : Int → pM → Prop} {M0 : pM} {z r o : Int} {n : Nat} {L : List elt} (n2 : 2 ≤ n) (n5 : n ≤ 5) (hz : ∀ n : Nat × Nat, shq S z = some (.inl n.1, n.2) → False) (lr : LadR z S M0 r n L) (ok : okL n L) (t0 : TabC n M0) (o0 : 0 ≤ o) (o1 : o < fac n) : ∀ (s : List elt) (g : Int) (f0 : Int → Int) (M : pM), L.drop g.toNat = s → 0 ≤ g → g ≤ L.length → (∀ x, x ≠ 231 → x ≠ 232 → M x = M0 x) → (∀ v, 0 ≤ v → v < fac n → M 231 v = f0 v ∧ 0 ≤ f0 v ∧ f0 v ≤ 1000) → (∀ M', (∀ x, x ≠ 231 → x ≠ 232 → M' x = M0 x) → F (csL n s (rxF n f0) o) M') → wX0_drawnAll_87 X F o r g S M := by
  have hl := ok.2.2.1
  have hf := fac_120 n5
  have fp := fac_pos n
  have lm : ∀ M, (∀ x, x ≠ 231 → x ≠ 232 → M x = M0 x) → LadR z S M r n L := fun M f => lr.fr hz ⟨List.prefix_refl _, fun x p _ _ => f x (by omega) (by omega)⟩
  have tm : ∀ M, (∀ x, x ≠ 231 → x ≠ 232 → M x = M0 x) → TabC n M := fun M f => t0.fr (f 1 (by decide) (by decide)) (f 2 (by decide) (by decide)) (f 3 (by decide) (by decide))
  intro s
  induction s with
  | nil =>
    intro g f0 M q0 q1 q2 fr hM k
    have := drop_nil q0 q1
    have lr1 := lm M fr
    refine bX0_drawnAll_87 ⟨lr1.w.1, l_size lr1 ⟨by constructor <;> omega, by constructor <;> omega, fun y => by omega, fun _ => ?_⟩⟩
    refine c_al99 (M0 := M) (f0 := f0) n2 n5 hz lr1 (tm M fr) (fun v a b => (hM v a b).2.2) (fun M1 f1 g1 n1 => ?_) (sm (M 231) 0 (fac n).toNat + 1).toNat M ?_ (fun _ _ => rfl) ⟨fun v a b => by have := hM v a b; omega, fun h _ hh v a b => by rw [(hM v a b).1]; exact hh v a b⟩
    · have f01 : ∀ x, x ≠ 231 → x ≠ 232 → M1 x = M0 x := fun x a b => (f1 x a).trans (fr x a b)
      have lr2 := lm M1 f01
      refine bX0_drawnAll_99 ⟨by constructor <;> decide, fun _ => ⟨lr2.w.1, l_size lr2 ⟨by constructor <;> omega, by constructor <;> omega, fun y => by omega, fun _ => bX0_drawnAll_296 ⟨o0, by omega, ?_⟩⟩⟩, fun y => absurd rfl y⟩
      have := k M1 f01
      rw [csL, ← rxF_eq g1 o o0 o1] at this
      exact this
    · have := sm_nn' (f := M 231) (fac n).toNat 0 (fun j a b => by have := hM j a (by omega); omega)
      omega
  | cons e s ih =>
    intro g f0 M q0 q1 q2 fr hM k
    obtain ⟨e1, e2, e3⟩ := drop_cons q0 q1
    have he := ok.at q1 e3
    rw [e1] at he
    have lr1 := lm M fr
    refine bX0_drawnAll_87 ⟨lr1.w.1, l_size lr1 ⟨by constructor <;> omega, by constructor <;> omega, fun y => by omega, fun _ => ?_⟩⟩
    refine c_al99 (M0 := M) (f0 := f0) n2 n5 hz lr1 (tm M fr) (fun v a b => (hM v a b).2.2) (fun M1 f1 g1 n1 => ?_) (sm (M 231) 0 (fac n).toNat + 1).toNat M ?_ (fun _ _ => rfl) ⟨fun v a b => by have := hM v a b; omega, fun h _ hh v a b => by rw [(hM v a b).1]; exact hh v a b⟩
    · have f01 : ∀ x, x ≠ 231 → x ≠ 232 → M1 x = M0 x := fun x a b => (f1 x a).trans (fr x a b)
      have lr2 := lm M1 f01
      refine bX0_drawnAll_99 ⟨by constructor <;> decide, fun _ => ⟨lr2.w.1, l_size lr2 ⟨by constructor <;> omega, by constructor <;> omega, fun _ => ?_, fun y => by omega⟩⟩, fun y => absurd rfl y⟩
      have k0 : 0 ≤ e.2.1 := he.1
      have k1 : e.2.1 + 1 < n := by have := he.2.1; omega
      have l221 : ∀ (m : Nat) (v : Int) (M2 : pM), v + m = fac n → 0 ≤ v → (∀ x, x ≠ 232 → M2 x = M1 x) → (∀ u, 0 ≤ u → u < v → M2 232 (sw n u e.2.1) = M1 231 u) → wX0_drawnAll_221 X F o r g v S M2 := by
        intro m
        induction m with
        | zero =>
          intro v M2 p1 p2 f2 h2
          have f02 : ∀ x, x ≠ 231 → x ≠ 232 → M2 x = M0 x := fun x a b => (f2 x b).trans (f01 x a b)
          refine bX0_drawnAll_221 ?_
          rw [(tm M2 f02).2.1]
          refine ⟨by constructor <;> omega, by constructor <;> omega, fun _ => ⟨by omega, by omega, by omega, fun M3 e3' => ?_⟩, fun y => by omega⟩
          refine ih (g + 1) (fun v => rxF n f0 (sw n v e.2.1)) M3 e2 (by omega) (by omega) (fun x a b => by rw [e3', cpy_ne a]; exact f02 x a b) (fun v v0 v1 => ?_) k
          have sb := sw_bd (n := n) (v := v) k0 k1
          have hs := h2 (sw n v e.2.1) sb.1 (by omega)
          rw [sw_sw v0 v1 k0 k1] at hs
          rw [e3', cpy_in v0 (by omega), show (0 : Int) + (v - 0) = v by omega, hs]
          have ge := rxF_eq g1 _ sb.1 sb.2
          refine ⟨ge, ?_, ?_⟩
          · rw [← ge]; exact n1 _ sb.1 sb.2
          · rw [← ge]
            have := g1.1 _ sb.1 sb.2
            have := hM _ sb.1 sb.2
            omega
        | succ m ihm =>
          intro v M2 p1 p2 f2 h2
          have f02 : ∀ x, x ≠ 231 → x ≠ 232 → M2 x = M0 x := fun x a b => (f2 x b).trans (f01 x a b)
          have lr3 := lm M2 f02
          have t3 := tm M2 f02
          have sb := sw_bd (n := n) (v := v) k0 k1
          refine bX0_drawnAll_221 ?_
          rw [t3.2.1]
          refine ⟨by constructor <;> omega, by constructor <;> omega, fun y => by omega, fun _ => ⟨lr3.w.1, l_at lr3 q1 e3 (fun rr st => ?_)⟩⟩
          rw [e1] at st
          rw [st.2.1]
          refine ⟨st.is, c_swap1 (by omega) t3 p2 (by omega) k0 k1 ⟨p2, by omega, sb.1, by omega, fun M17 e17 => ihm (v + 1) M17 (by omega) (by omega) (fun x hx => by rw [e17, up_ne hx]; exact f2 x hx) (fun u u0 u1 => ?_)⟩⟩
          rw [e17]
          by_cases d : u = v
          · rw [d, up_same, f2 231 (by decide)]
          · rw [up_oi ?_]
            · exact h2 u u0 (by omega)
            · intro w
              have : sw n (sw n u e.2.1) e.2.1 = sw n (sw n v e.2.1) e.2.1 := by rw [w]
              rw [sw_sw u0 (by omega) k0 k1, sw_sw p2 (by omega) k0 k1] at this
              exact d this
      exact l221 (fac n).toNat 0 M1 (by omega) (by omega) (fun _ _ => rfl) (fun u u0 u1 => by omega)
    · have := sm_nn' (f := M 231) (fac n).toNat 0 (fun j a b => by have := hM j a (by omega); omega)
      omega
end
section
variable {X : px} {S : List psh} {M : pM} {σ : sgm}
theorem c_drawnAll_op {F : Int → pM → Prop} {t o : Int} (ht : inR t) (ho : inR o) (cp : CP S M σ) (k : ∀ M', frC M M' → SC M' → F (q_drawnAll σ t o) M') : pNi true X mX0_drawnAll 6 [pR 0, pI t, pI o] S M F := by
  refine eX0_drawnAll (bX0_drawnAll_0 (c_isOrderOf ht ho cp.1 cp.2.1 (fun N a b e h2 h7 p q M1 f1 t1 => ⟨by constructor <;> decide, fun _ => ?_, fun z => by omega⟩) (fun hno M1 f1 t1 => ⟨by constructor <;> decide, fun z => by omega, fun _ => ?_⟩)))
  · have ch1 := fr14_CH cp.2.1 f1
    have s1 := cp.1.of14 f1 (t1.C h2 h7)
    have od : odC σ t o := ⟨a, b, by rw [e]; exact isO_nat h2 h7 p q⟩
    have pi := (pln_iff (lad σ.1 t).2).1
    refine c_get ch1 a b (fun r lr ok hs => ⟨hs, hs, l_isPlain lr ok ⟨by constructor <;> omega, fun z => ?_, fun z => ?_⟩⟩)
    · rw [lr.w.2.2.2.1, e]
      rw [e] at lr ok
      refine ⟨hs, by constructor <;> omega, fun n5 => ?_, fun n5 => ?_⟩
      · have hf := fac_120 (n := N) (by omega)
        have loop : ∀ (m : Nat) (v : Int) (M2 : pM), v + m = fac N → 0 ≤ v → (∀ x, x ≠ 231 → M2 x = M1 x) → (∀ u, 0 ≤ u → u < v → M2 231 u = if u = 0 then 0 else 1000) → wX0_drawnAll_47 X F o r v S M2 := by
          intro m
          induction m with
          | zero =>
            intro v M2 p1 p2 f2 h2'
            refine bX0_drawnAll_47 ?_
            rw [f2 1 (by decide), t1.2.1]
            refine ⟨by constructor <;> omega, by constructor <;> omega, fun _ => ?_, fun y => by omega⟩
            refine c_al87 (M0 := M1) (z := M1 19 1) h2 (by omega) ch1.z lr ok t1 p q _ 0 (fun v => if v = 0 then 0 else 1000) M2 rfl (by omega) (by omega) (fun x x1 _ => f2 x x1) (fun u u0 u1 => ⟨h2' u u0 (by omega), by show 0 ≤ (if u = 0 then (0 : Int) else 1000) ∧ (if u = 0 then (0 : Int) else 1000) ≤ 1000; split <;> omega⟩) (fun M' f' => ?_)
            have := k M' ((fr14_C f1).trans ⟨fun x hx => f' x (by omega) (by omega), fun j _ => by rw [f' 0 (by decide) (by decide)]⟩) (s1.fr (fun j _ => by rw [f' 0 (by decide) (by decide)]) (fun x hx => f' x (by omega) (by omega)))
            unfold q_drawnAll cs0 at this
            rw [if_pos od, if_pos (by omega), if_pos (by omega), e, Int.toNat_natCast] at this
            exact this
          | succ m ih =>
            intro v M2 p1 p2 f2 h2'
            have go : ∀ x, x = (if v = 0 then (0 : Int) else 1000) → wX0_drawnAll_77 X F o r v v x S M2 := by
              intro x hx
              refine bX0_drawnAll_77 ⟨p2, by omega, fun M3 e3 => ih (v + 1) M3 (by omega) (by omega) (fun y hy => by rw [e3, up_ne hy]; exact f2 y hy) (fun u u0 u1 => ?_)⟩
              rw [e3]
              by_cases d : u = v
              · rw [d, up_same]; exact hx
              · rw [up_oi d]; exact h2' u u0 (by omega)
            refine bX0_drawnAll_47 ?_
            rw [f2 1 (by decide), t1.2.1]
            exact ⟨by constructor <;> omega, by constructor <;> omega, fun y => by omega, fun _ => ⟨by constructor <;> omega, fun y => go _ (by rw [if_neg y]), fun y => go _ (by rw [if_pos y])⟩⟩
        exact loop (fac N).toNat 0 M1 (by omega) (by omega) (fun _ _ => rfl) (fun u u0 u1 => by omega)
      · have := k M1 (fr14_C f1) s1
        unfold q_drawnAll at this
        rw [if_pos od, if_pos (by omega), if_neg (by omega)] at this
        exact this
    · have := k M1 (fr14_C f1) s1
      unfold q_drawnAll at this
      rw [if_pos od, if_neg (by omega)] at this
      exact this
  · have := k M1 (fr14_C f1) (cp.1.of14 f1 t1)
    unfold q_drawnAll odC at this
    rw [if_neg hno] at this
    exact this
end
