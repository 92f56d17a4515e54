/-! ===== cleared, kept: the twin ===== -/
set_option maxRecDepth 100000
theorem rm2_snoc {R : List Int} {e i v : Int} : rm2 (R ++ [v]) e i = if v = e ∨ v = i then rm2 R e i else rm2 R e i ++ [v] := by
  unfold rm2
  rw [List.filter_append]
  by_cases c : v = e ∨ v = i
  · rw [if_pos c, List.filter_cons_of_neg (by simp; intro w; exact c.resolve_left w)]
    simp
  · rw [if_neg c, List.filter_cons_of_pos (by simp; exact ⟨fun w => c (Or.inl w), fun w => c (Or.inr w)⟩)]
    simp
def frQ (M M' : pM) : Prop := (∀ x, x ≠ 241 → x ≠ 274 → x ≠ 276 → x ≠ 277 → M' x = M x) ∧ ∀ j, j ≠ 48 → M' 241 j = M 241 j
theorem frQ.refl (M : pM) : frQ M M := ⟨fun _ _ _ _ _ => rfl, fun _ _ => rfl⟩
theorem frQ.trans {M M1 M2 : pM} (a : frQ M M1) (b : frQ M1 M2) : frQ M M2 := ⟨fun x h1 h2 h3 h4 => (b.1 x h1 h2 h3 h4).trans (a.1 x h1 h2 h3 h4), fun j h => (b.2 j h).trans (a.2 j h)⟩
theorem frQ.T {M M' : pM} (a : frQ M M') : frT M M' := ⟨fun x h => a.1 x (by omega) (by omega) (by omega) (by omega), fun j h => a.2 j (by omega)⟩
theorem frQ.TT {M M' : pM} (a : frQ M M') (t : TT M) : TT M' := by
  rcases t with z | ⟨n, z1, z2, z3⟩
  · exact Or.inl (by rw [a.2 38 (by decide)]; exact z)
  · exact Or.inr ⟨n, z1, z2, z3.fr (a.2 38 (by decide)) (a.2 39 (by decide)) (fun x p q => a.1 x (by omega) (by omega) (by omega) (by omega))⟩
/-- those that stay -/
def stt (M : pM) (R : List Int) : Prop := M 241 48 = R.length ∧ ∀ j : Int, 0 ≤ j → j < R.length → M 276 j = at0 R j
def relT (M : pM) (n : Int) (R : List Int) (h : Int → Int) (ca : Int → Int → Int) (p : Int) : Prop := (∀ k, 0 ≤ k → k < n → M 274 k = h k ∧ 0 ≤ h k ∧ h k < 7) ∧ (∀ a b, ca a b = ca b a) ∧ ∀ a b, 0 ≤ a → a ≤ b → b < 7 → (M 277 (7 * a + b) = -1 ∧ ca a b = 0) ∨ (0 ≤ M 277 (7 * a + b) ∧ M 277 (7 * a + b) < p ∧ ca a b = at0 R (M 277 (7 * a + b)) + 1)
section
variable {X : px} {S : List psh}
theorem tw_cl172 {F : Int → pM → Prop} {M0 : pM} {R : List Int} {p had : Int} (nd : R.Nodup) (hR : R.length ≤ 200) (p0 : 0 ≤ p) (p1 : p < R.length) (d0 : 0 ≤ had) (d1 : had < R.length) (k : ∀ M', (∀ x, x ≠ 241 → x ≠ 276 → M' x = M0 x) → (∀ j, j ≠ 48 → M' 241 j = M0 241 j) → stt M' (rm2 R (at0 R had) (at0 R p)) → F 1 M') : ∀ (s pre : List Int) (M : pM), R = pre ++ s → (∀ x, x ≠ 276 → M x = M0 x) → M 241 48 = R.length → (∀ y : Int, 0 ≤ y → y < (rm2 pre (at0 R had) (at0 R p)).length → M 276 y = at0 (rm2 pre (at0 R had) (at0 R p)) y) → (∀ y : Int, pre.length ≤ y → y < R.length → M 276 y = at0 R y) → wX6_clearsOne_172 X F p had (rm2 pre (at0 R had) (at0 R p)).length pre.length S M := by
  intro s
  induction s with
  | nil =>
    intro pre M e fr m48 h1 h2
    rw [List.append_nil] at e
    subst e
    have hle : (rm2 R (at0 R had) (at0 R p)).length ≤ R.length := List.length_filter_le _ _
    refine bX6_clearsOne_172 ?_
    rw [m48]
    refine ⟨by constructor <;> omega, by constructor <;> omega, fun _ M3 e3 => ?_, fun z => by omega⟩
    refine k M3 (fun x x1 x2 => by rw [e3, up_ne x1]; exact fr x x2) (fun j hj => by rw [e3, up_oi hj]; exact congrFun (fr 241 (by decide)) j) ⟨by rw [e3, up_same], fun j a b => ?_⟩
    rw [e3, up_ne (by decide)]
    exact h1 j a b
  | cons v s ih =>
    intro pre M e fr m48 h1 h2
    have hlen : R.length = pre.length + s.length + 1 := by rw [e]; simp; omega
    have hle : (rm2 pre (at0 R had) (at0 R p)).length ≤ pre.length := List.length_filter_le _ _
    have ev : at0 R pre.length = v := by
      rw [e, at_app2 (by omega)]
      simp [at0]
    have e' : R = (pre ++ [v]) ++ s := by rw [e]; simp
    have hl' : ((pre ++ [v]).length : Int) = pre.length + 1 := by simp
    have inj : ∀ x : Int, 0 ≤ x → x < R.length → at0 R x = v → x = pre.length := by
      intro x a b c
      rw [← ev] at c
      unfold at0 at c
      rw [List.getD_eq_getElem?_getD, List.getD_eq_getElem?_getD, List.getElem?_eq_getElem (show x.toNat < R.length by omega), List.getElem?_eq_getElem (show (pre.length : Int).toNat < R.length by omega)] at c
      have pw := List.pairwise_iff_getElem.1 nd
      rcases Int.lt_trichotomy x pre.length with w | w | w
      · exact absurd c (pw _ _ _ _ (by omega))
      · exact w
      · exact absurd c.symm (pw _ _ _ _ (by omega))
    have skip : (v = at0 R had ∨ v = at0 R p) → wX6_clearsOne_214 X F p had (rm2 pre (at0 R had) (at0 R p)).length pre.length S M := by
      intro c
      have es : rm2 (pre ++ [v]) (at0 R had) (at0 R p) = rm2 pre (at0 R had) (at0 R p) := by rw [rm2_snoc, if_pos c]
      have := ih (pre ++ [v]) M e' fr m48 (by rw [es]; exact h1) (fun y a b => h2 y (by omega) b)
      rw [es, hl'] at this
      exact bX6_clearsOne_214 this
    refine bX6_clearsOne_172 ?_
    rw [m48]
    refine ⟨by constructor <;> omega, by constructor <;> omega, fun z => by omega, fun _ => ⟨by constructor <;> omega, by constructor <;> omega, fun c => skip (Or.inr (by rw [← c]; exact ev.symm)), fun c => ⟨by constructor <;> omega, by constructor <;> omega, fun d => ⟨by omega, by omega, by omega, by omega, fun M12 e12 => ?_⟩, fun d => skip (Or.inl (by rw [← d]; exact ev.symm))⟩⟩⟩
    have es : rm2 (pre ++ [v]) (at0 R had) (at0 R p) = rm2 pre (at0 R had) (at0 R p) ++ [v] := by
      rw [rm2_snoc, if_neg]
      rintro (w | w)
      · exact d (inj had d0 d1 w.symm).symm
      · exact c (inj p p0 p1 w.symm).symm
    have := ih (pre ++ [v]) M12 e' (fun x hx => by rw [e12, up_ne hx]; exact fr x hx) (by rw [e12, up_ne (by decide)]; exact m48) (fun y a b => ?_) (fun y a b => ?_)
    · rw [es, hl', List.length_append, Int.natCast_add] at this
      exact bX6_clearsOne_214 this
    · rw [es] at b ⊢
      rw [e12]
      by_cases z : y = (rm2 pre (at0 R had) (at0 R p)).length
      · subst z
        rw [up_same, at_app2 (by omega), h2 pre.length (by omega) (by omega), ev]
        simp [at0]
      · rw [List.length_append, List.length_singleton] at b
        rw [up_oi z, at_app a (by omega)]
        exact h1 y a (by omega)
    · rw [e12, up_oi (by omega)]
      exact h2 y (by omega) b
theorem tw_cl48 {F : Int → pM → Prop} {M0 : pM} {σ : sgm} {t : Int} {R : List Int} (hl : THl M0 σ.1) (ok : okS σ) (t0 : 0 ≤ t) (t1 : t < σ.1.length) (nd : R.Nodup) (hR : R.length ≤ 200) (hRb : ∀ x ∈ R, 0 ≤ x ∧ x < (lad σ.1 t).2.length) (hs : stt M0 R) : ∀ (s : List Int) (p : Int) (h : Int → Int) (ca : Int → Int → Int) (M : pM), R.drop p.toNat = s → 0 ≤ p → p ≤ R.length → (∀ x, x ≠ 274 → x ≠ 277 → M x = M0 x) → relT M (lad σ.1 t).1 R h ca p → (fnd (lad σ.1 t).2 s h ca = none → ∀ M', (∀ x, x ≠ 274 → x ≠ 277 → M' x = M0 x) → F 0 M') → (∀ e j, fnd (lad σ.1 t).2 s h ca = some (e, j) → ∀ M', frQ M0 M' → stt M' (rm2 R e j) → F 1 M') → wX6_clearsOne_48 X F t p S M := by
  have h6 := ok.tl t1
  have okl := ok.at t0 t1
  have hn := okl.2.1
  have hL := okl.2.2.1
  intro s
  induction s with
  | nil =>
    intro p h ca M q0 q1 q2 fr rl k0 k1
    have := List.drop_eq_nil_iff.1 q0
    refine bX6_clearsOne_48 ?_
    rw [fr 241 (by decide) (by decide), hs.1]
    exact ⟨by constructor <;> omega, by constructor <;> omega, fun _ => k0 rfl M fr, fun z => by omega⟩
  | cons v s ih =>
    intro p h ca M q0 q1 q2 fr rl k0 k1
    have hp : p.toNat < R.length := by
      have := congrArg List.length q0
      simp at this
      omega
    have hd := List.drop_eq_getElem_cons hp
    rw [q0] at hd
    injection hd with hv hsn
    have pv : at0 R p = v := by
      unfold at0
      rw [List.getD_eq_getElem?_getD, List.getElem?_eq_getElem hp, hv]
      rfl
    have mv : M 276 p = v := by rw [fr 276 (by decide) (by decide), hs.2 p q1 (by omega), pv]
    have vb := hRb v (by rw [hv]; exact List.getElem_mem _)
    have lg : M 245 (200 * t + v) = (el (lad σ.1 t).2 v).2.1 := by rw [fr 245 (by decide) (by decide)]; exact ((hl.2 t t0 t1).2.2 v vb.1 vb.2).2.1
    obtain ⟨o1, o2, _⟩ := okl.at vb.1 vb.2
    rw [fnd] at k0 k1
    generalize hlg : (el (lad σ.1 t).2 v).2.1 = g at *
    obtain ⟨a1, a2, a3⟩ := rl.1 g o1 (by omega)
    obtain ⟨b1, b2, b3⟩ := rl.1 (g + 1) (by omega) (by omega)
    have g144 : ∀ x y, (x = h g ∧ y = h (g + 1) ∨ x = h (g + 1) ∧ y = h g) → x ≤ y → wX6_clearsOne_144 X F t p g x y S M := by
      intro x y hxy hle
      have cxy : ca x y = ca (h g) (h (g + 1)) := by
        rcases hxy with w | w
        · rw [w.1, w.2]
        · rw [w.1, w.2, rl.2.1]
      have rb := rl.2.2 x y (by omega) hle (by omega)
      rw [cxy] at rb
      refine bX6_clearsOne_144 ?_
      rcases rb with ⟨r1, r2⟩ | ⟨r1, r2, r3⟩
      · rw [if_neg (by omega)] at k0 k1
        refine ⟨by omega, by omega, by constructor <;> omega, fun _ => ⟨by omega, by omega, fun M6 e6 => ?_⟩, fun z => by omega⟩
        refine t_swapHand o1 (by omega) (by omega) (by omega) ?_
        generalize hM7 : pu_up (pu_up M6 274 g (M6 274 (g + 1))) 274 (g + 1) (M6 274 g) = M7
        have f7 : ∀ z, z ≠ 274 → M7 z = M6 z := fun z hz => by rw [← hM7, up_ne hz, up_ne hz]
        have m6 : ∀ z, M6 274 z = M 274 z := fun z => by rw [e6, up_ne (by decide)]
        refine ih (p + 1) (swf h g) (cau ca (h g) (h (g + 1)) (v + 1)) M7 (by rw [show (p + 1).toNat = p.toNat + 1 by omega]; exact hsn.symm) (by omega) (by omega) (fun z z1 z2 => by rw [f7 z z1, e6, up_ne z2]; exact fr z z1 z2) ⟨fun z p1 p2 => ?_, fun u w => ?_, fun u w p1 p2 p3 => ?_⟩ k0 k1
        · have ht := tr_rng (n := (lad σ.1 t).1) o1 (by omega) p1 p2
          refine ⟨?_, (rl.1 _ ht.1 ht.2).2⟩
          rw [← hM7]
          unfold swf tr
          by_cases z1 : z = g + 1
          · subst z1
            rw [up_same, if_neg (by omega), if_pos rfl, m6, a1]
          · rw [up_oi z1]
            by_cases z2 : z = g
            · subst z2
              rw [up_same, if_pos rfl, m6, b1]
            · rw [up_oi z2, if_neg z2, if_neg z1, m6]
              exact (rl.1 z p1 p2).1
        · unfold cau
          rw [rl.2.1 u w]
          have : ((u = h g ∧ w = h (g + 1)) ∨ (u = h (g + 1) ∧ w = h g)) ↔ ((w = h g ∧ u = h (g + 1)) ∨ (w = h (g + 1) ∧ u = h g)) := by omega
          simp only [this]
        · rw [f7 277 (by decide), e6]
          unfold cau
          by_cases z1 : u = x ∧ w = y
          · obtain ⟨z2, z3⟩ := z1
            subst z2
            subst z3
            rw [up_same, if_pos (by omega)]
            exact Or.inr ⟨q1, by omega, by rw [pv]⟩
          · rw [up_oi (by omega), if_neg (by omega)]
            rcases rl.2.2 u w p1 p2 p3 with c | c
            · exact Or.inl c
            · exact Or.inr ⟨c.1, by omega, c.2.2⟩
      · have hb := hRb (at0 R (M 277 (7 * x + y))) (at0_mem r1 (by omega))
        rw [if_pos (by omega)] at k0 k1
        refine ⟨by omega, by omega, by constructor <;> omega, fun z => by omega, fun _ => ?_⟩
        have := tw_cl172 (X := X) (S := S) (F := F) (M0 := M) (R := R) (p := p) (had := M 277 (7 * x + y)) nd hR q1 (by omega) r1 (by omega) (fun M' g1 g2 g3 => ?_) R [] M rfl (fun _ _ => rfl) (by rw [fr 241 (by decide) (by decide)]; exact hs.1) (fun y a b => by simp [rm2] at b; omega) (fun y a b => by rw [fr 276 (by decide) (by decide)]; exact hs.2 y (by simpa using a) b)
        · exact this
        · refine k1 _ _ rfl M' ⟨fun z z1 z2 z3 z4 => (g1 z z1 z3).trans (fr z z2 z4), fun j hj => (g2 j hj).trans (congrFun (fr 241 (by decide) (by decide)) j)⟩ ?_
          rw [pv] at g3
          rw [show ca (h g) (h (g + 1)) - 1 = at0 R (M 277 (7 * x + y)) by omega]
          exact g3
    have g108 : ∀ x, (x = h g ∧ h g < h (g + 1)) ∨ (x = h (g + 1) ∧ h (g + 1) ≤ h g) → wX6_clearsOne_108 X F t p g x S M := by
      intro x hx
      refine bX6_clearsOne_108 ?_
      rw [a1, b1]
      refine ⟨o1, by omega, by omega, by omega, by constructor <;> omega, by constructor <;> omega, fun z => ⟨o1, by omega, ?_⟩, fun z => ⟨by omega, by omega, ?_⟩⟩
      · exact g144 x (h g) (by omega) (by omega)
      · exact g144 x (h (g + 1)) (by omega) (by omega)
    refine bX6_clearsOne_48 ?_
    rw [fr 241 (by decide) (by decide), hs.1, mv, lg, a1, b1]
    refine ⟨by constructor <;> omega, by constructor <;> omega, fun z => by omega, fun _ => ⟨q1, by omega, by omega, by omega, o1, by omega, by omega, by omega, by constructor <;> omega, by constructor <;> omega, fun z => ⟨by omega, by omega, g108 _ (by omega)⟩, fun z => ⟨o1, by omega, g108 _ (by omega)⟩⟩⟩
theorem tw_clearsOne {F : Int → pM → Prop} {M : pM} {σ : sgm} {t : Int} {R : List Int} (hl : THl M σ.1) (ok : okS σ) (t0 : 0 ≤ t) (t1 : t < σ.1.length) (nd : R.Nodup) (hR : R.length ≤ 200) (hRb : ∀ x ∈ R, 0 ≤ x ∧ x < (lad σ.1 t).2.length) (hs : stt M R) (k0 : fnd0 (lad σ.1 t).2 R = none → ∀ M', frQ M M' → stt M' R → F 0 M') (k1 : ∀ e j, fnd0 (lad σ.1 t).2 R = some (e, j) → ∀ M', frQ M M' → stt M' (rm2 R e j) → F 1 M') : pNi true X mX6_clearsOne 2 [pR 241, pI t] S M F := by
  have h6 := ok.tl t1
  have okl := ok.at t0 t1
  have hn := okl.2.1
  have hn2 := okl.1
  have l23 : ∀ (m : Nat) (i : Int) (M1 : pM), i + m = (lad σ.1 t).1 → 0 ≤ i → (∀ x, x ≠ 274 → x ≠ 277 → M1 x = M x) → (∀ j, 0 ≤ j → j < 49 → M1 277 j = -1) → (∀ k, 0 ≤ k → k < i → M1 274 k = k) → wX6_clearsOne_23 X F t i S M1 := by
    intro m
    induction m with
    | zero =>
      intro i M1 q1 q2 fr h1 h2
      have lgl : M1 242 t = (lad σ.1 t).1 := by rw [fr 242 (by decide) (by decide)]; exact (hl.2 t t0 t1).1
      refine bX6_clearsOne_23 ?_
      rw [lgl]
      refine ⟨t0, h6, by constructor <;> omega, by constructor <;> omega, fun _ => ?_, fun z => by omega⟩
      refine tw_cl48 (M0 := M) hl ok t0 t1 nd hR hRb hs R 0 (fun x => x) (fun _ _ => 0) M1 rfl (by omega) (by omega) fr ⟨fun x p q => ⟨h2 x p (by omega), p, show x < 7 by omega⟩, fun _ _ => rfl, fun a b p1 p2 p3 => Or.inl ⟨h1 _ (by omega) (by omega), rfl⟩⟩ (fun e M' f' => k0 e M' ⟨fun x _ x2 _ x4 => f' x x2 x4, fun j _ => by rw [f' 241 (by decide) (by decide)]⟩ ⟨by rw [f' 241 (by decide) (by decide)]; exact hs.1, fun j p q => by rw [f' 276 (by decide) (by decide)]; exact hs.2 j p q⟩) k1
    | succ m ih =>
      intro i M1 q1 q2 fr h1 h2
      have lgl : M1 242 t = (lad σ.1 t).1 := by rw [fr 242 (by decide) (by decide)]; exact (hl.2 t t0 t1).1
      refine bX6_clearsOne_23 ?_
      rw [lgl]
      refine ⟨t0, h6, by constructor <;> omega, by constructor <;> omega, fun z => by omega, fun _ => ⟨q2, by omega, fun M7 e7 => ih (i + 1) M7 (by omega) (by omega) (fun x x1 x2 => by rw [e7, up_ne x1]; exact fr x x1 x2) (fun j p q => by rw [e7, up_ne (by decide)]; exact h1 j p q) (fun j p q => ?_)⟩⟩
      rw [e7]
      by_cases c : j = i
      · subst c; exact up_same
      · rw [up_oi c]; exact h2 j p (by omega)
  have l2 : ∀ (m : Nat) (i : Int) (M1 : pM), i + m = 49 → 0 ≤ i → (∀ x, x ≠ 274 → x ≠ 277 → M1 x = M x) → (∀ j, 0 ≤ j → j < i → M1 277 j = -1) → wX6_clearsOne_2 X F t i S M1 := by
    intro m
    induction m with
    | zero =>
      intro i M1 q1 q2 fr h1
      exact bX6_clearsOne_2 ⟨by constructor <;> omega, fun _ => l23 (lad σ.1 t).1.toNat 0 M1 (by omega) (by omega) fr (fun j p q => h1 j p (by omega)) (fun j p q => by omega), fun z => by omega⟩
    | succ m ih =>
      intro i M1 q1 q2 fr h1
      refine bX6_clearsOne_2 ⟨by constructor <;> omega, fun z => by omega, fun _ => ⟨q2, by omega, fun M4 e4 => ih (i + 1) M4 (by omega) (by omega) (fun x x1 x2 => by rw [e4, up_ne x2]; exact fr x x1 x2) (fun j p q => ?_)⟩⟩
      rw [e4]
      by_cases c : j = i
      · subst c; exact up_same
      · rw [up_oi c]; exact h1 j p (by omega)
  exact eX6_clearsOne (bX6_clearsOne_0 (l2 49 0 M (by omega) (by omega) (fun _ _ _ => rfl) (fun j p q => by omega)))
theorem tw_clears35 {F : pM → Prop} {M0 : pM} {σ : sgm} {t : Int} (hl : THl M0 σ.1) (ok : okS σ) (t0 : 0 ≤ t) (t1 : t < σ.1.length) : ∀ (f : Nat) (R : List Int) (M : pM), R.length ≤ f → R.Nodup → R.length ≤ 200 → (∀ x ∈ R, 0 ≤ x ∧ x < (lad σ.1 t).2.length) → frQ M0 M → stt M R → (∀ M', frQ M0 M' → stt M' (clr (lad σ.1 t).2 f R) → F M') → wX6_clears_35 X F t 1 S M := by
  intro f
  induction f with
  | zero =>
    intro R M q nd hR hRb fr hs k
    have e : R = [] := List.eq_nil_of_length_eq_zero (by omega)
    subst e
    refine bX6_clears_35 ⟨by constructor <;> decide, fun z => by omega, fun _ => tw_clearsOne (hl.fr fr.T) ok t0 t1 nd hR hRb hs (fun _ M' f' s' => bX6_clears_35 ⟨by constructor <;> decide, fun _ => k M' (fr.trans f') s', fun z => by omega⟩) (fun e j h => ?_)⟩
    simp [fnd0, fnd] at h
  | succ f ih =>
    intro R M q nd hR hRb fr hs k
    refine bX6_clears_35 ⟨by constructor <;> decide, fun z => by omega, fun _ => tw_clearsOne (hl.fr fr.T) ok t0 t1 nd hR hRb hs (fun h M' f' s' => bX6_clears_35 ⟨by constructor <;> decide, fun _ => ?_, fun z => by omega⟩) (fun e j h M' f' s' => ?_)⟩
    · rw [clr, h] at k
      exact k M' (fr.trans f') s'
    · rw [clr, h] at k
      obtain ⟨s1, s2, s3, s4, s5⟩ := rm2_step nd h
      exact ih (rm2 R e j) M' (by omega) s2 (by omega) (fun x hx => hRb x (List.mem_filter.1 hx).1) (fr.trans f') s' k
theorem tw_clears {F : pM → Prop} {M : pM} {σ : sgm} {t : Int} (hl : THl M σ.1) (ok : okS σ) (t0 : 0 ≤ t) (t1 : t < σ.1.length) (k : ∀ M', frQ M M' → stt M' (clrd (lad σ.1 t).2) → F M') : pNv true X mX6_clears 3 [pR 241, pI t] S M F := by
  have h6 := ok.tl t1
  have okl := ok.at t0 t1
  have hL := okl.2.2.1
  refine eX6_clears (bX6_clears_0 ⟨t0, h6, fun M3 e3 => ?_⟩)
  rw [(hl.2 t t0 t1).2.1] at e3
  have loop : ∀ (m : Nat) (i : Int), i + m = (lad σ.1 t).2.length → 0 ≤ i → wX6_clears_12 X F t i S (ovr M3 276 0 i (fun j => j)) := by
    intro m
    induction m with
    | zero =>
      intro i q1 q2
      have m48 : ovr M3 276 0 i (fun j => j) 241 48 = (lad σ.1 t).2.length := by rw [ovr_ne (by decide), e3, up_same]
      refine bX6_clears_12 ?_
      rw [m48]
      refine ⟨by constructor <;> omega, by constructor <;> omega, fun _ => ?_, fun z => by omega⟩
      refine tw_clears35 (M0 := M) hl ok t0 t1 (lad σ.1 t).2.length (seg (fun x => x) 0 (lad σ.1 t).2.length) _ (by rw [seg_len]; omega) (seg_nd _ _) (by rw [seg_len]; omega) (fun x hx => ?_) ⟨fun x x1 _ x3 _ => by rw [ovr_ne x3, e3, up_ne x1], fun j hj => by rw [ovr_ne (by decide), e3, up_oi hj]⟩ ⟨by rw [seg_len]; exact m48, fun j a b => ?_⟩ k
      · obtain ⟨j, a, b, c⟩ := seg_mem hx
        omega
      · rw [seg_len] at b
        rw [ovr_in a (by omega), at0_seg a b, Int.zero_add]
    | succ m ih =>
      intro i q1 q2
      have m48 : ovr M3 276 0 i (fun j => j) 241 48 = (lad σ.1 t).2.length := by rw [ovr_ne (by decide), e3, up_same]
      refine bX6_clears_12 ?_
      rw [m48]
      refine ⟨by constructor <;> omega, by constructor <;> omega, fun z => by omega, fun _ => ⟨q2, by omega, fun M5 e5 => ?_⟩⟩
      rw [e5, ovr_step q2 rfl]
      exact ih (i + 1) (by omega) (by omega)
  have := loop (lad σ.1 t).2.length 0 (by omega) (by omega)
  rwa [ovr_nil (by omega)] at this
theorem tw_cleared_op {F : Int → pM → Prop} {M : pM} {σ : sgm} {t : Int} (ht : inR t) (ti : TI M σ) (ok : okS σ) (k : ∀ M', frT M M' → TT M' → F (q_cleared σ t) M') : pNi true X mX6_cleared 4 [pR 241, pI t] S M F := by
  refine eX6_cleared (bX6_cleared_0 (tw_isLadder ht ti.2.1 ok (fun a b => ⟨by constructor <;> decide, fun _ => tw_isPlain ti.2.1 ok a b ?_, fun z => by omega⟩) (fun h => ⟨by constructor <;> decide, fun z => by omega, fun _ => ?_⟩)))
  · have pi := (pln_iff (lad σ.1 t).2).1
    refine ⟨by constructor <;> omega, fun z => tw_clears ti.2.1 ok a b (fun M' f' s' => ?_), fun z => ?_⟩
    · have := k M' f'.T (f'.TT ti.1)
      unfold q_cleared at this
      rw [if_pos ⟨a, b⟩, if_pos (by omega), ← s'.1] at this
      exact this
    · have := k M (frT.refl _) ti.1
      unfold q_cleared at this
      rw [if_pos ⟨a, b⟩, if_neg (by omega)] at this
      exact this
  · have := k M (frT.refl _) ti.1
    unfold q_cleared at this
    rw [if_neg h] at this
    exact this
theorem tw_kept_op {F : Int → pM → Prop} {M : pM} {σ : sgm} {t i : Int} (ht : inR t) (hi : inR i) (ti : TI M σ) (ok : okS σ) (k : ∀ M', frT M M' → TT M' → F (q_kept σ t i) M') : pNi true X mX6_kept 4 [pR 241, pI t, pI i] S M F := by
  have bad : (∀ M', frT M M' → TT M' → ¬ (0 ≤ t ∧ t < σ.1.length ∧ pln (lad σ.1 t).2 = 1 ∧ 0 ≤ i ∧ i < (clrd (lad σ.1 t).2).length) → F (-1) M') := fun M' f s z => by
    have := k M' f s
    unfold q_kept at this
    rw [if_neg z] at this
    exact this
  refine eX6_kept (bX6_kept_0 (tw_isLadder ht ti.2.1 ok (fun a b => ⟨by constructor <;> decide, fun z => by omega, fun _ => tw_isPlain ti.2.1 ok a b ?_⟩) (fun h => ⟨by constructor <;> decide, fun _ => bad M (frT.refl _) ti.1 (fun z => h ⟨z.1, z.2.1⟩), fun z => by omega⟩)))
  have pi := (pln_iff (lad σ.1 t).2).1
  have hL := (ok.at a b).2.2.1
  have cl : (clrd (lad σ.1 t).2).length ≤ (lad σ.1 t).2.length := by
    have := (clr_sub (L := (lad σ.1 t).2) (lad σ.1 t).2.length (seg (fun x => x) 0 (lad σ.1 t).2.length)).1
    rw [seg_len] at this
    exact this
  refine ⟨by constructor <;> omega, fun z => bad M (frT.refl _) ti.1 (by omega), fun z => ⟨hi, fun y => tw_clears ti.2.1 ok a b (fun M' f' s' => ?_), fun y => bad M (frT.refl _) ti.1 (by omega)⟩⟩
  rw [s'.1]
  refine ⟨hi, by constructor <;> omega, fun w => bad M' f'.T (f'.TT ti.1) (by omega), fun w => ⟨y, by omega, ?_⟩⟩
  rw [s'.2 i y w]
  have := k M' f'.T (f'.TT ti.1)
  unfold q_kept at this
  rw [if_pos ⟨a, b, by omega, y, w⟩] at this
  exact this
end
