/-! ===== the twin's distances ===== -/
set_option maxRecDepth 100000
def fin (f : Int → Int) (v : Int) : Bool := decide (0 ≤ f v)
/-- what is known of far at any time -/
def DI (n : Nat) (o sl s : Int) (f : Int → Int) : Prop := f s = 0 ∧ ∀ v, 0 ≤ v → v < FF n o → -1 ≤ f v ∧ (0 ≤ f v → f v ≤ cnt (fin f) 0 (FF n o).toNat - 1 ∧ ∃ m, wlk (EG n o sl) s m v (f v))
def mu (f : Int → Int) (N : Nat) : Int := sm (fun v => if f v < 0 then 801 else f v) 0 N
theorem sm_up {f g : Int → Int} {x : Int} (ho : ∀ j, j ≠ x → g j = f j) : ∀ (m : Nat) (i : Int), i ≤ x → x < i + m → sm g i m = sm f i m + (g x - f x)
  | 0, i, h1, h2 => by omega
  | m + 1, i, h1, h2 => by
    simp only [sm]
    by_cases e : i = x
    · subst e
      rw [sm_congr (f := g) (g := f) m (i + 1) (fun j a b => ho j (by omega))]
      omega
    · rw [ho i e, sm_up ho m (i + 1) (by omega) (by omega)]
      omega
/-- a better way is found -/
theorem DI_up {n : Nat} {o sl s u t w : Int} {f f' : Int → Int} (h8 : FF n o ≤ 800) (hs0 : 0 ≤ s) (hs1 : s < FF n o) (hsl : sl = 0 ∨ sl = 1) (h : DI n o sl s f) (hu0 : 0 ≤ u) (hu1 : u < FF n o) (hfu : 0 ≤ f u) (e : EG n o sl u t w) (ht1 : t < FF n o) (hb : f t < 0 ∨ f u + w < f t) (h1 : f' t = f u + w) (h2 : ∀ x, x ≠ t → f' x = f x) : DI n o sl s f' ∧ mu f' (FF n o).toNat < mu f (FF n o).toNat := by
  have ht0 : 0 ≤ t := e.2.2.1
  have hw : w = 0 ∨ w = 1 := by
    rcases e.2.2.2 with ⟨i, _, _, _, q⟩ | ⟨i, _, _, _, q⟩ <;> omega
  obtain ⟨a1, a2⟩ := h
  have au := (a2 u hu0 hu1).2 hfu
  have hc := cnt_bd (p := fin f) (FF n o).toNat 0
  have hts : t ≠ s := fun q => by subst q; omega
  have hcnt : cnt (fin f') 0 (FF n o).toNat = cnt (fin f) 0 (FF n o).toNat + (if f t < 0 then 1 else 0) := by
    by_cases z : f t < 0
    · rw [if_pos z]
      exact cnt_add (x := t) (by unfold fin; simp; omega) (by unfold fin; simp; omega) (fun j hj => by unfold fin; rw [h2 j hj]) _ 0 ht0 (by omega)
    · rw [if_neg z, Int.add_zero]
      refine cnt_congr _ _ (fun j p q => ?_)
      unfold fin
      by_cases c : j = t
      · subst c
        simp
        omega
      · rw [h2 j c]
  have hwk : ∃ m, wlk (EG n o sl) s m t (f' t) := by
    obtain ⟨m, hm⟩ := au.2
    exact ⟨m + 1, u, w, f u, hm, e, h1⟩
  refine ⟨⟨by rw [h2 s (fun q => hts q.symm)]; exact a1, fun v p q => ?_⟩, ?_⟩
  · by_cases c : v = t
    · subst c
      rw [h1, hcnt]
      refine ⟨by omega, fun _ => ⟨?_, by rw [← h1]; exact hwk⟩⟩
      rcases hb with z | z
      · rw [if_pos z]; omega
      · have := (a2 v p q).2
        by_cases z2 : f v < 0
        · rw [if_pos z2]; omega
        · rw [if_neg z2]
          have := (this (by omega)).1
          omega
    · rw [h2 v c, hcnt]
      refine ⟨(a2 v p q).1, fun z => ⟨?_, ((a2 v p q).2 z).2⟩⟩
      have := ((a2 v p q).2 z).1
      split <;> omega
  · unfold mu
    have := sm_up (f := fun v => if f v < 0 then 801 else f v) (g := fun v => if f' v < 0 then 801 else f' v) (x := t) (fun j hj => by simp only [h2 j hj]) (FF n o).toNat 0 ht0 (by omega)
    rw [this]
    have e1 : (if f' t < 0 then 801 else f' t) = f u + w := by rw [h1, if_neg (by omega)]
    have e2 : f u + w < (if f t < 0 then 801 else f t) := by
      split
      · omega
      · omega
    simp only [e1]
    omega
noncomputable def ecost (n : Nat) (o sl u j : Int) : Int := if isT n o u j = 0 then sl else 1
/-- the edges looked at so far give no way -/
def Fx (n : Nat) (o sl : Int) (f : Int → Int) (v i : Int) : Prop := ∀ u, 0 ≤ u → u < FF n o → 0 ≤ f u → ∀ j, 0 ≤ j → j < 21 → (u < v ∨ (u = v ∧ j < i)) → 0 ≤ ldT n o u j → 0 ≤ f (ldT n o u j) ∧ f (ldT n o u j) ≤ f u + ecost n o sl u j
theorem ldT_edge {n : Nat} {o sl u j : Int} (u0 : 0 ≤ u) (u1 : u < FF n o) (j0 : 0 ≤ j) (h : 0 ≤ ldT n o u j) : EG n o sl u (ldT n o u j) (ecost n o sl u j) := by
  refine ⟨u0, u1, h, ?_⟩
  unfold ldT at h ⊢
  by_cases c : 0 ≤ sld n o u j
  · rw [if_pos c] at h ⊢
    refine Or.inl ⟨j, j0, ?_, rfl, ?_⟩
    · unfold sld at c
      split at c
      · rename_i q; exact q.1
      · omega
    · unfold ecost isT
      rw [sld_trn c, if_pos (by decide)]
  · rw [if_neg c] at h ⊢
    refine Or.inr ⟨j, j0, ?_, rfl, ?_⟩
    · unfold trn at h
      split at h
      · rename_i q; omega
      · omega
    · unfold ecost isT
      rw [if_pos h, if_neg (by decide)]
section
variable {X : px} {S : List psh}
theorem tw_dist66 {F : pM → Prop} {n : Nat} {o sl s v : Int} {M0 : pM} {f0 : Int → Int} (hn : n ≤ 7) (a : 0 ≤ o) (b : o < fac n) (h8 : FF n o ≤ 800) (hs0 : 0 ≤ s) (hs1 : s < FF n o) (hsl : sl = 0 ∨ sl = 1) (go : GO n o M0) (v0 : 0 ≤ v) (v1 : v < FF n o) (k : ∀ (M : pM) (x4 : Int), (∀ x, x ≠ 280 → M x = M0 x) → DI n o sl s (M 280) → ((x4 = 0 ∧ M 280 = f0 ∧ Fx n o sl f0 (v + 1) 0) ∨ (x4 = 1 ∧ mu (M 280) (FF n o).toNat < mu f0 (FF n o).toNat)) → wX6_distances_170 X F (FF n o) sl x4 v S M) : ∀ (m : Nat) (i : Int) (M : pM) (x4 : Int), i + m = 21 → 0 ≤ i → (∀ x, x ≠ 280 → M x = M0 x) → DI n o sl s (M 280) → 0 ≤ M 280 v → ((x4 = 0 ∧ M 280 = f0 ∧ Fx n o sl f0 v i) ∨ (x4 = 1 ∧ mu (M 280) (FF n o).toNat < mu f0 (FF n o).toNat)) → wX6_distances_66 X F (FF n o) sl x4 v i S M := by
  have hF := FF_bd hn o
  intro m
  induction m with
  | zero =>
    intro i M x4 q1 q2 fr di hv q
    refine bX6_distances_66 ?_
    ((repeat' (first | (with_reducible apply And.intro) | (with_reducible intro _ e; subst e) | (with_reducible intro _))) <;> (try (first | omega | (with_reducible assumption))))
    refine k M x4 fr di (q.imp (fun z => ⟨z.1, z.2.1, fun u a1 a2 a3 j a4 a5 a6 => z.2.2 u a1 a2 a3 j a4 a5 (by omega)⟩) id)
  | succ m ih =>
    intro i M x4 q1 q2 fr di hv q
    have g := go v v0 v1 i q2 (by omega)
    rw [← fr 278 (by decide), ← fr 279 (by decide)] at g
    have sb := sld_bd (n := n) (o := o) (r := v) (i := i) a b v0 v1 q2
    have tb := trn_bd (n := n) (o := o) (r := v) (i := i) a b v0 v1 q2
    have lb : -1 ≤ ldT n o v i ∧ ldT n o v i < FF n o := by unfold ldT; split <;> omega
    have ib : isT n o v i = 0 ∨ isT n o v i = 1 := by unfold isT; split <;> omega
    have hcb := cnt_bd (p := fin (M 280)) (FF n o).toNat 0
    have fvb := (di.2 v v0 v1).2 hv
    have same : (0 ≤ ldT n o v i → 0 ≤ M 280 (ldT n o v i) ∧ M 280 (ldT n o v i) ≤ M 280 v + ecost n o sl v i) → wX6_distances_164 X F (FF n o) sl x4 v i S M := by
      intro hh
      refine bX6_distances_164 (ih (i + 1) M x4 (by omega) (by omega) fr di hv (q.imp (fun z => ⟨z.1, z.2.1, fun u a1 a2 a3 j a4 a5 a6 a7 => ?_⟩) id))
      by_cases c : u = v ∧ j = i
      · obtain ⟨c1, c2⟩ := c
        subst c1
        subst c2
        rw [← z.2.1]
        exact hh a7
      · exact z.2.2 u a1 a2 a3 j a4 a5 (by omega) a7
    have better : 0 ≤ ldT n o v i → ∀ d, d = M 280 v + ecost n o sl v i → (M 280 (ldT n o v i) < 0 ∨ d < M 280 (ldT n o v i)) → wX6_distances_152 X F (FF n o) sl v i (ldT n o v i) d S M := by
      intro l0 d hd hb
      refine bX6_distances_152 ?_
      ((repeat' (first | (with_reducible apply And.intro) | (with_reducible intro _ e; subst e) | (with_reducible intro _))) <;> (try (first | omega | (with_reducible assumption))))
      have up := DI_up (f' := pu_up M 280 (ldT n o v i) d 280) h8 hs0 hs1 hsl di v0 v1 hv (ldT_edge v0 v1 q2 l0) lb.2 (by rw [← hd]; exact hb) (by rw [up_same]; exact hd) (fun x hx => up_oi hx)
      refine bX6_distances_164 (ih (i + 1) _ 1 (by omega) (by omega) (fun x hx => by rw [up_ne hx]; exact fr x hx) up.1 ?_ (Or.inr ⟨rfl, ?_⟩))
      · have hec : 0 ≤ ecost n o sl v i := by unfold ecost; split <;> omega
        by_cases c : v = ldT n o v i
        · rw [← c, up_same]; omega
        · rw [up_oi c]; exact hv
      · rcases q with z | z
        · rw [← z.2.1]; exact up.2
        · omega
    have go124 : 0 ≤ ldT n o v i → ∀ s1, s1 = ecost n o sl v i → wX6_distances_124 X F (FF n o) sl x4 v i (ldT n o v i) (M 280 v) s1 S M := by
      intro l0 s1 hs1'
      subst hs1'
      have hec : 0 ≤ ecost n o sl v i ∧ ecost n o sl v i ≤ 1 := by unfold ecost; split <;> omega
      have ft := di.2 (ldT n o v i) l0 lb.2
      have ftb : M 280 (ldT n o v i) ≤ 800 := by
        by_cases c : 0 ≤ M 280 (ldT n o v i)
        · have := (ft.2 c).1; omega
        · omega
      refine bX6_distances_124 ?_
      ((repeat' (first | (with_reducible apply And.intro) | (with_reducible intro _ e; subst e) | (with_reducible intro _))) <;> (try (first | omega | (with_reducible assumption))))
      · exact better l0 _ rfl (by omega)
      · exact better l0 _ rfl (by omega)
      · exact same (fun _ => ⟨by omega, by omega⟩)
    refine bX6_distances_66 ?_
    rw [g.1, g.2]
    ((repeat' (first | (with_reducible apply And.intro) | (with_reducible intro _ e; subst e) | (with_reducible intro _))) <;> (try (first | omega | (with_reducible assumption))))
    · exact go124 (by omega) _ (by unfold ecost; rw [if_pos (by omega)])
    · exact go124 (by omega) _ (by unfold ecost; rw [if_neg (by omega)])
    · exact same (fun _ => by omega)
theorem Fx_dst {n : Nat} {o sl s : Int} {f : Int → Int} (hn : n ≤ 7) (a : 0 ≤ o) (b : o < fac n) (hs0 : 0 ≤ s) (hs1 : s < FF n o) (di : DI n o sl s f) (fx : Fx n o sl f (FF n o) 0) : dst (EG n o sl) s f := by
  have hI := iv_21 (n := n) (v := o) hn
  refine (dst_of (fun v => 0 ≤ v ∧ v < FF n o ∧ 0 ≤ f v) ⟨⟨hs0, hs1, by rw [di.1]; omega⟩, di.1⟩ (fun v h => ((di.2 v h.1 h.2.1).2 h.2.2).2) (fun u v w hu e => ?_)).2
  obtain ⟨e1, e2, e3, e4⟩ := e
  rcases e4 with ⟨i, i0, i1, i2, i3⟩ | ⟨i, i0, i1, i2, i3⟩
  · have sb := sld_bd (n := n) (o := o) (r := u) (i := i) a b e1 e2 i0
    have el : ldT n o u i = v := by unfold ldT; rw [if_pos (by omega), i2]
    have := fx u e1 e2 hu.2.2 i i0 (by omega) (Or.inl e2) (by omega)
    rw [el] at this
    have ec : ecost n o sl u i = w := by unfold ecost isT; rw [sld_trn (by omega), if_pos (by decide), i3]
    rw [ec] at this
    exact ⟨⟨e3, by omega, this.1⟩, this.2⟩
  · have tb := trn_bd (n := n) (o := o) (r := u) (i := i) a b e1 e2 i0
    have es : ¬ 0 ≤ sld n o u i := fun q => by have := sld_trn q; omega
    have el : ldT n o u i = v := by unfold ldT; rw [if_neg es, i2]
    have := fx u e1 e2 hu.2.2 i i0 (by omega) (Or.inl e2) (by omega)
    rw [el] at this
    have hi : isT n o u i = 1 := by unfold isT; rw [if_pos (by omega)]
    have ec : ecost n o sl u i = w := by unfold ecost; rw [hi, if_neg (by decide), i3]
    rw [ec] at this
    exact ⟨⟨e3, by omega, this.1⟩, this.2⟩
theorem mu_nn {f : Int → Int} (N : Nat) : 0 ≤ mu f N := by
  unfold mu
  exact sm_nn (fun j => by show 0 ≤ (if f j < 0 then 801 else f j); split <;> omega) _ _
theorem tw_dist33 {F : pM → Prop} {n : Nat} {o sl s : Int} {M0 : pM} (hn : n ≤ 7) (a : 0 ≤ o) (b : o < fac n) (h8 : FF n o ≤ 800) (hs0 : 0 ≤ s) (hs1 : s < FF n o) (hsl : sl = 0 ∨ sl = 1) (go : GO n o M0) (k : ∀ M : pM, (∀ x, x ≠ 280 → M x = M0 x) → dst (EG n o sl) s (M 280) → F M) : ∀ (m : Nat) (M : pM), mu (M 280) (FF n o).toNat < m → (∀ x, x ≠ 280 → M x = M0 x) → DI n o sl s (M 280) → wX6_distances_33 X F (FF n o) sl 1 S M := by
  have hF := FF_bd hn o
  intro m
  induction m with
  | zero => intro M q1; have := mu_nn (f := M 280) (FF n o).toNat; omega
  | succ m ih =>
    intro M q1 fr di
    refine bX6_distances_33 ?_
    ((repeat' (first | (with_reducible apply And.intro) | (with_reducible intro _ e; subst e) | (with_reducible intro _))) <;> (try (first | omega | (with_reducible assumption))))
    have loop : ∀ (c : Nat) (v : Int) (M1 : pM) (x4 : Int), v + c = FF n o → 0 ≤ v → (∀ x, x ≠ 280 → M1 x = M0 x) → DI n o sl s (M1 280) → ((x4 = 0 ∧ M1 280 = M 280 ∧ Fx n o sl (M 280) v 0) ∨ (x4 = 1 ∧ mu (M1 280) (FF n o).toNat < mu (M 280) (FF n o).toNat)) → wX6_distances_44 X F (FF n o) sl x4 v S M1 := by
      intro c
      induction c with
      | zero =>
        intro v M1 x4 p1 p2 f1 d1 q
        refine bX6_distances_44 ?_
        ((repeat' (first | (with_reducible apply And.intro) | (with_reducible intro _ e; subst e) | (with_reducible intro _))) <;> (try (first | omega | (with_reducible assumption))))
        rcases q with z | z
        · obtain ⟨z1, z2, z3⟩ := z
          subst z1
          refine bX6_distances_33 ?_
          ((repeat' (first | (with_reducible apply And.intro) | (with_reducible intro _ e; subst e) | (with_reducible intro _))) <;> (try (first | omega | (with_reducible assumption))))
          refine k M1 f1 (Fx_dst hn a b hs0 hs1 d1 ?_)
          rw [z2]
          rw [show v = FF n o by omega] at z3
          exact z3
        · obtain ⟨z1, z2⟩ := z
          subst z1
          exact ih M1 (by omega) f1 d1
      | succ c ihc =>
        intro v M1 x4 p1 p2 f1 d1 q
        have dv := d1.2 v p2 (by omega)
        have hcb := cnt_bd (p := fin (M1 280)) (FF n o).toNat 0
        have dvb : M1 280 v ≤ 800 := by
          by_cases c : 0 ≤ M1 280 v
          · have := (dv.2 c).1; omega
          · omega
        refine bX6_distances_44 ?_
        ((repeat' (first | (with_reducible apply And.intro) | (with_reducible intro _ e; subst e) | (with_reducible intro _))) <;> (try (first | omega | (with_reducible assumption))))
        · refine tw_dist66 (f0 := M 280) hn a b h8 hs0 hs1 hsl go p2 (by omega) (fun M2 y4 f2 d2 q2 => bX6_distances_170 (ihc (v + 1) M2 y4 (by omega) (by omega) f2 d2 q2)) 21 0 M1 x4 (by omega) (by omega) f1 d1 (by omega) q
        · refine bX6_distances_170 (ihc (v + 1) M1 x4 (by omega) (by omega) f1 d1 (q.imp (fun z => ⟨z.1, z.2.1, fun u a1 a2 a3 j a4 a5 a6 a7 => ?_⟩) id))
          by_cases e : u = v
          · subst e
            have := congrFun z.2.1 u
            omega
          · exact z.2.2 u a1 a2 a3 j a4 a5 (by omega) a7
    exact loop (FF n o).toNat 0 M 0 (by omega) (by omega) fr di (Or.inl ⟨rfl, rfl, fun u a1 a2 a3 j a4 a5 a6 => by omega⟩)
end
