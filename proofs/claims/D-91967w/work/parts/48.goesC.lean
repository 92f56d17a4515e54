/-! ===== the component's distances ===== -/
set_option maxRecDepth 100000
def finI (f : Int → Int) (v : Int) : Bool := decide (f v ≠ 2147483647)
/-- what is known of far at any time -/
def CI (n : Nat) (o sl s : Int) (f : Int → Int) : Prop := f s = 0 ∧ ∀ v, 0 ≤ v → v < FF n o → 0 ≤ f v ∧ (f v ≠ 2147483647 → f v ≤ cnt (finI f) 0 (FF n o).toNat - 1 ∧ ∃ m, wlk (EG n o sl) s m v (f v))
theorem CI_up {n : Nat} {o sl s u t w : Int} {f f' : Int → Int} (h8 : FF n o ≤ 800) (hs0 : 0 ≤ s) (hs1 : s < FF n o) (hsl : sl = 0 ∨ sl = 1) (h : CI n o sl s f) (hu0 : 0 ≤ u) (hu1 : u < FF n o) (hfu : f u ≠ 2147483647) (e : EG n o sl u t w) (ht1 : t < FF n o) (h1 : f' t = min (f t) (f u + w)) (h2 : ∀ x, x ≠ t → f' x = f x) : CI n o sl s f' := by
  have ht0 : 0 ≤ t := e.2.2.1
  have hw : w = 0 ∨ w = 1 := by
    rcases e.2.2.2 with ⟨i, _, _, _, q⟩ | ⟨i, _, _, _, q⟩ <;> omega
  obtain ⟨a1, a2⟩ := h
  have au0 := a2 u hu0 hu1
  have au := au0.2 hfu
  have hc := cnt_bd (p := finI f) (FF n o).toNat 0
  by_cases better : f u + w < f t
  · have ht : f' t = f u + w := by rw [h1]; omega
    have hts : t ≠ s := fun q => by subst q; omega
    have hcnt : cnt (finI f') 0 (FF n o).toNat = cnt (finI f) 0 (FF n o).toNat + (if f t = 2147483647 then 1 else 0) := by
      by_cases z : f t = 2147483647
      · rw [if_pos z]
        exact cnt_add (x := t) (by unfold finI; simp [z]) (by unfold finI; simp; omega) (fun j hj => by unfold finI; rw [h2 j hj]) _ 0 ht0 (by omega)
      · rw [if_neg z, Int.add_zero]
        refine cnt_congr _ _ (fun j p q => ?_)
        unfold finI
        by_cases c : j = t
        · subst c
          simp
          omega
        · rw [h2 j c]
    have hwk : ∃ m, wlk (EG n o sl) s m t (f' t) := by
      obtain ⟨m, hm⟩ := au.2
      exact ⟨m + 1, u, w, f u, hm, e, ht⟩
    refine ⟨by rw [h2 s (fun q => hts q.symm)]; exact a1, fun v p q => ?_⟩
    by_cases c : v = t
    · subst c
      rw [ht, hcnt]
      refine ⟨by omega, fun _ => ⟨?_, by rw [← ht]; exact hwk⟩⟩
      by_cases z : f v = 2147483647
      · rw [if_pos z]; omega
      · rw [if_neg z]
        have := ((a2 v p q).2 z).1
        omega
    · rw [h2 v c, hcnt]
      refine ⟨(a2 v p q).1, fun z => ⟨?_, ((a2 v p q).2 z).2⟩⟩
      have := ((a2 v p q).2 z).1
      split <;> omega
  · have : f' = f := by
      funext x
      by_cases c : x = t
      · subst c; rw [h1]; omega
      · exact h2 x c
    rw [this]
    exact ⟨a1, a2⟩
/-- node u gives no way -/
def rlx (n : Nat) (o sl : Int) (f : Int → Int) (u : Int) : Prop := ∀ v w, EG n o sl u v w → f v ≠ 2147483647 ∧ f v ≤ f u + w
/-- while r is looked at -/
def PR (n : Nat) (o sl s r : Int) (f d : Int → Int) : Prop := CI n o sl s f ∧ d r ≠ 0 ∧ (∀ u, 0 ≤ u → u < FF n o → d u ≠ 0 → f u ≤ f r ∧ f u ≠ 2147483647) ∧ (∀ v, 0 ≤ v → v < FF n o → d v = 0 → f v ≠ 2147483647 → f r ≤ f v) ∧ (∀ u, 0 ≤ u → u < FF n o → d u ≠ 0 → u ≠ r → rlx n o sl f u)
theorem EG_bd {n : Nat} {o sl u v w : Int} (a : 0 ≤ o) (b : o < fac n) (e : EG n o sl u v w) : 0 ≤ v ∧ v < FF n o := by
  obtain ⟨e1, e2, e3, e4⟩ := e
  rcases e4 with ⟨i, i0, i1, i2, i3⟩ | ⟨i, i0, i1, i2, i3⟩
  · have := sld_bd (n := n) (o := o) (r := u) (i := i) a b e1 e2 i0
    omega
  · have := trn_bd (n := n) (o := o) (r := u) (i := i) a b e1 e2 i0
    omega
theorem PR_up {n : Nat} {o sl s r t w : Int} {f f' d : Int → Int} (a : 0 ≤ o) (b : o < fac n) (h8 : FF n o ≤ 800) (hs0 : 0 ≤ s) (hs1 : s < FF n o) (hsl : sl = 0 ∨ sl = 1) (r0 : 0 ≤ r) (r1 : r < FF n o) (h : PR n o sl s r f d) (e : EG n o sl r t w) (h1 : f' t = min (f t) (f r + w)) (h2 : ∀ x, x ≠ t → f' x = f x) : PR n o sl s r f' d ∧ f' r = f r ∧ (∀ x, 0 ≤ x → x < FF n o → f' x ≤ f x ∧ (f x ≠ 2147483647 → f' x ≠ 2147483647)) ∧ f' t ≠ 2147483647 ∧ f' t ≤ f r + w := by
  obtain ⟨c1, c2, c3, c4, c5⟩ := h
  have hw : w = 0 ∨ w = 1 := by
    rcases e.2.2.2 with ⟨i, _, _, _, q⟩ | ⟨i, _, _, _, q⟩ <;> omega
  have tb := EG_bd a b e
  have fr := c3 r r0 r1 c2
  have frb := (c1.2 r r0 r1).2 fr.2
  have frn := (c1.2 r r0 r1).1
  have hc := cnt_bd (p := finI f) (FF n o).toNat 0
  have ci := CI_up h8 hs0 hs1 hsl c1 r0 r1 fr.2 e tb.2 h1 h2
  have done : ∀ u, 0 ≤ u → u < FF n o → d u ≠ 0 → f' u = f u := by
    intro u p q z
    by_cases c : u = t
    · subst c
      have := (c3 u p q z).1
      rw [h1]
      omega
    · exact h2 u c
  have hr : f' r = f r := done r r0 r1 c2
  have le : ∀ x, 0 ≤ x → x < FF n o → f' x ≤ f x ∧ (f x ≠ 2147483647 → f' x ≠ 2147483647) := by
    intro x p q
    by_cases c : x = t
    · subst c
      rw [h1]
      have := (c1.2 x p q)
      refine ⟨by omega, fun z => ?_⟩
      have := (this.2 z).1
      omega
    · rw [h2 x c]
      exact ⟨Int.le_refl _, id⟩
  refine ⟨⟨ci, c2, fun u p q z => ?_, fun v p q z y => ?_, fun u p q z y => ?_⟩, hr, le, ?_, ?_⟩
  · rw [hr, done u p q z]
    exact c3 u p q z
  · rw [hr]
    by_cases c : v = t
    · subst c
      rw [h1] at y ⊢
      by_cases c2 : f v = 2147483647
      · omega
      · have := c4 v p q z c2
        omega
    · rw [h2 v c] at y ⊢
      exact c4 v p q z y
  · intro v x ee
    have vb := EG_bd a b ee
    have old := c5 u p q z y v x ee
    have l := le v vb.1 vb.2
    rw [done u p q z]
    exact ⟨l.2 old.1, by omega⟩
  · rw [h1]
    omega
  · rw [h1]
    omega
/-- store, row, word, far and isDone have changed -/
def frG (M M' : pM) : Prop := (∀ x, x ≠ 0 → x ≠ 4 → x ≠ 5 → x ≠ 6 → x ≠ 8 → x ≠ 10 → M' x = M x) ∧ (∀ j, j ≠ 2 → M' 0 j = M 0 j)
theorem frG.refl (M : pM) : frG M M := ⟨fun _ _ _ _ _ _ _ => rfl, fun _ _ => rfl⟩
theorem frG.trans {M M1 M2 : pM} (a : frG M M1) (b : frG M1 M2) : frG M M2 := ⟨fun x h1 h2 h3 h4 h5 h6 => (b.1 x h1 h2 h3 h4 h5 h6).trans (a.1 x h1 h2 h3 h4 h5 h6), fun j h => (b.2 j h).trans (a.2 j h)⟩
theorem frW.G {M M' : pM} (a : frW M M') : frG M M' := ⟨fun x h1 h2 h3 h4 _ _ => a.1 x h1 h2 h3 h4, a.2⟩
theorem frG_of8 {M : pM} {i v : Int} : frG M (pu_up M 8 i v) := ⟨fun x _ _ _ _ h _ => up_ne h, fun j _ => by rw [up_ne (by decide)]⟩
theorem frG_of10 {M : pM} {i v : Int} : frG M (pu_up M 10 i v) := ⟨fun x _ _ _ _ _ h => up_ne h, fun j _ => by rw [up_ne (by decide)]⟩
theorem frG.tab {n : Nat} {M M' : pM} (a : frG M M') (t : TabC n M) : TabC n M' := t.fr (a.1 1 (by decide) (by decide) (by decide) (by decide) (by decide) (by decide)) (a.1 2 (by decide) (by decide) (by decide) (by decide) (by decide) (by decide)) (a.1 3 (by decide) (by decide) (by decide) (by decide) (by decide) (by decide))
theorem frG.wo {n : Nat} {o : Int} {M M' : pM} (a : frG M M') (w : WO n o M) : WO n o M' := w.fr (a.1 7 (by decide) (by decide) (by decide) (by decide) (by decide) (by decide))
section
variable {X : px} {S : List psh}
theorem c_comesBy {F : pM → Prop} {t c : Int} {M : pM} (ht : -1 ≤ t) (ht8 : t < 800) (hM : 0 ≤ t → inR (M 8 t)) (hc : inR c) (k0 : t = -1 → F M) (k1 : 0 ≤ t → F (pu_up M 8 t (min (M 8 t) c))) : pNv true X mX0_comesBy 2 [pR 0, pI t, pI c] S M F := by
  refine eX0_comesBy (bX0_comesBy_0 ?_)
  by_cases e : t = -1
  · ((repeat' (first | (with_reducible apply And.intro) | (with_reducible intro _ e; subst e) | (with_reducible intro _))) <;> (try (first | omega | (with_reducible assumption))))
    exact k0 e
  · have := hM (by omega)
    ((repeat' (first | (with_reducible apply And.intro) | (with_reducible intro _ e; subst e) | (with_reducible intro _))) <;> (try (first | omega | (with_reducible assumption))))
    exact k1 (by omega)
theorem c_goes78 {F : pM → Prop} {n : Nat} {o sl s r : Int} {M0 : pM} (h2 : 2 ≤ n) (hn : n ≤ 7) (a : 0 ≤ o) (b : o < fac n) (h8 : FF n o ≤ 800) (hs0 : 0 ≤ s) (hs1 : s < FF n o) (hsl : sl = 0 ∨ sl = 1) (r0 : 0 ≤ r) (r1 : r < FF n o) (t0 : TabC n M0) (wo : WO n o M0) (k : ∀ M : pM, frG M0 M → LC M → WB M → M 10 = M0 10 → PR n o sl s r (M 8) (M 10) → rlx n o sl (M 8) r → wX0_goesFrom_149 X F o sl (FF n o) (iv n o) (-1) 0 S M) : ∀ (m : Nat) (i : Int) (M : pM), i + m = iv n o → 0 ≤ i → frG M0 M → LC M → WB M → M 10 = M0 10 → PR n o sl s r (M 8) (M 10) → (∀ j, 0 ≤ j → j < i → (0 ≤ sld n o r j → M 8 (sld n o r j) ≠ 2147483647 ∧ M 8 (sld n o r j) ≤ M 8 r + sl) ∧ (0 ≤ trn n o r j → M 8 (trn n o r j) ≠ 2147483647 ∧ M 8 (trn n o r j) ≤ M 8 r + 1)) → wX0_goesFrom_78 X F o sl (FF n o) (iv n o) r i S M := by
  have hI := iv_21 (n := n) (v := o) hn
  have hF := FF_bd hn o
  have done : ∀ (i : Int) (M : pM), iv n o ≤ i + 1 → i ≤ iv n o → 0 ≤ i → frG M0 M → LC M → WB M → M 10 = M0 10 → PR n o sl s r (M 8) (M 10) → (∀ j, 0 ≤ j → j < i → (0 ≤ sld n o r j → M 8 (sld n o r j) ≠ 2147483647 ∧ M 8 (sld n o r j) ≤ M 8 r + sl) ∧ (0 ≤ trn n o r j → M 8 (trn n o r j) ≠ 2147483647 ∧ M 8 (trn n o r j) ≤ M 8 r + 1)) → wX0_goesFrom_78 X F o sl (FF n o) (iv n o) r i S M := by
    intro i M q1 q1' q2 fr l w e10 pr q
    refine bX0_goesFrom_78 ?_
    ((repeat' (first | (with_reducible apply And.intro) | (with_reducible intro _ e; subst e) | (with_reducible intro _))) <;> (try (first | omega | (with_reducible assumption))))
    refine k M fr l w e10 pr (fun v c e => ?_)
    rcases e.2.2.2 with ⟨j, j0, j1, j2, j3⟩ | ⟨j, j0, j1, j2, j3⟩
    · subst j2
      subst j3
      exact (q j j0 (by omega)).1 e.2.2.1
    · subst j2
      subst j3
      exact (q j j0 (by omega)).2 e.2.2.1
  intro m
  induction m with
  | zero => intro i M q1 q2 fr l w e10 pr q; exact done i M (by omega) (by omega) q2 fr l w e10 pr q
  | succ m ih =>
    intro i M q1 q2 fr l w e10 pr q
    by_cases last : iv n o ≤ i + 1
    · exact done i M last (by omega) q2 fr l w e10 pr q
    · have rng : ∀ M' : pM, PR n o sl s r (M' 8) (M' 10) → ∀ v, 0 ≤ v → v < FF n o → 0 ≤ M' 8 v ∧ M' 8 v ≤ 2147483647 := by
        intro M' p v p1 p2
        have := p.1.2 v p1 p2
        have hc := cnt_bd (p := finI (M' 8)) (FF n o).toNat 0
        by_cases c : M' 8 v = 2147483647
        · omega
        · have := (this.2 c).1
          omega
      have rsm : ∀ M' : pM, PR n o sl s r (M' 8) (M' 10) → 0 ≤ M' 8 r ∧ M' 8 r ≤ 800 := by
        intro M' p
        have h3 := (p.2.2.1 r r0 r1 p.2.1).2
        have := p.1.2 r r0 r1
        have hc := cnt_bd (p := finI (M' 8)) (FF n o).toNat 0
        have := (this.2 h3).1
        omega
      have sb := sld_bd (n := n) (o := o) (r := r) (i := i) a b r0 r1 q2
      have tb := trn_bd (n := n) (o := o) (r := r) (i := i) a b r0 r1 q2
      refine bX0_goesFrom_78 ?_
      ((repeat' (first | (with_reducible apply And.intro) | (with_reducible intro _ e; subst e) | (with_reducible intro _))) <;> (try (first | omega | (with_reducible assumption))))
      refine c_ledAt h2 hn a b h8 r0 r1 q2 (by omega) (Or.inl rfl) (fr.tab t0) l (fr.wo wo) (fun M1 f1 l1 w1 => ?_)
      rw [if_pos rfl]
      have e8 : M1 8 = M 8 := f1.1 8 (by decide) (by decide) (by decide) (by decide)
      have e10' : M1 10 = M 10 := f1.1 10 (by decide) (by decide) (by decide) (by decide)
      have pr1 : PR n o sl s r (M1 8) (M1 10) := by rw [e8, e10']; exact pr
      have q1' := q
      rw [← e8] at q1'
      have rs1 := rsm M1 pr1
      refine ⟨by omega, by omega, ?_⟩
      -- after the slide
      have mid : ∀ M2 : pM, frG M0 M2 → LC M2 → WB M2 → M2 10 = M0 10 → PR n o sl s r (M2 8) (M2 10) → (∀ j, 0 ≤ j → j < i → (0 ≤ sld n o r j → M2 8 (sld n o r j) ≠ 2147483647 ∧ M2 8 (sld n o r j) ≤ M2 8 r + sl) ∧ (0 ≤ trn n o r j → M2 8 (trn n o r j) ≠ 2147483647 ∧ M2 8 (trn n o r j) ≤ M2 8 r + 1)) → (0 ≤ sld n o r i → M2 8 (sld n o r i) ≠ 2147483647 ∧ M2 8 (sld n o r i) ≤ M2 8 r + sl) → pNi true X mX0_ledAt 26 [pR 0, pI o, pI r, pI i, pI (iv n o), pI 1] S M2 (fun r8 M9 => 0 ≤ r ∧ r < 800 ∧ pNv true X mX0_comesBy 2 [pR 0, pI r8, pI (M9 8 r + 1)] S M9 (fun M12 => wX0_goesFrom_78 X F o sl (FF n o) (iv n o) r (i + 1) S M12)) := by
        intro M2 f2 l2 w2 d2 pr2 qq2 s2
        refine c_ledAt h2 hn a b h8 r0 r1 q2 (by omega) (Or.inr rfl) (f2.tab t0) l2 (f2.wo wo) (fun M3 f3 l3 w3 => ?_)
        rw [if_neg (by decide)]
        have e8 : M3 8 = M2 8 := f3.1 8 (by decide) (by decide) (by decide) (by decide)
        have e10' : M3 10 = M2 10 := f3.1 10 (by decide) (by decide) (by decide) (by decide)
        have pr3 : PR n o sl s r (M3 8) (M3 10) := by rw [e8, e10']; exact pr2
        rw [← e8] at qq2 s2
        have rs3 := rsm M3 pr3
        refine ⟨by omega, by omega, ?_⟩
        refine c_comesBy tb.1 (by omega) (fun z => by have := rng M3 pr3 _ z tb.2; constructor <;> omega) (by constructor <;> omega) (fun z => ?_) (fun z => ?_)
        · refine ih (i + 1) M3 (by omega) (by omega) (f2.trans f3.G) l3 w3 (e10'.trans d2) pr3 (fun j j0 j1 => ?_)
          by_cases c : j = i
          · subst c
            exact ⟨s2, fun y => by omega⟩
          · exact qq2 j j0 (by omega)
        · have ed : EG n o sl r (trn n o r i) 1 := ⟨r0, r1, z, Or.inr ⟨i, q2, by omega, rfl, rfl⟩⟩
          have up := PR_up (f' := pu_up M3 8 (trn n o r i) (min (M3 8 (trn n o r i)) (M3 8 r + 1)) 8) a b h8 hs0 hs1 hsl r0 r1 pr3 ed up_same (fun x hx => up_oi hx)
          refine ih (i + 1) _ (by omega) (by omega) ((f2.trans f3.G).trans frG_of8) (l3.fr (by rw [up_ne (by decide)]) (up_ne (by decide))) (w3.fr (up_ne (by decide))) (by rw [up_ne (by decide)]; exact e10'.trans d2) (by rw [up_ne (show (10 : Int) ≠ 8 by decide)]; exact up.1) (fun j j0 j1 => ?_)
          have sbj := sld_bd (n := n) (o := o) (r := r) (i := j) a b r0 r1 j0
          have tbj := trn_bd (n := n) (o := o) (r := r) (i := j) a b r0 r1 j0
          rw [up.2.1]
          by_cases c : j = i
          · subst c
            refine ⟨fun y => ?_, fun y => up.2.2.2⟩
            have l := up.2.2.1 _ y sbj.2
            have := s2 y
            exact ⟨l.2 this.1, by omega⟩
          · have old := qq2 j j0 (by omega)
            refine ⟨fun y => ?_, fun y => ?_⟩
            · have l := up.2.2.1 _ y sbj.2
              have := old.1 y
              exact ⟨l.2 this.1, by omega⟩
            · have l := up.2.2.1 _ y tbj.2
              have := old.2 y
              exact ⟨l.2 this.1, by omega⟩
      refine c_comesBy sb.1 (by omega) (fun z => by have := rng M1 pr1 _ z sb.2; constructor <;> omega) (by constructor <;> omega) (fun z => ?_) (fun z => ?_)
      · exact mid M1 (fr.trans f1.G) l1 w1 (e10'.trans e10) pr1 q1' (fun y => by omega)
      · have ed : EG n o sl r (sld n o r i) sl := ⟨r0, r1, z, Or.inl ⟨i, q2, by omega, rfl, rfl⟩⟩
        have up := PR_up (f' := pu_up M1 8 (sld n o r i) (min (M1 8 (sld n o r i)) (M1 8 r + sl)) 8) a b h8 hs0 hs1 hsl r0 r1 pr1 ed up_same (fun x hx => up_oi hx)
        refine mid _ ((fr.trans f1.G).trans frG_of8) (l1.fr (by rw [up_ne (by decide)]) (up_ne (by decide))) (w1.fr (up_ne (by decide))) (by rw [up_ne (by decide)]; exact e10'.trans e10) (by rw [up_ne (show (10 : Int) ≠ 8 by decide)]; exact up.1) (fun j j0 j1 => ?_) (fun y => by rw [up.2.1]; exact up.2.2.2)
        have sbj := sld_bd (n := n) (o := o) (r := r) (i := j) a b r0 r1 j0
        have tbj := trn_bd (n := n) (o := o) (r := r) (i := j) a b r0 r1 j0
        rw [up.2.1]
        have old := q1' j j0 (by omega)
        refine ⟨fun y => ?_, fun y => ?_⟩
        · have l := up.2.2.1 _ y sbj.2
          have := old.1 y
          exact ⟨l.2 this.1, by omega⟩
        · have l := up.2.2.1 _ y tbj.2
          have := old.2 y
          exact ⟨l.2 this.1, by omega⟩
end
