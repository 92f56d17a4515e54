/-! ===== classes: the component ===== -/
set_option maxRecDepth 100000
def frB (M M' : pM) : Prop := (∀ x, x ≠ 0 → x ≠ 4 → x ≠ 5 → x ≠ 6 → x ≠ 8 → x ≠ 9 → M' x = M x) ∧ (∀ j, j ≠ 2 → M' 0 j = M 0 j)
theorem frB.refl (M : pM) : frB M M := ⟨fun _ _ _ _ _ _ _ => rfl, fun _ _ => rfl⟩
theorem frB.trans {M M1 M2 : pM} (a : frB M M1) (b : frB M1 M2) : frB M M2 := ⟨fun x h1 h2 h3 h4 h5 h6 => (b.1 x h1 h2 h3 h4 h5 h6).trans (a.1 x h1 h2 h3 h4 h5 h6), fun j h => (b.2 j h).trans (a.2 j h)⟩
theorem frW.B {M M' : pM} (a : frW M M') : frB M M' := ⟨fun x h1 h2 h3 h4 _ _ => a.1 x h1 h2 h3 h4, a.2⟩
theorem frB_of8 {M : pM} {i v : Int} : frB M (pu_up M 8 i v) := ⟨fun x _ _ _ _ h _ => up_ne h, fun j _ => by rw [up_ne (by decide)]⟩
theorem frB_of9 {M : pM} {i v : Int} : frB M (pu_up M 9 i v) := ⟨fun x _ _ _ _ _ h => up_ne h, fun j _ => by rw [up_ne (by decide)]⟩
theorem frB.tab {n : Nat} {M M' : pM} (a : frB M M') (t : TabC n M) : TabC n M' := t.fr (a.1 1 (by decide) (by decide) (by decide) (by decide) (by decide) (by decide)) (a.1 2 (by decide) (by decide) (by decide) (by decide) (by decide) (by decide)) (a.1 3 (by decide) (by decide) (by decide) (by decide) (by decide) (by decide))
theorem frB.wo {n : Nat} {o : Int} {M M' : pM} (a : frB M M') (w : WO n o M) : WO n o M' := w.fr (a.1 7 (by decide) (by decide) (by decide) (by decide) (by decide) (by decide))
theorem frB.C {M M' : pM} (a : frB M M') : frC M M' := ⟨fun x h => a.1 x (by omega) (by omega) (by omega) (by omega) (by omega) (by omega), fun j h => a.2 j (by omega)⟩
theorem frB.nw {M M' : pM} (a : frB M M') (h : NW M) : NW M' := h.fr (a.2 15 (by decide)) (a.2 16 (by decide))
def lbB (f : Int → Int) (v : Int) : Bool := decide (f v ≠ -1)
/-- a class is being laid from r; g: the labels before -/
def BI (n : Nat) (o r last : Int) (g f w : Int → Int) : Prop := (∀ v, 0 ≤ v → v < FF n o → -1 ≤ f v ∧ f v ≤ 800) ∧ (∀ v, 0 ≤ v → v < FF n o → g v ≠ -1 → f v ≠ -1) ∧ (∀ j, 0 ≤ j → j < last → 0 ≤ w j ∧ w j < FF n o ∧ f (w j) ≠ -1 ∧ con n o r (w j)) ∧ (∀ v, 0 ≤ v → v < FF n o → f v ≠ -1 → g v ≠ -1 ∨ ∃ j, 0 ≤ j ∧ j < last ∧ w j = v) ∧ 1 ≤ last ∧ last ≤ cnt (lbB f) 0 (FF n o).toNat ∧ w 0 = r
/-- all slides of those ahead of first are looked at, and of it those ahead of i -/
def BP (n : Nat) (o first i : Int) (f w : Int → Int) : Prop := ∀ j, 0 ≤ j → ∀ x, 0 ≤ x → (j < first ∨ (j = first ∧ x < i)) → 0 ≤ sld n o (w j) x → f (sld n o (w j) x) ≠ -1
theorem BI_up {n : Nat} {o r last first i cl t : Int} {g f f' w w' : Int → Int} (bi : BI n o r last g f w) (bp : BP n o first i f w) (hf : first < last) (h0 : 0 ≤ first) (hcl : 0 ≤ cl) (hcl8 : cl ≤ 800) (i0 : 0 ≤ i) (ht : sld n o (w first) i = t) (t0 : 0 ≤ t) (t1 : t < FF n o) (hun : f t = -1) (g1 : f' t = cl) (g2 : ∀ x, x ≠ t → f' x = f x) (g3 : w' last = t) (g4 : ∀ x, x ≠ last → w' x = w x) : BI n o r (last + 1) g f' w' ∧ BP n o first (i + 1) f' w' := by
  obtain ⟨b1, b2, b3, b4, b5, b6, b7⟩ := bi
  have keep : ∀ x, f x ≠ -1 → f' x ≠ -1 := by
    intro x hx
    by_cases e : x = t
    · subst e
      rw [g1]; omega
    · rw [g2 x e]; exact hx
  have hadd := cnt_add (p := lbB f) (q := lbB f') (x := t) (by unfold lbB; simp [hun]) (by unfold lbB; simp [g1]; omega) (fun j hj => by unfold lbB; rw [g2 j hj]) (FF n o).toNat 0 t0 (by omega)
  have wf := b3 first h0 hf
  refine ⟨⟨fun v p q => ?_, fun v p q z => keep v (b2 v p q z), fun j p q => ?_, fun v p q z => ?_, by omega, by omega, ?_⟩, fun j p x x0 z y => ?_⟩
  · by_cases e : v = t
    · subst e
      rw [g1]; omega
    · rw [g2 v e]; exact b1 v p q
  · by_cases e : j = last
    · subst e
      rw [g3]
      exact ⟨t0, t1, by rw [g1]; omega, con_step wf.2.2.2 ⟨wf.1, wf.2.1, t0, t1, i, i0, ht⟩⟩
    · rw [g4 j e]
      have := b3 j p (by omega)
      exact ⟨this.1, this.2.1, keep _ this.2.2.1, this.2.2.2⟩
  · by_cases e : v = t
    · subst e
      exact Or.inr ⟨last, by omega, by omega, g3⟩
    · rw [g2 v e] at z
      rcases b4 v p q z with y | ⟨j, j0, j1, j2⟩
      · exact Or.inl y
      · exact Or.inr ⟨j, j0, by omega, by rw [g4 j (by omega)]; exact j2⟩
  · rw [g4 0 (by omega)]; exact b7
  · rw [g4 j (by omega)] at y ⊢
    by_cases e : j = first ∧ x = i
    · rw [e.1, e.2, ht, g1]; omega
    · exact keep _ (bp j p x x0 (by omega) y)
section
variable {X : px} {S : List psh}
theorem c_cls121 {F : Int → pM → Prop} {n : Nat} {o r cl first : Int} {M0 : pM} {g : Int → Int} (h2 : 2 ≤ n) (hn : n ≤ 7) (a : 0 ≤ o) (b : o < fac n) (h8 : FF n o ≤ 800) (t0 : TabC n M0) (wo : WO n o M0) (hcl : 0 ≤ cl) (hcl8 : cl ≤ 800) (h0 : 0 ≤ first) (k : ∀ (M : pM) (last : Int), frB M0 M → LC M → WB M → first < last → BI n o r last g (M 8) (M 9) → BP n o (first + 1) 0 (M 8) (M 9) → wX0_classes_111 X F o (FF n o) (iv n o) cl r last (first + 1) S M) : ∀ (m : Nat) (i last : Int) (M : pM), i + m = iv n o → 0 ≤ i → frB M0 M → LC M → WB M → first < last → BI n o r last g (M 8) (M 9) → BP n o first i (M 8) (M 9) → wX0_classes_121 X F o (FF n o) (iv n o) cl r last first i S M := by
  have hI := iv_21 (n := n) (v := o) hn
  have hF := FF_bd hn o
  have done : ∀ (i last : Int) (M : pM), iv n o ≤ i + 1 → 0 ≤ i → i ≤ iv n o → frB M0 M → LC M → WB M → first < last → BI n o r last g (M 8) (M 9) → BP n o first i (M 8) (M 9) → wX0_classes_121 X F o (FF n o) (iv n o) cl r last first i S M := by
    intro i last M q1 q2 q3 fr l w hf bi bp
    refine bX0_classes_121 ?_
    ((repeat' (first | (with_reducible apply And.intro) | (with_reducible intro _ e; subst e) | (with_reducible intro _))) <;> (try (first | omega | (with_reducible assumption))))
    refine k M last fr l w hf bi (fun j p x x0 z y => bp j p x x0 ?_ y)
    have : x + 1 < iv n o := by
      unfold sld at y
      split at y
      · rename_i c; exact c.1
      · omega
    omega
  intro m
  induction m with
  | zero => intro i last M q1 q2 fr l w hf bi bp; exact done i last M (by omega) q2 (by omega) fr l w hf bi bp
  | succ m ih =>
    intro i last M q1 q2 fr l w hf bi bp
    by_cases lst : iv n o ≤ i + 1
    · exact done i last M lst q2 (by omega) fr l w hf bi bp
    · have hlast : last ≤ 800 := by
        have := cnt_bd (p := lbB (M 8)) (FF n o).toNat 0
        have := bi.2.2.2.2.2.1
        omega
      have wf := bi.2.2.1 first h0 hf
      have sb := sld_bd (n := n) (o := o) (r := M 9 first) (i := i) a b wf.1 wf.2.1 q2
      refine bX0_classes_121 ?_
      ((repeat' (first | (with_reducible apply And.intro) | (with_reducible intro _ e; subst e) | (with_reducible intro _))) <;> (try (first | omega | (with_reducible assumption))))
      refine c_ledAt h2 hn a b h8 wf.1 wf.2.1 q2 (by omega) (Or.inl rfl) (fr.tab t0) l (fr.wo wo) (fun M1 f1 l1 w1 => ?_)
      rw [if_pos rfl]
      have e8 : M1 8 = M 8 := f1.1 8 (by decide) (by decide) (by decide) (by decide)
      have e9 : M1 9 = M 9 := f1.1 9 (by decide) (by decide) (by decide) (by decide)
      rw [← e8, ← e9] at bi bp
      rw [← e9] at sb wf ⊢
      have skip : (0 ≤ sld n o (M1 9 first) i → M1 8 (sld n o (M1 9 first) i) ≠ -1) → wX0_classes_190 X F o (FF n o) (iv n o) cl r last first i S M1 := by
        intro z
        refine bX0_classes_190 (ih (i + 1) last M1 (by omega) (by omega) (fr.trans f1.B) l1 w1 hf bi (fun j p x x0 c y => ?_))
        by_cases e : j = first ∧ x = i
        · rw [e.1, e.2] at y ⊢
          exact z y
        · exact bp j p x x0 (by omega) y
      by_cases hs : sld n o (M1 9 first) i = -1
      · ((repeat' (first | (with_reducible apply And.intro) | (with_reducible intro _ e; subst e) | (with_reducible intro _))) <;> (try (first | omega | (with_reducible assumption))))
        exact skip (fun z => by omega)
      · have br := bi.1 _ (by omega) sb.2
        by_cases hu : M1 8 (sld n o (M1 9 first) i) = -1
        · have hl : last < 800 := by
            have := cnt_full (p := lbB (M1 8)) (x := sld n o (M1 9 first) i) (by unfold lbB; simp [hu]) (FF n o).toNat 0 (by omega) (by omega)
            have := bi.2.2.2.2.2.1
            omega
          ((repeat' (first | (with_reducible apply And.intro) | (with_reducible intro _ e; subst e) | (with_reducible intro _))) <;> (try (first | omega | (with_reducible assumption))))
          have up := BI_up (cl := cl) (f' := pu_up (pu_up M1 8 (sld n o (M1 9 first) i) cl) 9 last (sld n o (M1 9 first) i) 8) (w' := pu_up (pu_up M1 8 (sld n o (M1 9 first) i) cl) 9 last (sld n o (M1 9 first) i) 9) bi bp hf h0 hcl hcl8 q2 rfl (by omega) sb.2 hu (by rw [up_ne (by decide), up_same]) (fun x hx => by rw [up_ne (by decide), up_oi hx]) up_same (fun x hx => by rw [up_oi hx, up_ne (by decide)])
          exact bX0_classes_190 (ih (i + 1) (last + 1) _ (by omega) (by omega) ((fr.trans f1.B).trans (frB_of8.trans frB_of9)) (l1.fr (by rw [up_ne (by decide), up_ne (by decide)]) (by rw [up_ne (by decide), up_ne (by decide)])) (w1.fr (by rw [up_ne (by decide), up_ne (by decide)])) (by omega) up.1 up.2)
        · ((repeat' (first | (with_reducible apply And.intro) | (with_reducible intro _ e; subst e) | (with_reducible intro _))) <;> (try (first | omega | (with_reducible assumption))))
          exact skip (fun _ => hu)
theorem c_cls111 {F : Int → pM → Prop} {n : Nat} {o r cl : Int} {M0 : pM} {g : Int → Int} (h2 : 2 ≤ n) (hn : n ≤ 7) (a : 0 ≤ o) (b : o < fac n) (h8 : FF n o ≤ 800) (t0 : TabC n M0) (wo : WO n o M0) (hcl : 0 ≤ cl) (hcl8 : cl ≤ 800) (k : ∀ (M : pM) (last : Int), frB M0 M → LC M → WB M → BI n o r last g (M 8) (M 9) → BP n o last 0 (M 8) (M 9) → wX0_classes_205 X F o (FF n o) (iv n o) (cl + 1) r S M) : ∀ (m : Nat) (first last : Int) (M : pM), first + m = 801 → 0 ≤ first → first ≤ last → frB M0 M → LC M → WB M → BI n o r last g (M 8) (M 9) → BP n o first 0 (M 8) (M 9) → wX0_classes_111 X F o (FF n o) (iv n o) cl r last first S M := by
  have hI0 := iv_nonneg (n := n) (v := o)
  have hF := FF_bd hn o
  intro m
  induction m with
  | zero =>
    intro first last M q1 q2 q3 fr l w bi bp
    have := cnt_bd (p := lbB (M 8)) (FF n o).toNat 0
    have := bi.2.2.2.2.2.1
    omega
  | succ m ih =>
    intro first last M q1 q2 q3 fr l w bi bp
    have := cnt_bd (p := lbB (M 8)) (FF n o).toNat 0
    have := bi.2.2.2.2.2.1
    refine bX0_classes_111 ?_
    ((repeat' (first | (with_reducible apply And.intro) | (with_reducible intro _ e; subst e) | (with_reducible intro _))) <;> (try (first | omega | (with_reducible assumption))))
    · have e : first = last := by omega
      subst e
      exact k M first fr l w bi bp
    · exact c_cls121 h2 hn a b h8 t0 wo hcl hcl8 q2 (fun M1 l1 f1 lc1 w1 hf bi1 bp1 => ih (first + 1) l1 M1 (by omega) (by omega) (by omega) f1 lc1 w1 bi1 bp1) (iv n o).toNat 0 last M (by omega) (by omega) fr l w (by omega) bi bp
/-- the labels ahead of r: all classes of those ahead of r -/
def LBL (n : Nat) (o r : Int) (f : Int → Int) : Prop := (∀ v, 0 ≤ v → v < FF n o → -1 ≤ f v ∧ f v ≤ 800) ∧ ∀ v, 0 ≤ v → v < FF n o → (f v ≠ -1 ↔ ∃ u, 0 ≤ u ∧ u < r ∧ con n o u v)
theorem LBL_next {n : Nat} {o r last : Int} {g f w : Int → Int} (a : 0 ≤ o) (b : o < fac n) (r0 : 0 ≤ r) (r1 : r < FF n o) (lb : LBL n o r g) (bi : BI n o r last g f w) (bp : BP n o last 0 f w) : LBL n o (r + 1) f := by
  obtain ⟨b1, b2, b3, b4, b5, b6, b7⟩ := bi
  refine ⟨b1, fun v p q => ⟨fun z => ?_, fun z => ?_⟩⟩
  · rcases b4 v p q z with y | ⟨j, j0, j1, j2⟩
    · obtain ⟨u, u0, u1, u2⟩ := (lb.2 v p q).1 y
      exact ⟨u, u0, by omega, u2⟩
    · rw [← j2]
      exact ⟨r, r0, by omega, (b3 j j0 j1).2.2.2⟩
  · obtain ⟨u, u0, u1, u2⟩ := z
    by_cases e : u = r
    · subst e
      have cl : ∀ (m : Nat) (x : Int), cn n o u m x → 0 ≤ x ∧ x < FF n o ∧ f x ≠ -1 := by
        intro m
        induction m with
        | zero =>
          intro x h
          have h : u = x := h
          subst h
          have := b3 0 (by omega) (by omega)
          rw [b7] at this
          exact ⟨this.1, this.2.1, this.2.2.1⟩
        | succ m ih =>
          intro x h
          obtain ⟨y, e1, e2⟩ := h
          obtain ⟨y0, y1, y2⟩ := ih y e1
          obtain ⟨_, _, x0, x1, i, i0, hi⟩ := e2
          refine ⟨x0, x1, ?_⟩
          rcases b4 y y0 y1 y2 with c | ⟨j, j0, j1, j2⟩
          · obtain ⟨u', u0', u1', u2'⟩ := (lb.2 y y0 y1).1 c
            exact b2 x x0 x1 ((lb.2 x x0 x1).2 ⟨u', u0', u1', con_step u2' ⟨y0, y1, x0, x1, i, i0, hi⟩⟩)
          · have := bp j j0 i i0 (Or.inl j1) (by rw [j2, hi]; exact x0)
            rw [j2, hi] at this
            exact this
      obtain ⟨m, hm⟩ := u2
      exact (cl m v hm).2.2
    · exact b2 v p q ((lb.2 v p q).2 ⟨u, u0, by omega, u2⟩)
theorem c_cls68 {F : Int → pM → Prop} {n : Nat} {o : Int} {M0 : pM} (h2 : 2 ≤ n) (hn : n ≤ 7) (a : 0 ≤ o) (b : o < fac n) (h8 : FF n o ≤ 800) (t0 : TabC n M0) (wo : WO n o M0) (k : ∀ (M : pM), frB M0 M → LC M → WB M → F (cnt (mnB n o) 0 (FF n o).toNat) M) : ∀ (m c : Nat) (M : pM), (c : Int) + m = FF n o → frB M0 M → LC M → WB M → LBL n o c (M 8) → wX0_classes_68 X F o (FF n o) (iv n o) (cnt (mnB n o) 0 c) c S M := by
  have hF := FF_bd hn o
  intro m
  induction m with
  | zero =>
    intro c M q1 fr l w lb
    refine bX0_classes_68 ?_
    ((repeat' (first | (with_reducible apply And.intro) | (with_reducible intro _ e; subst e) | (with_reducible intro _))) <;> (try (first | omega | (with_reducible assumption))))
    have := k M fr l w
    rw [show (FF n o).toNat = c by omega] at this
    exact this
  | succ m ih =>
    intro c M q1 fr l w lb
    have lc := lb.1 c (by omega) (by omega)
    have ll := lb.2 c (by omega) (by omega)
    have cb := cnt_bd (p := mnB n o) c 0
    by_cases hc : M 8 c = -1
    · refine bX0_classes_68 ?_
      ((repeat' (first | (with_reducible apply And.intro) | (with_reducible intro _ e; subst e) | (with_reducible intro _))) <;> (try (first | omega | (with_reducible assumption))))
      have hm : mnl n o c := fun u u0 u1 z => ll.2 ⟨u, u0, u1, z⟩ hc
      refine c_cls111 (M0 := M0) (g := M 8) h2 hn a b h8 t0 wo cb.1 (by omega) (fun M1 last f1 l1 w1 bi bp => ?_) 801 0 1 _ (by omega) (by omega) (by omega) (fr.trans (frB_of8.trans frB_of9)) (l.fr (by rw [up_ne (by decide), up_ne (by decide)]) (by rw [up_ne (by decide), up_ne (by decide)])) (w.fr (by rw [up_ne (by decide), up_ne (by decide)])) ?_ (fun j p x x0 z => by omega)
      · refine bX0_classes_205 ?_
        have := ih (c + 1) M1 (by omega) f1 l1 w1 (by rw [Int.natCast_succ]; exact LBL_next a b (by omega) (by omega) lb bi bp)
        rw [cnt_snoc, Int.zero_add, mnB_t hm, Int.natCast_succ] at this
        exact this
      · rw [up_ne (show (8 : Int) ≠ 9 by decide)]
        refine ⟨fun v p q => ?_, fun v p q z => ?_, fun j p q => ?_, fun v p q z => ?_, by omega, ?_, up_same⟩
        · by_cases e : v = c
          · subst e; rw [up_same]; omega
          · rw [up_oi e]; exact lb.1 v p q
        · by_cases e : v = c
          · subst e; rw [up_same]; omega
          · rw [up_oi e]; exact z
        · have : j = 0 := by omega
          subst this
          rw [up_same, up_same]
          exact ⟨by omega, by omega, by omega, con_refl⟩
        · by_cases e : v = c
          · subst e; exact Or.inr ⟨0, by omega, by omega, up_same⟩
          · rw [up_oi e] at z; exact Or.inl z
        · have := cnt_add (p := lbB (M 8)) (q := lbB (pu_up M 8 c (cnt (mnB n o) 0 c) 8)) (x := (c : Int)) (by unfold lbB; simp [hc]) (by unfold lbB; rw [up_same]; simp; omega) (fun j hj => by unfold lbB; rw [up_oi hj]) (FF n o).toNat 0 (by omega) (by omega)
          have := cnt_bd (p := lbB (M 8)) (FF n o).toNat 0
          omega
    · refine bX0_classes_68 ?_
      ((repeat' (first | (with_reducible apply And.intro) | (with_reducible intro _ e; subst e) | (with_reducible intro _))) <;> (try (first | omega | (with_reducible assumption))))
      refine bX0_classes_205 ?_
      have hm : ¬ mnl n o c := fun z => by
        obtain ⟨u, u0, u1, u2⟩ := ll.1 hc
        exact z u u0 u1 u2
      have := ih (c + 1) M (by omega) fr l w ⟨lb.1, fun v p q => ⟨fun z => ?_, fun z => ?_⟩⟩
      · rw [cnt_snoc, Int.zero_add, mnB_f hm, Int.natCast_succ] at this
        simpa using this
      · obtain ⟨u, u0, u1, u2⟩ := (lb.2 v p q).1 z
        exact ⟨u, u0, by omega, u2⟩
      · obtain ⟨u, u0, u1, u2⟩ := z
        by_cases e : u = c
        · subst e
          obtain ⟨u', u0', u1', u2'⟩ := ll.1 hc
          exact (lb.2 v p q).2 ⟨u', u0', u1', con_trans u2' u2⟩
        · exact (lb.2 v p q).2 ⟨u, u0, by omega, u2⟩
theorem c_classes_op {F : Int → pM → Prop} {n o : Int} {M : pM} (hn : inR n) (ho : inR o) (sc : SC M) (k : ∀ M', frC M M' → SC M' → F (q_classes n o) M') : pNi true X mX0_classes 27 [pR 0, pI n, pI o] S M F := by
  refine eX0_classes (bX0_classes_0 (c_isOrder hn ho sc (fun N h2 h7 e a b M1 f1 t1 => ?_) (fun hno M1 f1 t1 => ?_)))
  · subst e
    have s1 := sc.of14 f1 (t1.C h2 h7)
    have hO := isO_nat h2 h7 a b
    have hF := FF_bd h7 o
    ((repeat' (first | (with_reducible apply And.intro) | (with_reducible intro _ e; subst e) | (with_reducible intro _))) <;> (try (first | omega | (with_reducible assumption))))
    refine c_laysWords h2 h7 a b t1 s1.2.1 s1.2.2.2 (fun h8 M4 f4 l4 w4 wo4 => ?_) (fun h8 M4 f4 l4 w4 => ?_)
    · ((repeat' (first | (with_reducible apply And.intro) | (with_reducible intro _ e; subst e) | (with_reducible intro _))) <;> (try (first | omega | (with_reducible assumption))))
      have t4 := f4.tab t1
      refine c_lf h2 h7 a b t4 l4 (fun M5 f5 l5 => ?_)
      have t5 := f5.tab t4
      refine c_inv h7 t5 a b ?_
      have wo5 : WO N o M5 := wo4.fr (f5.1 7 (by decide) (by decide) (by decide))
      have wb5 : WB M5 := w4.fr (f5.1 6 (by decide) (by decide) (by decide))
      have loop : ∀ (m : Nat) (i : Int), i + m = FF N o → 0 ≤ i → wX0_classes_42 X F o (FF N o) (iv N o) i S (ovr M5 8 0 i (fun _ => -1)) := by
        intro m
        induction m with
        | zero =>
          intro i q1 q2
          have e : i = FF N o := by omega
          subst e
          refine bX0_classes_42 ?_
          ((repeat' (first | (with_reducible apply And.intro) | (with_reducible intro _ e; subst e) | (with_reducible intro _))) <;> (try (first | omega | (with_reducible assumption))))
          have := c_cls68 (F := F) (X := X) (S := S) (M0 := M5) h2 h7 a b h8 t5 wo5 (fun M6 f6 l6 w6 => ?_) (FF N o).toNat 0 (ovr M5 8 0 (FF N o) (fun _ => -1)) (by omega) ⟨fun x _ _ _ _ h _ => ovr_ne h, fun j _ => by rw [ovr_ne (by decide)]⟩ ((l5.C h2 h7).fr (by rw [ovr_ne (by decide)]) (by rw [ovr_ne (by decide)])) (wb5.fr (by rw [ovr_ne (by decide)])) ⟨fun v p q => by rw [ovr_in p q]; omega, fun v p q => ⟨fun z => absurd (ovr_in p q) z, fun z => by obtain ⟨u, u0, u1, _⟩ := z; omega⟩⟩
          · exact this
          · have := k M6 ((fr14_C f1).trans (f4.C.trans (f5.W.C.trans f6.C))) ⟨(f6.tab t5).C h2 h7, l6, f6.nw (f5.W.nw (f4.nw s1.2.2.1)), w6⟩
            unfold q_classes at this
            rw [Int.toNat_natCast, if_pos hO, if_neg (by omega)] at this
            exact this
        | succ m ih =>
          intro i q1 q2
          refine bX0_classes_42 ?_
          ((repeat' (first | (with_reducible apply And.intro) | (with_reducible intro _ e; subst e) | (with_reducible intro _))) <;> (try (first | omega | (with_reducible assumption))))
          rw [ovr_step (by omega) rfl]
          exact ih (i + 1) (by omega) (by omega)
      have := loop (FF N o).toNat 0 (by omega) (by omega)
      rwa [ovr_nil (by omega)] at this
    · ((repeat' (first | (with_reducible apply And.intro) | (with_reducible intro _ e; subst e) | (with_reducible intro _))) <;> (try (first | omega | (with_reducible assumption))))
      have := k M4 ((fr14_C f1).trans f4.C) ⟨(f4.tab t1).C h2 h7, l4, f4.nw s1.2.2.1, w4⟩
      unfold q_classes at this
      rw [Int.toNat_natCast, if_pos hO, if_pos (by omega)] at this
      exact this
  · ((repeat' (first | (with_reducible apply And.intro) | (with_reducible intro _ e; subst e) | (with_reducible intro _))) <;> (try (first | omega | (with_reducible assumption))))
    have := k M1 (fr14_C f1) (sc.of14 f1 t1)
    unfold q_classes at this
    rw [if_neg hno] at this
    exact this
end
