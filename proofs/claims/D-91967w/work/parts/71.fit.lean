/-! ===== fitting, likely, next ===== -/
set_option maxRecDepth 100000
/-- a log is void as far as j -/
def vd (Lg : List (Int × Int × Int)) (j k : Int) : Prop := ∃ q, 0 ≤ q ∧ q < j ∧ (lgc Lg q).1 = -1 ∧ (lgc Lg q).2.1 = k
def ftP (N : Nat) (Lg : List (Int × Int × Int)) (t j v m : Int) : Prop := ∀ k, 0 ≤ k → k < m → (lgc Lg k).1 = t → ¬ vd Lg j k → dg N v (lgc Lg k).2.2 = (lgc Lg k).2.1
noncomputable def ftW (N : Nat) (Lg : List (Int × Int × Int)) (t j m : Int) (w : Int → Int) (v : Int) : Int := @ite _ (ftP N Lg t j v m) (Classical.propDecidable _) (w v) 0
theorem sm_le {f g : Int → Int} : ∀ (m : Nat) (i : Int), (∀ j, i ≤ j → j < i + m → f j ≤ g j) → sm f i m ≤ sm g i m
  | 0, _, _ => Int.le_refl _
  | m + 1, i, h => by
    simp only [sm]
    have := h i (by omega) (by omega)
    have := sm_le (f := f) (g := g) m (i + 1) (fun j a b => h j (by omega) (by omega))
    omega
theorem ftW_ok {N : Nat} {Lg : List (Int × Int × Int)} {t j m B : Int} {w : Int → Int} (h : okW N w B) : okW N (ftW N Lg t j m w) B := by
  have key : ∀ v, 0 ≤ v → v < fac N → 0 ≤ ftW N Lg t j m w v ∧ ftW N Lg t j m w v ≤ w v := by
    intro v a b
    have := h.1 v a b
    unfold ftW
    split <;> omega
  refine ⟨fun v a b => (key v a b).1, ?_⟩
  have := sm_le (f := ftW N Lg t j m w) (g := w) (fac N).toNat 0 (fun j a b => (key j a (by omega)).2)
  have := h.2
  omega
theorem smD_bd {N : Nat} {w : Int → Int} {B x l : Int} (h : okW N w B) : 0 ≤ smD N w x l ∧ smD N w x l ≤ B := by
  unfold smD
  have h1 := sm_nn' (f := fun v => if dg N v l = x then w v else 0) (fac N).toNat 0 (fun j a b => by have := h.1 j a (by omega); show 0 ≤ (if dg N j l = x then w j else 0); split <;> omega)
  have h2 := sm_le (f := fun v => if dg N v l = x then w v else 0) (g := w) (fac N).toNat 0 (fun j a b => by have := h.1 j a (by omega); show (if dg N j l = x then w j else 0) ≤ w j; split <;> omega)
  have := h.2
  omega
noncomputable def mxD (N : Nat) (w : Int → Int) (v : Int) : Nat → Int
  | 0 => 0
  | q + 1 => max (mxD N w v q) (smD N w v q)
theorem mxD_bd {N : Nat} {w : Int → Int} {B v : Int} (h : okW N w B) (hB : 0 ≤ B) : ∀ q, 0 ≤ mxD N w v q ∧ mxD N w v q ≤ B
  | 0 => ⟨Int.le_refl _, hB⟩
  | q + 1 => by
    have := mxD_bd (v := v) h hB q
    have := smD_bd (x := v) (l := q) h
    rw [mxD]
    omega
noncomputable def bst (N : Nat) (w : Int → Int) : Nat → Int × Int
  | 0 => (-1, 0)
  | v + 1 => if (bst N w v).1 = -1 ∨ mxD N w v N < (bst N w v).2 then ((v : Int), mxD N w v N) else bst N w v
theorem bst_bd {N : Nat} {w : Int → Int} {B : Int} (h : okW N w B) (hB : 0 ≤ B) : ∀ v, -1 ≤ (bst N w v).1 ∧ (bst N w v).1 < v ∧ 0 ≤ (bst N w v).2 ∧ (bst N w v).2 ≤ B
  | 0 => by
    rw [bst]
    simp only []
    omega
  | v + 1 => by
    have i := bst_bd h hB v
    have m := mxD_bd (v := v) h hB N
    rw [bst]
    split
    · simp only []
      omega
    · omega
def knC (σ : sgm) (t j : Int) : Prop := 0 ≤ t ∧ t < σ.1.length ∧ 0 ≤ j ∧ j ≤ σ.2.1.length
noncomputable def fwF (σ : sgm) (t j : Int) : Int → Int := ftW (lad σ.1 t).1.toNat σ.2.1 t j j (wyF σ t 0)
noncomputable def q_fitting (σ : sgm) (t j : Int) : Int := @ite _ (knC σ t j) (Classical.propDecidable _) (sm (fwF σ t j) 0 (fac (lad σ.1 t).1.toNat).toNat) (-1)
noncomputable def q_likely (σ : sgm) (t j x l : Int) : Int := @ite _ (knC σ t j ∧ 0 ≤ x ∧ x < (lad σ.1 t).1 ∧ 0 ≤ l ∧ l < (lad σ.1 t).1) (Classical.propDecidable _) (smD (lad σ.1 t).1.toNat (fwF σ t j) x l) (-1)
noncomputable def q_next (σ : sgm) (t j : Int) : Int := @ite _ (knC σ t j) (Classical.propDecidable _) (bst (lad σ.1 t).1.toNat (fwF σ t j) (lad σ.1 t).1.toNat).1 (-1)
theorem ftW_step {N : Nat} {Lg : List (Int × Int × Int)} {t j m v : Int} {w : Int → Int} (hm : 0 ≤ m) : ftW N Lg t j (m + 1) w v = @ite _ ((lgc Lg m).1 = t ∧ ¬ vd Lg j m ∧ dg N v (lgc Lg m).2.2 ≠ (lgc Lg m).2.1) (Classical.propDecidable _) 0 (ftW N Lg t j m w v) := by
  unfold ftW
  by_cases c : (lgc Lg m).1 = t ∧ ¬ vd Lg j m ∧ dg N v (lgc Lg m).2.2 ≠ (lgc Lg m).2.1
  · rw [if_pos c, if_neg (fun h => c.2.2 (h m hm (by omega) c.1 c.2.1))]
  · rw [if_neg c]
    by_cases d : ftP N Lg t j v m
    · rw [if_pos d, if_pos]
      intro k k0 k1 k2 k3
      by_cases e : k = m
      · subst e
        by_cases z : dg N v (lgc Lg k).2.2 = (lgc Lg k).2.1
        · exact z
        · exact absurd ⟨k2, k3, z⟩ c
      · exact d k k0 (by omega) k2 k3
    · rw [if_neg d, if_neg (fun h => d (fun k k0 k1 => h k k0 (by omega)))]
section
variable {X : px} {S : List psh} {M : pM} {σ : sgm}
theorem c_isKnown {F : Int → pM → Prop} {t j : Int} (ht : inR t) (hj : inR j) (cp : CP S M σ) (ok : okS σ) (k1 : knC σ t j → F 1 M) (k0 : ¬ knC σ t j → F 0 M) : pNi true X mX0_isKnown 3 [pR 0, pI t, pI j] S M F := by
  have h40 := ok.2.2.1.1
  refine eX0_isKnown (bX0_isKnown_0 (c_isLadder cp.2.1 ht (fun a b => ⟨by constructor <;> decide, fun z => by omega, fun _ => ?_⟩) (fun h => ⟨by constructor <;> decide, fun _ => k0 (fun z => h ⟨z.1, z.2.1⟩), fun z => by omega⟩)))
  rw [cp.2.2.1.1]
  exact c_within hj (by constructor <;> decide) (by constructor <;> omega) (fun c d => ⟨by constructor <;> decide, fun z => by omega, fun _ => k1 ⟨a, b, c, d⟩⟩) (fun h => ⟨by constructor <;> decide, fun _ => k0 (fun z => by have := z.2.2; omega), fun z => by omega⟩)
theorem c_fits {F : pM → Prop} {t j : Int} (cp : CP S M σ) (ok : okS σ) (kn : knC σ t j) (k : ∀ (N : Nat) M', (lad σ.1 t).1 = N → 2 ≤ N → N ≤ 7 → frC M M' → SC M' → TabC N M' → pu_perm <+: S → (M' 0 15 = 23 ∨ M' 0 15 = 24) → (∀ v, 0 ≤ v → v < fac N → M' (M' 0 15) v = fwF σ t j v) → okW N (fwF σ t j) 1099511627776 → F M') : pNv true X mX0_fits 5 [pR 0, pI t, pI j] S M F := by
  obtain ⟨a, b, j0, j1⟩ := kn
  have okG' := ok.2.2.1
  have h40 := okG'.1
  have hL6 := ok.1
  have h6 := ok.tl b
  obtain ⟨N, e, h2, h7⟩ := (ok.at a b).nat
  have hf := fac_le h7
  have fp := fac_pos N
  refine eX0_fits (bX0_fits_0 (c_get cp.2.1 a b (fun r lr okl hs => ⟨hs, hs, ?_⟩)))
  rw [lr.w.2.2.2.1, e]
  refine c_of h2 h7 cp.1.1 (fun M1 f1 t1 => ?_)
  have lr1 : LadR (M1 19 1) S M1 r (lad σ.1 t).1 (lad σ.1 t).2 := by
    rw [f1 19 (by decide)]
    exact lr.fr cp.2.1.z ⟨List.prefix_refl _, fun x p _ _ => f1 x (by omega)⟩
  refine c_spr cp f1 t1 h2 h7 a b e (Int.le_refl _) fp lr1 (fun M2 f2 s2 t2 hp h15 hw ow => ?_)
  have lg2 : CLg M2 σ.2.1 := by
    unfold CLg
    rw [f2.2 17 (by decide), f2.1 25 (by decide), f2.1 26 (by decide), f2.1 27 (by decide)]
    exact cp.2.2.1
  have eF : fwF σ t j = ftW N σ.2.1 t j j (wyF σ t 0) := by unfold fwF; rw [e, Int.toNat_natCast]
  -- the last loop
  have l94 : ∀ (m : Nat) (i : Int) (M3 : pM), i + m = j → 0 ≤ i → (∀ x, x ≠ 28 → x ≠ M2 0 15 → M3 x = M2 x) → (∀ q, 0 ≤ q → q < j → (M3 28 q = 0 ∨ M3 28 q = 1) ∧ (M3 28 q = 0 ↔ ¬ vd σ.2.1 j q)) → (∀ v, 0 ≤ v → v < fac N → M3 (M2 0 15) v = ftW N σ.2.1 t j i (wyF σ t 0) v) → wX0_fits_94 X F t j i S M3 := by
    intro m
    induction m with
    | zero =>
      intro i M3 q1 q2 f3 hv hA
      refine bX0_fits_94 ⟨by constructor <;> omega, by constructor <;> omega, fun _ => ?_, fun z => by omega⟩
      have e0 : M3 0 = M2 0 := f3 0 (by decide) (by omega)
      refine k N M3 e h2 h7 (f2.trans ⟨fun x hx => f3 x (by omega) (by omega), fun jj _ => by rw [e0]⟩) (s2.fr (fun jj _ => by rw [e0]) (fun x hx => f3 x (by omega) (by omega))) (t2.fr (f3 1 (by decide) (by omega)) (f3 2 (by decide) (by omega)) (f3 3 (by decide) (by omega))) hp (by rw [e0]; exact h15) (fun v v0 v1 => ?_) (by rw [eF]; exact ftW_ok ow)
      rw [e0, eF, hA v v0 v1, show i = j by omega]
    | succ m ih =>
      intro i M3 q1 q2 f3 hv hA
      obtain ⟨g1, g2, g3⟩ := lg2.2 i q2 (by omega)
      have okg := okG'.2 i q2 (by omega)
      obtain ⟨hv1, hv2⟩ := hv i q2 (by omega)
      have skip : (∀ v, 0 ≤ v → v < fac N → M3 (M2 0 15) v = ftW N σ.2.1 t j (i + 1) (wyF σ t 0) v) → wX0_fits_179 X F t j i S M3 := fun h => bX0_fits_179 (ih (i + 1) M3 (by omega) (by omega) f3 hv h)
      refine bX0_fits_94 ?_
      rw [f3 25 (by decide) (by omega), g1]
      refine ⟨by constructor <;> omega, by constructor <;> omega, fun z => by omega, fun _ => ⟨q2, by omega, by constructor <;> omega, by constructor <;> omega, fun ne => skip (fun v v0 v1 => ?_), fun eq => ⟨q2, by omega, by constructor <;> omega, fun nv => ?_, fun iv => skip (fun v v0 v1 => ?_)⟩⟩⟩
      · rw [hA v v0 v1, ftW_step q2, if_neg (fun z => ne z.1)]
      · have l127 : ∀ (mm : Nat) (c : Int) (M4 : pM), c + mm = fac N → 0 ≤ c → (∀ x, x ≠ 28 → x ≠ M2 0 15 → M4 x = M2 x) → M4 28 = M3 28 → (∀ v, 0 ≤ v → v < fac N → M4 (M2 0 15) v = if v < c then ftW N σ.2.1 t j (i + 1) (wyF σ t 0) v else ftW N σ.2.1 t j i (wyF σ t 0) v) → wX0_fits_127 X F t j i c S M4 := by
          intro mm
          induction mm with
          | zero =>
            intro c M4 p1 p2 f4 e28 h4
            refine bX0_fits_127 ?_
            rw [f4 1 (by decide) (by omega), t2.2.1]
            refine ⟨by constructor <;> omega, by constructor <;> omega, fun _ => bX0_fits_179 (ih (i + 1) M4 (by omega) (by omega) f4 (by rw [e28]; exact hv) (fun v v0 v1 => ?_)), fun z => by omega⟩
            rw [h4 v v0 v1, if_pos (by omega)]
          | succ mm ihm =>
            intro c M4 p1 p2 f4 e28 h4
            have t4 : TabC N M4 := t2.fr (f4 1 (by decide) (by omega)) (f4 2 (by decide) (by omega)) (f4 3 (by decide) (by omega))
            have g3' := g3 (by omega)
            have dgb := dg_rng (o := c) h7 (show 0 ≤ (lgc σ.2.1 i).2.2 by omega) (show (lgc σ.2.1 i).2.2 < N by rw [eq, e] at okg; omega)
            refine bX0_fits_127 ?_
            rw [f4 27 (by decide) (by omega), g3', t4.2.1]
            refine ⟨by constructor <;> omega, by constructor <;> omega, fun z => by omega, fun _ => ⟨q2, by omega, c_digit p2 (by omega) (by omega) (by rw [eq, e] at okg; omega) ?_⟩⟩
            rw [t4.row p2 (by omega) _ (by omega) (by rw [eq, e] at okg; omega), f4 26 (by decide) (by omega), g2, f4 0 (by decide) (by omega)]
            refine ⟨q2, by omega, by constructor <;> omega, by rw [eq, e] at okg; constructor <;> omega, fun same => bX0_fits_173 (ihm (c + 1) M4 (by omega) (by omega) f4 e28 (fun v v0 v1 => ?_)), fun diff => ⟨5040, sh_w hp h15, nc_w h15, p2, by omega, fun M16 e16 => bX0_fits_173 (ihm (c + 1) M16 (by omega) (by omega) (fun x x1 x2 => by rw [e16, up_ne x2]; exact f4 x x1 x2) (by rw [e16, up_ne (by omega)]; exact e28) (fun v v0 v1 => ?_))⟩⟩
            · rw [h4 v v0 v1]
              by_cases d : v = c
              · rw [if_neg (by omega), if_pos (by omega), ftW_step q2, if_neg (fun z => by have := z.2.2; rw [d] at this; exact this same)]
              · by_cases d2 : v < c
                · rw [if_pos d2, if_pos (by omega)]
                · rw [if_neg d2, if_neg (by omega)]
            · rw [e16]
              by_cases d : v = c
              · rw [d, up_same, if_pos (by omega), ftW_step q2, if_pos ⟨eq, hv2.1 nv, diff⟩]
              · rw [up_oi d, h4 v v0 v1]
                by_cases d2 : v < c
                · rw [if_pos d2, if_pos (by omega)]
                · rw [if_neg d2, if_neg (by omega)]
        exact l127 (fac N).toNat 0 M3 (by omega) (by omega) f3 rfl (fun v v0 v1 => by rw [if_neg (by omega)]; exact hA v v0 v1)
      · rw [hA v v0 v1, ftW_step q2, if_neg (fun z => iv (hv2.2 z.2.1))]
  -- the voids
  have l55 : ∀ (m : Nat) (i : Int) (M3 : pM), i + m = j → 0 ≤ i → (∀ x, x ≠ 28 → M3 x = M2 x) → (∀ q, 0 ≤ q → q < j → (M3 28 q = 0 ∨ M3 28 q = 1) ∧ (M3 28 q = 0 ↔ ¬ vd σ.2.1 i q)) → wX0_fits_55 X F t j i S M3 := by
    intro m
    induction m with
    | zero =>
      intro i M3 q1 q2 f3 hv
      refine bX0_fits_55 ⟨by constructor <;> omega, by constructor <;> omega, fun _ => ?_, fun z => by omega⟩
      have ei : i = j := by omega
      subst ei
      refine l94 i.toNat 0 M3 (by omega) (by omega) (fun x x1 _ => f3 x x1) hv (fun v v0 v1 => ?_)
      rw [f3 _ (by omega), hw v v0 v1]
      unfold ftW
      rw [if_pos (show ftP N σ.2.1 t i v 0 from fun k k0 k1 => by omega)]
    | succ m ih =>
      intro i M3 q1 q2 f3 hv
      obtain ⟨g1, g2, g3⟩ := lg2.2 i q2 (by omega)
      have okg := okG'.2 i q2 (by omega)
      refine bX0_fits_55 ?_
      rw [f3 25 (by decide), f3 26 (by decide), g1, g2]
      refine ⟨by constructor <;> omega, by constructor <;> omega, fun z => by omega, fun _ => ⟨q2, by omega, by constructor <;> omega, fun ne => bX0_fits_85 (ih (i + 1) M3 (by omega) (by omega) f3 (fun q p p' => ⟨(hv q p p').1, (hv q p p').2.trans ⟨fun h z => h ?_, fun h z => h ?_⟩⟩)), fun eq => ⟨q2, by omega, by omega, by omega, fun M10 e10 => bX0_fits_85 (ih (i + 1) M10 (by omega) (by omega) (fun x hx => by rw [e10, up_ne hx]; exact f3 x hx) (fun q p p' => ?_))⟩⟩⟩
      · obtain ⟨y, y0, y1, y2, y3⟩ := z
        have : y ≠ i := fun w => by subst w; exact ne y2
        exact ⟨y, y0, by omega, y2, y3⟩
      · obtain ⟨y, y0, y1, y2, y3⟩ := z
        exact ⟨y, y0, by omega, y2, y3⟩
      · rw [e10]
        by_cases d : q = (lgc σ.2.1 i).2.1
        · rw [d, up_same]
          exact ⟨Or.inr rfl, ⟨fun z => by omega, fun z => absurd ⟨i, q2, by omega, eq, rfl⟩ z⟩⟩
        · rw [up_oi d]
          refine ⟨(hv q p p').1, (hv q p p').2.trans ⟨fun h z => h ?_, fun h z => h ?_⟩⟩
          · obtain ⟨y, y0, y1, y2, y3⟩ := z
            have : y ≠ i := fun w => by subst w; exact d y3.symm
            exact ⟨y, y0, by omega, y2, y3⟩
          · obtain ⟨y, y0, y1, y2, y3⟩ := z
            exact ⟨y, y0, by omega, y2, y3⟩
  have l32 : ∀ (m : Nat) (i : Int) (M3 : pM), i + m = j → 0 ≤ i → (∀ x, x ≠ 28 → M3 x = M2 x) → (∀ q, 0 ≤ q → q < i → M3 28 q = 0) → wX0_fits_32 X F t j i S M3 := by
    intro m
    induction m with
    | zero =>
      intro i M3 q1 q2 f3 hv
      refine bX0_fits_32 ⟨by constructor <;> omega, by constructor <;> omega, fun _ => l55 j.toNat 0 M3 (by omega) (by omega) f3 (fun q p p' => ⟨Or.inl (hv q p (by omega)), ⟨fun _ z => ?_, fun _ => hv q p (by omega)⟩⟩), fun z => by omega⟩
      obtain ⟨y, y0, y1, _⟩ := z
      omega
    | succ m ih =>
      intro i M3 q1 q2 f3 hv
      refine bX0_fits_32 ⟨by constructor <;> omega, by constructor <;> omega, fun z => by omega, fun _ => ⟨q2, by omega, fun M5 e5 => ih (i + 1) M5 (by omega) (by omega) (fun x hx => by rw [e5, up_ne hx]; exact f3 x hx) (fun q p p' => ?_)⟩⟩
      rw [e5]
      by_cases d : q = i
      · rw [d, up_same]
      · rw [up_oi d]; exact hv q p (by omega)
  exact l32 j.toNat 0 M2 (by omega) (by omega) (fun _ _ => rfl) (fun q p p' => by omega)
theorem c_endsThere {F : Int → pM → Prop} {N : Nat} {x l : Int} {w : Int → Int} (h7 : N ≤ 7) (hx : inR x) (l0 : 0 ≤ l) (l1 : l < N) (t2 : TabC N M) (hp : pu_perm <+: S) (h15 : M 0 15 = 23 ∨ M 0 15 = 24) (hw : ∀ v, 0 ≤ v → v < fac N → M (M 0 15) v = w v) (k : F (smD N w x l) M) : pNl true X mX0_endsThere 2 [pR 0, pI x, pI l] S M F := by
  have hf := fac_le h7
  have fp := fac_pos N
  have loop : ∀ (m c : Nat), (c : Int) + m = fac N → wX0_endsThere_5 X F x l (sm (fun v => if dg N v l = x then w v else 0) 0 c) c S M := by
    intro m
    induction m with
    | zero =>
      intro c q1
      refine bX0_endsThere_5 ?_
      rw [t2.2.1]
      refine ⟨by constructor <;> omega, by constructor <;> omega, fun _ => ?_, fun y => by omega⟩
      unfold smD at k
      rw [show (fac N).toNat = c by omega] at k
      exact k
    | succ m ih =>
      intro c q1
      have nxt := ih (c + 1) (by omega)
      rw [sm_snoc, Int.zero_add, Int.natCast_succ] at nxt
      have d1 := dg_rng (o := c) h7 l0 l1
      refine bX0_endsThere_5 ?_
      rw [t2.2.1]
      refine ⟨by constructor <;> omega, by constructor <;> omega, fun y => by omega, fun _ => c_digit (by omega) (by omega) l0 (by omega) ?_⟩
      rw [t2.row (by omega) (by omega) l l0 l1]
      refine ⟨by constructor <;> omega, hx, fun y => bX0_endsThere_41 ?_, fun y => ⟨5040, sh_w hp h15, by omega, by omega, bX0_endsThere_41 ?_⟩⟩
      · rw [if_neg y, Int.add_zero] at nxt
        exact nxt
      · rw [if_pos y] at nxt
        rw [hw c (by omega) (by omega)]
        exact nxt
  exact eX0_endsThere (bX0_endsThere_0 (loop (fac N).toNat 0 (by omega)))
theorem c_fitting_op {F : Int → pM → Prop} {t j : Int} (ht : inR t) (hj : inR j) (cp : CP S M σ) (ok : okS σ) (k : ∀ M', frC M M' → SC M' → F (q_fitting σ t j) M') : pNl true X mX0_fitting 6 [pR 0, pI t, pI j] S M F := by
  refine eX0_fitting (bX0_fitting_0 (c_isKnown ht hj cp ok (fun kn => ⟨by constructor <;> decide, fun _ => c_fits cp ok kn (fun N M2 e h2 h7 f2 s2 t2 hp h15 hw ow => ?_), fun z => by omega⟩) (fun kn => ⟨by constructor <;> decide, fun z => by omega, fun _ => ?_⟩)))
  · have hf := fac_le h7
    have fp := fac_pos N
    have loop : ∀ (m c : Nat), (c : Int) + m = fac N → wX0_fitting_24 X F (sm (fwF σ t j) 0 c) c S M2 := by
      intro m
      induction m with
      | zero =>
        intro c q1
        refine bX0_fitting_24 ?_
        rw [t2.2.1]
        refine ⟨by constructor <;> omega, by constructor <;> omega, fun _ => ?_, fun y => by omega⟩
        have := k M2 f2 s2
        unfold q_fitting at this
        rw [if_pos kn, e, Int.toNat_natCast, show (fac N).toNat = c by omega] at this
        exact this
      | succ m ih =>
        intro c q1
        have nxt := ih (c + 1) (by omega)
        rw [sm_snoc, Int.zero_add, Int.natCast_succ] at nxt
        refine bX0_fitting_24 ?_
        rw [t2.2.1, hw c (by omega) (by omega)]
        exact ⟨by constructor <;> omega, by constructor <;> omega, fun y => by omega, fun _ => ⟨5040, sh_w hp h15, by omega, by omega, nxt⟩⟩
    exact loop (fac N).toNat 0 (by omega)
  · have := k M (frC.refl _) cp.1
    unfold q_fitting at this
    rw [if_neg kn] at this
    exact this
theorem c_likely_op {F : Int → pM → Prop} {t j x l : Int} (ht : inR t) (hj : inR j) (hx : inR x) (hl : inR l) (cp : CP S M σ) (ok : okS σ) (k : ∀ M', frC M M' → SC M' → F (q_likely σ t j x l) M') : pNl true X mX0_likely 6 [pR 0, pI t, pI j, pI x, pI l] S M F := by
  have bad : ¬ (knC σ t j ∧ 0 ≤ x ∧ x < (lad σ.1 t).1 ∧ 0 ≤ l ∧ l < (lad σ.1 t).1) → wX0_likely_28 X F S M := fun z => by
    have := k M (frC.refl _) cp.1
    unfold q_likely at this
    rw [if_neg z] at this
    exact bX0_likely_28 this
  refine eX0_likely (bX0_likely_0 (c_isKnown ht hj cp ok (fun kn => ⟨by constructor <;> decide, fun z => by omega, fun _ => ?_⟩) (fun kn => ⟨by constructor <;> decide, fun _ => bad (fun z => kn z.1), fun z => by omega⟩)))
  refine c_isNumber ht hx cp.2.1 (fun _ _ x0 x1 => ⟨by constructor <;> decide, fun z => by omega, fun _ => ?_⟩) (fun h => ⟨by constructor <;> decide, fun _ => bad (fun z => h ⟨kn.1, kn.2.1, z.2.1, z.2.2.1⟩), fun z => by omega⟩)
  refine c_isNumber ht hl cp.2.1 (fun _ _ l0 l1 => ⟨by constructor <;> decide, fun _ => ?_, fun z => by omega⟩) (fun h => ⟨by constructor <;> decide, fun z => by omega, fun _ => bad (fun z => h ⟨kn.1, kn.2.1, z.2.2.2⟩)⟩)
  refine c_fits cp ok kn (fun N M2 e h2 h7 f2 s2 t2 hp h15 hw ow => ?_)
  refine c_endsThere h7 hx l0 (by omega) t2 hp h15 hw ?_
  have := k M2 f2 s2
  unfold q_likely at this
  rw [if_pos ⟨kn, x0, x1, l0, l1⟩, e, Int.toNat_natCast] at this
  exact this
theorem c_next_op {F : Int → pM → Prop} {t j : Int} (ht : inR t) (hj : inR j) (cp : CP S M σ) (ok : okS σ) (k : ∀ M', frC M M' → SC M' → F (q_next σ t j) M') : pNi true X mX0_next 6 [pR 0, pI t, pI j] S M F := by
  refine eX0_next (bX0_next_0 (c_isKnown ht hj cp ok (fun kn => ⟨by constructor <;> decide, fun _ => c_fits cp ok kn (fun N M2 e h2 h7 f2 s2 t2 hp h15 hw ow => ?_), fun z => by omega⟩) (fun kn => ⟨by constructor <;> decide, fun z => by omega, fun _ => ?_⟩)))
  · have loop : ∀ (m c : Nat), (c : Int) + m = N → wX0_next_25 X F (bst N (fwF σ t j) c).1 (bst N (fwF σ t j) c).2 c S M2 := by
      intro m
      induction m with
      | zero =>
        intro c q1
        refine bX0_next_25 ?_
        rw [t2.1]
        refine ⟨by constructor <;> omega, by constructor <;> omega, fun _ => ?_, fun y => by omega⟩
        have := k M2 f2 s2
        unfold q_next at this
        rw [if_pos kn, e, Int.toNat_natCast, show N = c by omega] at this
        rw [show N = c by omega]
        exact this
      | succ m ih =>
        intro c q1
        have nxt := ih (c + 1) (by omega)
        rw [Int.natCast_succ, bst] at nxt
        have bb := bst_bd ow (by omega) c
        have l43 : ∀ (mm d : Nat), (d : Int) + mm = N → wX0_next_43 X F (bst N (fwF σ t j) c).1 (bst N (fwF σ t j) c).2 c (mxD N (fwF σ t j) c d) d S M2 := by
          intro mm
          induction mm with
          | zero =>
            intro d p1
            have ed : d = N := by omega
            subst ed
            have mb' := mxD_bd (v := c) ow (by omega) d
            refine bX0_next_43 ?_
            rw [t2.1]
            refine ⟨by constructor <;> omega, by constructor <;> omega, fun _ => ⟨by constructor <;> omega, fun y => bX0_next_92 (bX0_next_99 ?_), fun y => ⟨by constructor <;> omega, by constructor <;> omega, fun z => bX0_next_92 (bX0_next_99 ?_), fun z => bX0_next_99 ?_⟩⟩, fun y => by omega⟩
            · rw [if_pos (Or.inl y)] at nxt
              exact nxt
            · rw [if_pos (Or.inr z)] at nxt
              exact nxt
            · rw [if_neg (by omega)] at nxt
              exact nxt
          | succ mm ihm =>
            intro d p1
            have mb' := mxD_bd (v := c) ow (by omega) d
            have sb' := smD_bd (x := c) (l := d) ow
            have nx2 := ihm (d + 1) (by omega)
            rw [mxD, Int.natCast_succ] at nx2
            refine bX0_next_43 ?_
            rw [t2.1]
            refine ⟨by constructor <;> omega, by constructor <;> omega, fun y => by omega, fun _ => c_endsThere h7 (by constructor <;> omega) (by omega) (by omega) t2 hp h15 hw ⟨by constructor <;> omega, by constructor <;> omega, nx2⟩⟩
        refine bX0_next_25 ?_
        rw [t2.1]
        exact ⟨by constructor <;> omega, by constructor <;> omega, fun y => by omega, fun _ => l43 N 0 (by omega)⟩
    exact loop N 0 (by omega)
  · have := k M (frC.refl _) cp.1
    unfold q_next at this
    rw [if_neg kn] at this
    exact this
end
