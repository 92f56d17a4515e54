/-! ===== classes: the twin ===== -/
set_option maxRecDepth 100000
def KI (n : Nat) (o : Int) (f : Int → Int) : Prop := ∀ v, 0 ≤ v → v < FF n o → 0 ≤ f v ∧ f v ≤ v ∧ con n o (f v) v
def fxc (n : Nat) (o : Int) (f : Int → Int) (c : Int) : Prop := 0 ≤ sld n o (c / 21) (c % 21) → f (sld n o (c / 21) (c % 21)) = f (c / 21)
theorem fxc_first {n : Nat} {o : Int} {f : Int → Int} (hn : n ≤ 7) (a : 0 ≤ o) (b : o < fac n) (ki : KI n o f) (h : ∀ c, 0 ≤ c → c < 21 * FF n o → fxc n o f c) : ∀ v, 0 ≤ v → v < FF n o → (f v = v ↔ mnl n o v) := by
  refine lab_first a b ki (fun u v e => ?_)
  obtain ⟨h1, h2, h3, h4, i, h5, h6⟩ := e
  have hi : i < 21 := by
    have := iv_21 (n := n) (v := o) hn
    unfold sld at h6
    split at h6
    · rename_i q; omega
    · omega
  have := h (21 * u + i) (by omega) (by omega)
  unfold fxc at this
  rw [show (21 * u + i) / 21 = u by omega, show (21 * u + i) % 21 = i by omega, h6] at this
  exact (this h3).symm
theorem sm_nn' {f : Int → Int} : ∀ (m : Nat) (i : Int), (∀ j, i ≤ j → j < i + m → 0 ≤ f j) → 0 ≤ sm f i m
  | 0, _, _ => Int.le_refl _
  | m + 1, i, h => by
    simp only [sm]
    have := h i (by omega) (by omega)
    have := sm_nn' (f := f) m (i + 1) (fun j p q => h j (by omega) (by omega))
    omega
theorem KI_up {n : Nat} {o v t c : Int} {f f1 f' : Int → Int} (a : 0 ≤ o) (b : o < fac n) (ki : KI n o f) (v0 : 0 ≤ v) (v1 : v < FF n o) (e : sle n o v t) (ne : f t ≠ f v) (hc : c = min (f t) (f v)) (g1 : f1 t = c) (g2 : ∀ x, x ≠ t → f1 x = f x) (g3 : f' v = c) (g4 : ∀ x, x ≠ v → f' x = f1 x) : KI n o f' ∧ sm f' 0 (FF n o).toNat < sm f 0 (FF n o).toNat := by
  have t0 := e.2.2.1
  have t1 := e.2.2.2.1
  have kt := ki t t0 t1
  have kv := ki v v0 v1
  have hvt : v ≠ t := fun z => ne (by rw [z])
  have ct : con n o c t := by
    rw [hc]
    by_cases z : f t ≤ f v
    · rw [Int.min_eq_left z]; exact kt.2.2
    · rw [Int.min_eq_right (by omega)]; exact con_step kv.2.2 e
  have cv : con n o c v := con_trans ct (con_step con_refl (sle_sym a b e))
  refine ⟨fun x x0 x1 => ?_, ?_⟩
  · by_cases z : x = v
    · subst z
      rw [g3]
      exact ⟨by omega, by omega, cv⟩
    · rw [g4 x z]
      by_cases y : x = t
      · subst y
        rw [g1]
        exact ⟨by omega, by omega, ct⟩
      · rw [g2 x y]
        exact ki x x0 x1
  · have s1 := sm_up (f := f) (g := f1) (x := t) g2 (FF n o).toNat 0 t0 (by omega)
    have s2 := sm_up (f := f1) (g := f') (x := v) g4 (FF n o).toNat 0 v0 (by omega)
    rw [s2, s1, g1, g3, g2 v hvt]
    omega
section
variable {X : px} {S : List psh}
theorem tw_cls84 {F : Int → pM → Prop} {n : Nat} {o : Int} {M0 : pM} {f0 : Int → Int} (hn : n ≤ 7) (a : 0 ≤ o) (b : o < fac n) (h8 : FF n o ≤ 800) (go : GO n o M0) (k : ∀ (M : pM) (x4 : Int), (∀ x, x ≠ 280 → M x = M0 x) → KI n o (M 280) → ((x4 = 0 ∧ M 280 = f0 ∧ ∀ c, 0 ≤ c → c < 21 * FF n o → fxc n o f0 c) ∨ (x4 = 1 ∧ sm (M 280) 0 (FF n o).toNat < sm f0 0 (FF n o).toNat)) → wX6_classes_73 X F (FF n o) x4 S M) : ∀ (m : Nat) (i : Int) (M : pM) (x4 : Int), i + m = 21 * FF n o → 0 ≤ i → (∀ x, x ≠ 280 → M x = M0 x) → KI n o (M 280) → ((x4 = 0 ∧ M 280 = f0 ∧ ∀ c, 0 ≤ c → c < i → fxc n o f0 c) ∨ (x4 = 1 ∧ sm (M 280) 0 (FF n o).toNat < sm f0 0 (FF n o).toNat)) → wX6_classes_84 X F (FF n o) x4 i S M := by
  have hF := FF_bd hn o
  intro m
  induction m with
  | zero =>
    intro i M x4 q1 q2 fr ki q
    have e : i = 21 * FF n o := by omega
    subst e
    refine bX6_classes_84 ?_
    ((repeat' (first | (with_reducible apply And.intro) | (with_reducible intro _ e; subst e) | (with_reducible intro _))) <;> (try (first | omega | (with_reducible assumption))))
    exact k M x4 fr ki q
  | succ m ih =>
    intro i M x4 q1 q2 fr ki q
    have v0 : 0 ≤ i / 21 := by omega
    have v1 : i / 21 < FF n o := by omega
    have i0 : 0 ≤ i % 21 := by omega
    have g := go (i / 21) v0 v1 (i % 21) i0 (by omega)
    rw [show 21 * (i / 21) + i % 21 = i by omega, ← fr 278 (by decide), ← fr 279 (by decide)] at g
    have sb := sld_bd (n := n) (o := o) (r := i / 21) (i := i % 21) a b v0 v1 i0
    have tb := trn_bd (n := n) (o := o) (r := i / 21) (i := i % 21) a b v0 v1 i0
    have st := sld_trn (n := n) (o := o) (r := i / 21) (i := i % 21)
    have lb : -1 ≤ ldT n o (i / 21) (i % 21) ∧ ldT n o (i / 21) (i % 21) < FF n o := by unfold ldT; split <;> omega
    have ib : isT n o (i / 21) (i % 21) = 0 ∨ isT n o (i / 21) (i % 21) = 1 := by unfold isT; split <;> omega
    have same : fxc n o (M 280) i → wX6_classes_222 X F (FF n o) x4 i S M := by
      intro hh
      refine bX6_classes_222 (ih (i + 1) M x4 (by omega) (by omega) fr ki (q.imp (fun z => ⟨z.1, z.2.1, fun c c0 c1 => ?_⟩) id))
      by_cases e : c = i
      · subst e
        rw [← z.2.1]
        exact hh
      · exact z.2.2 c c0 (by omega)
    have kv := ki (i / 21) v0 v1
    have cas : (ldT n o (i / 21) (i % 21) < 0 ∧ sld n o (i / 21) (i % 21) < 0) ∨ (0 ≤ ldT n o (i / 21) (i % 21) ∧ isT n o (i / 21) (i % 21) = 1 ∧ sld n o (i / 21) (i % 21) < 0) ∨ (0 ≤ sld n o (i / 21) (i % 21) ∧ ldT n o (i / 21) (i % 21) = sld n o (i / 21) (i % 21) ∧ isT n o (i / 21) (i % 21) = 0) := by
      by_cases c : 0 ≤ sld n o (i / 21) (i % 21)
      · refine Or.inr (Or.inr ⟨c, ?_, ?_⟩)
        · unfold ldT; rw [if_pos c]
        · unfold isT; rw [if_neg (by have := st c; omega)]
      · have e1 : ldT n o (i / 21) (i % 21) = trn n o (i / 21) (i % 21) := by unfold ldT; rw [if_neg c]
        by_cases d : 0 ≤ trn n o (i / 21) (i % 21)
        · refine Or.inr (Or.inl ⟨by omega, ?_, by omega⟩)
          unfold isT; rw [if_pos d]
        · exact Or.inl ⟨by omega, by omega⟩
    have ev : idv i 21 = i / 21 := idv_eq q2 (by omega) (by decide) (by decide)
    rcases cas with z | z | z
    · refine bX6_classes_84 ?_
      rw [g.1, g.2, ev]
      ((repeat' (first | (with_reducible apply And.intro) | (with_reducible intro _ e; subst e) | (with_reducible intro _))) <;> (try (first | omega | (with_reducible assumption))))
      exact same (fun y => by omega)
    · refine bX6_classes_84 ?_
      rw [g.1, g.2, ev]
      ((repeat' (first | (with_reducible apply And.intro) | (with_reducible intro _ e; subst e) | (with_reducible intro _))) <;> (try (first | omega | (with_reducible assumption))))
      exact same (fun y => by omega)
    · have kt := ki (sld n o (i / 21) (i % 21)) z.1 sb.2
      have edge : sle n o (i / 21) (sld n o (i / 21) (i % 21)) := ⟨v0, v1, z.1, sb.2, _, i0, rfl⟩
      have upd : ∀ c, c = min (M 280 (sld n o (i / 21) (i % 21))) (M 280 (i / 21)) → M 280 (sld n o (i / 21) (i % 21)) ≠ M 280 (i / 21) → wX6_classes_191 X F (FF n o) i c S M := by
        intro c hc ne
        refine bX6_classes_191 ?_
        rw [g.1, z.2.1, ev]
        ((repeat' (first | (with_reducible apply And.intro) | (with_reducible intro _ e; subst e) | (with_reducible intro _))) <;> (try (first | omega | (with_reducible assumption))))
        have up := KI_up (f' := pu_up (pu_up M 280 (sld n o (i / 21) (i % 21)) c) 280 (i / 21) c 280) a b ki v0 v1 edge ne hc (f1 := pu_up M 280 (sld n o (i / 21) (i % 21)) c 280) up_same (fun x hx => up_oi hx) up_same (fun x hx => up_oi hx)
        refine bX6_classes_222 (ih (i + 1) _ 1 (by omega) (by omega) (fun x hx => by rw [up_ne hx, up_ne hx]; exact fr x hx) up.1 (Or.inr ⟨rfl, ?_⟩))
        rcases q with y | y
        · rw [← y.2.1]; exact up.2
        · have := up.2
          omega
      refine bX6_classes_84 ?_
      rw [g.1, g.2, ev, z.2.1, z.2.2]
      ((repeat' (first | (with_reducible apply And.intro) | (with_reducible intro _ e; subst e) | (with_reducible intro _))) <;> (try (first | omega | (with_reducible assumption))))
      · exact upd _ (by omega) (by omega)
      · exact upd _ (by omega) (by omega)
      · exact same (fun _ => by omega)
theorem tw_cls73 {F : Int → pM → Prop} {n : Nat} {o : Int} {M0 : pM} (hn : n ≤ 7) (a : 0 ≤ o) (b : o < fac n) (h8 : FF n o ≤ 800) (go : GO n o M0) (k : ∀ M : pM, (∀ x, x ≠ 280 → M x = M0 x) → (∀ v, 0 ≤ v → v < FF n o → -1 ≤ M 280 v ∧ M 280 v ≤ 800 ∧ (M 280 v = v ↔ mnl n o v)) → wX6_classes_237 X F (FF n o) 0 0 S M) : ∀ (m : Nat) (M : pM), sm (M 280) 0 (FF n o).toNat < m → (∀ x, x ≠ 280 → M x = M0 x) → KI n o (M 280) → wX6_classes_73 X F (FF n o) 1 S M := by
  have hF := FF_bd hn o
  intro m
  induction m with
  | zero =>
    intro M q1 fr ki
    have := sm_nn' (f := M 280) (FF n o).toNat 0 (fun j p q => (ki j p (by omega)).1)
    omega
  | succ m ih =>
    intro M q1 fr ki
    refine bX6_classes_73 ?_
    ((repeat' (first | (with_reducible apply And.intro) | (with_reducible intro _ e; subst e) | (with_reducible intro _))) <;> (try (first | omega | (with_reducible assumption))))
    refine tw_cls84 (f0 := M 280) hn a b h8 go (fun M1 x4 f1 k1 q => ?_) (21 * FF n o).toNat 0 M 0 (by omega) (by omega) fr ki (Or.inl ⟨rfl, rfl, fun c c0 c1 => by omega⟩)
    rcases q with z | z
    · obtain ⟨z1, z2, z3⟩ := z
      subst z1
      refine bX6_classes_73 ?_
      ((repeat' (first | (with_reducible apply And.intro) | (with_reducible intro _ e; subst e) | (with_reducible intro _))) <;> (try (first | omega | (with_reducible assumption))))
      refine k M1 f1 (fun v v0 v1 => ?_)
      have := k1 v v0 v1
      refine ⟨by omega, by omega, fxc_first hn a b k1 (by rw [z2]; exact z3) v v0 v1⟩
    · obtain ⟨z1, z2⟩ := z
      subst z1
      exact ih M1 (by omega) f1 k1
theorem tw_cls237 {F : Int → pM → Prop} {n : Nat} {o : Int} {M : pM} (hn : n ≤ 7) (h8 : FF n o ≤ 800) (h : ∀ v, 0 ≤ v → v < FF n o → -1 ≤ M 280 v ∧ M 280 v ≤ 800 ∧ (M 280 v = v ↔ mnl n o v)) (k : F (cnt (mnB n o) 0 (FF n o).toNat) M) : ∀ (m c : Nat), (c : Int) + m = FF n o → wX6_classes_237 X F (FF n o) (cnt (mnB n o) 0 c) c S M := by
  have hF := FF_bd hn o
  intro m
  induction m with
  | zero =>
    intro c q1
    refine bX6_classes_237 ?_
    ((repeat' (first | (with_reducible apply And.intro) | (with_reducible intro _ e; subst e) | (with_reducible intro _))) <;> (try (first | omega | (with_reducible assumption))))
    rw [show (FF n o).toNat = c by omega] at k
    exact k
  | succ m ih =>
    intro c q1
    have hc := h c (by omega) (by omega)
    have nxt := ih (c + 1) (by omega)
    rw [cnt_snoc, Int.zero_add, Int.natCast_succ] at nxt
    refine bX6_classes_237 ?_
    ((repeat' (first | (with_reducible apply And.intro) | (with_reducible intro _ e; subst e) | (with_reducible intro _))) <;> (try (first | omega | (with_reducible assumption))))
    · refine bX6_classes_262 ?_
      rw [mnB_f (fun z => by have := hc.2.2.2 z; omega)] at nxt
      exact nxt
    · refine bX6_classes_262 ?_
      rw [mnB_t (hc.2.2.1 (by omega))] at nxt
      exact nxt
theorem tw_classes_op {F : Int → pM → Prop} {n o : Int} {M : pM} (hn : inR n) (ho : inR o) (tt : TT M) (k : ∀ M', frT M M' → TT M' → F (q_classes n o) M') : pNi true X mX6_classes 5 [pR 241, pI n, pI o] S M F := by
  refine eX6_classes (bX6_classes_0 (tw_isOrder hn ho (fun N h2 h7 e a b => ?_) (fun hno => ?_)))
  · subst e
    have hf := fac_le h7
    have hO := isO_nat h2 h7 a b
    have hF := FF_bd h7 o
    ((repeat' (first | (with_reducible apply And.intro) | (with_reducible intro _ e; subst e) | (with_reducible intro _))) <;> (try (first | omega | (with_reducible assumption))))
    refine tw_layT h2 h7 tt (fun M1 f1 t1 => ?_)
    rw [t1.2.2.2.2.2.2 o a b]
    ((repeat' (first | (with_reducible apply And.intro) | (with_reducible intro _ e; subst e) | (with_reducible intro _))) <;> (try (first | omega | (with_reducible assumption))))
    · refine tw_graph h2 h7 a b (by omega) t1 (fun M2 f2 g2 => ?_)
      have t2 : TabT N M2 := t1.fr (by rw [f2 241 (by decide) (by decide) (by decide)]) (by rw [f2 241 (by decide) (by decide) (by decide)]) (fun x p q => f2 x (by omega) (by omega) (by omega))
      rw [t2.2.2.2.2.2.2 o a b]
      ((repeat' (first | (with_reducible apply And.intro) | (with_reducible intro _ e; subst e) | (with_reducible intro _))) <;> (try (first | omega | (with_reducible assumption))))
      have loop : ∀ (m : Nat) (i : Int), i + m = FF N o → 0 ≤ i → wX6_classes_49 X F (FF N o) i S (ovr M2 280 0 i (fun j => j)) := by
        intro m
        induction m with
        | zero =>
          intro i q1 q2
          have e : i = FF N o := by omega
          subst e
          refine bX6_classes_49 ?_
          ((repeat' (first | (with_reducible apply And.intro) | (with_reducible intro _ e; subst e) | (with_reducible intro _))) <;> (try (first | omega | (with_reducible assumption))))
          have ki : KI N o (ovr M2 280 0 (FF N o) (fun j => j) 280) := fun v p q => by
            rw [ovr_in p q]
            exact ⟨p, Int.le_refl _, con_refl⟩
          refine tw_cls73 (M0 := M2) h7 a b (by omega) g2 (fun M3 f3 h3 => ?_) (sm (ovr M2 280 0 (FF N o) (fun j => j) 280) 0 (FF N o).toNat + 1).toNat _ ?_ (fun x hx => ovr_ne hx) ki
          · have := tw_cls237 (F := F) (X := X) (S := S) (M := M3) h7 (by omega) h3 (by
              have := k M3 (f1.trans ⟨fun x h => by rw [f3 x (by omega), f2 x (by omega) (by omega) (by omega)], fun j _ => by rw [f3 241 (by decide), f2 241 (by decide) (by decide) (by decide)]⟩) ((t2.fr (by rw [f3 241 (by decide)]) (by rw [f3 241 (by decide)]) (fun x p q => f3 x (by omega))).T h2 h7)
              unfold q_classes at this
              rw [Int.toNat_natCast, if_pos hO, if_neg (by omega)] at this
              exact this) (FF N o).toNat 0 (by omega)
            exact this
          · have := sm_nn' (f := ovr M2 280 0 (FF N o) (fun j => j) 280) (FF N o).toNat 0 (fun j p q => (ki j p (by omega)).1)
            omega
        | succ m ih =>
          intro i q1 q2
          refine bX6_classes_49 ?_
          ((repeat' (first | (with_reducible apply And.intro) | (with_reducible intro _ e; subst e) | (with_reducible intro _))) <;> (try (first | omega | (with_reducible assumption))))
          rw [ovr_step (by omega) rfl]
          exact ih (i + 1) (by omega) (by omega)
      have := loop (FF N o).toNat 0 (by omega) (by omega)
      rwa [ovr_nil (by omega)] at this
    · have := k M1 f1 (t1.T h2 h7)
      unfold q_classes at this
      rw [Int.toNat_natCast, if_pos hO, if_pos (by omega)] at this
      exact this
  · ((repeat' (first | (with_reducible apply And.intro) | (with_reducible intro _ e; subst e) | (with_reducible intro _))) <;> (try (first | omega | (with_reducible assumption))))
    have := k M (frT.refl _) tt
    unfold q_classes at this
    rw [if_neg hno] at this
    exact this
end
