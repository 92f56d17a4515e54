/-! ===== classes of least ladders: what they are ===== -/
set_option maxRecDepth 100000
theorem apt_comm {a b : Int} : apt a b = apt b a := by unfold apt; split <;> split <;> omega
theorem slW_len {w : List Int} {i : Int} : (slW w i).length = w.length := by unfold slW; rw [seg_len]
theorem slW_slW {w : List Int} {i : Int} (h1 : 0 ≤ i) (h2 : i + 1 < w.length) : slW (slW w i) i = w := by
  refine list_ext (by rw [slW_len, slW_len]) (fun x a b => ?_)
  rw [slW_len, slW_len] at b
  rw [at0_slW a (by rw [slW_len]; exact b)]
  unfold slf
  by_cases c : x = i
  · rw [if_pos c, at0_slW (by omega) (by omega)]
    unfold slf
    rw [if_neg (by omega), if_pos rfl, c]
  · rw [if_neg c]
    by_cases d : x = i + 1
    · rw [if_pos d, at0_slW (by omega) (by omega)]
      unfold slf
      rw [if_pos rfl, d]
    · rw [if_neg d, at0_slW a b]
      unfold slf
      rw [if_neg c, if_neg d]
theorem sld_sym {n : Nat} {o u v i : Int} (a : 0 ≤ o) (b : o < fac n) (u0 : 0 ≤ u) (u1 : u < FF n o) (i0 : 0 ≤ i) (h : sld n o u i = v) (v0 : 0 ≤ v) : sld n o v i = u ∧ v < FF n o := by
  have hw := wd_ok a b u0 u1
  have hl := vld_len hw.1
  have hb := (sld_bd (i := i) a b u0 u1 i0).2
  unfold sld at h
  split at h
  · rename_i c
    have h2 : i + 1 < (wd n o u).length := by omega
    have sv := slW_vld hw.1 i0 h2 c.2
    have e := wd_of a b sv
    rw [h] at e
    refine ⟨?_, by rw [← h]; exact (rnk_bd a b sv).2⟩
    unfold sld
    rw [e, at0_slW i0 (by omega), at0_slW (by omega) h2]
    have g1 : slf (at0 (wd n o u)) i i = at0 (wd n o u) (i + 1) := by unfold slf; rw [if_pos rfl]
    have g2 : slf (at0 (wd n o u)) i (i + 1) = at0 (wd n o u) i := by unfold slf; rw [if_neg (by omega), if_pos rfl]
    rw [g1, g2, if_pos ⟨c.1, by rw [apt_comm]; exact c.2⟩, slW_slW i0 h2, hw.2]
  · omega
/-- a slide leads u to v -/
def sle (n : Nat) (o u v : Int) : Prop := 0 ≤ u ∧ u < FF n o ∧ 0 ≤ v ∧ v < FF n o ∧ ∃ i : Int, 0 ≤ i ∧ sld n o u i = v
theorem sle_sym {n : Nat} {o u v : Int} (a : 0 ≤ o) (b : o < fac n) (h : sle n o u v) : sle n o v u := by
  obtain ⟨h1, h2, h3, h4, i, h5, h6⟩ := h
  exact ⟨h3, h4, h1, h2, i, h5, (sld_sym a b h1 h2 h5 h6 h3).1⟩
def cn (n : Nat) (o u : Int) : Nat → Int → Prop
  | 0, v => u = v
  | m + 1, v => ∃ x, cn n o u m x ∧ sle n o x v
def con (n : Nat) (o u v : Int) : Prop := ∃ m, cn n o u m v
theorem con_refl {n : Nat} {o u : Int} : con n o u u := ⟨0, rfl⟩
theorem con_step {n : Nat} {o u x v : Int} (h : con n o u x) (e : sle n o x v) : con n o u v := by
  obtain ⟨m, h⟩ := h
  exact ⟨m + 1, x, h, e⟩
theorem con_trans {n : Nat} {o u x v : Int} (h : con n o u x) (e : con n o x v) : con n o u v := by
  obtain ⟨m, e⟩ := e
  induction m generalizing v with
  | zero =>
    have e : x = v := e
    subst e
    exact h
  | succ m ih =>
    obtain ⟨y, e1, e2⟩ := e
    exact con_step (ih e1) e2
theorem con_sym {n : Nat} {o u v : Int} (a : 0 ≤ o) (b : o < fac n) (h : con n o u v) : con n o v u := by
  obtain ⟨m, h⟩ := h
  induction m generalizing v with
  | zero =>
    have h : u = v := h
    subst h
    exact con_refl
  | succ m ih =>
    obtain ⟨y, e1, e2⟩ := h
    exact con_trans (con_step con_refl (sle_sym a b e2)) (ih e1)
theorem con_bd {n : Nat} {o u v : Int} (h : con n o u v) (u0 : 0 ≤ u) (u1 : u < FF n o) : 0 ≤ v ∧ v < FF n o := by
  obtain ⟨m, h⟩ := h
  cases m with
  | zero =>
    have h : u = v := h
    subst h
    exact ⟨u0, u1⟩
  | succ m =>
    obtain ⟨y, e1, e2⟩ := h
    exact ⟨e2.2.2.1, e2.2.2.2.1⟩
/-- the first of its class -/
def mnl (n : Nat) (o v : Int) : Prop := ∀ u, 0 ≤ u → u < v → ¬ con n o u v
noncomputable def mnB (n : Nat) (o v : Int) : Bool := @decide (mnl n o v) (Classical.propDecidable _)
theorem mnB_t {n : Nat} {o v : Int} (h : mnl n o v) : mnB n o v = true := by unfold mnB; exact @decide_eq_true _ (Classical.propDecidable _) h
theorem mnB_f {n : Nat} {o v : Int} (h : ¬ mnl n o v) : mnB n o v = false := by unfold mnB; exact @decide_eq_false _ (Classical.propDecidable _) h
theorem cnt_snoc {p : Int → Bool} : ∀ (m : Nat) (i : Int), cnt p i (m + 1) = cnt p i m + (if p (i + m) then 1 else 0)
  | 0, i => by simp [cnt]
  | m + 1, i => by
    rw [cnt, cnt_snoc m (i + 1), cnt]
    rw [show i + 1 + (m : Int) = i + ((m + 1 : Nat) : Int) by omega]
    omega
/-- labels that are of their class, no greater than what they label, and alike along slides, are the firsts -/
theorem lab_first {n : Nat} {o : Int} {f : Int → Int} (a : 0 ≤ o) (b : o < fac n) (h1 : ∀ v, 0 ≤ v → v < FF n o → 0 ≤ f v ∧ f v ≤ v ∧ con n o (f v) v) (h2 : ∀ u v, sle n o u v → f u = f v) : ∀ v, 0 ≤ v → v < FF n o → (f v = v ↔ mnl n o v) := by
  have al : ∀ u v, con n o u v → f u = f v := by
    intro u v h
    obtain ⟨m, h⟩ := h
    induction m generalizing v with
    | zero =>
      have h : u = v := h
      rw [h]
    | succ m ih =>
      obtain ⟨y, e1, e2⟩ := h
      rw [ih y e1]
      exact h2 y v e2
  intro v v0 v1
  obtain ⟨q1, q2, q3⟩ := h1 v v0 v1
  constructor
  · intro e u u0 u1 c
    have := al u v c
    have := (h1 u u0 (by omega)).2.1
    omega
  · intro m
    by_cases c : f v < v
    · exact absurd q3 (m _ q1 c)
    · omega
theorem idv_eq {u v : Int} (h1 : 0 ≤ u) (h2 : u < 2147483648) (h3 : 0 < v) (h4 : v < 2147483648) : idv u v = u / v := by
  unfold idv
  rw [Int32.toInt_div, i32_toInt ⟨by omega, by omega⟩, i32_toInt ⟨by omega, by omega⟩, Int.tdiv_eq_ediv_of_nonneg h1]
  have a1 := Int.ediv_nonneg h1 (Int.le_of_lt h3)
  have a2 := Int.ediv_le_self v h1
  rw [Int.bmod_eq_of_le] <;> omega
noncomputable def q_classes (n o : Int) : Int := @ite _ (isO n o) (Classical.propDecidable _) (if 800 < FF n.toNat o then -2 else cnt (mnB n.toNat o) 0 (FF n.toNat o).toNat) (-1)
