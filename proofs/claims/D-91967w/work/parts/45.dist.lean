/-! ===== distances ===== -/
set_option maxRecDepth 100000
/-- a walk of m steps from s to v, that costs c -/
def wlk (E : Int → Int → Int → Prop) (s : Int) : Nat → Int → Int → Prop
  | 0, v, c => v = s ∧ c = 0
  | m + 1, v, c => ∃ u w c', wlk E s m u c' ∧ E u v w ∧ c = c' + w
/-- f is the distance from s, where there is a walk -/
def dst (E : Int → Int → Int → Prop) (s : Int) (f : Int → Int) : Prop := ∀ m v c, wlk E s m v c → f v ≤ c ∧ ∃ m', wlk E s m' v (f v)
theorem dst_uni {E : Int → Int → Int → Prop} {s : Int} {f g : Int → Int} (hf : dst E s f) (hg : dst E s g) {m : Nat} {v c : Int} (h : wlk E s m v c) : f v = g v := by
  obtain ⟨f1, m1, f2⟩ := hf m v c h
  obtain ⟨g1, m2, g2⟩ := hg m v c h
  have := (hf m2 v _ g2).1
  have := (hg m1 v _ f2).1
  omega
/-- what is right at its start and does not give way along the edges is the distance -/
theorem dst_of {E : Int → Int → Int → Prop} {s : Int} {f : Int → Int} (fin : Int → Prop) (h0 : fin s ∧ f s = 0) (hs : ∀ v, fin v → ∃ m, wlk E s m v (f v)) (hx : ∀ u v w, fin u → E u v w → fin v ∧ f v ≤ f u + w) : (∀ m v c, wlk E s m v c → fin v) ∧ dst E s f := by
  have key : ∀ m v c, wlk E s m v c → fin v ∧ f v ≤ c := by
    intro m
    induction m with
    | zero =>
      intro v c h
      obtain ⟨h1, h2⟩ := h
      subst h1
      subst h2
      exact ⟨h0.1, by omega⟩
    | succ m ih =>
      intro v c h
      obtain ⟨u, w, c', h1, h2, h3⟩ := h
      obtain ⟨q1, q2⟩ := ih u c' h1
      obtain ⟨q3, q4⟩ := hx u v w q1 h2
      exact ⟨q3, by omega⟩
  exact ⟨fun m v c h => (key m v c h).1, fun m v c h => ⟨(key m v c h).2, hs v (key m v c h).1⟩⟩
/-- how many of i .. i+m-1 are so -/
def cnt (p : Int → Bool) (i : Int) : Nat → Int
  | 0 => 0
  | m + 1 => (if p i then 1 else 0) + cnt p (i + 1) m
theorem cnt_bd {p : Int → Bool} : ∀ (m : Nat) (i : Int), 0 ≤ cnt p i m ∧ cnt p i m ≤ m
  | 0, _ => by simp [cnt]
  | m + 1, i => by have := cnt_bd (p := p) m (i + 1); simp only [cnt]; split <;> omega
theorem cnt_congr {p q : Int → Bool} : ∀ (m : Nat) (i : Int), (∀ j, i ≤ j → j < i + m → p j = q j) → cnt p i m = cnt q i m
  | 0, _, _ => rfl
  | m + 1, i, h => by simp only [cnt]; rw [h i (by omega) (by omega), cnt_congr m (i + 1) (fun j a b => h j (by omega) (by omega))]
/-- one more -/
theorem cnt_add {p q : Int → Bool} {x : Int} (hp : p x = false) (hq : q x = true) (ho : ∀ j, j ≠ x → q j = p j) : ∀ (m : Nat) (i : Int), i ≤ x → x < i + m → cnt q i m = cnt p i m + 1
  | 0, i, h1, h2 => by omega
  | m + 1, i, h1, h2 => by
    simp only [cnt]
    by_cases e : i = x
    · subst e
      rw [hp, hq, cnt_congr (p := q) (q := p) m (i + 1) (fun j a b => ho j (by omega))]
      simp
      omega
    · rw [ho i e, cnt_add hp hq ho m (i + 1) (by omega) (by omega)]
      omega
theorem cnt_full {p : Int → Bool} {x : Int} (hp : p x = false) : ∀ (m : Nat) (i : Int), i ≤ x → x < i + m → cnt p i m ≤ m - 1
  | 0, i, h1, h2 => by omega
  | m + 1, i, h1, h2 => by
    simp only [cnt]
    by_cases e : i = x
    · subst e
      rw [hp]
      have := cnt_bd (p := p) m (i + 1)
      simp
      omega
    · have := cnt_full hp m (i + 1) (by omega) (by omega)
      split <;> omega
/-- the edges between least ladders -/
def EG (n : Nat) (o sl u v w : Int) : Prop := 0 ≤ u ∧ u < FF n o ∧ 0 ≤ v ∧ ((∃ i : Int, 0 ≤ i ∧ i + 1 < iv n o ∧ sld n o u i = v ∧ w = sl) ∨ (∃ i : Int, 0 ≤ i ∧ i + 1 < iv n o ∧ trn n o u i = v ∧ w = 1))
theorem at0_app {a b : List Int} {j : Int} (h : 0 ≤ j) : at0 (a ++ b) (a.length + j) = at0 b j := by
  unfold at0
  rw [List.getD_eq_getElem?_getD, List.getD_eq_getElem?_getD, List.getElem?_append_right (by omega)]
  congr 2
  omega
theorem list_ext {l l' : List Int} (hl : l.length = l'.length) (h : ∀ x : Int, 0 ≤ x → x < l.length → at0 l x = at0 l' x) : l = l' := by
  rw [← seg_at0 l, ← seg_at0 l', ← hl]
  exact seg_congr _ 0 (fun j a b => h j a (by omega))
theorem slW_eq {a b : List Int} {k l : Int} : slW (a ++ k :: l :: b) a.length = a ++ l :: k :: b ∧ at0 (a ++ k :: l :: b) a.length = k ∧ at0 (a ++ k :: l :: b) (a.length + 1) = l := by
  have hlen : (a ++ k :: l :: b).length = a.length + b.length + 2 := by simp only [List.length_append, List.length_cons]; omega
  have e := seg_at0 (a ++ k :: l :: b)
  rw [seg_split2 (i := (a.length : Int)) (by omega) (by omega)] at e
  obtain ⟨e1, e2⟩ := List.append_inj e (by rw [seg_len]; omega)
  injection e2 with e3 e4
  injection e4 with e5 e6
  refine ⟨?_, e3, e5⟩
  unfold slW
  generalize a ++ k :: l :: b = w at *
  rw [seg_split2 (f := slf (at0 w) a.length) (i := (a.length : Int)) (by omega) (by omega)]
  have g1 : slf (at0 w) a.length a.length = at0 w (a.length + 1) := by unfold slf; rw [if_pos rfl]
  have g2 : slf (at0 w) a.length (a.length + 1) = at0 w a.length := by unfold slf; rw [if_neg (by omega), if_pos rfl]
  rw [g1, g2, seg_congr (f := slf (at0 w) a.length) (g := at0 w) _ 0 (fun x a b => by unfold slf; rw [if_neg (by omega), if_neg (by omega)]), seg_congr (f := slf (at0 w) a.length) (g := at0 w) _ (a.length + 2) (fun x a b => by unfold slf; rw [if_neg (by omega), if_neg (by omega)]), e1, e3, e5, e6]
theorem tnW_eq {a b : List Int} {k l : Int} : tnW (a ++ k :: l :: k :: b) a.length = a ++ l :: k :: l :: b ∧ at0 (a ++ k :: l :: k :: b) a.length = k ∧ at0 (a ++ k :: l :: k :: b) (a.length + 1) = l ∧ at0 (a ++ k :: l :: k :: b) (a.length + 2) = k := by
  have hlen : (a ++ k :: l :: k :: b).length = a.length + b.length + 3 := by simp only [List.length_append, List.length_cons]; omega
  have e := seg_at0 (a ++ k :: l :: k :: b)
  rw [seg_split3 (i := (a.length : Int)) (by omega) (by omega)] at e
  obtain ⟨e1, e2⟩ := List.append_inj e (by rw [seg_len]; omega)
  injection e2 with e3 e4
  injection e4 with e5 e6
  injection e6 with e7 e8
  refine ⟨?_, e3, e5, e7⟩
  unfold tnW
  generalize a ++ k :: l :: k :: b = w at *
  rw [seg_split3 (f := tnf (at0 w) a.length) (i := (a.length : Int)) (by omega) (by omega)]
  have g1 : tnf (at0 w) a.length a.length = at0 w (a.length + 1) := by unfold tnf; rw [if_pos rfl]
  have g2 : tnf (at0 w) a.length (a.length + 1) = at0 w a.length := by unfold tnf; rw [if_neg (by omega), if_pos rfl]
  have g3 : tnf (at0 w) a.length (a.length + 2) = at0 w (a.length + 1) := by unfold tnf; rw [if_neg (by omega), if_neg (by omega), if_pos rfl]
  rw [g1, g2, g3, seg_congr (f := tnf (at0 w) a.length) (g := at0 w) _ 0 (fun x a b => by unfold tnf; rw [if_neg (by omega), if_neg (by omega), if_neg (by omega)]), seg_congr (f := tnf (at0 w) a.length) (g := at0 w) _ (a.length + 3) (fun x a b => by unfold tnf; rw [if_neg (by omega), if_neg (by omega), if_neg (by omega)]), e1, e3, e5, e8]
/-- a step between least ladders is an edge between their ranks -/
theorem stp_edge {n : Nat} {o sl : Int} (a : 0 ≤ o) (b : o < fac n) {w w' : List Int} (h : vld n o w) (s : stp w w') : vld n o w' ∧ ∃ c, EG n o sl (rnk n o w) (rnk n o w') c := by
  obtain ⟨p, q, k, l, s⟩ := s
  have hb := rnk_bd a b h
  have hw := wd_of a b h
  have hlen := vld_len h
  rcases s with ⟨s1, s2, s3⟩ | ⟨s1, s2, s3⟩
  · subst s2
    subst s3
    have v' := slide_vld h s1
    have hb' := rnk_bd a b v'
    obtain ⟨e1, e2, e3⟩ := slW_eq (a := p) (b := q) (k := k) (l := l)
    simp only [List.length_append, List.length_cons] at hlen
    refine ⟨v', sl, hb.1, hb.2, hb'.1, Or.inl ⟨p.length, by omega, by omega, ?_, rfl⟩⟩
    unfold sld
    rw [hw, e1, e2, e3, if_pos ⟨by omega, by unfold apt; split <;> omega⟩]
  · subst s2
    subst s3
    have v' := turn_vld h s1
    have hb' := rnk_bd a b v'
    obtain ⟨e1, e2, e3, e4⟩ := tnW_eq (a := p) (b := q) (k := k) (l := l)
    simp only [List.length_append, List.length_cons] at hlen
    refine ⟨v', 1, hb.1, hb.2, hb'.1, Or.inr ⟨p.length, by omega, by omega, ?_, rfl⟩⟩
    unfold trn
    rw [hw, e1, e2, e3, e4, if_pos ⟨by omega, rfl, by unfold apt; split <;> omega⟩]
theorem conn {n : Nat} {o sl u v : Int} (hn : n ≤ 7) (a : 0 ≤ o) (b : o < fac n) (u0 : 0 ≤ u) (u1 : u < FF n o) (v0 : 0 ≤ v) (v1 : v < FF n o) : ∃ m c, wlk (EG n o sl) u m v c := by
  have hu := wd_ok a b u0 u1
  have hv := wd_ok a b v0 v1
  obtain ⟨c, hc⟩ := mats hn _ o _ _ a b rfl hu.1 hv.1
  have gen : ∀ (c : Nat) (w' : List Int), chn c (wd n o u) w' → vld n o w' ∧ ∃ m d, wlk (EG n o sl) u m (rnk n o w') d := by
    intro c
    induction c with
    | zero =>
      intro w' h
      have h : wd n o u = w' := h
      subst h
      exact ⟨hu.1, 0, 0, hu.2, rfl⟩
    | succ c ih =>
      intro w' h
      obtain ⟨x, x1, x2⟩ := h
      obtain ⟨y1, m, d, y2⟩ := ih x x1
      obtain ⟨z1, e, z2⟩ := stp_edge (sl := sl) a b y1 x2
      exact ⟨z1, m + 1, d + e, _, e, d, y2, z2, rfl⟩
  obtain ⟨_, m, d, h⟩ := gen c _ hc
  rw [hv.2] at h
  exact ⟨m, d, h⟩
