/-! ===== both tell the same: step by step ===== -/
set_option maxRecDepth 100000
theorem cap_add {a b : Int} (h : 0 ≤ a) (hb : 0 ≤ b) : cap5 (cap5 a + b) = cap5 (a + b) := by unfold cap5; omega
theorem cap_mul {a b : Int} {t : Nat} (ha : 0 ≤ a) (hb : 0 ≤ b) : cap5 (cap5 a + cap5 b * t) = cap5 (a + b * t) := by
  by_cases c : b ≤ 100000
  · have e : cap5 b = b := by unfold cap5; omega
    rw [e, cap_add ha (Int.mul_nonneg hb (by omega))]
  · have e : cap5 b = 100000 := by unfold cap5; omega
    rw [e]
    cases t with
    | zero => unfold cap5; simp
    | succ t =>
      have h1 : (100000 : Int) * ((t + 1 : Nat) : Int) ≤ b * ((t + 1 : Nat) : Int) := Int.mul_le_mul_of_nonneg_right (by omega) (by omega)
      generalize b * ((t + 1 : Nat) : Int) = y at h1
      unfold cap5
      omega
theorem rep_one (L : List elt) : rep L 1 = L := by show L ++ [] = L; rw [List.append_nil]
theorem take_pre {A B : List elt} {n : Nat} : (A.take n ++ B).take n = (A ++ B).take n := by
  by_cases h : A.length ≤ n
  · rw [List.take_of_length_le h]
  · rw [List.take_append_of_le_length (by rw [List.length_take]; omega), List.take_take, List.take_append_of_le_length (by omega), Nat.min_self]
theorem take_app2 {A B : List elt} {n : Nat} : (A ++ B.take n).take n = (A ++ B).take n := by
  rw [List.take_append, List.take_append, List.take_take, Nat.min_eq_left (by omega)]
theorem take_rep {A X : List elt} {n t : Nat} : (A.take n ++ rep (X.take n) t).take n = (A ++ rep X t).take n := by
  rw [take_pre]
  by_cases h : X.length ≤ n
  · rw [List.take_of_length_le h]
  · cases t with
    | zero => rfl
    | succ t =>
      show (A ++ (X.take n ++ rep (X.take n) t)).take n = (A ++ (X ++ rep X t)).take n
      have a : ∀ R : List elt, (A ++ (X.take n ++ R)).take n = (A ++ X).take n := fun R => by
        have e : (A ++ (X.take n ++ R)).take n = (A ++ (X.take n ++ R).take n).take n := take_app2.symm
        rw [e, take_pre, show (X ++ R).take n = X.take n from List.take_append_of_le_length (by omega), take_app2]
      have b : ∀ R : List elt, (A ++ (X ++ R)).take n = (A ++ X).take n := fun R => by
        have e : (A ++ (X ++ R)).take n = (A ++ (X ++ R).take n).take n := take_app2.symm
        rw [e, show (X ++ R).take n = X.take n from List.take_append_of_le_length (by omega), take_app2]
      rw [a, b]
/-- what a list stands for -/
def SR (n : Int) (z : Prop) (s : sps) (X : List elt) : Prop := s.2.1 = cap5 X.length ∧ s.2.2 = cap5 (mb X) ∧ (z → s.1 = X.take 200 ∧ ∀ e ∈ X, okE n e)
theorem SR.mono {n : Int} {z z' : Prop} {s : sps} {X : List elt} (h : SR n z s X) (i : z' → z) : SR n z' s X := ⟨h.1, h.2.1, fun c => h.2.2 (i c)⟩
theorem SR.em {n : Int} {z : Prop} : SR n z emS [] := ⟨rfl, rfl, fun _ => ⟨rfl, fun e he => by cases he⟩⟩
theorem SR.lg {n : Int} {z : Prop} {s : sps} {X : List elt} (h : SR n z s X) : lgB s = lgT (putL [] X) := by
  obtain ⟨h1, h2, _⟩ := h
  have m := mb_bd X
  unfold lgB lgT putL
  rw [h1, h2, List.nil_append]
  by_cases c : X.length ≤ 201
  · rw [List.take_of_length_le c]
    congr 1
    unfold cap5
    apply propext
    constructor <;> omega
  · have l : (X.take 201).length = 201 := by rw [List.length_take]; omega
    rw [decide_eq_true (show 200 < cap5 X.length ∨ _ from Or.inl (by unfold cap5; omega)), decide_eq_true (Or.inl (by omega))]
theorem SR.add {n : Int} {z z' : Prop} {s : sps} {X : List elt} {e e' : elt} (h : SR n z s X) (i : z' → z ∧ e = e' ∧ okE n e') (hk : e.1 = e'.1) : SR n z' (addS s e) (X ++ [e']) := by
  obtain ⟨h1, h2, h3⟩ := h
  have m := mb_bd X
  refine ⟨?_, ?_, fun c => ?_⟩
  · show cap5 (s.2.1 + 1) = _
    rw [h1, List.length_append, List.length_cons, List.length_nil]
    unfold cap5; omega
  · show (if e.1 = 3 then cap5 (s.2.2 + 1) else s.2.2) = _
    rw [h2, mb_app, mb_one, hk]
    split
    · unfold cap5; omega
    · rw [Int.add_zero]
  · obtain ⟨i1, i2, i3⟩ := i c
    obtain ⟨g1, g2⟩ := h3 i1
    refine ⟨?_, fun x hx => ?_⟩
    · show (if s.1.length < 200 then s.1 ++ [e] else s.1) = _
      rw [g1, i2, ← take_pre, List.length_take]
      split
      · exact (List.take_of_length_le (by rw [List.length_append, List.length_cons, List.length_nil, List.length_take]; omega)).symm
      · rw [List.take_append_of_le_length (by rw [List.length_take]; omega), List.take_take, Nat.min_self]
    · rcases List.mem_append.1 hx with w | w
      · exact g2 x w
      · rw [List.mem_singleton.1 w]; exact i3
theorem rep_mem {L : List elt} {x : elt} : ∀ {t : Nat}, x ∈ rep L t → x ∈ L
  | 0, h => by cases h
  | t + 1, h => by
    rcases List.mem_append.1 h with w | w
    · exact w
    · exact rep_mem w
theorem SR.adA {n : Int} {z : Prop} {s o : sps} {X A : List elt} {t : Int} (h : SR n z s X) (g : SR n z o A) (ht : 0 ≤ t) : SR n z (adAS s o t) (X ++ rep A t.toNat) := by
  obtain ⟨h1, h2, h3⟩ := h
  obtain ⟨g1, g2, g3⟩ := g
  have m := mb_bd X
  have m' := mb_bd A
  have et : t = ((t.toNat : Nat) : Int) := by omega
  refine ⟨?_, ?_, fun c => ⟨?_, fun x hx => ?_⟩⟩
  · show cap5 (s.2.1 + o.2.1 * t) = _
    rw [h1, g1, List.length_append, Int.natCast_add, rep_len]
    generalize t.toNat = k at et
    rw [et]
    exact cap_mul (by omega) (by omega)
  · show cap5 (s.2.2 + o.2.2 * t) = _
    rw [h2, g2, mb_app, rep_mb]
    generalize t.toNat = k at et
    rw [et]
    exact cap_mul m.1 m'.1
  · show (s.1 ++ rep o.1 t.toNat).take 200 = _
    rw [(h3 c).1, (g3 c).1, take_rep]
  · rcases List.mem_append.1 hx with w | w
    · exact (h3 c).2 x w
    · exact (g3 c).2 x (rep_mem w)
/-- the brackets not yet shut -/
def FR (Ts : List tok) (n : Int) (z : Prop) (pts : List (Int × List elt)) (tl : List elt) (a : Nat) (ip : Bool) : List elt → List (Int × Nat × sps) → List (Int × Nat) → Prop
  | T, [], [] => T = [] ∧ ip = false
  | T, fr :: st, fr' :: st' => (fr.1 = -1 ∧ fr'.1 = -1 ∧ st = [] ∧ st' = [] ∧ T = [] ∧ fr'.2 = fr.2.1 ∧ fr.2.1 = a + 1 ∧ ip = true ∧ (z → fdL pts (tV Ts fr.2.1) = none) ∧ lgT tl = false ∧ ∃ Y, SR n z fr.2.2 Y ∧ tl = putL [] Y) ∨ (0 ≤ fr.1 ∧ fr'.1 = fr.1 ∧ fr'.2 = (putL [] T).length ∧ (st = [] → fr.2.1 = a) ∧ ∃ Y T0, T = T0 ++ Y ∧ SR n z fr.2.2 Y ∧ FR Ts n z pts tl a ip T0 st st')
  | _, _, _ => False
theorem FR.mono {Ts : List tok} {n : Int} {z z' : Prop} {pts : List (Int × List elt)} {tl : List elt} {a : Nat} {ip : Bool} (i : z' → z) : ∀ {T : List elt} {st : List (Int × Nat × sps)} {st' : List (Int × Nat)}, FR Ts n z pts tl a ip T st st' → FR Ts n z' pts tl a ip T st st'
  | _, [], [], h => h
  | _, _ :: st, _ :: st', Or.inl ⟨h1, h2, h3, h4, h5, h6, h7, h8, h9, h10, Y, h11, h12⟩ => Or.inl ⟨h1, h2, h3, h4, h5, h6, h7, h8, fun c => h9 (i c), h10, Y, h11.mono i, h12⟩
  | _, _ :: st, _ :: st', Or.inr ⟨h1, h2, h3, h4, Y, T0, h5, h6, h7⟩ => Or.inr ⟨h1, h2, h3, h4, Y, T0, h5, h6.mono i, FR.mono i h7⟩
theorem FR.len {Ts : List tok} {n : Int} {z : Prop} {pts : List (Int × List elt)} {tl : List elt} {a : Nat} {ip : Bool} : ∀ {T : List elt} {st : List (Int × Nat × sps)} {st' : List (Int × Nat)}, FR Ts n z pts tl a ip T st st' → st.length = st'.length
  | _, [], [], h => rfl
  | _, _ :: st, _ :: st', Or.inl ⟨h1, h2, h3, h4, _⟩ => by rw [h3, h4]; rfl
  | _, _ :: st, _ :: st', Or.inr ⟨h1, h2, h3, h4, Y, T0, h5, h6, h7⟩ => by rw [List.length_cons, List.length_cons, FR.len h7]
theorem FR.nil {Ts : List tok} {n : Int} {z : Prop} {pts : List (Int × List elt)} {tl : List elt} {a : Nat} {ip : Bool} {T : List elt} {st' : List (Int × Nat)} (h : FR Ts n z pts tl a ip T [] st') : T = [] ∧ ip = false ∧ st' = [] := by
  cases st' with
  | nil => exact ⟨h.1, h.2, rfl⟩
  | cons x l => exact False.elim h
theorem FR.fs {Ts : List tok} {n : Int} {z : Prop} {pts : List (Int × List elt)} {tl : List elt} {a : Nat} {ip : Bool} {T : List elt} {st : List (Int × Nat × sps)} {st' : List (Int × Nat)} (h : FR Ts n z pts tl a ip T st st') (k : Nat) : FR Ts n z pts tl (fsT k a st') ip T st st' := by
  cases st with
  | nil =>
    obtain ⟨h1, h2, h3⟩ := FR.nil h
    rw [h3]
    exact ⟨h1, h2⟩
  | cons x l =>
    have e : fsT k a st' = a := by
      unfold fsT
      have := h.len
      rw [List.length_cons] at this
      rw [if_neg (by omega)]
    rw [e]; exact h
def PRl (n : Int) (pts : List (Int × sps)) (pts' : List (Int × List elt)) : Prop := ∀ v : Int, (fdP pts v = none ∧ fdL pts' v = none) ∨ ∃ P, fdL pts' v = some P ∧ fdP pts v = some (P, (P.length : Int), mb P) ∧ okL n P
theorem fdP_app {x : Int} {s : sps} {v : Int} : ∀ {pts : List (Int × sps)}, fdP (pts ++ [(x, s)]) v = match fdP pts v with
    | some r => some r
    | none => if x = v then some s else none
  | [] => rfl
  | (y, r) :: l => by
    show (if y = v then some r else fdP (l ++ [(x, s)]) v) = match (if y = v then some r else fdP l v) with
      | some r => some r
      | none => if x = v then some s else none
    by_cases c : y = v
    · rw [if_pos c, if_pos c]
    · rw [if_neg c, if_neg c]; exact fdP_app
theorem fdL_ap {x : Int} {s : List elt} {v : Int} : ∀ {pts : List (Int × List elt)}, fdL (pts ++ [(x, s)]) v = if x = v then some s else fdL pts v
  | [] => rfl
  | (y, r) :: l => by
    show (match fdL (l ++ [(x, s)]) v with
      | some r => some r
      | none => if y = v then some r else none) = _
    rw [fdL_ap]
    by_cases c : x = v
    · rw [if_pos c, if_pos c]
    · rw [if_neg c, if_neg c]; rfl
theorem PRl.app {n : Int} {pts : List (Int × sps)} {pts' : List (Int × List elt)} {x : Int} {P : List elt} (h : PRl n pts pts') (hx : fdL pts' x = none) (ok : okL n P) : PRl n (pts ++ [(x, (P, (P.length : Int), mb P))]) (pts' ++ [(x, P)]) := fun v => by
  rw [fdP_app, fdL_ap]
  by_cases c : x = v
  · rw [if_pos c, if_pos c]
    rcases h v with ⟨g, _⟩ | ⟨Q, g, _⟩
    · rw [g]; exact Or.inr ⟨P, rfl, rfl, ok⟩
    · rw [← c, hx] at g; cases g
  · rw [if_neg c, if_neg c]
    rcases h v with ⟨g, g'⟩ | ⟨Q, g, g', g''⟩
    · rw [g]; exact Or.inl ⟨rfl, g'⟩
    · rw [g']; exact Or.inr ⟨Q, g, rfl, g''⟩
def REL (Ts : List tok) (n : Int) (h a : Nat) (cur : sps) (st : List (Int × Nat × sps)) (pts : List (Int × sps)) (w : Int × Int) (L tl : List elt) (ip : Bool) (st' : List (Int × Nat)) (pts' : List (Int × List elt)) (w' : Int × Int) : Prop := ∃ X T, SR n (w.1 = 0) cur X ∧ L = putL T X ∧ FR Ts n (w.1 = 0) pts' tl a ip T st st' ∧ (w.1 = 0 ∨ st ≠ [] → PRl n pts pts') ∧ WR w w' ∧ (w.1 ≠ 0 → w.2 < tP Ts h) ∧ (st = [] → w.1 ≠ 0 ∨ lgT L = false) ∧ (st ≠ [] → a + 1 < h)
theorem chk_ne {Ts : List tok} {ip : Bool} {st : List (Int × Nat)} {a : Nat} {L : List elt} {w : Int × Int} (h : st.length ≠ 0) : chk Ts ip st a L w = w := by
  unfold chk
  rw [if_neg (by rintro ⟨_, c⟩; exact h c)]
theorem stpR {Ts : List tok} {n : Int} {h2 a2 b : Nat} {cur2 : sps} {st : List (Int × Nat × sps)} {pts : List (Int × sps)} {w : Int × Int} {L2 tl X2 T : List elt} {ip : Bool} {st' : List (Int × Nat)} {pts' : List (Int × List elt)} {w' : Int × Int} (sr : SR n (w.1 = 0) cur2 X2) (eL : L2 = putL T X2) (fr : FR Ts n (w.1 = 0) pts' tl a2 ip T st st') (pr : PRl n pts pts') (hw : WR w w') (pl : w.1 ≠ 0 → w.2 < tP Ts h2) (eb : st = [] → b = a2) (ha : tP Ts a2 < tP Ts h2) (hh : st ≠ [] → a2 + 1 < h2) : REL Ts n h2 a2 cur2 st pts (aft Ts st b cur2 w) L2 tl ip st' pts' (chk Ts ip st' a2 L2 w') := by
  cases st with
  | nil =>
    obtain ⟨f1, f2, f3⟩ := FR.nil fr
    rw [f1] at eL
    have ew : chk Ts ip st' a2 L2 w' = wrI (lgB cur2) w' 6 (tP Ts a2) := by
      unfold chk
      rw [if_pos ⟨f2, by rw [f3]; rfl⟩, sr.lg, ← eL]
    rw [ew, eb rfl]
    show REL Ts n h2 a2 cur2 [] pts (wrI (lgB cur2) w 6 (tP Ts a2)) L2 tl ip st' pts' _
    have z : (wrI (lgB cur2) w 6 (tP Ts a2)).1 = 0 → w.1 = 0 := fun c => (wrI_z (by decide) c).2
    refine ⟨X2, [], sr.mono z, eL, ?_, fun _ => pr, hw.wrI, wrI_bd pl ha, fun _ => ?_, fun c => absurd rfl c⟩
    · rw [f3]; exact ⟨rfl, f2⟩
    · cases c : lgB cur2 with
      | true => exact Or.inl (wrI_zw (by decide) rfl)
      | false => right; rw [eL, ← sr.lg]; exact c
  | cons x l =>
    have ew : chk Ts ip st' a2 L2 w' = w' := chk_ne (by have := fr.len; rw [List.length_cons] at this; omega)
    rw [ew]
    exact ⟨X2, T, sr, eL, fr, fun _ => pr, hw, pl, fun c => (by cases c), hh⟩
theorem tm_L {T X : List elt} {t : Int} (ht : 0 ≤ t) : tmL (putL T X) t (putL [] T).length = putL T (rep X t.toNat) := by
  unfold tmL
  by_cases c : t = 0
  · rw [if_pos c, c]
    show (putL T X).take _ = putL T []
    unfold putL
    rw [List.nil_append, List.append_nil, List.length_take, List.take_take, Nat.min_eq_left (by omega)]
    by_cases d : T.length ≤ 201
    · rw [Nat.min_eq_right d, List.take_append_of_le_length (Nat.le_refl _), List.take_of_length_le (Nat.le_refl _), List.take_of_length_le d]
    · rw [Nat.min_eq_left (by omega), List.take_append_of_le_length (by omega)]
  · rw [if_neg c]
    have et : t.toNat = (t.toNat - 1) + 1 := by omega
    rw [et]
    show putL (putL T X) _ = putL T (X ++ rep X (t.toNat - 1))
    rw [← putL_app (L := T) (A := X)]
    by_cases d : (T ++ X).length ≤ 201
    · have e1 : putL T X = T ++ X := by unfold putL; exact List.take_of_length_le d
      have e2 : putL [] T = T := by
        unfold putL
        rw [List.nil_append]
        rw [List.length_append] at d
        exact List.take_of_length_le (by omega)
      rw [e1, e2, List.drop_left]
      rfl
    · have l : (putL T X).length = 201 := by unfold putL; rw [List.length_take]; omega
      have g : ∀ B : List elt, putL (putL T X) B = putL T X := fun B => by
        show (putL T X ++ B).take 201 = putL T X
        rw [List.take_append_of_le_length (by omega), List.take_of_length_le (by omega)]
      rw [g, g]
theorem okE_ch {up tu n : Int} {L : List elt} (h : okL n L) : ∀ e ∈ chL up tu n L, okE n e := (ok_chL h).2.2.2.2
theorem SR.ch {n up tu : Int} {z : Prop} {P : List elt} (h : okL n P) : SR n z (chS up tu n (P, (P.length : Int), mb P)) (chL up tu n P) := by
  have m := mb_bd P
  have l2 := h.2.2.1
  refine ⟨?_, ?_, fun _ => ⟨?_, okE_ch h⟩⟩
  · show (P.length : Int) = _
    rw [chL_len]; unfold cap5; omega
  · show mb P = _
    rw [mb_chL]; unfold cap5; omega
  · show chL up tu n P = _
    rw [List.take_of_length_le (by rw [chL_len]; omega)]
def OUT (n : Int) (o : Ot) : Prop := o.1 = 0 → okL n o.2.2.2
theorem law_go {Ts : List tok} {N n : Int} (t : okT Ts N) (hn : 2 ≤ n ∧ n ≤ 7) : ∀ (f h d m a : Nat) (cur : sps) (st : List (Int × Nat × sps)) (pts : List (Int × sps)) (w : Int × Int) (L tl : List elt) (ip : Bool) (st' : List (Int × Nat)) (pts' : List (Int × List elt)) (w' : Int × Int), okH Ts h → prs Ts f h d m = none → d = st.length → 401 ≤ f + h → REL Ts n h a cur st pts w L tl ip st' pts' w' → sem Ts n f h (cur, st, pts, w) = tsm Ts n f h a (L, tl, ip, st', pts', w') ∧ OUT n (sem Ts n f h (cur, st, pts, w))
  | 0, h, d, m, a, cur, st, pts, w, L, tl, ip, st', pts', w', o, hp, hd, hf, R => by
    have := o.1
    omega
  | f + 1, h, d, m, a, cur, st, pts, w, L, tl, ip, st', pts', w', o, hp, hd, hf, R => by
    have ih := law_go t hn f
    obtain ⟨X, T, sr, eL, fr, pr, hw, pl, top, ha⟩ := R
    by_cases tn : st = [] ∧ w.1 ≠ 0
    · obtain ⟨t1, t2⟩ := tn
      have fr2 := fr
      rw [t1] at fr2 hd
      obtain ⟨f1, f2, f3⟩ := FR.nil fr2
      rw [t1, f3, hw.ne t2, sem_st t t2 (f + 1) h d m cur [] pts o hp hd hf (pl t2) (fun x hx => by cases hx), tsm_st t t2 (f + 1) h d m a L tl ip [] pts' o hp hd hf (pl t2) (fun c => absurd rfl c) (fun x hx => by cases hx)]
      exact ⟨rfl, fun c => absurd c t2⟩
    have pr2 : PRl n pts pts' := pr (by
      by_cases c : st = []
      · exact Or.inl (by by_cases g : w.1 = 0; exact g; exact absurd ⟨c, g⟩ tn)
      · exact Or.inr c)
    have up : ∀ j, h < j → okH Ts j → tP Ts h < tP Ts j := fun j hj oj => t.2.1 h j hj oj.2.1
    have pl2 : ∀ j, h < j → okH Ts j → w.1 ≠ 0 → w.2 < tP Ts j := fun j hj oj c => by have := up j hj oj; have := pl c; omega
    have fa : fsT h a st' ≤ h ∧ (st ≠ [] → fsT h a st' + 1 < h) ∧ (st = [] → h = fsT h a st') := by
      have := fr.len
      unfold fsT
      cases st with
      | nil =>
        rw [if_pos (by rw [← this]; rfl)]
        exact ⟨Nat.le_refl _, fun c => absurd rfl c, fun _ => rfl⟩
      | cons x l =>
        rw [List.length_cons] at this
        have ha := ha (fun c => by cases c)
        rw [if_neg (by omega)]
        exact ⟨by omega, fun _ => ha, fun c => by cases c⟩
    have fp : ∀ j, h < j → okH Ts j → tP Ts (fsT h a st') < tP Ts j := fun j hj oj => t.2.1 _ j (by omega) oj.2.1
    have tv : ∀ j, okH Ts j → 0 ≤ tV Ts j := fun j oj => (t.2.2.2.2.2.2.1 j oj.2.1).1
    rcases no_kd hp with e | e | e | e | e | e | e
    · rw [kd_0 e] at hp
      have d0 : d = 0 := by
        by_cases c : d = 0
        · exact c
        · rw [if_neg c] at hp; cases hp
      have st0 : st = [] := List.length_eq_zero_iff.1 (by omega)
      have w0 : w.1 = 0 := by by_cases c : w.1 = 0; exact c; exact absurd ⟨st0, c⟩ tn
      rw [st0] at fr
      obtain ⟨f1, f2, f3⟩ := FR.nil fr
      have lf : lgT L = false := (top st0).resolve_left (fun c => c w0)
      have g : ¬ (200 < L.length ∨ 20 < mb L) := of_decide_eq_false lf
      rw [f1] at eL
      have eX : L = X := by
        rw [eL] at g ⊢
        unfold putL at g ⊢
        rw [List.nil_append] at g ⊢
        rw [List.length_take] at g
        exact List.take_of_length_le (by omega)
      have ec : cur.1 = X := by
        rw [(sr.2.2 w0).1]
        rw [eX] at g
        exact List.take_of_length_le (by omega)
      rw [sm_0 e, ts_0 e, if_neg (fun c => c w0), if_neg (fun c => c (hw.z.1 w0)), ec, eX]
      rw [eX] at g
      exact ⟨rfl, fun _ => ⟨hn.1, hn.2, by show X.length ≤ 200; omega, by show mb X ≤ 20; omega, (sr.2.2 w0).2⟩⟩
    · obtain ⟨d0, o1, hp⟩ := no_sh t o e hp
      cases st with
      | nil => exact absurd hd d0
      | cons x st =>
      cases st' with
      | nil => exact False.elim fr
      | cons x' st' =>
      obtain ⟨tm, k, s⟩ := x
      obtain ⟨tm', k'⟩ := x'
      have hd' : d - 1 = st.length := by rw [List.length_cons] at hd; omega
      have ef : fsT h a ((tm', k') :: st') = a := by unfold fsT; rw [if_neg (by rw [List.length_cons]; omega)]
      have ha := ha (fun c => by cases c)
      rw [sm_6 e, ts_6 e]
      show sem Ts n f (h + 1) (pop Ts (tm, k, s) st pts cur w) = tsm Ts n f (h + 1) (fsT h a ((tm', k') :: st')) (shT Ts (fsT h a ((tm', k') :: st')) (L, tl, ip, (tm', k') :: st', pts', w')) ∧ _
      rw [ef]
      rcases fr with ⟨h1, h2, h3, h4, h5, h6, h7, h8, h9, h10, Y, h11, h12⟩ | ⟨h1, h2, h3, h4, Y, T0, h5, h6, h7⟩
      · have h1 : tm = -1 := h1
        have h2 : tm' = -1 := h2
        have h6 : k' = k := h6
        have h7 : k = a + 1 := h7
        have h9 : w.1 = 0 → fdL pts' (tV Ts k) = none := h9
        have h11 : SR n (w.1 = 0) s Y := h11
        rw [h5] at eL
        have es : shT Ts a (L, tl, ip, (tm', k') :: st', pts', w') = (tl, [], false, [], pts' ++ [(tV Ts k, L.take 200)], wrI (lgT L) w' 6 (tP Ts k)) := by
          rw [h4, h6]
          show (if tm' = -1 then _ else _) = _
          rw [if_pos h2]
          show (tl, [], false, [], pts' ++ [(tV Ts k, L.take 200)], chk Ts false [] _ tl (wrI (lgT L) w' 6 (tP Ts k))) = _
          unfold chk
          rw [if_pos ⟨rfl, rfl⟩, h10]
          rfl
        have ep : pop Ts (tm, k, s) st pts cur w = (s, [], pts ++ [(tV Ts k, cur)], wrI (lgB cur) w 6 (tP Ts k)) := by
          unfold pop
          rw [if_pos h1, h3]
        have kp : tP Ts k < tP Ts (h + 1) := by rw [h7]; exact t.2.1 _ _ (by omega) o1.2.1
        rw [es, ep, sr.lg, ← eL]
        have z : (wrI (lgT L) w 6 (tP Ts k)).1 = 0 → w.1 = 0 := fun c => (wrI_z (by decide) c).2
        refine ih _ _ _ _ _ _ _ _ _ _ _ _ _ _ o1 hp (by rw [hd', h3]) (by omega) ⟨Y, [], h11.mono z, h12, ⟨rfl, rfl⟩, fun c => ?_, hw.wrI, wrI_bd (pl2 _ (by omega) o1) kp, fun _ => Or.inr h10, fun c => absurd rfl c⟩
        rcases c with c | c
        · obtain ⟨lf, w0⟩ := wrI_z (by decide) c
          have g : ¬ (200 < L.length ∨ 20 < mb L) := of_decide_eq_false lf
          have eX : L = X := by
            rw [eL] at g ⊢
            unfold putL at g ⊢
            rw [List.nil_append] at g ⊢
            rw [List.length_take] at g
            exact List.take_of_length_le (by omega)
          rw [eX] at g ⊢
          have m := mb_bd X
          have ec : cur = (X, (X.length : Int), mb X) := by
            have e1 : cur.1 = X := by rw [(sr.2.2 w0).1]; exact List.take_of_length_le (by omega)
            have e2 : cur.2.1 = X.length := by rw [sr.1]; unfold cap5; omega
            have e3 : cur.2.2 = mb X := by rw [sr.2.1]; unfold cap5; omega
            obtain ⟨c1, c2, c3⟩ := cur
            have e1 : c1 = X := e1
            have e2 : c2 = X.length := e2
            have e3 : c3 = mb X := e3
            rw [e1, e2, e3]
          rw [ec, List.take_of_length_le (by omega)]
          exact pr2.app (h9 w0) ⟨hn.1, hn.2, by omega, by omega, (sr.2.2 w0).2⟩
        · exact absurd rfl c
      · have h1 : 0 ≤ tm := h1
        have h2 : tm' = tm := h2
        have h3 : k' = (putL [] T).length := h3
        have h4 : st = [] → k = a := h4
        have h6 : SR n (w.1 = 0) s Y := h6
        have es : shT Ts a (L, tl, ip, (tm', k') :: st', pts', w') = (tmL L tm k', tl, ip, st', pts', chk Ts ip st' a (tmL L tm k') w') := by
          rw [h2]
          show (if tm = -1 then _ else _) = _
          rw [if_neg (by omega)]
        have ep : pop Ts (tm, k, s) st pts cur w = (adAS s cur tm, st, pts, aft Ts st k (adAS s cur tm) w) := by
          unfold pop
          rw [if_neg (by show tm ≠ -1; omega)]
        have eL2 : tmL L tm k' = putL T0 (Y ++ rep X tm.toNat) := by
          rw [eL, h3, tm_L h1, h5]
          unfold putL
          rw [List.append_assoc]
        rw [es, ep]
        exact ih _ _ _ _ _ _ _ _ _ _ _ _ _ _ o1 hp hd' (by omega) (stpR (h6.adA sr h1) eL2 h7 pr2 hw (pl2 _ (by omega) o1) h4 (t.2.1 _ _ (by omega) o1.2.1) (fun _ => by omega))
    · obtain ⟨d0, m8, ⟨o1, k1⟩, o3, hp⟩ := no_pt t o e hp
      have st0 : st = [] := List.length_eq_zero_iff.1 (by omega)
      have w0 : w.1 = 0 := by by_cases c : w.1 = 0; exact c; exact absurd ⟨st0, c⟩ tn
      rw [st0] at fr
      obtain ⟨f1, f2, f3⟩ := FR.nil fr
      have lf : lgT L = false := (top st0).resolve_left (fun c => c w0)
      have fh := fa.2.2 st0
      rw [sm_11 e, ts_11 e, ← fh]
      have u1 : tP Ts (h + 1) < tP Ts (h + 3) := t.2.1 _ _ (by omega) o3.2.1
      rw [f1] at eL
      have hw2 : WR (ptW Ts h pts w) (ptV Ts h pts' w') ∧ ((ptW Ts h pts w).1 = 0 → fdL pts' (tV Ts (h + 1)) = none) ∧ ((ptW Ts h pts w).1 ≠ 0 → (ptW Ts h pts w).2 < tP Ts (h + 3)) := by
        unfold ptW ptV
        rcases pr2 (tV Ts (h + 1)) with ⟨g1, g2⟩ | ⟨P, g1, g2, _⟩
        · rw [g1, g2]
          exact ⟨hw, fun _ => rfl, fun c => absurd w0 c⟩
        · rw [g1, g2]
          exact ⟨hw.wr, fun c => absurd c (wr_ne (by decide)), wr_bd (pl2 _ (by omega) o3) u1⟩
      exact ih _ _ _ _ _ _ _ _ _ _ _ _ _ _ o3 hp rfl (by omega) ⟨[], [], SR.em, rfl, Or.inl ⟨rfl, rfl, rfl, rfl, rfl, rfl, rfl, rfl, hw2.2.1, lf, X, sr.mono (fun _ => w0), eL⟩, fun _ => pr2, hw2.1, hw2.2.2, fun c => (by cases c), fun _ => by omega⟩
    · obtain ⟨o1, k1, o3, hp⟩ := no_el t o e hp
      rw [sm_12 e, ts_12 e]
      have u1 : tP Ts (h + 1) < tP Ts (h + 3) := t.2.1 _ _ (by omega) o3.2.1
      have v0 := tv _ o1
      have z : (elW Ts n h w).1 = 0 → w.1 = 0 ∧ elE Ts n h = elR Ts h ∧ okE n (elR Ts h) := fun c => by
        obtain ⟨c1, c2⟩ := wrI_z (by decide) c
        have c1 := of_decide_eq_false c1
        refine ⟨c2, ?_, ?_⟩
        · unfold elE elR
          rw [show min (tV Ts (h + 1)) (n - 2) = tV Ts (h + 1) by omega]
        · unfold elR okE
          refine ⟨v0, by show tV Ts (h + 1) + 2 ≤ n; omega, Or.inl ⟨?_, rfl, rfl⟩⟩
          show tK Ts h - 12 = 0 ∨ tK Ts h - 12 = 1 ∨ tK Ts h - 12 = 2
          omega
      exact ih _ _ _ _ _ _ _ _ _ _ _ _ _ _ o3 hp hd (by omega) (stpR (sr.add z rfl) (by rw [eL, putL_app]) ((fr.mono (fun c => (z c).1)).fs h) pr2 hw.wrI (wrI_bd (pl2 _ (by omega) o3) u1) fa.2.2 (fp _ (by omega) o3) (fun c => by have := fa.2.1 c; omega))
    · obtain ⟨⟨o1, k1⟩, ⟨o2, k2⟩, ⟨o3, k3⟩, o5, hp⟩ := no_my t o e hp
      rw [sm_15 e, ts_15 e]
      have u1 : tP Ts (h + 1) < tP Ts (h + 5) := t.2.1 _ _ (by omega) o5.2.1
      have u2 : tP Ts (h + 2) < tP Ts (h + 5) := t.2.1 _ _ (by omega) o5.2.1
      have u3 : tP Ts (h + 3) < tP Ts (h + 5) := t.2.1 _ _ (by omega) o5.2.1
      have u4 : tP Ts (h + 2) < tP Ts (h + 3) := t.2.1 _ _ (by omega) o3.2.1
      have v1 := tv _ o1
      have v2 := tv _ o2
      have ec : ∀ v, myV Ts n h v = myW Ts n h v := fun v => by
        unfold myV myW
        exact (wrI_comm (by decide) u4).symm
      have hw2 : WR (myW Ts n h w) (myW Ts n h w') := by
        unfold myW elW
        exact hw.wrI.wrI.wrI
      have z : (myW Ts n h w).1 = 0 → w.1 = 0 ∧ myE Ts n h = myR Ts h ∧ okE n (myR Ts h) := fun c => by
        obtain ⟨c1, c⟩ := wrI_z (by decide) c
        obtain ⟨c2, c⟩ := wrI_z (by decide) c
        obtain ⟨c3, c⟩ := wrI_z (by decide) c
        have c1 := of_decide_eq_false c1
        have c2 := of_decide_eq_false c2
        have c3 := of_decide_eq_false c3
        refine ⟨c, ?_, ?_⟩
        · unfold myE myR
          rw [show min (tV Ts (h + 1)) (n - 2) = tV Ts (h + 1) by omega]
        · unfold myR okE
          exact ⟨v1, by show tV Ts (h + 1) + 2 ≤ n; omega, Or.inr ⟨rfl, v2, by show tV Ts (h + 2) ≤ tV Ts (h + 3); omega, by show 1 ≤ tV Ts (h + 3); omega, by show tV Ts (h + 3) ≤ 4; omega⟩⟩
      rw [ec]
      have pw : (myW Ts n h w).1 ≠ 0 → (myW Ts n h w).2 < tP Ts (h + 5) := by
        unfold myW elW
        exact wrI_bd (wrI_bd (wrI_bd (pl2 _ (by omega) o5) u1) u2) u3
      exact ih _ _ _ _ _ _ _ _ _ _ _ _ _ _ o5 hp hd (by omega) (stpR (sr.add z rfl) (by rw [eL, putL_app]) ((fr.mono (fun c => (z c).1)).fs h) pr2 hw2 pw fa.2.2 (fp _ (by omega) o5) (fun c => by have := fa.2.1 c; omega))
    · obtain ⟨⟨o1, k1⟩, o2, o2', oH, hp⟩ := no_us t o e hp
      have hH : h + 3 ≤ usH Ts h := by unfold usH; omega
      have u1 : tP Ts (h + 1) < tP Ts (usH Ts h) := t.2.1 _ _ (by omega) oH.2.1
      rw [sm_16 e, ts_16 e]
      have hh : st ≠ [] → fsT h a st' + 1 < usH Ts h := fun c => by have := fa.2.1 c; omega
      unfold usS usL usW usV
      rcases pr2 (tV Ts (h + 1)) with ⟨g1, g2⟩ | ⟨P, g1, g2, g3⟩
      · rw [g1, g2]
        have z : (wr w 4 (tP Ts (h + 1))).1 = 0 → w.1 = 0 := fun c => absurd c (wr_ne (by decide))
        exact ih _ _ _ _ _ _ _ _ _ _ _ _ _ _ oH hp hd (by omega) (stpR (sr.mono z) eL ((fr.mono z).fs h) pr2 hw.wr (wr_bd (pl2 _ (by omega) oH) u1) fa.2.2 (fp _ (by omega) oH) hh)
      · rw [g1, g2]
        have sr2 : SR n (w.1 = 0) (adAS cur (chS (usU Ts h) (usT Ts h) n (P, (P.length : Int), mb P)) 1) (X ++ chL (usU Ts h) (usT Ts h) n P) := by
          have := sr.adA (SR.ch (up := usU Ts h) (tu := usT Ts h) g3) (show (0 : Int) ≤ 1 by decide)
          rw [show (1 : Int).toNat = 1 from rfl, rep_one] at this
          exact this
        exact ih _ _ _ _ _ _ _ _ _ _ _ _ _ _ oH hp hd (by omega) (stpR sr2 (by rw [eL]; exact putL_app) (fr.fs h) pr2 hw (pl2 _ (by omega) oH) fa.2.2 (fp _ (by omega) oH) hh)
    · obtain ⟨d4, ⟨o1, k1⟩, o3, hp⟩ := no_tm t o e hp
      rw [sm_19 e, ts_19 e]
      have u1 : tP Ts (h + 1) < tP Ts (h + 3) := t.2.1 _ _ (by omega) o3.2.1
      have z : (tmW Ts h w).1 = 0 → w.1 = 0 := fun c => (wrI_z (by decide) c).2
      have eL2 : L = putL (T ++ X) [] := by rw [eL]; unfold putL; rw [List.append_nil]
      have el : L.length = (putL [] (T ++ X)).length := by rw [eL]; unfold putL; rw [List.nil_append]
      exact ih _ _ _ _ _ _ _ _ _ _ _ _ _ _ o3 hp (by rw [List.length_cons, hd]) (by omega) ⟨[], T ++ X, SR.em, eL2, Or.inr ⟨tv _ o1, rfl, el, fa.2.2, X, T, rfl, sr.mono z, (fr.mono z).fs h⟩, fun _ => pr2, hw.wrI, wrI_bd (pl2 _ (by omega) o3) u1, fun c => (by cases c), fun _ => by have := fa.1; omega⟩
/-- the plain law of reading -/
theorem law_rd {Ts : List tok} {N : Int} (t : okT Ts N) (hp : mU Ts 0 10 (mU Ts 1 2 (mU Ts 2 4 (prs Ts 401 3 0 0))) = none) : sem Ts (lgN Ts) 401 3 (emS, [], [], lgW0 Ts) = tsm Ts (lgN Ts) 401 3 3 ([], [], false, [], [], lgV0 Ts) ∧ OUT (lgN Ts) (sem Ts (lgN Ts) 401 3 (emS, [], [], lgW0 Ts)) := by
  obtain ⟨a1, a2, hp⟩ := no_mU hp
  obtain ⟨b1, b2, hp⟩ := no_mU hp
  obtain ⟨c1, c2, hp⟩ := no_mU hp
  have tl := t.2.2.2.1
  have o0 : okH Ts 0 := ⟨by decide, by omega, fun j hj => by omega⟩
  have o1 : okH Ts 1 := o0.next t a2 (by omega) (by omega)
  have o2 : okH Ts 2 := o1.next t b2 (by omega) (by omega)
  have o3 : okH Ts 3 := o2.next t c2 (by omega) (by omega)
  have hn : 2 ≤ lgN Ts ∧ lgN Ts ≤ 7 := by unfold lgN; split <;> omega
  refine law_go t hn 401 3 0 0 3 emS [] [] (lgW0 Ts) [] [] false [] [] (lgV0 Ts) o3 hp rfl (by decide) ⟨[], [], SR.em, rfl, ⟨rfl, rfl⟩, fun _ v => Or.inl ⟨rfl, rfl⟩, ?_, ?_, fun _ => Or.inr rfl, fun c => absurd rfl c⟩
  · unfold lgW0 lgV0
    split
    · exact Or.inr ⟨rfl, rfl⟩
    · exact Or.inl rfl
  · unfold lgW0
    split
    · exact fun c => absurd rfl c
    · exact fun _ => t.2.1 1 3 (by decide) o3.2.1
