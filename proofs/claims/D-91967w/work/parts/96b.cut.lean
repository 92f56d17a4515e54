/-! ===== the component cuts a text ===== -/
set_option maxRecDepth 100000
theorem dpc {tp : List Int} {i : Nat} {c : Int} {t : List Int} (h : tp.drop i = c :: t) : i < tp.length ∧ at0 tp i = c ∧ tp.drop (i + 1) = t := by
  have hi : i < tp.length := by
    rcases Nat.lt_or_ge i tp.length with w | w
    · exact w
    · rw [List.drop_eq_nil_of_le w] at h; cases h
  rw [List.drop_eq_getElem_cons hi] at h
  injection h with h1 h2
  refine ⟨hi, ?_, h2⟩
  unfold at0
  rw [Int.toNat_natCast, List.getD_eq_getElem?_getD, List.getElem?_eq_getElem hi, Option.getD_some]
  exact h1
theorem dpn {tp : List Int} {i : Nat} (h : tp.drop i = []) : tp.length ≤ i := by
  rcases Nat.lt_or_ge i tp.length with w | w
  · rw [List.drop_eq_getElem_cons w] at h; cases h
  · exact w
theorem dpm {tp : List Int} {i : Nat} {c : Int} {t : List Int} (h : tp.drop i = c :: t) : c ∈ tp := List.mem_of_mem_drop (by rw [h]; exact List.mem_cons_self)
theorem sb_lo {c : Int} (h : c < 128) : sb c = c := if_pos h
theorem sb_hi {c : Int} (h : 128 ≤ c) : sb c = c - 256 := if_neg (by omega)
theorem isL_iff {c : Int} : isL c = true ↔ 97 ≤ c ∧ c ≤ 122 := by unfold isL; exact decide_eq_true_iff
theorem isD_iff {c : Int} : isD c = true ↔ 48 ≤ c ∧ c ≤ 57 := by unfold isD; exact decide_eq_true_iff
theorem isB_iff {c : Int} : isB c = true ↔ (c = 9 ∨ c = 10 ∨ c = 13 ∨ c = 32) := by unfold isB; exact decide_eq_true_iff
theorem nmb_snoc (w : List Int) (c : Int) : nmb (w ++ [c]) = 10 * nmb w + c - 48 := by
  unfold nmb
  rw [List.foldl_append]
  rfl
theorem nmb_bd : ∀ (m : Nat) (w : List Int), w.length = m → (∀ c ∈ w, 48 ≤ c ∧ c ≤ 57) → 0 ≤ nmb w ∧ nmb w < 10 ^ m := by
  intro m
  induction m with
  | zero =>
    intro w h _
    rw [List.eq_nil_of_length_eq_zero h]
    exact ⟨by decide, by decide⟩
  | succ m ih =>
    intro w h hc
    obtain ⟨u, c, e⟩ : ∃ u c, w = u ++ [c] := by
      rcases List.eq_nil_or_concat w with z | ⟨u, c, z⟩
      · rw [z] at h; simp at h
      · exact ⟨u, c, by rw [z, List.concat_eq_append]⟩
    subst e
    rw [List.length_append, List.length_cons, List.length_nil] at h
    obtain ⟨i1, i2⟩ := ih u (by omega) (fun x hx => hc x (List.mem_append_left _ hx))
    have := hc c (List.mem_append_right _ List.mem_cons_self)
    rw [nmb_snoc, Int.pow_succ]
    omega
theorem nmb_4 {w : List Int} (hc : ∀ c ∈ w, 48 ≤ c ∧ c ≤ 57) : 0 ≤ nmb (w.take 4) ∧ nmb (w.take 4) ≤ 9999 := by
  obtain ⟨a, b⟩ := nmb_bd _ (w.take 4) rfl (fun c h => hc c (List.mem_of_mem_take h))
  have l : (w.take 4).length ≤ 4 := by rw [List.length_take]; omega
  have : (10 : Int) ^ (w.take 4).length ≤ 10 ^ 4 := by
    generalize (w.take 4).length = n at l
    have h : n = 0 ∨ n = 1 ∨ n = 2 ∨ n = 3 ∨ n = 4 := by omega
    rcases h with rfl | rfl | rfl | rfl | rfl <;> decide
  refine ⟨a, ?_⟩
  have e : (10 : Int) ^ 4 = 10000 := by decide
  omega
theorem cod_8 {w : List Int} (hc : ∀ c ∈ w, 97 ≤ c ∧ c ≤ 122) : 0 ≤ cod (w.take 8) ∧ cod (w.take 8) < 282429536481 := by
  obtain ⟨a, b⟩ := cod_bd _ (w.take 8) rfl (fun c h => hc c (List.mem_of_mem_take h))
  have l : (w.take 8).length ≤ 8 := by rw [List.length_take]; omega
  have : (27 : Int) ^ (w.take 8).length ≤ 27 ^ 8 := by
    generalize (w.take 8).length = n at l
    have h : n = 0 ∨ n = 1 ∨ n = 2 ∨ n = 3 ∨ n = 4 ∨ n = 5 ∨ n = 6 ∨ n = 7 ∨ n = 8 := by omega
    rcases h with rfl | rfl | rfl | rfl | rfl | rfl | rfl | rfl | rfl <;> decide
  refine ⟨a, ?_⟩
  have e : (27 : Int) ^ 8 = 282429536481 := by decide
  omega
theorem take_sn {W : List Int} {c : Int} {m : Nat} : (W ++ [c]).take m = if W.length < m then W.take m ++ [c] else W.take m := by
  split
  · rename_i h
    rw [List.take_of_length_le (by rw [List.length_append, List.length_cons, List.length_nil]; omega), List.take_of_length_le (by omega)]
  · rename_i h
    rw [List.take_append_of_le_length (by omega)]
theorem tw_no {p : Int → Bool} {c : Int} {t : List Int} (h : p c = false) : (c :: t).takeWhile p = [] := by
  rw [List.takeWhile_cons, if_neg (by rw [h]; decide)]
theorem tw_yes {p : Int → Bool} {c : Int} {t : List Int} (h : p c = true) : (c :: t).takeWhile p = c :: t.takeWhile p := by
  rw [List.takeWhile_cons, if_pos h]
theorem tw_all {p : Int → Bool} : ∀ (l : List Int), ∀ c ∈ l.takeWhile p, p c = true
  | [], c, h => by cases h
  | x :: l, c, h => by
    rw [List.takeWhile_cons] at h
    split at h
    · rename_i hx
      rcases List.mem_cons.1 h with w | w
      · rw [w]; exact hx
      · exact tw_all l c w
    · cases h
def tkd (D : List tok) (j : Nat) : tok := D.getD j (0, 0, 0)
theorem tkd_app {D D' : List tok} {j : Nat} (h : j < D.length) : tkd (D ++ D') j = tkd D j := by
  unfold tkd
  rw [List.getD_eq_getElem?_getD, List.getD_eq_getElem?_getD, List.getElem?_append_left h]
theorem tkd_new {D : List tok} {x : tok} : tkd (D ++ [x]) D.length = x := by
  unfold tkd
  simp
def CTk (M : pM) (D : List tok) : Prop := M 11 5 = D.length ∧ ∀ j : Nat, j < D.length → M 13 j = (tkd D j).1 ∧ M 14 j = (tkd D j).2.1 ∧ M 15 j = (tkd D j).2.2
def frS (M M' : pM) : Prop := (∀ x, x ≠ 11 → x ≠ 13 → x ≠ 14 → x ≠ 15 → M' x = M x) ∧ ∀ j, j ≠ 5 → M' 11 j = M 11 j
theorem frS.refl (M : pM) : frS M M := ⟨fun _ _ _ _ _ => rfl, fun _ _ => rfl⟩
theorem frS.trans {M M1 M2 : pM} (a : frS M M1) (b : frS M1 M2) : frS M M2 := ⟨fun x h1 h2 h3 h4 => (b.1 x h1 h2 h3 h4).trans (a.1 x h1 h2 h3 h4), fun j h => (b.2 j h).trans (a.2 j h)⟩
section
variable {X : px} {S : List psh} {M : pM} {tp : List Int}
theorem c_tadd {F : pM → Prop} {D : List tok} {k p v : Int} (ct : CTk M D) (hD : D.length < 402) (hk : 0 ≤ k ∧ k < 128) (hp : 0 ≤ p ∧ p < 32768) (kk : ∀ M', frS M M' → CTk M' (D ++ [(k, p, v)]) → F M') : pNv true X mX2_add 1 [pR 11, pI k, pI p, pL v] S M F := by
  refine eX2_add (bX2_add_0 ?_)
  rw [ct.1, i2bb_id (by omega) (by omega), i2ss_id (by omega) (by omega)]
  refine ⟨by omega, by omega, by omega, by omega, fun M5 e5 => ?_⟩
  have z5 : M5 11 5 = D.length := by rw [e5, up_ne (by decide)]; exact ct.1
  rw [z5]
  refine ⟨by omega, by omega, by omega, by omega, fun M10 e10 => ?_⟩
  have z10 : M10 11 5 = D.length := by rw [e10, up_ne (by decide)]; exact z5
  rw [z10]
  refine ⟨by omega, by omega, fun M13 e13 M14 e14 => ?_⟩
  have z13 : M13 11 5 = D.length := by rw [e13, up_ne (by decide)]; exact z10
  rw [z13] at e14
  have v3 : M14 13 = pu_up M 13 D.length k 13 := by rw [e14, up_ne (by decide), e13, up_ne (by decide), e10, up_ne (by decide), e5]
  have v4 : M14 14 = pu_up M 14 D.length p 14 := by
    rw [e14, up_ne (by decide), e13, up_ne (by decide), e10]
    exact up_cong (by rw [e5, up_ne (by decide)])
  have v5 : M14 15 = pu_up M 15 D.length v 15 := by
    rw [e14, up_ne (by decide), e13]
    exact up_cong (by rw [e10, up_ne (by decide), e5, up_ne (by decide)])
  refine kk M14 ⟨fun x h1 h2 h3 h4 => by rw [e14, up_ne h1, e13, up_ne h4, e10, up_ne h3, e5, up_ne h2], fun j hj => by rw [e14, up_oi hj, e13, up_ne (by decide), e10, up_ne (by decide), e5, up_ne (by decide)]⟩ ⟨by rw [e14, up_same]; simp, fun j hj => ?_⟩
  simp at hj
  rw [v3, v4, v5]
  by_cases d : j = D.length
  · rw [d, tkd_new, up_same, up_same, up_same]
    exact ⟨rfl, rfl, rfl⟩
  · rw [tkd_app (by omega), up_oi (by omega), up_oi (by omega), up_oi (by omega)]
    exact ct.2 j (by omega)
theorem c_isLetter {F : Int → pM → Prop} {c : Int} (h0 : 0 ≤ c) (h1 : c < 256) (k1 : isL c = true → F 1 M) (k0 : isL c = false → F 0 M) : pNi true X mX2_isLetter 1 [pI (sb c)] S M F := by
  have b : -128 ≤ sb c ∧ sb c < 128 := by unfold sb; split <;> omega
  cases e : isL c with
  | true =>
    have z := isL_iff.1 e
    rw [sb_lo (by omega)] at b ⊢
    exact eX2_isLetter (bX2_isLetter_0 ⟨by constructor <;> omega, fun y => by omega, fun _ => ⟨by constructor <;> omega, fun y => by omega, fun _ => k1 e⟩⟩)
  | false =>
    have z : ¬ (97 ≤ c ∧ c ≤ 122) := fun w => by rw [isL_iff.2 w] at e; cases e
    have z2 : ¬ (97 ≤ sb c ∧ sb c ≤ 122) := by unfold sb; split <;> omega
    exact eX2_isLetter (bX2_isLetter_0 ⟨by constructor <;> omega, fun _ => k0 e, fun _ => ⟨by constructor <;> omega, fun _ => k0 e, fun y => by omega⟩⟩)
theorem c_isDigit {F : Int → pM → Prop} {c : Int} (h0 : 0 ≤ c) (h1 : c < 256) (k1 : isD c = true → F 1 M) (k0 : isD c = false → F 0 M) : pNi true X mX2_isDigit 1 [pI (sb c)] S M F := by
  have b : -128 ≤ sb c ∧ sb c < 128 := by unfold sb; split <;> omega
  cases e : isD c with
  | true =>
    have z := isD_iff.1 e
    rw [sb_lo (by omega)] at b ⊢
    exact eX2_isDigit (bX2_isDigit_0 ⟨by constructor <;> omega, fun y => by omega, fun _ => ⟨by constructor <;> omega, fun y => by omega, fun _ => k1 e⟩⟩)
  | false =>
    have z : ¬ (48 ≤ c ∧ c ≤ 57) := fun w => by rw [isD_iff.2 w] at e; cases e
    have z2 : ¬ (48 ≤ sb c ∧ sb c ≤ 57) := by unfold sb; split <;> omega
    exact eX2_isDigit (bX2_isDigit_0 ⟨by constructor <;> omega, fun _ => k0 e, fun _ => ⟨by constructor <;> omega, fun _ => k0 e, fun y => by omega⟩⟩)
/-- the byte there, or 0 -/
theorem c_byteAt {F : Int → pM → Prop} {i : Nat} (tc : CTp M tp) (ht : tp.length ≤ 2000) (hi : i ≤ tp.length) (k1 : ∀ c t, tp.drop i = c :: t → F (sb c) M) (k0 : tp.drop i = [] → F (sb 0) M) : pNi true X mX2_byteAt 1 [pR 11, pI i] S M F := by
  refine eX2_byteAt (bX2_byteAt_0 ?_)
  rw [tc.1]
  cases e : tp.drop i with
  | nil =>
    have := dpn e
    exact ⟨by constructor <;> omega, by constructor <;> omega, fun _ => k0 e, fun y => by omega⟩
  | cons c t =>
    obtain ⟨a1, a2, a3⟩ := dpc e
    have m := tc.2 i (by omega) (by omega)
    rw [a2] at m
    rw [m]
    exact ⟨by constructor <;> omega, by constructor <;> omega, fun y => by omega, fun _ => ⟨by omega, by omega, k1 c t e⟩⟩
theorem c_number4 {F : Int → pM → Prop} {D : List tok} {a : Nat} (tc : CTp M tp) (ct : CTk M D) (hD : D.length < 402) (ht : tp.length ≤ 2000) (hb : ∀ x ∈ tp, 0 ≤ x ∧ x < 256) : ∀ (r : List Int) (j : Nat) (W : List Int), tp.drop j = r → j ≤ tp.length → a + W.length = j → (∀ c ∈ W, 48 ≤ c ∧ c ≤ 57) → (∀ M', frS M M' → CTk M' (D ++ [(if 4 < (W ++ r.takeWhile isD).length then 3 else 2, (a : Int), nmb ((W ++ r.takeWhile isD).take 4))]) → F ((j + (r.takeWhile isD).length : Nat) : Int) M') → wX2_number_4 X F a j (nmb (W.take 4)) S M := by
  intro r
  induction r with
  | nil =>
    intro j W e hj ha hW k
    have n4 := nmb_4 hW
    rw [List.takeWhile_nil, List.append_nil, List.length_nil, Nat.add_zero] at k
    refine bX2_number_4 (c_byteAt tc ht hj (fun c t y => by rw [e] at y; cases y) (fun _ => c_isDigit (by decide) (by decide) (fun y => by cases y) (fun _ => ⟨by constructor <;> decide, fun _ => ⟨by constructor <;> omega, fun y => ?_, fun y => ?_⟩, fun y => absurd rfl y⟩)))
    · rw [if_neg (by omega)] at k
      exact bX2_number_56 ⟨by constructor <;> omega, c_tadd ct hD (by decide) (by omega) k⟩
    · rw [if_pos (by omega)] at k
      exact bX2_number_56 ⟨by constructor <;> omega, c_tadd ct hD (by decide) (by omega) k⟩
  | cons c t ih =>
    intro j W e hj ha hW k
    have n4 := nmb_4 hW
    obtain ⟨d1, d2, d3⟩ := dpc e
    have cb := hb c (dpm e)
    refine bX2_number_4 (c_byteAt tc ht hj (fun c' t' y => ?_) (fun y => by rw [e] at y; cases y))
    rw [e] at y
    injection y with y1 y2
    subst y1
    refine c_isDigit cb.1 cb.2 (fun y => ⟨by constructor <;> decide, fun y => by omega, fun _ => ?_⟩) (fun y => ⟨by constructor <;> decide, fun _ => ⟨by constructor <;> omega, fun z => ?_, fun z => ?_⟩, fun z => absurd rfl z⟩)
    · have cD := isD_iff.1 y
      have m := tc.2 j (by omega) (by omega)
      rw [d2, sb_lo (by omega)] at m
      rw [tw_yes y] at k
      have hW' : ∀ x ∈ W ++ [c], 48 ≤ x ∧ x ≤ 57 := fun x hx => by
        rcases List.mem_append.1 hx with w | w
        · exact hW x w
        · rw [List.mem_singleton.1 w]; exact cD
      have nx := ih (j + 1) (W ++ [c]) d3 (by omega) (by rw [List.length_append, List.length_cons, List.length_nil]; omega) hW' (fun M' f' ct' => by
        have := k M' f' (by rw [List.append_assoc] at ct'; exact ct')
        rw [List.length_cons] at this
        rw [show j + 1 + (t.takeWhile isD).length = j + ((t.takeWhile isD).length + 1) by omega]
        exact this)
      rw [Int.natCast_succ] at nx
      rw [m]
      refine ⟨by constructor <;> omega, by constructor <;> omega, fun z => ?_, fun z => ⟨by omega, by omega, ?_⟩⟩
      · rw [take_sn, if_neg (by omega)] at nx
        exact bX2_number_37 nx
      · rw [take_sn, if_pos (by omega), nmb_snoc] at nx
        exact bX2_number_37 nx
    · rw [tw_no y, List.append_nil, List.length_nil, Nat.add_zero, if_neg (by omega)] at k
      exact bX2_number_56 ⟨by constructor <;> omega, c_tadd ct hD (by decide) (by omega) k⟩
    · rw [tw_no y, List.append_nil, List.length_nil, Nat.add_zero, if_pos (by omega)] at k
      exact bX2_number_56 ⟨by constructor <;> omega, c_tadd ct hD (by decide) (by omega) k⟩
theorem at_nat {l : List Int} {k : Nat} (h : k < l.length) : at0 l k = l[k] := by
  unfold at0
  rw [Int.toNat_natCast, List.getD_eq_getElem?_getD, List.getElem?_eq_getElem h, Option.getD_some]
theorem c_is {F : Int → pM → Prop} {i a : Nat} {W : List Int} (hi : i < 10) (tc : CTp M tp) (ht : tp.length ≤ 2000) (ha : a + W.length ≤ tp.length) (hW : ∀ k : Nat, k < W.length → at0 W k = at0 tp ((a + k : Nat) : Int)) (hL : ∀ c ∈ W, 97 ≤ c ∧ c ≤ 122) (k1 : cod W = cds i → F 1 M) (k0 : cod W ≠ cds i → F 0 M) : pNi true X mX2_is 6 [pR 11, pR (pu_ws8 i), pI a, pI ((a + W.length : Nat) : Int)] S M F := by
  have l10 : (wds i).length ≤ 8 := by
    have : ∀ i, i < 10 → (wds i).length ≤ 8 := by decide
    exact this i hi
  have wok := (wds_ok i hi).1
  have loop : ∀ (d k : Nat), k + d = (wds i).length → (wds i).length = W.length → (∀ j : Nat, j < k → at0 (wds i) j = at0 W j) → wX2_is_20 X F (pu_ws8 i) a 1 k S M := by
    intro d
    induction d with
    | zero =>
      intro k h1 h2 h3
      refine bX2_is_20 ⟨i, hi, rfl, j_len hi ⟨by constructor <;> omega, by constructor <;> omega, fun _ => ⟨by decide, by decide, k1 ?_⟩, fun y => by omega⟩⟩
      have : W = wds i := List.ext_getElem h2.symm (fun n n1 n2 => by rw [← at_nat n1, ← at_nat n2]; exact (h3 n (by omega)).symm)
      rw [this]
      rfl
    | succ d ih =>
      intro k h1 h2 h3
      have ch : 97 ≤ at0 (wds i) k ∧ at0 (wds i) k ≤ 122 := by rw [at_nat (by omega)]; exact wok _ (List.getElem_mem _)
      have cw : 97 ≤ at0 W k ∧ at0 W k ≤ 122 := by rw [at_nat (by omega)]; exact hL _ (List.getElem_mem _)
      have m := tc.2 ((a + k : Nat) : Int) (by omega) (by omega)
      rw [← hW k (by omega), sb_lo (by omega)] at m
      refine bX2_is_20 ⟨i, hi, rfl, j_len hi ⟨by constructor <;> omega, by constructor <;> omega, fun y => by omega, fun _ => ⟨by constructor <;> decide, fun y => by omega, fun _ => ⟨i, hi, rfl, j_chr hi (by omega) (by omega) ?_⟩⟩⟩⟩
      rw [show ((a : Int) + (k : Int)) = ((a + k : Nat) : Int) by omega, m]
      refine ⟨by omega, by omega, by constructor <;> omega, by constructor <;> omega, fun y => bX2_is_57 ?_, fun y => bX2_is_57 ?_⟩
      · refine bX2_is_20 ⟨i, hi, rfl, j_len hi ?_⟩
        have no : F 0 M := k0 (fun e => y (by rw [cod_inj _ W (wds i) rfl hL wok e]))
        exact ⟨by constructor <;> omega, by constructor <;> omega, fun _ => ⟨by decide, by decide, no⟩, fun _ => ⟨by constructor <;> decide, fun _ => ⟨by decide, by decide, no⟩, fun z => absurd rfl z⟩⟩
      · have := ih (k + 1) (by omega) h2 (fun j hj => by
          by_cases e : j = k
          · subst e; exact y
          · exact h3 j (by omega))
        rw [Int.natCast_succ] at this
        exact this
  refine eX2_is (bX2_is_0 ⟨i, hi, rfl, j_len hi ⟨by constructor <;> omega, by constructor <;> omega, fun y => bX2_is_15 ?_, fun y => bX2_is_15 (loop (wds i).length 0 (by omega) (by omega) (fun j hj => by omega))⟩⟩)
  have no : F 0 M := k0 (fun e => y (by rw [cod_inj _ W (wds i) rfl hL wok e]; omega))
  exact bX2_is_20 ⟨i, hi, rfl, j_len hi ⟨by constructor <;> decide, by constructor <;> omega, fun _ => ⟨by decide, by decide, no⟩, fun _ => ⟨by constructor <;> decide, fun _ => ⟨by decide, by decide, no⟩, fun z => absurd rfl z⟩⟩⟩
theorem c_word67 {F : Int → pM → Prop} {D : List tok} {a : Nat} {W : List Int} {nm : Int} (tc : CTp M tp) (ct : CTk M D) (hD : D.length < 402) (ht : tp.length ≤ 2000) (ha : a + W.length ≤ tp.length) (hW : ∀ k : Nat, k < W.length → at0 W k = at0 tp ((a + k : Nat) : Int)) (hL : ∀ c ∈ W, 97 ≤ c ∧ c ≤ 122) (k : ∀ M', frS M M' → CTk M' (D ++ [(if 0 ≤ wkO (cod W) then 10 + wkO (cod W) else 1, (a : Int), nm)]) → F ((a + W.length : Nat) : Int) M') : ∀ (d x : Nat), x + d = 10 → (∀ j : Nat, j < x → cod W ≠ cds j) → wX2_word_67 X F a ((a + W.length : Nat) : Int) nm 1 x S M := by
  intro d
  induction d with
  | zero =>
    intro x hx hn
    refine bX2_word_67 ⟨by constructor <;> omega, fun _ => bX2_word_110 (c_tadd ct hD (by decide) (by omega) ?_), fun y => by omega⟩
    rcases wkO_cases (cod W) with ⟨z, _⟩ | ⟨i, z1, z2, _⟩
    · rw [z] at k
      exact k
    · exact absurd z2 (hn i (by omega))
  | succ d ih =>
    intro x hx hn
    refine bX2_word_67 ⟨by constructor <;> omega, fun y => by omega, fun _ => ⟨by constructor <;> decide, fun y => absurd rfl y, fun _ => ⟨by omega, by omega, ?_⟩⟩⟩
    rw [Int.toNat_natCast]
    refine c_is (by omega) tc ht ha hW hL (fun y => ⟨by constructor <;> decide, fun z => by omega, fun _ => bX2_word_104 ?_⟩) (fun y => ⟨by constructor <;> decide, fun _ => bX2_word_104 ?_, fun z => absurd rfl z⟩)
    · have e : wkO (cod W) = x := by rw [y]; exact (wds_ok x (by omega)).2
      rw [e, if_pos (by omega)] at k
      have fin : wX2_word_110 X F a ((a + W.length : Nat) : Int) nm (10 + x) S M := bX2_word_110 (c_tadd ct hD (by omega) (by omega) k)
      exact bX2_word_67 ⟨by constructor <;> omega, fun _ => fin, fun _ => ⟨by constructor <;> omega, fun _ => fin, fun z => by omega⟩⟩
    · have := ih (x + 1) (by omega) (fun j hj => by
        by_cases e : j = x
        · subst e; exact y
        · exact hn j (by omega))
      rw [Int.natCast_succ] at this
      exact this
theorem c_word4 {F : Int → pM → Prop} {D : List tok} {a : Nat} (tc : CTp M tp) (ct : CTk M D) (hD : D.length < 402) (ht : tp.length ≤ 2000) (hb : ∀ x ∈ tp, 0 ≤ x ∧ x < 256) : ∀ (r : List Int) (j : Nat) (W : List Int), tp.drop j = r → j ≤ tp.length → a + W.length = j → (∀ k : Nat, k < W.length → at0 W k = at0 tp ((a + k : Nat) : Int)) → (∀ c ∈ W, 97 ≤ c ∧ c ≤ 122) → (∀ M', frS M M' → CTk M' (D ++ [(if 8 < (W ++ r.takeWhile isL).length then 3 else if 0 ≤ wkO (cod (W ++ r.takeWhile isL)) then 10 + wkO (cod (W ++ r.takeWhile isL)) else 1, (a : Int), cod ((W ++ r.takeWhile isL).take 8))]) → F ((j + (r.takeWhile isL).length : Nat) : Int) M') → wX2_word_4 X F a j (cod (W.take 8)) S M := by
  intro r
  induction r with
  | nil =>
    intro j W e hj ha hA hW k
    rw [List.takeWhile_nil, List.append_nil, List.length_nil, Nat.add_zero] at k
    subst ha
    refine bX2_word_4 (c_byteAt tc ht hj (fun c t y => by rw [e] at y; cases y) (fun _ => c_isLetter (by decide) (by decide) (fun y => by cases y) (fun _ => ⟨by constructor <;> decide, fun _ => ⟨by constructor <;> omega, fun y => bX2_word_62 ?_, fun y => bX2_word_62 ?_⟩, fun y => absurd rfl y⟩)))
    · rw [if_neg (by omega)] at k
      exact c_word67 tc ct hD ht hj hA hW k 10 0 (by omega) (fun j hj => by omega)
    · rw [if_pos (by omega)] at k
      have fin : wX2_word_110 X F a ((a + W.length : Nat) : Int) (cod (W.take 8)) 3 S M := bX2_word_110 (c_tadd ct hD (by decide) (by omega) k)
      exact bX2_word_67 ⟨by constructor <;> decide, fun _ => fin, fun _ => ⟨by constructor <;> decide, fun _ => fin, fun z => absurd z (by decide)⟩⟩
  | cons c t ih =>
    intro j W e hj ha hA hW k
    obtain ⟨d1, d2, d3⟩ := dpc e
    have cb := hb c (dpm e)
    have stop : isL c = false → (∀ y : Int, y = 0 → True) → inR (((j : Nat) : Int) - a) ∧ (((j : Nat) : Int) - a ≤ 8 → wX2_word_62 X F a j (cod (W.take 8)) 1 S M) ∧ (8 < ((j : Nat) : Int) - a → wX2_word_62 X F a j (cod (W.take 8)) 3 S M) := by
      intro y _
      rw [tw_no y, List.append_nil, List.length_nil, Nat.add_zero] at k
      subst ha
      refine ⟨by constructor <;> omega, fun z => bX2_word_62 ?_, fun z => bX2_word_62 ?_⟩
      · rw [if_neg (by omega)] at k
        exact c_word67 tc ct hD ht hj hA hW k 10 0 (by omega) (fun j hj => by omega)
      · rw [if_pos (by omega)] at k
        have fin : wX2_word_110 X F a ((a + W.length : Nat) : Int) (cod (W.take 8)) 3 S M := bX2_word_110 (c_tadd ct hD (by decide) (by omega) k)
        exact bX2_word_67 ⟨by constructor <;> decide, fun _ => fin, fun _ => ⟨by constructor <;> decide, fun _ => fin, fun z => absurd z (by decide)⟩⟩
    refine bX2_word_4 (c_byteAt tc ht hj (fun c' t' y => ?_) (fun y => by rw [e] at y; cases y))
    rw [e] at y
    injection y with y1 y2
    subst y1
    refine c_isLetter cb.1 cb.2 (fun y => ⟨by constructor <;> decide, fun y => by omega, fun _ => ?_⟩) (fun y => ⟨by constructor <;> decide, fun _ => stop y (fun _ _ => trivial), fun z => absurd rfl z⟩)
    have cD := isL_iff.1 y
    have m := tc.2 j (by omega) (by omega)
    rw [d2, sb_lo (by omega)] at m
    rw [tw_yes y] at k
    have hW' : ∀ x ∈ W ++ [c], 97 ≤ x ∧ x ≤ 122 := fun x hx => by
      rcases List.mem_append.1 hx with w | w
      · exact hW x w
      · rw [List.mem_singleton.1 w]; exact cD
    have nx := ih (j + 1) (W ++ [c]) d3 (by omega) (by rw [List.length_append, List.length_cons, List.length_nil]; omega) (fun q hq => by
      rw [List.length_append, List.length_cons, List.length_nil] at hq
      by_cases w : q = W.length
      · subst w
        rw [at_app2 (Int.le_refl _), Int.sub_self, show a + W.length = j by omega, d2]
        rfl
      · rw [at_app (by omega) (by omega)]
        exact hA q (by omega)) hW' (fun M' f' ct' => by
      have := k M' f' (by rw [List.append_assoc] at ct'; exact ct')
      rw [List.length_cons] at this
      rw [show j + 1 + (t.takeWhile isL).length = j + ((t.takeWhile isL).length + 1) by omega]
      exact this)
    rw [Int.natCast_succ] at nx
    rw [m]
    refine ⟨by constructor <;> omega, by constructor <;> omega, fun z => ?_, fun z => ⟨by omega, by omega, by constructor <;> omega, ?_⟩⟩
    · rw [take_sn, if_neg (by omega)] at nx
      exact bX2_word_43 nx
    · rw [take_sn, if_pos (by omega), cod_snoc] at nx
      rw [show cod (W.take 8) * 27 + c - 97 + 1 = cod (W.take 8) * 27 + c - 96 by omega]
      exact bX2_word_43 nx
theorem dw_drop {p : Int → Bool} : ∀ (l : List Int), l.dropWhile p = l.drop (l.takeWhile p).length
  | [] => rfl
  | c :: l => by
    rw [List.dropWhile_cons, List.takeWhile_cons]
    split
    · rw [List.length_cons, List.drop_succ_cons]; exact dw_drop l
    · rfl
/-- all tokens, or so many as there is room for -/
theorem c_cut7 {F : pM → Prop} (ht : tp.length ≤ 2000) (hb : ∀ x ∈ tp, 0 ≤ x ∧ x < 256) {Ts : List tok} (k : ∀ M', frS M M' → CTk M' (Ts.take 401) → wX2_cut_145 X F S M') : ∀ (f i : Nat) (D : List tok) (M1 : pM), frS M M1 → CTp M1 tp → CTk M1 D → D.length ≤ 401 → i ≤ tp.length → (tp.drop i).length < f → Ts = D ++ tks tp.length f (tp.drop i) → wX2_cut_7 X F i S M1 := by
  intro f
  induction f with
  | zero => intro i D M1 _ _ _ _ _ h; omega
  | succ f ih =>
    intro i D M1 fr tc ct hD hi hf hT
    refine bX2_cut_7 ?_
    rw [ct.1]
    refine ⟨by constructor <;> omega, fun full => ?_, fun room => ?_⟩
    · refine k M1 fr ?_
      rw [hT, List.take_append_of_le_length (by omega), List.take_of_length_le (by omega)]
      exact ct
    · have hD4 : D.length < 401 := by omega
      rw [tks] at hT
      -- blanks
      have skip : ∀ (r : List Int) (i : Nat), tp.drop i = r → i ≤ tp.length → (∀ i', i' ≤ tp.length → tp.drop i' = r.dropWhile isB → i ≤ i' → wX2_cut_75 X F i' S M1) → wX2_cut_17 X F i S M1 := by
        intro r
        induction r with
        | nil =>
          intro i e hi k
          refine bX2_cut_17 ?_
          rw [tc.1]
          have := dpn e
          exact ⟨by constructor <;> omega, by constructor <;> omega, fun _ => k i hi e (Nat.le_refl _), fun y => by omega⟩
        | cons c t ihr =>
          intro i e hi k
          obtain ⟨d1, d2, d3⟩ := dpc e
          have cb := hb c (dpm e)
          have m := tc.2 i (by omega) (by omega)
          rw [d2] at m
          have sbd : -128 ≤ sb c ∧ sb c < 128 := by unfold sb; split <;> omega
          have nx : isB c = true → wX2_cut_69 X F i S M1 := fun y => by
            rw [List.dropWhile_cons, if_pos y] at k
            have := ihr (i + 1) d3 (by omega) (fun i' h1 h2 h3 => k i' h1 h2 (by omega))
            rw [Int.natCast_succ] at this
            exact bX2_cut_69 this
          have sbe : (sb c = 9 ∨ sb c = 10 ∨ sb c = 13 ∨ sb c = 32) → isB c = true := fun y => isB_iff.2 (by unfold sb at y; split at y <;> omega)
          refine bX2_cut_17 ?_
          rw [tc.1, m]
          refine ⟨by constructor <;> omega, by constructor <;> omega, fun y => by omega, fun _ => ⟨by omega, by omega, by constructor <;> omega, fun y => nx (sbe (by omega)), fun y1 => ⟨by omega, by omega, by constructor <;> omega, fun y => nx (sbe (by omega)), fun y2 => ⟨by omega, by omega, by constructor <;> omega, fun y => nx (sbe (by omega)), fun y3 => ⟨by omega, by omega, by constructor <;> omega, fun y4 => ?_, fun y => nx (sbe (by omega))⟩⟩⟩⟩⟩
          have nb : ¬ isB c = true := fun z => by
            have := isB_iff.1 z
            rw [sb_lo (by omega)] at y1 y2 y3 y4
            omega
          refine k i hi ?_ (Nat.le_refl _)
          rw [List.dropWhile_cons, if_neg nb]
          exact e
      refine skip _ i rfl hi (fun i' hi' ei' _ => ?_)
      rw [← ei'] at hT
      cases e : tp.drop i' with
      | nil =>
        have := dpn e
        rw [e] at hT
        refine bX2_cut_75 ?_
        rw [tc.1]
        refine ⟨by constructor <;> omega, by constructor <;> omega, fun y => by omega, fun _ => c_tadd ct (by omega) (by decide) (by omega) (fun M' f' ct' => k M' (fr.trans f') ?_)⟩
        rw [hT, List.take_of_length_le (by rw [List.length_append, List.length_cons, List.length_nil]; omega)]
        exact ct'
      | cons c t =>
        obtain ⟨d1, d2, d3⟩ := dpc e
        have cb := hb c (dpm e)
        rw [e] at hT
        have dl := dw_len isB (tp.drop i)
        rw [← ei', e, List.length_cons] at dl
        have tl := tk1_len c t
        have pl : ((tp.length : Int) - ((c :: t).length : Int)) = i' := by
          have := congrArg List.length e
          rw [List.length_drop] at this
          omega
        have hT : Ts = D ++ ((tk1 c t).1, (tp.length : Int) - ((c :: t).length : Int), (tk1 c t).2.1) :: tks tp.length f (tk1 c t).2.2 := hT
        rw [pl] at hT
        have m := tc.2 i' (by omega) (by omega)
        rw [d2] at m
        have sbd : -128 ≤ sb c ∧ sb c < 128 := by unfold sb; split <;> omega
        have go : ∀ (i2 : Nat) (M' : pM), frS M1 M' → CTk M' (D ++ [((tk1 c t).1, (i' : Int), (tk1 c t).2.1)]) → i2 ≤ tp.length → tp.drop i2 = (tk1 c t).2.2 → wX2_cut_141 X F i2 S M' := fun i2 M' f' ct' h2 e2 => by
          refine bX2_cut_141 (ih i2 _ M' (fr.trans f') ?_ ct' (by rw [List.length_append, List.length_cons, List.length_nil]; omega) h2 (by rw [e2]; omega) (by rw [hT, e2, List.append_assoc]; rfl))
          unfold CTp
          rw [f'.2 1 (by decide), f'.1 12 (by decide) (by decide) (by decide) (by decide)]
          exact tc
        refine bX2_cut_75 ?_
        rw [tc.1, m]
        refine ⟨by constructor <;> omega, by constructor <;> omega, fun _ => ⟨by omega, by omega, c_isLetter cb.1 cb.2 (fun y => ⟨by constructor <;> decide, fun z => by omega, fun _ => ?_⟩) (fun y => ⟨by constructor <;> decide, fun _ => ⟨by omega, by omega, ?_⟩, fun z => absurd rfl z⟩)⟩, fun y => by omega⟩
        · have t1 : tk1 c t = (if 8 < ((c :: t).takeWhile isL).length then 3 else if 0 ≤ wkO (cod ((c :: t).takeWhile isL)) then 10 + wkO (cod ((c :: t).takeWhile isL)) else 1, cod (((c :: t).takeWhile isL).take 8), (c :: t).dropWhile isL) := by unfold tk1; rw [if_pos y]
          rw [t1] at go
          refine eX2_word (bX2_word_0 (c_word4 (F := fun r17 M18 => wX2_cut_141 X F r17 S M18) (a := i') tc ct (by omega) ht hb (c :: t) i' [] e hi' (by simp) (fun k hk => by simp at hk) (fun c hc => by cases hc) (fun M' f' ct' => ?_)))
          refine go _ M' f' ct' ?_ ?_
          · have h2 : ((c :: t).takeWhile isL).length ≤ (c :: t).length := List.Sublist.length_le (List.takeWhile_sublist _)
            have := congrArg List.length e
            rw [List.length_drop] at this
            omega
          · show _ = (c :: t).dropWhile isL
            rw [dw_drop, ← e, List.drop_drop]
        · rw [m]
          refine c_isDigit cb.1 cb.2 (fun w => ⟨by constructor <;> decide, fun z => by omega, fun _ => ?_⟩) (fun w => ⟨by constructor <;> decide, fun _ => ?_, fun z => absurd rfl z⟩)
          · have t1 : tk1 c t = (if 4 < ((c :: t).takeWhile isD).length then 3 else 2, nmb (((c :: t).takeWhile isD).take 4), (c :: t).dropWhile isD) := by unfold tk1; rw [if_neg (by rw [y]; decide), if_pos w]
            rw [t1] at go
            refine eX2_number (bX2_number_0 (c_number4 (F := fun r17 M18 => wX2_cut_141 X F r17 S M18) (a := i') tc ct (by omega) ht hb (c :: t) i' [] e hi' (by simp) (fun c hc => by cases hc) (fun M' f' ct' => ?_)))
            refine go _ M' f' ct' ?_ ?_
            · have h2 : ((c :: t).takeWhile isD).length ≤ (c :: t).length := List.Sublist.length_le (List.takeWhile_sublist _)
              have := congrArg List.length e
              rw [List.length_drop] at this
              omega
            · show _ = (c :: t).dropWhile isD
              rw [dw_drop, ← e, List.drop_drop]
          · have t1 : tk1 c t = (if c = 59 then 4 else if c = 123 then 5 else if c = 125 then 6 else 3, 0, t) := by unfold tk1; rw [if_neg (by rw [y]; decide), if_neg (by rw [w]; decide)]
            rw [t1] at go
            have g40 : ∀ kd : Int, kd = (if c = 59 then 4 else if c = 123 then 5 else if c = 125 then 6 else 3) → wX2_sign_40 X (fun r13 M14 => wX2_cut_141 X F r13 S M14) i' kd S M1 := fun kd hk => by
              refine bX2_sign_40 (c_tadd ct (by omega) ?_ (by omega) (fun M' f' ct' => ?_))
              · rw [hk]
                split
                · decide
                · split
                  · decide
                  · split <;> decide
              · have := go (i' + 1) M' f' (by rw [hk] at ct'; exact ct') (by omega) d3
                rw [Int.natCast_succ] at this
                exact this
            refine eX2_sign (bX2_sign_0 ?_)
            rw [m]
            have s59 : sb c = 59 ↔ c = 59 := by unfold sb; split <;> omega
            have s123 : sb c = 123 ↔ c = 123 := by unfold sb; split <;> omega
            have s125 : sb c = 125 ↔ c = 125 := by unfold sb; split <;> omega
            refine ⟨by omega, by omega, by constructor <;> omega, fun z1 => ⟨by constructor <;> omega, fun z2 => ⟨by constructor <;> omega, fun z3 => g40 3 ?_, fun z3 => g40 6 ?_⟩, fun z2 => g40 5 ?_⟩, fun z1 => g40 4 ?_⟩
            · rw [if_neg (fun q => z1 (s59.2 q)), if_neg (fun q => z2 (s123.2 q)), if_neg (fun q => z3 (s125.2 q))]
            · rw [if_neg (fun q => z1 (s59.2 q)), if_neg (fun q => z2 (s123.2 q)), if_pos (s125.1 z3)]
            · rw [if_neg (fun q => z1 (s59.2 q)), if_pos (s123.1 z2)]
            · rw [if_pos (s59.1 z1)]
theorem c_cut {F : pM → Prop} (tc : CTp M tp) (ht : tp.length ≤ 2000) (hb : ∀ x ∈ tp, 0 ≤ x ∧ x < 256) (k : ∀ M', (∀ x, x ≠ 11 → x ≠ 13 → x ≠ 14 → x ≠ 15 → M' x = M x) → M' 11 1 = 0 → CTk M' ((tkL tp).take 401) → F M') : pNv true X mX2_cut 8 [pR 11] S M F := by
  refine eX2_cut (bX2_cut_0 (fun M1 e1 => ?_))
  have f1 : frS M M1 := ⟨fun x h _ _ _ => by rw [e1, up_ne h], fun j hj => by rw [e1, up_oi hj]⟩
  have := c_cut7 (X := X) (S := S) (M := M) (F := F) (tp := tp) ht hb (Ts := tkL tp) (fun M' f' ct' => bX2_cut_145 (fun M2 e2 => k M2 (fun x h1 h2 h3 h4 => by rw [e2, up_ne h1]; exact f'.1 x h1 h2 h3 h4) (by rw [e2, up_same]) ?_)) (tp.length + 1) 0 [] M1 f1 ?_ ⟨by rw [e1, up_same]; rfl, fun j hj => by simp at hj⟩ (by simp) (by omega) (by simp) (by rw [List.drop_zero]; rfl)
  · exact this
  · refine ⟨by rw [e2, up_oi (by decide)]; exact ct'.1, fun j hj => ?_⟩
    rw [e2, up_ne (by decide), up_ne (by decide), up_ne (by decide)]
    exact ct'.2 j hj
  · unfold CTp
    rw [f1.2 1 (by decide), f1.1 12 (by decide) (by decide) (by decide) (by decide)]
    exact tc
end
