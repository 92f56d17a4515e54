/-! ===== the twin scans a text ===== -/
set_option maxRecDepth 100000
def srt5 (k : Int) : Int := if k = 1 then 0 else if k = 2 then 1 else if k = 4 ∨ k = 5 ∨ k = 6 then 2 else if 10 ≤ k then 3 else if k = 0 then 4 else 5
def wht (x : tok) : Int := if x.1 = 2 then x.2.2 else if x.1 = 4 then 59 else if x.1 = 5 then 123 else if x.1 = 6 then 125 else x.1 - 10
def TTk (M : pM) (D : List tok) : Prop := M 241 14 = D.length ∧ ∀ j : Nat, j < D.length → M 253 j = srt5 (tkd D j).1 ∧ M 254 j = (tkd D j).2.1 ∧ ((tkd D j).1 ≠ 0 → (tkd D j).1 ≠ 1 → (tkd D j).1 ≠ 3 → M 255 j = wht (tkd D j)) ∧ ((tkd D j).1 = 1 → M 256 j = (tkd D j).2.2)
def upB : List tok → List tok
  | [] => []
  | x :: l => if x.1 = 3 then [x] else x :: upB l
def frE (M M' : pM) : Prop := (∀ x, x ≠ 241 → x ≠ 253 → x ≠ 254 → x ≠ 255 → x ≠ 256 → M' x = M x) ∧ ∀ j, j ≠ 14 → M' 241 j = M 241 j
theorem frE.refl (M : pM) : frE M M := ⟨fun _ _ _ _ _ _ => rfl, fun _ _ => rfl⟩
theorem frE.trans {M M1 M2 : pM} (a : frE M M1) (b : frE M1 M2) : frE M M2 := ⟨fun x h1 h2 h3 h4 h5 => (b.1 x h1 h2 h3 h4 h5).trans (a.1 x h1 h2 h3 h4 h5), fun j h => (b.2 j h).trans (a.2 j h)⟩
section
variable {X : px} {S : List psh} {M : pM} {tp : List Int}
theorem tw_token {F : pM → Prop} {D : List tok} {x : tok} {s w : Int} (tt : TTk M D) (hD : D.length < 2001) (hs : s = srt5 x.1) (hw : x.1 ≠ 0 → x.1 ≠ 1 → x.1 ≠ 3 → w = wht x) (hn : x.1 = 1 → M 256 D.length = x.2.2) (k : ∀ M', frE M M' → TTk M' (D ++ [x]) → F M') : pNv true X mX6_token 1 [pR 241, pI s, pI x.2.1, pI w] S M F := by
  refine eX6_token (bX6_token_0 ?_)
  rw [tt.1]
  refine ⟨by omega, by omega, fun M3 e3 => ?_⟩
  have z3 : M3 241 14 = D.length := by rw [e3, up_ne (by decide)]; exact tt.1
  rw [z3]
  refine ⟨by omega, by omega, fun M6 e6 => ?_⟩
  have z6 : M6 241 14 = D.length := by rw [e6, up_ne (by decide)]; exact z3
  rw [z6]
  refine ⟨by omega, by omega, fun M9 e9 M10 e10 => ?_⟩
  have z9 : M9 241 14 = D.length := by rw [e9, up_ne (by decide)]; exact z6
  rw [z9] at e10
  have v3 : M10 253 = pu_up M 253 D.length s 253 := by rw [e10, up_ne (by decide), e9, up_ne (by decide), e6, up_ne (by decide), e3]
  have v4 : M10 254 = pu_up M 254 D.length x.2.1 254 := by
    rw [e10, up_ne (by decide), e9, up_ne (by decide), e6]
    exact up_cong (by rw [e3, up_ne (by decide)])
  have v5 : M10 255 = pu_up M 255 D.length w 255 := by
    rw [e10, up_ne (by decide), e9]
    exact up_cong (by rw [e6, up_ne (by decide), e3, up_ne (by decide)])
  have v6 : M10 256 = M 256 := by rw [e10, up_ne (by decide), e9, up_ne (by decide), e6, up_ne (by decide), e3, up_ne (by decide)]
  refine k M10 ⟨fun x h1 h2 h3 h4 h5 => by rw [e10, up_ne h1, e9, up_ne h4, e6, up_ne h3, e3, up_ne h2], fun j hj => by rw [e10, up_oi hj, e9, up_ne (by decide), e6, up_ne (by decide), e3, up_ne (by decide)]⟩ ⟨by rw [e10, up_same]; simp, fun j hj => ?_⟩
  simp at hj
  rw [v3, v4, v5, v6]
  by_cases d : j = D.length
  · rw [d, tkd_new, up_same, up_same, up_same]
    exact ⟨hs, rfl, hw, hn⟩
  · rw [tkd_app (by omega), up_oi (by omega), up_oi (by omega), up_oi (by omega)]
    exact tt.2 j (by omega)
theorem tw_byteAt {F : Int → pM → Prop} {i : Nat} (tc : TTp M tp) (ht : tp.length ≤ 2000) (hi : i ≤ tp.length) (k1 : ∀ c t, tp.drop i = c :: t → F c M) (k0 : tp.drop i = [] → F 0 M) : pNi true X mX6_byteAt 1 [pR 241, pI i] S M F := by
  refine eX6_byteAt (bX6_byteAt_0 ?_)
  rw [tc.1]
  cases e : tp.drop i with
  | nil =>
    have := dpn e
    exact ⟨by constructor <;> omega, by constructor <;> omega, fun _ => k0 e, fun y => by omega⟩
  | cons c t =>
    obtain ⟨a1, a2, a3⟩ := dpc e
    have m := tc.2 i (by omega) (by omega)
    rw [a2] at m
    rw [m]
    exact ⟨by constructor <;> omega, by constructor <;> omega, fun y => by omega, fun _ => ⟨by omega, by omega, k1 c t e⟩⟩
theorem tw_isLetter {F : Int → pM → Prop} {i : Nat} (tc : TTp M tp) (ht : tp.length ≤ 2000) (hb : ∀ x ∈ tp, 0 ≤ x ∧ x < 256) (hi : i ≤ tp.length) (k1 : ∀ c t, tp.drop i = c :: t → isL c = true → F 1 M) (k0 : (∀ c t, tp.drop i = c :: t → isL c = false) → F 0 M) : pNi true X mX6_isLetter 2 [pR 241, pI i] S M F := by
  refine eX6_isLetter (bX6_isLetter_0 (tw_byteAt tc ht hi (fun c t e => ?_) (fun e => ⟨by constructor <;> decide, fun _ => k0 (fun c t y => by rw [e] at y; cases y), fun y => by omega⟩)))
  have cb := hb c (dpm e)
  have no : ¬ (97 ≤ c ∧ c ≤ 122) → F 0 M := fun z => k0 (fun c' t' y => by
    rw [e] at y
    injection y with y1 _
    subst y1
    cases h : isL c with
    | false => rfl
    | true => exact absurd (isL_iff.1 h) z)
  refine ⟨by constructor <;> omega, fun y => no (by omega), fun y => tw_byteAt tc ht hi (fun c' t' e' => ?_) (fun e' => by rw [e] at e'; cases e')⟩
  rw [e] at e'
  injection e' with y1 _
  subst y1
  exact ⟨by constructor <;> omega, fun z => no (by omega), fun z => k1 c t e (isL_iff.2 ⟨y, z⟩)⟩
theorem tw_isDigit {F : Int → pM → Prop} {i : Nat} (tc : TTp M tp) (ht : tp.length ≤ 2000) (hb : ∀ x ∈ tp, 0 ≤ x ∧ x < 256) (hi : i ≤ tp.length) (k1 : ∀ c t, tp.drop i = c :: t → isD c = true → F 1 M) (k0 : (∀ c t, tp.drop i = c :: t → isD c = false) → F 0 M) : pNi true X mX6_isDigit 2 [pR 241, pI i] S M F := by
  refine eX6_isDigit (bX6_isDigit_0 (tw_byteAt tc ht hi (fun c t e => ?_) (fun e => ⟨by constructor <;> decide, fun _ => k0 (fun c t y => by rw [e] at y; cases y), fun y => by omega⟩)))
  have cb := hb c (dpm e)
  have no : ¬ (48 ≤ c ∧ c ≤ 57) → F 0 M := fun z => k0 (fun c' t' y => by
    rw [e] at y
    injection y with y1 _
    subst y1
    cases h : isD c with
    | false => rfl
    | true => exact absurd (isD_iff.1 h) z)
  refine ⟨by constructor <;> omega, fun y => no (by omega), fun y => tw_byteAt tc ht hi (fun c' t' e' => ?_) (fun e' => by rw [e] at e'; cases e')⟩
  rw [e] at e'
  injection e' with y1 _
  subst y1
  exact ⟨by constructor <;> omega, fun z => no (by omega), fun z => k1 c t e (isD_iff.2 ⟨y, z⟩)⟩
theorem tw_wordOf {F : Int → pM → Prop} {x : Int} (h0 : 0 ≤ x) (h1 : x < 282429536481) (k : F (wkO x) M) : pNi true X mX6_wordOf 1 [pL x] S M F := by
  have L : inL x := ⟨by omega, by omega⟩
  unfold wkO at k
  refine eX6_wordOf (bX6_wordOf_0 ?_)
  refine ⟨L, fun a0 => ⟨L, fun a1 => ⟨L, fun a2 => ⟨L, fun a3 => ⟨L, fun a4 => ⟨L, fun a5 => ⟨L, fun a6 => ⟨L, fun a7 => ⟨L, fun a8 => ⟨L, fun a9 => ?_, fun a9 => ?_⟩, fun a8 => ?_⟩, fun a7 => ?_⟩, fun a6 => ?_⟩, fun a5 => ?_⟩, fun a4 => ?_⟩, fun a3 => ?_⟩, fun a2 => ?_⟩, fun a1 => ?_⟩, fun a0 => ?_⟩
  · rw [if_neg a0, if_neg a1, if_neg a2, if_neg a3, if_neg a4, if_neg a5, if_neg a6, if_neg a7, if_neg a8, if_neg a9] at k; exact k
  · rw [if_neg a0, if_neg a1, if_neg a2, if_neg a3, if_neg a4, if_neg a5, if_neg a6, if_neg a7, if_neg a8, if_pos a9] at k; exact k
  · rw [if_neg a0, if_neg a1, if_neg a2, if_neg a3, if_neg a4, if_neg a5, if_neg a6, if_neg a7, if_pos a8] at k; exact k
  · rw [if_neg a0, if_neg a1, if_neg a2, if_neg a3, if_neg a4, if_neg a5, if_neg a6, if_pos a7] at k; exact k
  · rw [if_neg a0, if_neg a1, if_neg a2, if_neg a3, if_neg a4, if_neg a5, if_pos a6] at k; exact k
  · rw [if_neg a0, if_neg a1, if_neg a2, if_neg a3, if_neg a4, if_pos a5] at k; exact k
  · rw [if_neg a0, if_neg a1, if_neg a2, if_neg a3, if_pos a4] at k; exact k
  · rw [if_neg a0, if_neg a1, if_neg a2, if_pos a3] at k; exact k
  · rw [if_neg a0, if_neg a1, if_pos a2] at k; exact k
  · rw [if_neg a0, if_pos a1] at k; exact k
  · rw [if_pos a0] at k; exact k
theorem tw_num {F : Int → pM → Prop} {D : List tok} {a : Nat} (tc : TTp M tp) (tt : TTk M D) (hD : D.length < 2001) (ht : tp.length ≤ 2000) (hb : ∀ x ∈ tp, 0 ≤ x ∧ x < 256) : ∀ (r : List Int) (j : Nat) (W : List Int), tp.drop j = r → j ≤ tp.length → a + W.length = j → (∀ M', frE M M' → TTk M' (D ++ [(if 4 < (W ++ r.takeWhile isD).length then 3 else 2, (a : Int), nmb ((W ++ r.takeWhile isD).take 4))]) → F ((j + (r.takeWhile isD).length : Nat) : Int) M') → wX6_scan_120 X F a j (nmb (W.take 4)) S M := by
  intro r
  have stop : ∀ (j : Nat) (W : List Int), j ≤ tp.length → a + W.length = j → (∀ M', frE M M' → TTk M' (D ++ [(if 4 < W.length then 3 else 2, (a : Int), nmb (W.take 4))]) → F (j : Int) M') → inR ((j : Int) - a) ∧ ((j : Int) - a ≤ 4 → wX6_scan_168 X F a j (nmb (W.take 4)) 1 S M) ∧ (4 < (j : Int) - a → wX6_scan_168 X F a j (nmb (W.take 4)) 5 S M) := by
    intro j W hj ha k
    refine ⟨by constructor <;> omega, fun y => bX6_scan_168 ?_, fun y => bX6_scan_168 ?_⟩
    · rw [if_neg (by omega)] at k
      exact tw_token (x := (2, (a : Int), nmb (W.take 4))) tt hD rfl (fun _ _ _ => rfl) (fun z => absurd (show (2 : Int) = 1 from z) (by decide)) k
    · rw [if_pos (by omega)] at k
      exact tw_token (x := (3, (a : Int), nmb (W.take 4))) tt hD rfl (fun _ _ z => absurd rfl z) (fun z => absurd (show (3 : Int) = 1 from z) (by decide)) k
  induction r with
  | nil =>
    intro j W e hj ha k
    rw [List.takeWhile_nil, List.append_nil, List.length_nil, Nat.add_zero] at k
    exact bX6_scan_120 (tw_isDigit tc ht hb hj (fun c t y => by rw [e] at y; cases y) (fun _ => ⟨by constructor <;> decide, fun _ => stop j W hj ha k, fun y => absurd rfl y⟩))
  | cons c t ih =>
    intro j W e hj ha k
    obtain ⟨d1, d2, d3⟩ := dpc e
    have cb := hb c (dpm e)
    refine bX6_scan_120 (tw_isDigit tc ht hb hj (fun c' t' y z => ?_) (fun y => ⟨by constructor <;> decide, fun _ => stop j W hj ha ?_, fun y => absurd rfl y⟩))
    · rw [e] at y
      injection y with y1 y2
      subst y1
      rw [tw_yes z] at k
      have nx := ih (j + 1) (W ++ [c]) d3 (by omega) (by rw [List.length_append, List.length_cons, List.length_nil]; omega) (fun M' f' ct' => by
        have := k M' f' (by rw [List.append_assoc] at ct'; exact ct')
        rw [List.length_cons] at this
        rw [show j + 1 + (t.takeWhile isD).length = j + ((t.takeWhile isD).length + 1) by omega]
        exact this)
      rw [Int.natCast_succ] at nx
      refine ⟨by constructor <;> decide, fun y => by omega, fun _ => ⟨by constructor <;> omega, fun y => ?_, fun y => tw_byteAt tc ht hj (fun c' t' y' => ?_) (fun y' => by rw [e] at y'; cases y')⟩⟩
      · rw [take_sn, if_neg (by omega)] at nx
        exact bX6_scan_149 nx
      · rw [e] at y'
        injection y' with y1 y2
        subst y1
        rw [take_sn, if_pos (by omega), nmb_snoc] at nx
        exact bX6_scan_149 nx
    · rw [tw_no (y c t e), List.append_nil, List.length_nil, Nat.add_zero] at k
      exact k
theorem tw_wrd {F : Int → pM → Prop} {D : List tok} {a : Nat} (tc : TTp M tp) (tt : TTk M D) (hD : D.length < 2001) (ht : tp.length ≤ 2000) (hb : ∀ x ∈ tp, 0 ≤ x ∧ x < 256) : ∀ (r : List Int) (j : Nat) (W : List Int), tp.drop j = r → j ≤ tp.length → a + W.length = j → (∀ c ∈ W, 97 ≤ c ∧ c ≤ 122) → (∀ M', frE M M' → TTk M' (D ++ [(if 8 < (W ++ r.takeWhile isL).length then 3 else if 0 ≤ wkO (cod (W ++ r.takeWhile isL)) then 10 + wkO (cod (W ++ r.takeWhile isL)) else 1, (a : Int), cod ((W ++ r.takeWhile isL).take 8))]) → F ((j + (r.takeWhile isL).length : Nat) : Int) M') → wX6_scan_12 X F a j (cod (W.take 8)) S M := by
  intro r
  have stop : ∀ (j : Nat) (W : List Int), j ≤ tp.length → a + W.length = j → (∀ c ∈ W, 97 ≤ c ∧ c ≤ 122) → (∀ M', frE M M' → TTk M' (D ++ [(if 8 < W.length then 3 else if 0 ≤ wkO (cod W) then 10 + wkO (cod W) else 1, (a : Int), cod (W.take 8))]) → F (j : Int) M') → inR ((j : Int) - a) ∧ ((j : Int) - a ≤ 8 → pNi true X mX6_wordOf 1 [pL (cod (W.take 8))] S M (fun (r5 : Int) (M6 : pM) => wX6_scan_67 X F a j (cod (W.take 8)) r5 S M6)) ∧ (8 < (j : Int) - a → wX6_scan_67 X F a j (cod (W.take 8)) (-1) S M) := by
    intro j W hj ha hW k
    have c8 := cod_8 hW
    have step : ∀ (v : Int) (kd : Int), (∀ M3, M3 = pu_up M 256 D.length (cod (W.take 8)) → wX6_scan_102 X F a j v kd S M3) → ∀ M3, M3 = pu_up M 256 D.length (cod (W.take 8)) → wX6_scan_102 X F a j v kd S M3 := fun _ _ h => h
    have tt3 : ∀ M3, M3 = pu_up M 256 D.length (cod (W.take 8)) → TTk M3 D ∧ frE M M3 ∧ M3 256 D.length = cod (W.take 8) := fun M3 e3 => by
      refine ⟨⟨by rw [e3, up_ne (by decide)]; exact tt.1, fun q hq => ?_⟩, ⟨fun x _ _ _ _ h5 => by rw [e3, up_ne h5], fun q _ => by rw [e3, up_ne (by decide)]⟩, by rw [e3, up_same]⟩
      rw [e3, up_ne (by decide), up_ne (by decide), up_ne (by decide), up_oi (by omega)]
      exact tt.2 q hq
    refine ⟨by constructor <;> omega, fun y => tw_wordOf c8.1 c8.2 (bX6_scan_67 ?_), fun y => bX6_scan_67 ?_⟩
    · have eW : W.take 8 = W := List.take_of_length_le (by omega)
      rw [tt.1]
      refine ⟨by omega, by omega, fun M3 e3 => ?_⟩
      obtain ⟨t3, f3, n3⟩ := tt3 M3 e3
      rw [if_neg (by omega)] at k
      rw [eW] at k n3 ⊢
      have wb : -1 ≤ wkO (cod W) ∧ wkO (cod W) ≤ 9 := by
        rcases wkO_cases (cod W) with ⟨z, _⟩ | ⟨i, z1, _, z2⟩ <;> omega
      refine ⟨by constructor <;> omega, fun _ => ⟨by constructor <;> omega, fun z => bX6_scan_102 ?_, fun z => bX6_scan_102 ?_⟩, fun z => by omega⟩
      · rw [if_neg (by omega)] at k
        exact tw_token (x := (1, (a : Int), cod W)) t3 hD rfl (fun _ z => absurd rfl z) (fun _ => n3) (fun M' f' t' => k M' (f3.trans f') t')
      · rw [if_pos z] at k
        refine tw_token (x := (10 + wkO (cod W), (a : Int), cod W)) t3 hD ?_ (fun _ _ _ => ?_) (fun y => ?_) (fun M' f' t' => k M' (f3.trans f') t')
        · unfold srt5
          rw [if_neg (show ¬ 10 + wkO (cod W) = 1 by omega), if_neg (show ¬ 10 + wkO (cod W) = 2 by omega), if_neg (show ¬ (10 + wkO (cod W) = 4 ∨ 10 + wkO (cod W) = 5 ∨ 10 + wkO (cod W) = 6) by omega), if_pos (show 10 ≤ 10 + wkO (cod W) by omega)]
        · unfold wht
          show wkO (cod W) = _
          rw [if_neg (show ¬ 10 + wkO (cod W) = 2 by omega), if_neg (show ¬ 10 + wkO (cod W) = 4 by omega), if_neg (show ¬ 10 + wkO (cod W) = 5 by omega), if_neg (show ¬ 10 + wkO (cod W) = 6 by omega)]
          show wkO (cod W) = 10 + wkO (cod W) - 10
          omega
        · have y : 10 + wkO (cod W) = 1 := y
          omega
    · rw [tt.1]
      refine ⟨by omega, by omega, fun M3 e3 => ?_⟩
      obtain ⟨t3, f3, n3⟩ := tt3 M3 e3
      rw [if_pos (by omega)] at k
      exact ⟨by constructor <;> omega, fun z => by omega, fun _ => bX6_scan_102 (tw_token (x := (3, (a : Int), cod (W.take 8))) t3 hD rfl (fun _ _ z => absurd rfl z) (fun z => absurd (show (3 : Int) = 1 from z) (by decide)) (fun M' f' t' => k M' (f3.trans f') t'))⟩
  induction r with
  | nil =>
    intro j W e hj ha hW k
    rw [List.takeWhile_nil, List.append_nil, List.length_nil, Nat.add_zero] at k
    exact bX6_scan_12 (tw_isLetter tc ht hb hj (fun c t y => by rw [e] at y; cases y) (fun _ => ⟨by constructor <;> decide, fun _ => stop j W hj ha hW k, fun y => absurd rfl y⟩))
  | cons c t ih =>
    intro j W e hj ha hW k
    obtain ⟨d1, d2, d3⟩ := dpc e
    have cb := hb c (dpm e)
    refine bX6_scan_12 (tw_isLetter tc ht hb hj (fun c' t' y z => ?_) (fun y => ⟨by constructor <;> decide, fun _ => stop j W hj ha hW ?_, fun y => absurd rfl y⟩))
    · rw [e] at y
      injection y with y1 y2
      subst y1
      have cD := isL_iff.1 z
      rw [tw_yes z] at k
      have hW' : ∀ x ∈ W ++ [c], 97 ≤ x ∧ x ≤ 122 := fun x hx => by
        rcases List.mem_append.1 hx with w | w
        · exact hW x w
        · rw [List.mem_singleton.1 w]; exact cD
      have nx := ih (j + 1) (W ++ [c]) d3 (by omega) (by rw [List.length_append, List.length_cons, List.length_nil]; omega) hW' (fun M' f' ct' => by
        have := k M' f' (by rw [List.append_assoc] at ct'; exact ct')
        rw [List.length_cons] at this
        rw [show j + 1 + (t.takeWhile isL).length = j + ((t.takeWhile isL).length + 1) by omega]
        exact this)
      rw [Int.natCast_succ] at nx
      refine ⟨by constructor <;> decide, fun y => by omega, fun _ => ⟨by constructor <;> omega, fun y => ?_, fun y => tw_byteAt tc ht hj (fun c' t' y' => ⟨?_, ?_⟩) (fun y' => by rw [e] at y'; cases y')⟩⟩
      · rw [take_sn, if_neg (by omega)] at nx
        exact bX6_scan_45 nx
      · rw [e] at y'
        injection y' with y1 y2
        subst y1
        constructor <;> omega
      · rw [e] at y'
        injection y' with y1 y2
        subst y1
        rw [take_sn, if_pos (by omega), cod_snoc] at nx
        exact bX6_scan_45 nx
    · rw [tw_no (y c t e), List.append_nil, List.length_nil, Nat.add_zero] at k
      exact k
theorem tw_scan {F : Int → pM → Prop} {D : List tok} {i : Nat} {c : Int} {t : List Int} (tc : TTp M tp) (tt : TTk M D) (hD : D.length < 2001) (ht : tp.length ≤ 2000) (hb : ∀ x ∈ tp, 0 ≤ x ∧ x < 256) (e : tp.drop i = c :: t) (k : ∀ (i2 : Nat) (M' : pM), frE M M' → TTk M' (D ++ [((tk1 c t).1, (i : Int), (tk1 c t).2.1)]) → i < i2 → i2 ≤ tp.length → tp.drop i2 = (tk1 c t).2.2 → F i2 M') : pNi true X mX6_scan 3 [pR 241, pI i] S M F := by
  obtain ⟨d1, d2, d3⟩ := dpc e
  have cb := hb c (dpm e)
  have el := congrArg List.length e
  rw [List.length_drop, List.length_cons] at el
  refine eX6_scan (bX6_scan_0 (tw_isLetter tc ht hb (by omega) (fun c' t' y z => ⟨by constructor <;> decide, fun w => by omega, fun _ => ?_⟩) (fun y => ⟨by constructor <;> decide, fun _ => tw_isDigit tc ht hb (by omega) (fun c' t' y' z => ⟨by constructor <;> decide, fun w => by omega, fun _ => ?_⟩) (fun y' => ⟨by constructor <;> decide, fun _ => tw_byteAt tc ht (by omega) (fun c' t' y2 => ?_) (fun y2 => by rw [e] at y2; cases y2), fun w => absurd rfl w⟩), fun w => absurd rfl w⟩)))
  · rw [e] at y
    injection y with y1 y2
    subst y1
    have t1 : tk1 c t = (if 8 < ((c :: t).takeWhile isL).length then 3 else if 0 ≤ wkO (cod ((c :: t).takeWhile isL)) then 10 + wkO (cod ((c :: t).takeWhile isL)) else 1, cod (((c :: t).takeWhile isL).take 8), (c :: t).dropWhile isL) := by unfold tk1; rw [if_pos z]
    rw [t1] at k
    have h2 : ((c :: t).takeWhile isL).length ≤ (c :: t).length := List.Sublist.length_le (List.takeWhile_sublist _)
    rw [List.length_cons] at h2
    refine tw_wrd (a := i) tc tt hD ht hb (c :: t) i [] e (by omega) (by simp) (fun c hc => by cases hc) (fun M' f' ct' => k _ M' f' ct' ?_ (by omega) ?_)
    · rw [tw_yes z, List.length_cons]; omega
    · show _ = (c :: t).dropWhile isL
      rw [dw_drop, ← e, List.drop_drop]
  · rw [e] at y'
    injection y' with y1 y2
    subst y1
    have t1 : tk1 c t = (if 4 < ((c :: t).takeWhile isD).length then 3 else 2, nmb (((c :: t).takeWhile isD).take 4), (c :: t).dropWhile isD) := by unfold tk1; rw [if_neg (by rw [y c t e]; decide), if_pos z]
    rw [t1] at k
    have h2 : ((c :: t).takeWhile isD).length ≤ (c :: t).length := List.Sublist.length_le (List.takeWhile_sublist _)
    rw [List.length_cons] at h2
    refine tw_num (a := i) tc tt hD ht hb (c :: t) i [] e (by omega) (by simp) (fun M' f' ct' => k _ M' f' ct' ?_ (by omega) ?_)
    · rw [tw_yes z, List.length_cons]; omega
    · show _ = (c :: t).dropWhile isD
      rw [dw_drop, ← e, List.drop_drop]
  · rw [e] at y2
    injection y2 with y1 y2
    subst y1
    have t1 : tk1 c t = (if c = 59 then 4 else if c = 123 then 5 else if c = 125 then 6 else 3, 0, t) := by unfold tk1; rw [if_neg (by rw [y c t e]; decide), if_neg (by rw [y' c t e]; decide)]
    rw [t1] at k
    have fin : ∀ M', frE M M' → TTk M' (D ++ [(if c = 59 then 4 else if c = 123 then 5 else if c = 125 then 6 else 3, (i : Int), 0)]) → F ((i : Int) + 1) M' := fun M' f' t' => by
      have := k (i + 1) M' f' t' (by omega) (by omega) d3
      rw [Int.natCast_succ] at this
      exact this
    refine ⟨by constructor <;> omega, fun z => bX6_scan_200 (bX6_scan_205 ?_), fun z1 => ⟨by constructor <;> omega, fun z => bX6_scan_200 (bX6_scan_205 ?_), fun z2 => ⟨by constructor <;> omega, fun z3 => bX6_scan_205 ?_, fun z => bX6_scan_200 (bX6_scan_205 ?_)⟩⟩⟩
    · rw [if_pos z] at fin
      exact tw_token (x := (4, (i : Int), 0)) tt hD rfl (fun _ _ _ => z) (fun w => absurd (show (4 : Int) = 1 from w) (by decide)) fin
    · rw [if_neg z1, if_pos z] at fin
      exact tw_token (x := (5, (i : Int), 0)) tt hD rfl (fun _ _ _ => z) (fun w => absurd (show (5 : Int) = 1 from w) (by decide)) fin
    · rw [if_neg z1, if_neg z2, if_neg z3] at fin
      exact tw_token (x := (3, (i : Int), 0)) tt hD rfl (fun _ _ w => absurd rfl w) (fun w => absurd (show (3 : Int) = 1 from w) (by decide)) fin
    · rw [if_neg z1, if_neg z2, if_pos z] at fin
      exact tw_token (x := (6, (i : Int), 0)) tt hD rfl (fun _ _ _ => z) (fun w => absurd (show (6 : Int) = 1 from w) (by decide)) fin
theorem upB_app : ∀ (D : List tok) (l : List tok), (∀ x ∈ D, x.1 ≠ 3) → upB (D ++ l) = D ++ upB l
  | [], _, _ => rfl
  | x :: D, l, h => by
    show (if x.1 = 3 then [x] else x :: upB (D ++ l)) = _
    rw [if_neg (h x List.mem_cons_self), upB_app D l (fun y hy => h y (List.mem_cons_of_mem _ hy))]
    rfl
theorem tw_scanAll9 {F : pM → Prop} (ht : tp.length ≤ 2000) (hb : ∀ x ∈ tp, 0 ≤ x ∧ x < 256) {Ts : List tok} (k : ∀ M', frE M M' → TTk M' (upB Ts) → F M') : ∀ (f i : Nat) (D : List tok) (M1 : pM), frE M M1 → TTp M1 tp → TTk M1 D → (∀ x ∈ D, x.1 ≠ 3) → D.length ≤ i → i ≤ tp.length → (tp.drop i).length < f → Ts = D ++ tks tp.length f (tp.drop i) → wX6_scanAll_9 X F i 1 S M1 := by
  intro f
  induction f with
  | zero => intro i D M1 _ _ _ _ _ _ h; omega
  | succ f ih =>
    intro i D M1 fr tc tt hD hDi hi hf hT
    rw [tks] at hT
    have skip : ∀ (r : List Int) (i : Nat), tp.drop i = r → i ≤ tp.length → D.length ≤ i → r.length ≤ f → Ts = D ++ (match r.dropWhile isB with
      | [] => [(0, (tp.length : Int), 0)]
      | c :: t => ((tk1 c t).1, (tp.length : Int) - ((c :: t).length : Int), (tk1 c t).2.1) :: tks tp.length f (tk1 c t).2.2) → wX6_scanAll_9 X F i 1 S M1 := by
      intro r
      induction r with
      | nil =>
        intro i e hi hDi hrf hT
        have hT : Ts = D ++ [(0, (tp.length : Int), 0)] := hT
        have := dpn e
        refine bX6_scanAll_9 ?_
        rw [tc.1]
        refine ⟨by constructor <;> omega, by constructor <;> omega, fun _ => bX6_scanAll_87 ⟨by constructor <;> decide, fun y => by omega, fun _ => ?_⟩, fun y => by omega⟩
        rw [tc.1]
        refine tw_token (x := (0, (tp.length : Int), 0)) tt (by omega) rfl (fun y => absurd rfl y) (fun y => absurd (show (0 : Int) = 1 from y) (by decide)) (fun M' f' t' => k M' (fr.trans f') ?_)
        rw [hT, upB_app D _ hD]
        exact t'
      | cons c t ihr =>
        intro i e hi hDi hrf hT
        obtain ⟨d1, d2, d3⟩ := dpc e
        have cb := hb c (dpm e)
        rw [List.length_cons] at hrf
        have sp : isB c = true → wX6_scanAll_51 X F i 1 S M1 := fun y => by
          rw [List.dropWhile_cons, if_pos y] at hT
          have := ihr (i + 1) d3 (by omega) (by omega) (by omega) hT
          rw [Int.natCast_succ] at this
          exact bX6_scanAll_51 this
        refine bX6_scanAll_9 ?_
        rw [tc.1]
        refine ⟨by constructor <;> omega, by constructor <;> omega, fun y => by omega, fun _ => ⟨by constructor <;> decide, fun y => by omega, fun _ => tw_byteAt tc ht hi (fun c' t' y => ?_) (fun y => by rw [e] at y; cases y)⟩⟩
        rw [e] at y
        injection y with y1 y2
        subst y1
        refine ⟨by constructor <;> omega, fun z => sp (isB_iff.2 (by omega)), fun z1 => ⟨by constructor <;> omega, fun z => sp (isB_iff.2 (by omega)), fun z2 => ⟨by constructor <;> omega, fun z => sp (isB_iff.2 (by omega)), fun z3 => ⟨by constructor <;> omega, fun z4 => ?_, fun z => sp (isB_iff.2 (by omega))⟩⟩⟩⟩
        have nb : ¬ isB c = true := fun z => by have := isB_iff.1 z; omega
        rw [List.dropWhile_cons, if_neg nb] at hT
        have hT : Ts = D ++ ((tk1 c t).1, (tp.length : Int) - ((c :: t).length : Int), (tk1 c t).2.1) :: tks tp.length f (tk1 c t).2.2 := hT
        have el := congrArg List.length e
        rw [List.length_drop, List.length_cons] at el
        rw [show ((tp.length : Int) - ((c :: t).length : Int)) = i by rw [List.length_cons]; omega] at hT
        have tl := tk1_len c t
        refine tw_scan tc tt (by omega) ht hb e (fun i2 M' f' tt' h1 h2 e2 => ?_)
        have len : (D ++ [((tk1 c t).1, (i : Int), (tk1 c t).2.1)]).length = D.length + 1 := by rw [List.length_append]; rfl
        have last : M' 253 ((D.length : Nat) : Int) = srt5 (tk1 c t).1 := by
          have := (tt'.2 D.length (by rw [len]; omega)).1
          rw [tkd_new] at this
          exact this
        have z14 : M' 241 14 - 1 = (D.length : Int) := by rw [tt'.1, len]; omega
        rw [z14, last]
        have sb5 : srt5 (tk1 c t).1 = 5 ↔ (tk1 c t).1 = 3 := by
          have kk : (tk1 c t).1 = 1 ∨ (tk1 c t).1 = 2 ∨ (tk1 c t).1 = 3 ∨ (tk1 c t).1 = 4 ∨ (tk1 c t).1 = 5 ∨ (tk1 c t).1 = 6 ∨ 10 ≤ (tk1 c t).1 := by
            unfold tk1
            split
            · show (if _ then (3 : Int) else if 0 ≤ wkO _ then 10 + wkO _ else 1) = 1 ∨ _
              generalize wkO _ = v
              split
              · exact Or.inr (Or.inr (Or.inl rfl))
              · split
                · exact Or.inr (Or.inr (Or.inr (Or.inr (Or.inr (Or.inr (show (10 : Int) ≤ 10 + v by omega))))))
                · exact Or.inl rfl
            · split
              · show (if _ then (3 : Int) else 2) = 1 ∨ _
                split
                · exact Or.inr (Or.inr (Or.inl rfl))
                · exact Or.inr (Or.inl rfl)
              · show (if c = 59 then (4 : Int) else if c = 123 then 5 else if c = 125 then 6 else 3) = 1 ∨ _
                split
                · exact Or.inr (Or.inr (Or.inr (Or.inl rfl)))
                · split
                  · exact Or.inr (Or.inr (Or.inr (Or.inr (Or.inl rfl))))
                  · split
                    · exact Or.inr (Or.inr (Or.inr (Or.inr (Or.inr (Or.inl rfl)))))
                    · exact Or.inr (Or.inr (Or.inl rfl))
          generalize (tk1 c t).1 = v at kk
          unfold srt5
          constructor
          · intro h
            split at h
            · omega
            · split at h
              · omega
              · split at h
                · omega
                · split at h
                  · omega
                  · split at h <;> omega
          · intro h
            subst h
            decide
        have sbd : 0 ≤ srt5 (tk1 c t).1 ∧ srt5 (tk1 c t).1 ≤ 5 := by
          unfold srt5
          split
          · omega
          · split
            · omega
            · split
              · omega
              · split
                · omega
                · split <;> omega
        refine ⟨by omega, by omega, by constructor <;> omega, fun z => bX6_scanAll_83 ?_, fun z => bX6_scanAll_83 ?_⟩
        · have b3 := sb5.1 z
          have fin : F M' := k M' (fr.trans f') (by
            rw [hT, upB_app D _ hD]
            show TTk M' (D ++ (if (tk1 c t).1 = 3 then _ else _))
            rw [if_pos b3]
            exact tt')
          have z12 : M' 241 12 = tp.length := by rw [f'.2 12 (by decide)]; exact tc.1
          refine bX6_scanAll_9 ?_
          rw [z12]
          have g87 : wX6_scanAll_87 X F 0 S M' := bX6_scanAll_87 ⟨by constructor <;> decide, fun _ => fin, fun y => absurd rfl y⟩
          exact ⟨by constructor <;> omega, by constructor <;> omega, fun _ => g87, fun _ => ⟨by constructor <;> decide, fun _ => g87, fun y => absurd rfl y⟩⟩
        · refine ih i2 _ M' (fr.trans f') ?_ tt' (fun x hx => ?_) (by rw [len]; omega) h2 (by rw [e2]; omega) (by rw [hT, e2, List.append_assoc]; rfl)
          · unfold TTp
            rw [f'.2 12 (by decide), f'.1 252 (by decide) (by decide) (by decide) (by decide) (by decide)]
            exact tc
          · rcases List.mem_append.1 hx with w | w
            · exact hD x w
            · rw [List.mem_singleton.1 w]
              exact fun q => z (sb5.2 q)
    exact skip _ i rfl hi hDi (by omega) hT
theorem tw_scanAll {F : pM → Prop} (tc : TTp M tp) (ht : tp.length ≤ 2000) (hb : ∀ x ∈ tp, 0 ≤ x ∧ x < 256) (k : ∀ M', frE M M' → TTk M' (upB (tkL tp)) → F M') : pNv true X mX6_scanAll 4 [pR 241] S M F := by
  refine eX6_scanAll (bX6_scanAll_0 (fun M1 e1 => ?_))
  have f1 : frE M M1 := ⟨fun x h _ _ _ _ => by rw [e1, up_ne h], fun j hj => by rw [e1, up_oi hj]⟩
  have := tw_scanAll9 (X := X) (S := S) (M := M) (F := F) (tp := tp) ht hb (Ts := tkL tp) k (tp.length + 1) 0 [] M1 f1 ?_ ⟨by rw [e1, up_same]; rfl, fun j hj => by simp at hj⟩ (fun x hx => by cases hx) (by simp) (by omega) (by simp) (by rw [List.drop_zero]; rfl)
  · exact this
  · unfold TTp
    rw [f1.2 12 (by decide), f1.1 252 (by decide) (by decide) (by decide) (by decide) (by decide)]
    exact tc
end
