/-! ===== the twin parses ===== -/
set_option maxRecDepth 100000
theorem upB_at : ∀ (Ts : List tok) (h : Nat), h < Ts.length → (∀ j, j < h → tK Ts j ≠ 3) → h < (upB Ts).length ∧ tkd (upB Ts) h = tkd Ts h
  | [], h, a, _ => by simp at a
  | x :: l, 0, a, _ => by
    unfold upB
    split
    · exact ⟨by simp, rfl⟩
    · exact ⟨by simp, rfl⟩
  | x :: l, h + 1, a, b => by
    have b0 : x.1 ≠ 3 := b 0 (by omega)
    unfold upB
    rw [if_neg b0]
    obtain ⟨c1, c2⟩ := upB_at l h (by simp at a; omega) (fun j hj => b (j + 1) (by omega))
    refine ⟨by simp; omega, ?_⟩
    exact c2
def frA (M M' : pM) : Prop := (∀ x, x ≠ 241 → M' x = M x) ∧ ∀ j, j ≠ 19 → j ≠ 20 → j ≠ 21 → j ≠ 22 → j ≠ 31 → M' 241 j = M 241 j
theorem frA.refl (M : pM) : frA M M := ⟨fun _ _ => rfl, fun _ _ _ _ _ _ => rfl⟩
theorem frA_up {M0 M : pM} {j v : Int} (f : frA M0 M) (h : j = 19 ∨ j = 20 ∨ j = 21 ∨ j = 22 ∨ j = 31) : frA M0 (pu_up M 241 j v) := ⟨fun x hx => by rw [up_ne hx]; exact f.1 x hx, fun i h1 h2 h3 h4 h5 => by rw [up_oi (by omega)]; exact f.2 i h1 h2 h3 h4 h5⟩
/-- the tokens as the twin has them -/
def TkT (M0 : pM) (Ts : List tok) : Prop := okT Ts 2000 ∧ ∀ j : Nat, okH Ts j → M0 253 j = srt5 (tK Ts j) ∧ M0 254 j = tP Ts j ∧ (tK Ts j ≠ 0 → tK Ts j ≠ 1 → tK Ts j ≠ 3 → M0 255 j = wht (tkd Ts j)) ∧ (tK Ts j = 1 → M0 256 j = tV Ts j)
def frPa (M M' : pM) : Prop := (∀ x, x ≠ 241 → M' x = M x) ∧ ∀ j, j ≠ 19 → j ≠ 22 → j ≠ 31 → M' 241 j = M 241 j
theorem frPa.refl (M : pM) : frPa M M := ⟨fun _ _ => rfl, fun _ _ _ _ => rfl⟩
theorem frPa.A {M M' : pM} (f : frPa M M') : frA M M' := ⟨f.1, fun j a _ _ b c => f.2 j a b c⟩
theorem frPa_up {M0 M : pM} {j v : Int} (f : frPa M0 M) (h : j = 19 ∨ j = 22 ∨ j = 31) : frPa M0 (pu_up M 241 j v) := ⟨fun x hx => by rw [up_ne hx]; exact f.1 x hx, fun i h1 h2 h3 => by rw [up_oi (by omega)]; exact f.2 i h1 h2 h3⟩
def TP0 (M0 : pM) (Ts : List tok) (M : pM) (h d m : Nat) : Prop := frPa M0 M ∧ M 241 19 = h ∧ M 241 31 = d ∧ M 241 22 = m ∧ okH Ts h ∧ d ≤ 4 ∧ m ≤ 8
def FtT (M0 : pM) (PO : Option (Int × Int)) (M : pM) : Prop := ∃ k p, PO = some (k, p) ∧ (1 ≤ k ∧ k ≤ 6) ∧ M 241 20 = k ∧ M 241 21 = p ∧ frA M0 M
theorem srt_bd (k : Int) : 0 ≤ srt5 k ∧ srt5 k ≤ 5 := by
  unfold srt5
  split
  · omega
  · split
    · omega
    · split
      · omega
      · split
        · omega
        · split <;> omega
theorem srt_0 {k : Int} : srt5 k = 0 ↔ k = 1 := by
  unfold srt5
  split
  · omega
  · split
    · omega
    · split
      · omega
      · split
        · omega
        · split <;> omega
theorem srt_1 {k : Int} : srt5 k = 1 ↔ k = 2 := by
  unfold srt5
  split
  · omega
  · split
    · omega
    · split
      · omega
      · split
        · omega
        · split <;> omega
theorem srt_2 {k : Int} : srt5 k = 2 ↔ (k = 4 ∨ k = 5 ∨ k = 6) := by
  unfold srt5
  split
  · omega
  · split
    · omega
    · split
      · omega
      · split
        · omega
        · split <;> omega
theorem srt_3 {k : Int} : srt5 k = 3 ↔ 10 ≤ k := by
  unfold srt5
  split
  · omega
  · split
    · omega
    · split
      · omega
      · split
        · omega
        · split <;> omega
theorem srt_4 {k : Int} : srt5 k = 4 ↔ k = 0 := by
  unfold srt5
  split
  · omega
  · split
    · omega
    · split
      · omega
      · split
        · omega
        · split <;> omega
theorem wht_s {Ts : List tok} {h : Nat} (e : tK Ts h = 4 ∨ tK Ts h = 5 ∨ tK Ts h = 6) : wht (tkd Ts h) = if tK Ts h = 4 then 59 else if tK Ts h = 5 then 123 else 125 := by
  unfold wht
  show (if tK Ts h = 2 then _ else if tK Ts h = 4 then (59 : Int) else if tK Ts h = 5 then 123 else if tK Ts h = 6 then 125 else _) = _
  rw [if_neg (by omega)]
  by_cases a : tK Ts h = 4
  · rw [if_pos a, if_pos a]
  · rw [if_neg a, if_neg a]
    by_cases b : tK Ts h = 5
    · rw [if_pos b, if_pos b]
    · rw [if_neg b, if_neg b, if_pos (by omega)]
theorem wht_w {Ts : List tok} {h : Nat} (e : 10 ≤ tK Ts h) : wht (tkd Ts h) = tK Ts h - 10 := by
  unfold wht
  show (if tK Ts h = 2 then _ else if tK Ts h = 4 then (59 : Int) else if tK Ts h = 5 then 123 else if tK Ts h = 6 then 125 else tK Ts h - 10) = _
  rw [if_neg (by omega), if_neg (by omega), if_neg (by omega), if_neg (by omega)]
theorem wht_i {Ts : List tok} {h : Nat} (e : tK Ts h = 2) : wht (tkd Ts h) = tV Ts h := by
  unfold wht
  show (if tK Ts h = 2 then tV Ts h else _) = _
  rw [if_pos e]
section
variable {X : px} {S : List psh} {M0 M : pM} {Ts : List tok} {PO : Option (Int × Int)} {h d m : Nat}
theorem tp_tok (tk : TkT M0 Ts) (tp : TP0 M0 Ts M h d m) : M 253 h = srt5 (tK Ts h) ∧ M 254 h = tP Ts h ∧ (tK Ts h ≠ 0 → tK Ts h ≠ 1 → tK Ts h ≠ 3 → M 255 h = wht (tkd Ts h)) ∧ (tK Ts h = 1 → M 256 h = tV Ts h) := by
  rw [tp.1.1 253 (by decide), tp.1.1 254 (by decide), tp.1.1 255 (by decide), tp.1.1 256 (by decide)]
  exact tk.2 h tp.2.2.2.2.1
theorem tp_wrong {F : Int → pM → Prop} {kd : Int} (tk : TkT M0 Ts) (tp : TP0 M0 Ts M h d m) (hk : 1 ≤ kd ∧ kd ≤ 6) (hP : PO = some (kd, tP Ts h)) (k0 : ∀ M', FtT M0 PO M' → F 0 M') : pNi true X mX6_wrong 1 [pR 241, pI kd] S M F := by
  have t := tp_tok tk tp
  obtain ⟨t1, t2, t3, t4, t5, t6⟩ := tp
  have h4 := t5.1
  refine eX6_wrong (bX6_wrong_0 (fun M1 e1 => ?_))
  have z1 : M1 241 19 = h := by rw [e1, up_oi (by decide)]; exact t2
  have z2 : M1 254 h = tP Ts h := by rw [e1, up_ne (by decide)]; exact t.2.1
  rw [z1, z2]
  refine ⟨by omega, by omega, fun M4 e4 => k0 M4 ⟨kd, tP Ts h, hP, hk, ?_, by rw [e4, up_same], ?_⟩⟩
  · rw [e4, up_oi (by decide), e1, up_same]
  · rw [e4, e1]
    exact frA_up (frA_up t1.A (by omega)) (by omega)
theorem tp_pass {F : Int → pM → Prop} {p : Option (Int × Int)} (tk : TkT M0 Ts) (tp : TP0 M0 Ts M h d m) (h0 : tK Ts h ≠ 0) (h3 : tK Ts h ≠ 3) (hP : PO = gO Ts h p) (k0 : ∀ M', FtT M0 PO M' → F 0 M') (k1 : ∀ M', TP0 M0 Ts M' (h + 1) d m → PO = p → F 1 M') : pNi true X mX6_pass 2 [pR 241] S M F := by
  have h4 := tp.2.2.2.2.1.1
  refine eX6_pass (bX6_pass_0 ?_)
  rw [tp.2.1]
  unfold gO at hP
  refine ⟨by constructor <;> omega, fun y M2 e2 => k1 M2 ?_ (by rw [if_neg (by omega)] at hP; exact hP), fun y => tp_wrong tk tp (by decide) (by rw [if_pos (by omega)] at hP; exact hP) (fun M' f => ⟨by decide, by decide, k0 M' f⟩)⟩
  obtain ⟨t1, t2, t3, t4, t5, t6, t7⟩ := tp
  refine ⟨by rw [e2]; exact frPa_up t1 (by omega), by rw [e2, up_same]; rfl, by rw [e2, up_oi (by decide)]; exact t3, by rw [e2, up_oi (by decide)]; exact t4, t5.next tk.1 (by omega) h0 h3, t6, t7⟩
theorem tp_isSign {F : Int → pM → Prop} {c kd : Int} (tk : TkT M0 Ts) (tp : TP0 M0 Ts M h d m) (hc : (c = 59 ∧ kd = 4) ∨ (c = 123 ∧ kd = 5) ∨ (c = 125 ∧ kd = 6)) (k1 : tK Ts h = kd → F 1 M) (k0 : tK Ts h ≠ kd → F 0 M) : pNi true X mX6_isSign 1 [pR 241, pI c] S M F := by
  have t := tp_tok tk tp
  have h4 := tp.2.2.2.2.1.1
  have sb := srt_bd (tK Ts h)
  have s2 := srt_2 (k := tK Ts h)
  refine eX6_isSign (bX6_isSign_0 ?_)
  rw [tp.2.1, t.1]
  refine ⟨by omega, by omega, by constructor <;> omega, fun y => k0 (by omega), fun y => ?_⟩
  have e := s2.1 y
  have w := wht_s e
  rw [t.2.2.1 (by omega) (by omega) (by omega), w]
  refine ⟨by omega, by omega, ?_, by constructor <;> omega, fun z => k0 (fun q => z ?_), fun z => k1 ?_⟩
  · split
    · constructor <;> decide
    · split <;> constructor <;> decide
  · rcases hc with ⟨c1, c2⟩ | ⟨c1, c2⟩ | ⟨c1, c2⟩
    · rw [if_pos (by omega)]; omega
    · rw [if_neg (by omega), if_pos (by omega)]; omega
    · rw [if_neg (by omega), if_neg (by omega)]; omega
  · split at z
    · omega
    · split at z <;> omega
theorem tp_isWord {F : Int → pM → Prop} {c : Int} (tk : TkT M0 Ts) (tp : TP0 M0 Ts M h d m) (hc : 0 ≤ c ∧ c ≤ 9) (k1 : tK Ts h = 10 + c → F 1 M) (k0 : tK Ts h ≠ 10 + c → F 0 M) : pNi true X mX6_isWord 1 [pR 241, pI c] S M F := by
  have t := tp_tok tk tp
  have okh := tp.2.2.2.2.1
  have h4 := okh.1
  have kb := tk.1.2.2.2.2.2.1 h okh.2.1
  have sb := srt_bd (tK Ts h)
  have s2 := srt_3 (k := tK Ts h)
  refine eX6_isWord (bX6_isWord_0 ?_)
  rw [tp.2.1, t.1]
  refine ⟨by omega, by omega, by constructor <;> omega, fun y => k0 (by omega), fun y => ?_⟩
  have e := s2.1 y
  rw [t.2.2.1 (by omega) (by omega) (by omega), wht_w e]
  exact ⟨by omega, by omega, by constructor <;> omega, by constructor <;> omega, fun z => k0 (by omega), fun z => k1 (by omega)⟩
theorem tp_takes {F : Int → pM → Prop} {c kd : Int} {p : Option (Int × Int)} (tk : TkT M0 Ts) (tp : TP0 M0 Ts M h d m) (hc : (c = 0 ∧ kd = 1) ∨ (c = 1 ∧ kd = 2)) (hP : PO = mU Ts h kd p) (k0 : ∀ M', FtT M0 PO M' → F 0 M') (k1 : ∀ M', TP0 M0 Ts M' (h + 1) d m → tK Ts h = kd → PO = p → F 1 M') : pNi true X mX6_takes 3 [pR 241, pI c] S M F := by
  have t := tp_tok tk tp
  have h4 := tp.2.2.2.2.1.1
  have sb := srt_bd (tK Ts h)
  have s0 := srt_0 (k := tK Ts h)
  have s1 := srt_1 (k := tK Ts h)
  unfold mU at hP
  refine eX6_takes (bX6_takes_0 ?_)
  rw [tp.2.1, t.1]
  refine ⟨by omega, by omega, by constructor <;> omega, by constructor <;> omega, fun y => tp_wrong tk tp (by decide) (by rw [if_neg (by omega)] at hP; exact hP) (fun M' f => ⟨by decide, by decide, k0 M' f⟩), fun y => ?_⟩
  have e : tK Ts h = kd := by omega
  rw [if_pos e] at hP
  exact tp_pass tk tp (by omega) (by omega) hP (fun M' f => ⟨by decide, by decide, k0 M' f⟩) (fun M' t' hp => ⟨by decide, by decide, k1 M' t' e hp⟩)
theorem tp_stop {F : Int → pM → Prop} {p : Option (Int × Int)} (tk : TkT M0 Ts) (tp : TP0 M0 Ts M h d m) (hP : PO = mU Ts h 4 p) (k0 : ∀ M', FtT M0 PO M' → F 0 M') (k1 : ∀ M', TP0 M0 Ts M' (h + 1) d m → PO = p → F 1 M') : pNi true X mX6_takesSign 3 [pR 241, pI 59] S M F := by
  unfold mU at hP
  refine eX6_takesSign (bX6_takesSign_0 (tp_isSign tk tp (Or.inl ⟨rfl, rfl⟩) (fun y => ⟨by constructor <;> decide, fun z => by omega, fun _ => ?_⟩) (fun y => ⟨by constructor <;> decide, fun _ => tp_wrong tk tp (by decide) (by rw [if_neg y] at hP; exact hP) (fun M' f => ⟨by decide, by decide, k0 M' f⟩), fun z => absurd rfl z⟩)))
  rw [if_pos y] at hP
  exact tp_pass tk tp (by omega) (by omega) hP (fun M' f => ⟨by decide, by decide, k0 M' f⟩) (fun M' t' hp => ⟨by decide, by decide, k1 M' t' hp⟩)
theorem tp_opens {F : Int → pM → Prop} {p : Option (Int × Int)} (tk : TkT M0 Ts) (tp : TP0 M0 Ts M h d m) (hP : PO = oP Ts h d p) (k0 : ∀ M', FtT M0 PO M' → F 0 M') (k1 : ∀ M', TP0 M0 Ts M' (h + 1) (d + 1) m → PO = p → F 1 M') : pNi true X mX6_opens 3 [pR 241] S M F := by
  have d4 := tp.2.2.2.2.2.1
  unfold oP at hP
  refine eX6_opens (bX6_opens_0 (tp_isSign tk tp (Or.inr (Or.inl ⟨rfl, rfl⟩)) (fun y => ⟨by constructor <;> decide, fun _ => ?_, fun z => by omega⟩) (fun y => ⟨by constructor <;> decide, fun z => absurd rfl z, fun _ => tp_wrong tk tp (by decide) (by rw [if_neg y] at hP; exact hP) (fun M' f => ⟨by decide, by decide, k0 M' f⟩)⟩)))
  rw [if_pos y] at hP
  rw [tp.2.2.1]
  refine ⟨by constructor <;> omega, fun z => tp_pass tk tp (by omega) (by omega) (by rw [if_neg (by omega)] at hP; exact hP) (fun M' f => ⟨by constructor <;> decide, fun q => absurd rfl q, fun _ => k0 M' f⟩) (fun M' t' hp => ⟨by constructor <;> decide, fun _ M8 e8 => k1 M8 ?_ hp, fun q => by omega⟩), fun z => tp_wrong tk tp (by decide) (by rw [if_pos (by omega)] at hP; exact hP) (fun M' f => ⟨by decide, by decide, k0 M' f⟩)⟩
  obtain ⟨t1, t2, t3, t4, t5, t6, t7⟩ := t'
  exact ⟨by rw [e8]; exact frPa_up t1 (by omega), by rw [e8, up_oi (by decide)]; exact t2, by rw [e8, up_same, t3]; rfl, by rw [e8, up_oi (by decide)]; exact t4, t5, by omega, t7⟩
theorem tp_through {F : Int → pM → Prop} {f : Nat} (tk : TkT M0 Ts) (tp : TP0 M0 Ts M h d m) (hP : PO = prs Ts (f + 1) h d m) (h0 : tK Ts h ≠ 0) (k0 : ∀ M', FtT M0 PO M' → F 0 M') (k1 : ∀ M' h' d' m', TP0 M0 Ts M' h' d' m' → h < h' → PO = prs Ts f h' d' m' → F 1 M') : pNi true X mX6_goesThrough 4 [pR 241] S M F := by
  have t := tp_tok tk tp
  have okh := tp.2.2.2.2.1
  have h4 := okh.1
  have kb := tk.1.2.2.2.2.2.1 h okh.2.1
  have d4 := tp.2.2.2.2.2.1
  have m8 := tp.2.2.2.2.2.2
  have sb := srt_bd (tK Ts h)
  have s3 := srt_3 (k := tK Ts h)
  have t31 := tp.2.2.1
  have t22 := tp.2.2.2.1
  have F0 : ∀ M', FtT M0 PO M' → inR (0 : Int) ∧ ((0 : Int) = 0 → F 0 M') ∧ ((0 : Int) ≠ 0 → F 1 M') := fun M' f => ⟨by constructor <;> decide, fun _ => k0 M' f, fun z => absurd rfl z⟩
  have F2 : ∀ M', FtT M0 PO M' → (0 : Int) ≤ 0 ∧ (0 : Int) < 2 ∧ F 0 M' := fun M' f => ⟨by decide, by decide, k0 M' f⟩
  refine eX6_goesThrough (bX6_goesThrough_0 (tp_isSign tk tp (Or.inr (Or.inr ⟨rfl, rfl⟩)) (fun y => ⟨by constructor <;> decide, fun z => by omega, fun _ => ?_⟩) (fun y => ⟨by constructor <;> decide, fun _ => ?_, fun z => absurd rfl z⟩)))
  · rw [kd_6 y] at hP
    rw [t31]
    refine ⟨by constructor <;> omega, fun z M46 e46 => ?_, fun z => tp_wrong tk tp (by decide) (by rw [if_pos (by omega)] at hP; exact hP) F2⟩
    rw [if_neg (by omega)] at hP
    obtain ⟨t1, t2, t3, t4, t5, t6, t7⟩ := tp
    have tp' : TP0 M0 Ts M46 h (d - 1) m := ⟨by rw [e46]; exact frPa_up t1 (by omega), by rw [e46, up_oi (by decide)]; exact t2, by rw [e46, up_same]; omega, by rw [e46, up_oi (by decide)]; exact t4, t5, by omega, t7⟩
    exact tp_pass tk tp' (by omega) (by omega) hP F2 (fun M' t' hp => ⟨by decide, by decide, k1 M' _ _ _ t' (by omega) hp⟩)
  · rw [tp.2.1, t.1]
    refine ⟨by omega, by omega, by constructor <;> omega, fun z => ?_, fun z => ?_⟩
    · have e := s3.1 z
      rw [t.2.2.1 (by omega) (by omega) (by omega), wht_w e]
      have g177 : tK Ts h ≠ 11 → (tK Ts h < 12 ∨ 14 < tK Ts h) → wX6_goesThrough_177 X F (tK Ts h - 10) S M := by
        intro n11 n12
        refine bX6_goesThrough_177 ⟨by constructor <;> omega, fun n5 => ⟨by constructor <;> omega, fun n9 => ⟨by constructor <;> omega, fun q => ?_, fun q => tp_wrong tk tp (by decide) (by rw [kd_x (by omega)] at hP; exact hP) F2⟩, fun q => ?_⟩, fun q => ?_⟩
        · rw [kd_16 (by omega)] at hP
          refine tp_pass tk tp (by omega) (by omega) hP (fun M' f => ⟨by constructor <;> decide, fun _ => k0 M' f, fun z => absurd rfl z⟩) (fun M1 tp1 hP1 => ⟨by constructor <;> decide, fun z => by omega, fun _ => tp_takes tk tp1 (Or.inl ⟨rfl, rfl⟩) hP1 (fun M' f => ⟨by constructor <;> decide, fun z => absurd rfl z, fun _ => k0 M' f⟩) (fun M2 tp2 _ hP2 => ⟨by constructor <;> decide, fun _ => ?_, fun z => by omega⟩)⟩)
          have g327 : ∀ (M4 : pM) (j : Nat), h + 2 ≤ j → TP0 M0 Ts M4 j d m → PO = mU Ts j 4 (prs Ts f (j + 1) d m) → wX6_goesThrough_327 X F S M4 := fun M4 j hj tp4 hP4 => bX6_goesThrough_327 (tp_stop tk tp4 hP4 F2 (fun M5 tp5 hP5 => ⟨by decide, by decide, k1 M5 _ _ _ tp5 (by omega) hP5⟩))
          have g309 : ∀ (M4 : pM) (j : Nat), h + 2 ≤ j → TP0 M0 Ts M4 j d m → PO = oW Ts j 18 (fun j => mU Ts j 4 (prs Ts f (j + 1) d m)) → wX6_goesThrough_309 X F S M4 := fun M4 j hj tp4 hP4 => by
            unfold oW at hP4
            refine bX6_goesThrough_309 (tp_isWord tk tp4 (by decide) (fun y => ⟨by constructor <;> decide, fun z => by omega, fun _ => ?_⟩) (fun y => ⟨by constructor <;> decide, fun _ => g327 M4 j hj tp4 (by rw [if_neg (show ¬ tK Ts j = 18 from y)] at hP4; exact hP4), fun z => absurd rfl z⟩))
            have y : tK Ts j = 18 := y
            rw [if_pos y] at hP4
            exact tp_pass tk tp4 (by omega) (by omega) hP4 (fun M' f => ⟨by constructor <;> decide, fun z => absurd rfl z, fun _ => k0 M' f⟩) (fun M5 tp5 hP5 => ⟨by constructor <;> decide, fun _ => g327 M5 (j + 1) (by omega) tp5 hP5, fun z => by omega⟩)
          unfold oW at hP2
          refine tp_isWord tk tp2 (by decide) (fun y => ⟨by constructor <;> decide, fun z => by omega, fun _ => ?_⟩) (fun y => ⟨by constructor <;> decide, fun _ => g309 M2 (h + 2) (by omega) tp2 (by rw [if_neg (show ¬ tK Ts (h + 2) = 17 from y)] at hP2; exact hP2), fun z => absurd rfl z⟩)
          have y : tK Ts (h + 2) = 17 := y
          rw [if_pos y] at hP2
          exact tp_pass tk tp2 (show tK Ts (h + 2) ≠ 0 by omega) (show tK Ts (h + 2) ≠ 3 by omega) hP2 (fun M' f => ⟨by constructor <;> decide, fun z => absurd rfl z, fun _ => k0 M' f⟩) (fun M5 tp5 hP5 => ⟨by constructor <;> decide, fun _ => g309 M5 (h + 3) (by omega) tp5 hP5, fun z => by omega⟩)
        · rw [kd_19 (by omega)] at hP
          exact tp_pass tk tp (by omega) (by omega) hP (fun M' f => ⟨by constructor <;> decide, fun _ => k0 M' f, fun z => absurd rfl z⟩) (fun M1 tp1 hP1 => ⟨by constructor <;> decide, fun z => by omega, fun _ => tp_takes tk tp1 (Or.inr ⟨rfl, rfl⟩) hP1 (fun M' f => ⟨by constructor <;> decide, fun _ => k0 M' f, fun z => absurd rfl z⟩) (fun M2 tp2 _ hP2 => ⟨by constructor <;> decide, fun z => by omega, fun _ => tp_opens tk tp2 hP2 F0 (fun M3 tp3 hP3 => ⟨by constructor <;> decide, fun z => by omega, fun _ => k1 M3 _ _ _ tp3 (by omega) hP3⟩)⟩)⟩)
        · rw [kd_15 (by omega)] at hP
          exact tp_pass tk tp (by omega) (by omega) hP (fun M' f => ⟨by constructor <;> decide, fun _ => k0 M' f, fun z => absurd rfl z⟩) (fun M1 tp1 hP1 => ⟨by constructor <;> decide, fun z => by omega, fun _ => tp_takes tk tp1 (Or.inr ⟨rfl, rfl⟩) hP1 (fun M' f => ⟨by constructor <;> decide, fun _ => k0 M' f, fun z => absurd rfl z⟩) (fun M2 tp2 _ hP2 => ⟨by constructor <;> decide, fun z => by omega, fun _ => tp_takes tk tp2 (Or.inr ⟨rfl, rfl⟩) hP2 (fun M' f => ⟨by constructor <;> decide, fun _ => k0 M' f, fun z => absurd rfl z⟩) (fun M3 tp3 _ hP3 => ⟨by constructor <;> decide, fun z => by omega, fun _ => tp_takes tk tp3 (Or.inr ⟨rfl, rfl⟩) hP3 (fun M' f => ⟨by constructor <;> decide, fun _ => k0 M' f, fun z => absurd rfl z⟩) (fun M4 tp4 _ hP4 => ⟨by constructor <;> decide, fun z => by omega, fun _ => tp_stop tk tp4 hP4 F0 (fun M5 tp5 hP5 => ⟨by constructor <;> decide, fun z => by omega, fun _ => k1 M5 _ _ _ tp5 (by omega) hP5⟩)⟩)⟩)⟩)⟩)
      refine ⟨by omega, by omega, by constructor <;> omega, fun n1 => ⟨by constructor <;> omega, fun lt => g177 (by omega) (by omega), fun ge => ⟨by constructor <;> omega, fun gt => g177 (by omega) (by omega), fun le => ?_⟩⟩, fun e1 => ?_⟩
      · rw [kd_12 (by omega)] at hP
        exact tp_pass tk tp (by omega) (by omega) hP (fun M' f => ⟨by constructor <;> decide, fun _ => k0 M' f, fun z => absurd rfl z⟩) (fun M1 tp1 hP1 => ⟨by constructor <;> decide, fun z => by omega, fun _ => tp_takes tk tp1 (Or.inr ⟨rfl, rfl⟩) hP1 (fun M' f => ⟨by constructor <;> decide, fun _ => k0 M' f, fun z => absurd rfl z⟩) (fun M2 tp2 _ hP2 => ⟨by constructor <;> decide, fun z => by omega, fun _ => tp_stop tk tp2 hP2 F0 (fun M5 tp5 hP5 => ⟨by constructor <;> decide, fun z => by omega, fun _ => k1 M5 _ _ _ tp5 (by omega) hP5⟩)⟩)⟩)
      · rw [kd_11 (by omega)] at hP
        rw [t31, t22]
        refine ⟨by constructor <;> omega, fun z => ⟨by constructor <;> omega, fun q M23 e23 => ?_, fun q => tp_wrong tk tp (by decide) (by rw [if_neg (by omega), if_pos (by omega)] at hP; exact hP) F2⟩, fun z => tp_wrong tk tp (by decide) (by rw [if_pos (by omega)] at hP; exact hP) F2⟩
        rw [if_neg (by omega), if_neg (by omega)] at hP
        have d0 : d = 0 := by omega
        subst d0
        obtain ⟨t1, t2, t3, t4, t5, t6, t7⟩ := tp
        have tp' : TP0 M0 Ts M23 h 0 (m + 1) := ⟨by rw [e23]; exact frPa_up t1 (by omega), by rw [e23, up_oi (by decide)]; exact t2, by rw [e23, up_oi (by decide)]; exact t3, by rw [e23, up_same]; rfl, t5, by omega, by omega⟩
        exact tp_pass tk tp' (by omega) (by omega) hP (fun M' f => ⟨by constructor <;> decide, fun _ => k0 M' f, fun z => absurd rfl z⟩) (fun M1 tp1 hP1 => ⟨by constructor <;> decide, fun z => by omega, fun _ => tp_takes tk tp1 (Or.inl ⟨rfl, rfl⟩) hP1 (fun M' f => ⟨by constructor <;> decide, fun _ => k0 M' f, fun z => absurd rfl z⟩) (fun M2 tp2 _ hP2 => ⟨by constructor <;> decide, fun z => by omega, fun _ => tp_opens tk tp2 hP2 F0 (fun M3 tp3 hP3 => ⟨by constructor <;> decide, fun z => by omega, fun _ => k1 M3 _ _ _ tp3 (by omega) hP3⟩)⟩)⟩)
    · exact tp_wrong tk tp (by decide) (by rw [kd_x (by omega)] at hP; exact hP) F2
theorem tp_parses {F : Int → pM → Prop} (tk : TkT M0 Ts) (hP : PO = mU Ts 0 10 (mU Ts 1 2 (mU Ts 2 4 (prs Ts 401 3 0 0)))) (k0 : ∀ M', FtT M0 PO M' → F 0 M') (k1 : ∀ M', PO = none → frPa M0 M' → F 1 M') : pNi true X mX6_parses 5 [pR 241] S M0 F := by
  have tl := tk.1.2.2.2.1
  have F0 : ∀ M', FtT M0 PO M' → inR (0 : Int) ∧ ((0 : Int) = 0 → F 0 M') ∧ ((0 : Int) ≠ 0 → F 1 M') := fun M' f => ⟨by constructor <;> decide, fun _ => k0 M' f, fun z => absurd rfl z⟩
  have loop : ∀ (f h d m : Nat) (M : pM), TP0 M0 Ts M h d m → 401 ≤ h + f → PO = prs Ts f h d m → wX6_parses_55 X F S M := by
    intro f
    induction f with
    | zero =>
      intro h d m M tp h401 _
      have := tp.2.2.2.2.1.1
      omega
    | succ f ih =>
      intro h d m M tp h401 hP'
      have t := tp_tok tk tp
      have h4 := tp.2.2.2.2.1.1
      have d4 := tp.2.2.2.2.2.1
      have sb := srt_bd (tK Ts h)
      have s4 := srt_4 (k := tK Ts h)
      refine bX6_parses_55 ?_
      rw [tp.2.1, t.1]
      refine ⟨by omega, by omega, by constructor <;> omega, fun y => ?_, fun y => tp_through tk tp hP' (fun q => y (s4.2 q)) (fun M' f => ⟨by constructor <;> decide, fun z => absurd rfl z, fun _ => k0 M' f⟩) (fun M' h' d' m' tp' hh hp => ⟨by constructor <;> decide, fun _ => ih h' d' m' M' tp' (by omega) hp, fun z => by omega⟩)⟩
      rw [kd_0 (s4.1 y)] at hP'
      rw [tp.2.2.1]
      refine ⟨by constructor <;> omega, fun z => k1 M (by rw [if_pos (by omega)] at hP'; exact hP') tp.1, fun z => tp_wrong tk tp (by decide) (by rw [if_neg (by omega)] at hP'; exact hP') F0⟩
  refine eX6_parses (bX6_parses_0 (fun M1 e1 M2 e2 M3 e3 => ?_))
  have tp : TP0 M0 Ts M3 0 0 0 := by
    refine ⟨?_, ?_, ?_, by rw [e3, up_same]; rfl, ⟨by decide, by omega, fun j hj => by omega⟩, by decide, by decide⟩
    · rw [e3, e2, e1]
      exact frPa_up (frPa_up (frPa_up (frPa.refl _) (by omega)) (by omega)) (by omega)
    · rw [e3, up_oi (by decide), e2, up_oi (by decide), e1, up_same]; rfl
    · rw [e3, up_oi (by decide), e2, up_same]; rfl
  unfold mU at hP
  refine tp_isWord tk tp (by decide) (fun y => ⟨by constructor <;> decide, fun _ => ?_, fun z => by omega⟩) (fun y => ⟨by constructor <;> decide, fun z => absurd rfl z, fun _ => tp_wrong tk tp (by decide) (by rw [if_neg (show ¬ tK Ts 0 = 10 from y)] at hP; exact hP) (fun M' f => ⟨by decide, by decide, k0 M' f⟩)⟩)
  have y : tK Ts 0 = 10 := y
  rw [if_pos y] at hP
  refine tp_pass tk tp (by omega) (by omega) hP (fun M' f => ⟨by constructor <;> decide, fun _ => k0 M' f, fun z => absurd rfl z⟩) (fun M4 tp4 hP4 => ⟨by constructor <;> decide, fun z => by omega, fun _ => tp_takes tk tp4 (Or.inr ⟨rfl, rfl⟩) (by unfold mU; exact hP4) (fun M' f => ⟨by constructor <;> decide, fun _ => k0 M' f, fun z => absurd rfl z⟩) (fun M5 tp5 _ hP5 => ⟨by constructor <;> decide, fun z => by omega, fun _ => tp_stop tk tp5 (by unfold mU; exact hP5) (fun M' f => ⟨by constructor <;> decide, fun z => absurd rfl z, fun _ => k0 M' f⟩) (fun M6 tp6 hP6 => ⟨by constructor <;> decide, fun _ => loop 401 3 0 0 M6 tp6 (by decide) hP6, fun z => by omega⟩)⟩)⟩)
end
