/-! ===== the component reads: all of a text ===== -/
set_option maxRecDepth 100000
theorem prs_bad {Ts : List tok} {g h d mm : Nat} (y : tK Ts h < 12 ∨ 19 < tK Ts h ∨ tK Ts h = 17 ∨ tK Ts h = 18) (h0 : tK Ts h = 0 → d ≠ 0) (h11 : tK Ts h = 11 → d ≠ 0) (h6 : tK Ts h = 6 → d = 0) : prs Ts (g + 1) h d mm = some (1, tP Ts h) := by
  by_cases a : tK Ts h = 0
  · rw [kd_0 a, if_neg (h0 a)]
  · by_cases b : tK Ts h = 6
    · rw [kd_6 b, if_pos (h6 b)]
    · by_cases c : tK Ts h = 11
      · rw [kd_11 c, if_pos (h11 c)]
      · exact kd_x (by omega)
theorem pop_times {Ts : List tok} {t : Int} {a : Nat} {o cur : sps} {st : List (Int × Nat × sps)} {pts : List (Int × sps)} {w : Int × Int} (ht : t ≠ -1) : pop Ts (t, a, o) st pts cur w = (adAS o cur t, st, pts, aft Ts st a (adAS o cur t) w) := by
  unfold pop
  rw [if_neg ht]
theorem pop_part {Ts : List tok} {a : Nat} {o cur : sps} {st : List (Int × Nat × sps)} {pts : List (Int × sps)} {w : Int × Int} : pop Ts (-1, a, o) st pts cur w = (o, st, pts ++ [(tV Ts a, cur)], wrI (lgB cur) w 6 (tP Ts a)) := by
  unfold pop
  rw [if_pos rfl]
section
variable {Q : Prop} {X : px} {S0 : List psh} {M0 : pM} {Ts : List tok} {O : Ot} {E : Int → List psh → pM → Prop} {n : Int} {NB : Int}
theorem rd_tellS (tk : TkR S0 M0 Ts NB) (hNB : NB = 320 * (Ts.length : Int) + 1000) (hn : 2 ≤ n ∧ n ≤ 7) (hE : ∀ r S' M', FtR S0 M0 O (NB + 1) r S' M' → E r S' M') {d : Nat} (hd : d ≤ 4) (ih : d + 1 ≤ 4 → TellOK Q X S0 M0 Ts O E NB n (d + 1)) : TellOK Q X S0 M0 Ts O E NB n d := by
  intro dd f h mm st pts w B β s cur S M F hdd hst ps sa pt hB h401 hO hz h6 K
  have h288 := tk.1
  have okh := ps.2.2.2.1
  have l0 := pre_len ps.1.1
  have b2 := sa.2.2.1
  have b1 := sa.2.1
  have kb := (tk_bd tk okh.2.1).1
  have hh4 := okh.1
  have hhl := okh.2.1
  obtain ⟨g, rfl⟩ : ∃ g, f = g + 1 := ⟨f - 1, by omega⟩
  have bad : (tK Ts h < 12 ∨ 19 < tK Ts h ∨ tK Ts h = 17 ∨ tK Ts h = 18) → wX3_tell_213 dd X F E S M := fun y => by
    rw [prs_bad y (fun z q => (hz (by omega)).1 z) (fun z q => (hz (by omega)).2 z) (fun z => by
      rcases Nat.eq_zero_or_pos d with q | q
      · omega
      · exact absurd z (h6 (by omega)))] at hO
    exact bX3_tell_213 (dr := dd - 1) (by omega) (by omega) (rd_fault tk ps (by decide) hO hE)
  have nB : ∀ j : Nat, okH Ts j → 320 * (j : Int) ≤ NB := fun j o => by have := o.2.1; omega
  refine eX3_tell (bX3_tell_0 (dr := dd - 1) (by omega) (by omega) ?_)
  rw [ps.2.1.1, (tk_at tk ps.1 okh.2.1 okh.1).1]
  refine ⟨by omega, by omega, by constructor <;> omega, fun y => bad (by omega), fun y => ?_, fun y => ?_, fun y => ?_, fun y => ?_, fun y => ?_, fun y => bad (by omega), fun y => bad (by omega), fun y => ?_⟩
  · rw [kd_12 (Or.inl y), sm_12 (Or.inl y)] at hO
    refine rd_elem (dr := dd - 1) (c := 5) (kd := 0) (fun a k => n_rung a k) (by omega) (by omega) tk hn ps sa pt (by omega) (by omega) (by omega) hO hE (fun S' M' pre ps' sa' pt' fr' hO' => ?_)
    have e : (0, min (tV Ts (h + 1)) (n - 2), 0, 1) = elE Ts n h := by unfold elE; rw [y]; rfl
    rw [e] at sa'
    exact K S' M' (h + 3) g _ _ (B + 301) pre ps' sa' pt' fr' hO' (by omega) (by omega) (by omega) (by omega)
  · rw [kd_12 (Or.inr (Or.inl y)), sm_12 (Or.inr (Or.inl y))] at hO
    refine rd_elem (dr := dd - 1) (c := 6) (kd := 1) (fun a k => n_gate a k) (by omega) (by omega) tk hn ps sa pt (by omega) (by omega) (by omega) hO hE (fun S' M' pre ps' sa' pt' fr' hO' => ?_)
    have e : (1, min (tV Ts (h + 1)) (n - 2), 0, 1) = elE Ts n h := by unfold elE; rw [y]; rfl
    rw [e] at sa'
    exact K S' M' (h + 3) g _ _ (B + 301) pre ps' sa' pt' fr' hO' (by omega) (by omega) (by omega) (by omega)
  · rw [kd_12 (Or.inr (Or.inr y)), sm_12 (Or.inr (Or.inr y))] at hO
    refine rd_elem (dr := dd - 1) (c := 7) (kd := 2) (fun a k => n_back a k) (by omega) (by omega) tk hn ps sa pt (by omega) (by omega) (by omega) hO hE (fun S' M' pre ps' sa' pt' fr' hO' => ?_)
    have e : (2, min (tV Ts (h + 1)) (n - 2), 0, 1) = elE Ts n h := by unfold elE; rw [y]; rfl
    rw [e] at sa'
    exact K S' M' (h + 3) g _ _ (B + 301) pre ps' sa' pt' fr' hO' (by omega) (by omega) (by omega) (by omega)
  · rw [kd_15 y, sm_15 y] at hO
    have sc : (288 ≤ s ∧ s < S.length) ∧ 288 ≤ M s 0 ∧ M s 0 < S.length := by obtain ⟨⟨c, sb⟩, _⟩ := sa; exact sb.cells
    refine rd_go tk ps (by omega) (by omega) hO hE (fun M1 f1 ps1 hO1 _ => rd_maybe (dr := dd - 1) (by omega) (by omega) tk hn ps1 (sa.u16 f1) (pt.fr (List.prefix_refl _) sc (f1 17 (by decide)) (f1 18 (by decide)) (fun x a _ => f1 x (by omega))) (by omega) hO1 hE (fun S' M' pre ps' sa' pt' fr' hO' => ?_))
    exact K S' M' (h + 5) g _ _ (B + 301) pre ps' sa' pt' (fun x a b c => by rw [fr' x a b c, f1 x c]) hO' (by omega) (by omega) (by omega) (by omega)
  · rw [kd_16 y, sm_16 y] at hO
    have sc : (288 ≤ s ∧ s < S.length) ∧ 288 ≤ M s 0 ∧ M s 0 < S.length := by obtain ⟨⟨c, sb⟩, _⟩ := sa; exact sb.cells
    have hH : usH Ts h = h + 2 + usU Ts h + usT Ts h + 1 := by unfold usH; omega
    refine rd_go tk ps (by omega) (by omega) hO hE (fun M1 f1 ps1 hO1 _ => rd_use (dr := dd - 1) (p := fun j => prs Ts g (j + 1) st.length mm) (by omega) (by omega) tk hn ps1 ?_ (sa.u16 f1) (pt.fr (List.prefix_refl _) sc (f1 17 (by decide)) (f1 18 (by decide)) (fun x a _ => f1 x (by omega))) (by omega) hO1 hE (fun S' M' pre ps' sa' pt' fr' hO' => ?_))
    · exact ps.2.1.2.2.2.2.2.2
    · exact K S' M' (usH Ts h) g _ _ (B + 803) pre ps' sa' pt' (fun x a b c => by rw [fr' x a b c, f1 x c]) (by rw [hH] at hO' ⊢; exact hO') (by omega) (by omega) (by omega) (by omega)
  · rw [kd_19 y, sm_19 y] at hO
    have sc : (288 ≤ s ∧ s < S.length) ∧ 288 ≤ M s 0 ∧ M s 0 < S.length := by obtain ⟨⟨c, sb⟩, _⟩ := sa; exact sb.cells
    refine rd_go tk ps (by omega) (by omega) hO hE (fun M1 f1 ps1 hO1 _ => ?_)
    obtain ⟨_, _, ⟨v0, _⟩, v9⟩ := tk_bd tk ps1.2.2.2.1.2.1
    refine rd_bounded tk ps1 (by decide) (by decide) hO1 hE (fun M2 f2 ps2 hK hO2 _ => ?_)
    have v9 := v9 hK
    have ew : wrI (decide (tV Ts (h + 1) < 0 ∨ 20 < tV Ts (h + 1))) w 5 (tP Ts (h + 1)) = tmW Ts h w := by
      unfold tmW
      have : decide (tV Ts (h + 1) < 0 ∨ 20 < tV Ts (h + 1)) = decide (20 < tV Ts (h + 1)) := by
        rw [decide_eq_decide]
        omega
      rw [this]
    rw [ew] at ps2
    have f12 : ∀ x, x ≠ 16 → M2 x = M x := fun x hx => (f2 x hx).trans (f1 x hx)
    have sa2 := sa.u16 f12
    have pt2 : PtR S M2 s pts := pt.fr (List.prefix_refl _) sc (f12 17 (by decide)) (f12 18 (by decide)) (fun x a _ => f12 x (by omega))
    have sc2 : (288 ≤ s ∧ s < S.length) ∧ 288 ≤ M2 s 0 ∧ M2 s 0 < S.length := by rw [f12 s (by omega)]; exact sc
    refine rd_body (dd := dd - 1) (fr := (tV Ts (h + 1), h, cur)) (st := st) tk hNB (by omega) (fun _ => by omega) (fun q => by rw [hst]; exact ih (by omega)) hE (by omega) ps2 pt2 (by omega) (by omega) hO2 ?_
    intro r S' M' h' f' cur' w' B' pre' ps' sa' pt' fr' hO' hB' hh' h401' hf' _
    have k1 : M1 16 1 = ((h + 1 : Nat) : Int) := ps1.2.1.1
    have okh1 := ps1.2.2.2.1
    rw [k1, (tk_at tk ps'.1 okh1.2.1 okh1.1).2.2]
    have hh1 := okh1.1
    have l1 := pre_len pre'
    have saO : StA S0 β S' M' s cur := sa2.up pre' (fun x a b => fr' x (by omega) b (by omega))
    have ptO : PtR S' M' s pts := pt2.fr pre' sc2 (fr' 17 (by decide) (by omega) (by decide)) (fr' 18 (by decide) (by omega) (by decide)) (fun x a b => fr' x (by omega) b (by omega))
    obtain ⟨⟨c1, sb⟩, s1, s2, s3⟩ := saO
    obtain ⟨⟨c2, sr⟩, r1, r2, r3⟩ := sa'
    have m0 : M' s 0 = M2 s 0 := by rw [fr' s (by omega) sc.1.2 (by omega)]
    have ap : apS M' r s := by
      have cr := sr.cells
      have a1 : (S.length : Int) ≤ r := by obtain ⟨l, _, a1, _⟩ := sr; exact a1
      have a3 : (S.length : Int) ≤ M' r 0 := by obtain ⟨l, _, _, _, a3, _⟩ := sr; exact a3
      refine ⟨by omega, by omega, ?_⟩
      have n1 : M' (M' r 0) 1 = -4 ∨ (S.length : Int) ≤ M' (M' r 0) 1 := by obtain ⟨l, _, _, _, _, _, a5, _⟩ := sr; exact a5
      rcases n1 with z | z
      · exact Or.inl z
      · refine Or.inr (fun q => ?_)
        rw [m0, fr' (M2 s 0) (by omega) sc2.2.2 (by omega)] at q
        obtain ⟨⟨c0, sb0⟩, _⟩ := sa2
        rcases sb0.arr with u | ⟨nn, u⟩
        · omega
        · have := (shq_lt u).2; omega
    have rm := rd_rm tk ps'.1 ps'.2.2.2.2
    refine ⟨by omega, by omega, sb.w.2.2.2.1, s_addAllP sb sr ap s3.1.1 r3.1.1 s2 s3.2.1 s3.2.2 r3.2.1 r3.2.2 v0 (by omega) (rm.le (by decide) (by decide)) (fun S9 M10 c9 sb9 _ cc9 g9 fb _ => ?_)⟩
    have fr9 : ∀ x : Int, 0 ≤ x → x < β → M10 x = M' x := fb.1.2
    have c0 := sb.w
    have c1' := sb9.w
    have l9 := pre_len g9.1
    rw [pop_times (by omega)] at hO'
    refine K S9 M10 h' f' (adAS cur cur' (tV Ts (h + 1))) w' (B' + 300) (pre'.trans g9.1) ?_ ⟨⟨c9, sb9⟩, s1, by omega, ok_adAS s3 r3 v0⟩ (ptO.ly sb (by omega) fb) (fun x a b c => by rw [fr9 x a b, fr' x a (by omega) c, f12 x c]) hO' (by omega) (by omega) h401' (by omega)
    obtain ⟨p1, p2, p3, p4, p5⟩ := ps'
    refine ⟨p1.grow (g9.le (c' := 300) (s' := 1200) (by omega) (by omega)) (by decide) (fun x a b => fr9 x a (by omega)), ?_, p3, p4, by have := nB h' p4; omega⟩
    unfold RdF
    rw [fr9 16 (by decide) (by omega)]
    exact p2
theorem rd_tell (tk : TkR S0 M0 Ts NB) (hNB : NB = 320 * (Ts.length : Int) + 1000) (hn : 2 ≤ n ∧ n ≤ 7) (hE : ∀ r S' M', FtR S0 M0 O (NB + 1) r S' M' → E r S' M') : ∀ (r d : Nat), d + r = 4 → TellOK Q X S0 M0 Ts O E NB n d := by
  intro r
  induction r with
  | zero => intro d hd; exact rd_tellS tk hNB hn hE (by omega) (fun q => by omega)
  | succ r ih => intro d hd; exact rd_tellS tk hNB hn hE (by omega) (fun _ => ih (d + 1) (by omega))
theorem ptd_app {pts : List (Int × sps)} {x : Int × sps} {k : Nat} (h : k < pts.length) : ptd (pts ++ [x]) k = ptd pts k := by
  unfold ptd
  rw [List.getD_eq_getElem?_getD, List.getD_eq_getElem?_getD, List.getElem?_append_left h]
theorem ptd_new {pts : List (Int × sps)} {x : Int × sps} : ptd (pts ++ [x]) pts.length = x := by
  unfold ptd
  simp
theorem rd_isLong {b : Bool} {F : Int → pM → Prop} {S : List psh} {M : pM} {β s : Int} {cur : sps} (sa : StA S0 β S M s cur) (k1 : lgB cur = true → F 1 M) (k0 : lgB cur = false → F 0 M) : pNi b X mX8_isLong 1 [pR s] S M F := by
  obtain ⟨⟨c, sb⟩, _, _, s3⟩ := sa
  obtain ⟨_, _, _, w4, _, w6, w7, _⟩ := sb.w
  obtain ⟨_, ⟨a1, a2⟩, a3, a4⟩ := s3
  refine eX8_isLong (bX8_isLong_0 ?_)
  rw [w6, w7]
  exact ⟨w4, by constructor <;> omega, fun y => k1 (decide_eq_true (Or.inl y)), fun y => ⟨w4, by constructor <;> omega, fun z => k0 (decide_eq_false (by omega)), fun z => k1 (decide_eq_true (Or.inr z))⟩⟩
/-- a part -/
theorem rd_part {F : List psh → pM → Prop} {f h : Nat} {pts : List (Int × sps)} {w : Int × Int} {B β s : Int} {cur : sps} {S : List psh} {M : pM} (tk : TkR S0 M0 Ts NB) (hNB : NB = 320 * (Ts.length : Int) + 1000) (hn : 2 ≤ n ∧ n ≤ 7) (hE : ∀ r S' M', FtR S0 M0 O (NB + 1) r S' M' → E r S' M') (ps : PS0 Q S0 M0 Ts NB B S M h 0 n pts.length w) (sa : StA S0 β S M s cur) (pt : PtR S M s pts) (hB : B ≤ 320 * (h : Int)) (h401 : 401 ≤ h + (f + 1)) (hK : tK Ts h = 11) (hO : O = cmb (prs Ts (f + 1) h 0 pts.length) (sem Ts n (f + 1) h (cur, [], pts, w))) (k : ∀ S' M' h' f' pts' w' B', S <+: S' → PS0 Q S0 M0 Ts NB B' S' M' h' 0 n pts'.length w' → StA S0 β S' M' s cur → PtR S' M' s pts' → (∀ x : Int, 0 ≤ x → x < β → x ≠ 16 → x ≠ 17 → x ≠ 18 → M' x = M x) → O = cmb (prs Ts f' h' 0 pts'.length) (sem Ts n f' h' (cur, [], pts', w')) → B' ≤ 320 * (h' : Int) → h < h' → 401 ≤ h' + f' → f' < f + 1 → F S' M') : pXv true X mX3_tellPart 30 [pR 16] S M F E := by
  have h288 := tk.1
  have okh := ps.2.2.2.1
  have l0 := pre_len ps.1.1
  have b2 := sa.2.2.1
  have sc : (288 ≤ s ∧ s < S.length) ∧ 288 ≤ M s 0 ∧ M s 0 < S.length := by obtain ⟨⟨c, sb⟩, _⟩ := sa; exact sb.cells
  obtain ⟨m8, m8'⟩ := ps.2.1.2.2.2.2.2
  rw [kd_11 hK, if_neg (by decide), sm_11 hK] at hO
  refine eX3_tellPart (bX3_tellPart_0 ?_)
  rw [m8]
  refine ⟨by constructor <;> omega, fun y => ?_, fun y => rd_fault tk ps (by decide) (by rw [if_pos (by omega)] at hO; exact hO) hE⟩
  rw [if_neg (by omega)] at hO
  refine rd_go tk ps (by omega) (by omega) hO hE (fun M1 f1 ps1 hO1 _ => rd_must tk ps1 (by constructor <;> decide) (by decide) (by decide) hO1 hE (fun M2 f2 ps2 hK2 hO2 _ => ?_))
  have okh1 := ps1.2.2.2.1
  have hh1 := okh1.1
  obtain ⟨_, _, v1, _⟩ := tk_bd tk okh1.2.1
  rw [(tk_at tk ps2.1 okh1.2.1 okh1.1).2.2]
  have f12 : ∀ x, x ≠ 16 → M2 x = M x := fun x hx => (f2 x hx).trans (f1 x hx)
  have pt2 : PtR S M2 s pts := pt.fr (List.prefix_refl _) sc (f12 17 (by decide)) (f12 18 (by decide)) (fun x a _ => f12 x (by omega))
  have g49 : ∀ M3, (∀ x, x ≠ 16 → M3 x = M x) → PS0 Q S0 M0 Ts NB B S M3 (h + 2) 0 n pts.length (ptW Ts h pts w) → wX3_tellPart_49 X F E ((h + 1 : Nat) : Int) S M3 := by
    intro M3 f3 ps3
    have pt3 : PtR S M3 s pts := pt.fr (List.prefix_refl _) sc (f3 17 (by decide)) (f3 18 (by decide)) (fun x a _ => f3 x (by omega))
    refine bX3_tellPart_49 (rd_body (dd := 29) (st := []) (fr := (-1, h + 1, cur)) (mm := pts.length + 1) tk hNB (by decide) (fun _ => by show 21 + 2 * (4 - (0 + 1)) + 1 ≤ 29; decide) (fun _ => rd_tell tk hNB hn hE 3 1 rfl) hE (by decide) ps3 pt3 (by omega) (by omega) hO2 ?_)
    intro r S' M' h' f' cur' w' B' pre' ps' sa' pt' fr' hO' hB' hh' h401' hf' _
    rw [pop_part] at hO'
    have l1 := pre_len pre'
    have cr : (288 ≤ r ∧ r < S'.length) ∧ 288 ≤ M' r 0 ∧ M' r 0 < S'.length := by obtain ⟨⟨c, sb⟩, _⟩ := sa'; exact sb.cells
    have rs : shq S' r = some (.inl 9, 3) := by obtain ⟨⟨c, sb⟩, _⟩ := sa'; exact sb.w.2.2.2.1
    have ff : ∀ x : Int, 0 ≤ x → x < S.length → x ≠ 16 → M' x = M x := fun x a b c => by rw [fr' x a b c, f3 x c]
    have saO : StA S0 β S' M' s cur := sa.up pre' (fun x a b => ff x (by omega) b (by omega))
    have ptO : PtR S' M' s pts := pt.fr pre' sc (ff 17 (by decide) (by omega) (by decide)) (ff 18 (by decide) (by omega) (by decide)) (fun x a b => ff x (by omega) b (by omega))
    have scO : (288 ≤ s ∧ s < S'.length) ∧ 288 ≤ M' s 0 ∧ M' s 0 < S'.length := by obtain ⟨⟨c, sb⟩, _⟩ := saO; exact sb.cells
    have ap : apS M' r s := by
      obtain ⟨⟨c2, sr⟩, _⟩ := sa'
      have a1 : (S.length : Int) ≤ r := by obtain ⟨l, _, a1, _⟩ := sr; exact a1
      have a3 : (S.length : Int) ≤ M' r 0 := by obtain ⟨l, _, _, _, a3, _⟩ := sr; exact a3
      have m0 : M' s 0 = M s 0 := by rw [ff s (by omega) sc.1.2 (by omega)]
      refine ⟨by omega, by omega, ?_⟩
      have n1 : M' (M' r 0) 1 = -4 ∨ (S.length : Int) ≤ M' (M' r 0) 1 := by obtain ⟨l, _, _, _, _, _, a5, _⟩ := sr; exact a5
      rcases n1 with z | z
      · exact Or.inl z
      · refine Or.inr (fun q => ?_)
        rw [m0, ff (M s 0) (by omega) sc.2.2 (by omega)] at q
        obtain ⟨⟨c0, sb0⟩, _⟩ := sa
        rcases sb0.arr with u | ⟨nn, u⟩
        · omega
        · have := (shq_lt u).2; omega
    have g68 : ∀ M4, (∀ x, x ≠ 16 → M4 x = M' x) → PS0 Q S0 M0 Ts NB B' S' M4 h' 0 n pts.length (wrI (lgB cur') w' 6 (tP Ts (h + 1))) → wX3_tellPart_68 X F E ((h + 1 : Nat) : Int) r S' M4 := by
      intro M4 f4 ps4
      have z8 : M4 16 8 = pts.length := ps4.2.1.2.2.2.2.2.1
      refine bX3_tellPart_68 ?_
      rw [z8, (tk_at tk ps4.1 okh1.2.1 okh1.1).2.2]
      refine ⟨by omega, by omega, by omega, by omega, fun M5 e5 => ?_⟩
      have z5 : M5 16 8 = pts.length := by rw [e5, up_ne (by decide)]; exact z8
      rw [z5]
      refine ⟨by omega, by omega, rs, fun M8 e8 M10 e10 => ?_⟩
      have z9 : M8 16 8 = pts.length := by rw [e8, up_ne (by decide)]; exact z5
      rw [z9] at e10
      have hi : ∀ x, x ≠ 16 → x ≠ 17 → x ≠ 18 → M10 x = M' x := fun x a b c => by rw [e10, up_ne a, e8, up_ne c, e5, up_ne b, f4 x a]
      have h17 : M10 17 = pu_up M' 17 pts.length (tV Ts (h + 1)) 17 := by
        rw [e10, up_ne (by decide), e8, up_ne (by decide), e5]
        exact up_cong (f4 17 (by decide))
      have h18 : M10 18 = pu_up M' 18 pts.length r 18 := by
        rw [e10, up_ne (by decide), e8]
        exact up_cong (by rw [e5, up_ne (by decide)]; exact f4 18 (by decide))
      have len : (pts ++ [(tV Ts (h + 1), cur')]).length = pts.length + 1 := by rw [List.length_append]; rfl
      have ptN : PtR S' M10 s (pts ++ [(tV Ts (h + 1), cur')]) := by
        intro j hj
        rw [len] at hj
        by_cases e : j = pts.length
        · subst e
          rw [ptd_new, h17, h18, up_same, up_same]
          obtain ⟨⟨c2, sr⟩, r1, r2, r3⟩ := sa'
          refine ⟨rfl, ⟨c2, (sr.fr (List.prefix_refl _) (fun x a _ => hi x (by omega) (by omega) (by omega))).le (by decide) (by omega)⟩, r3, ap.fr (hi _ (by omega) (by omega) (by omega)) (hi _ (by omega) (by omega) (by omega)) (hi _ (by omega) (by omega) (by omega)) (hi _ (by omega) (by omega) (by omega)), v1⟩
        · obtain ⟨a1, ⟨c, a2⟩, a3, a4, a5⟩ := ptO j (by omega)
          have cc := a2.cells
          rw [ptd_app (by omega), h17, h18, up_oi (by omega), up_oi (by omega)]
          exact ⟨a1, ⟨c, a2.fr (List.prefix_refl _) (fun x a _ => hi x (by omega) (by omega) (by omega))⟩, a3, a4.fr (hi _ (by omega) (by omega) (by omega)) (hi _ (by omega) (by omega) (by omega)) (hi _ (by omega) (by omega) (by omega)) (hi _ (by omega) (by omega) (by omega)), a5⟩
      refine k S' M10 h' f' _ _ B' pre' ?_ (saO.up (List.prefix_refl _) (fun x a _ => hi x (by omega) (by omega) (by omega))) ptN (fun x a b c d e => by rw [hi x c d e]; exact ff x a (by omega) c) (by rw [len]; exact hO') (by omega) (by omega) h401' (by omega)
      obtain ⟨p1, ⟨r1, r2, r3, r4, r5, r6⟩, p3, p4, p5⟩ := ps4
      have q16 : ∀ j, j ≠ 8 → M10 16 j = M4 16 j := fun j hj => by rw [e10, up_oi hj, e8, up_ne (by decide), e5, up_ne (by decide)]
      refine ⟨⟨p1.1, fun x a b c d e => by rw [e10, up_ne c, e8, up_ne e, e5, up_ne d]; exact p1.2.1 x a b c d e, p1.2.2⟩, ⟨?_, ?_, ?_, ?_, ?_, ?_, ?_⟩, p3, p4, p5⟩
      · rw [q16 1 (by decide)]; exact r1
      · rw [q16 2 (by decide)]; exact r2
      · rw [q16 3 (by decide)]; exact r3
      · rw [q16 4 (by decide)]; exact r4
      · rw [q16 5 (by decide)]; exact r5
      · rw [e10, up_same, len]; rfl
      · rw [len]; omega
    refine ⟨rs, rd_isLong sa' (fun lg => ⟨by constructor <;> decide, fun z => by omega, fun _ => rd_wrong tk ps' (by decide) okh1.2.1 okh1.1 (fun M4 f4 ps4 => g68 M4 f4 ?_)⟩) (fun lg => ⟨by constructor <;> decide, fun _ => g68 M' (fun _ _ => rfl) ?_, fun z => absurd rfl z⟩)⟩
    · rw [wrI, lg, if_pos rfl]; exact ps4
    · rw [wrI, lg, if_neg (by decide)]; exact ps'
  refine ⟨by omega, by omega, rd_partOf pt2 ps2.2.1.2.2.2.2.2.1 m8' v1 (fun hf => ⟨by constructor <;> decide, fun _ => g49 M2 f12 ?_, fun z => absurd rfl z⟩) (fun j hj hf => ⟨by constructor <;> omega, fun z => by omega, fun _ => rd_wrong tk ps2 (by decide) okh1.2.1 okh1.1 (fun M4 f4 ps4 => g49 M4 (fun x hx => (f4 x hx).trans (f12 x hx)) ?_)⟩)⟩
  · unfold ptW
    rw [hf]
    exact ps2
  · unfold ptW
    rw [hf]
    exact ps4
end
