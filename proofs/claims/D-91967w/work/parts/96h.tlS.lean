/-! ===== the component reads: each statement ===== -/
set_option maxRecDepth 100000
theorem elW_eq {Ts : List tok} {n : Int} {h : Nat} {w : Int × Int} (v : 0 ≤ tV Ts (h + 1)) : wrI (decide (tV Ts (h + 1) < 0 ∨ n - 2 < tV Ts (h + 1))) w 5 (tP Ts (h + 1)) = elW Ts n h w := by
  unfold elW
  have : decide (tV Ts (h + 1) < 0 ∨ n - 2 < tV Ts (h + 1)) = decide (n - 2 < tV Ts (h + 1)) := by
    rw [decide_eq_decide]
    omega
  rw [this]
theorem fdP_none {pts : List (Int × sps)} {v : Int} : ∀ (j : Nat), (∀ k : Nat, k < pts.length → (ptd pts k).1 ≠ v) → fdP pts v = none := by
  intro _ h
  induction pts with
  | nil => rfl
  | cons x l ih =>
    obtain ⟨a, s⟩ := x
    have h0 := h 0 (by simp)
    have h0 : a ≠ v := h0
    show (if a = v then some s else fdP l v) = none
    rw [if_neg h0]
    exact ih (fun k hk => h (k + 1) (by simp; omega))
theorem fdP_some {v : Int} : ∀ (pts : List (Int × sps)) (k : Nat), k < pts.length → (∀ j : Nat, j < k → (ptd pts j).1 ≠ v) → (ptd pts k).1 = v → fdP pts v = some (ptd pts k).2
  | [], k, h, _, _ => by simp at h
  | (a, s) :: l, 0, _, _, e => by
    have e : a = v := e
    show (if a = v then some s else fdP l v) = _
    rw [if_pos e]
    rfl
  | (a, s) :: l, k + 1, h, hj, e => by
    have h0 : a ≠ v := hj 0 (by omega)
    show (if a = v then some s else fdP l v) = _
    rw [if_neg h0]
    exact fdP_some l k (by simp at h; omega) (fun j hh => hj (j + 1) (by omega)) e
section
variable {Q : Prop} {X : px} {S0 S : List psh} {M0 M : pM} {Ts : List tok} {O : Ot} {E : Int → List psh → pM → Prop} {B : Int} {h d : Nat} {n : Int} {m : Nat} {w : Int × Int} {NB β s : Int} {cur : sps} {pts : List (Int × sps)}
/-- a new cell -/
theorem PS0.cell {σ : psh} {M' : pM} (ps : PS0 Q S0 M0 Ts NB B S M h d n m w) (hσ : (σ.2 : Int) ≤ 8) (hB : B + 1 ≤ NB) (h288 : 288 ≤ S0.length) (f : ∀ x : Int, x < S.length → M' x = M x) : PS0 Q S0 M0 Ts NB (B + 1) (S ++ [σ]) M' h d n m w := by
  obtain ⟨p1, p2, p3, p4, p5⟩ := ps
  have l0 := pre_len p1.1
  refine ⟨p1.grow (grw_one (σ := σ)) (by omega) (fun x a b => f x (by omega)), ?_, p3, p4, hB⟩
  unfold RdF
  rw [f 16 (by omega)]
  exact p2
theorem StA.up {S' : List psh} {M' : pM} (h : StA S0 β S M s cur) (hs : S <+: S') (f : ∀ x : Int, 288 ≤ x → x < S.length → M' x = M x) : StA S0 β S' M' s cur := by
  obtain ⟨⟨c, a⟩, b1, b2, b3⟩ := h
  exact ⟨⟨c, a.fr hs f⟩, b1, by have := pre_len hs; omega, b3⟩
theorem rd_elem {F : List psh → pM → Prop} {dd dr c dI : Nat} {mI : pmd} {kd : Int} {p : Option (Int × Int)} {sO : Ot} (hini : ∀ {S : List psh} {M : pM} {F : pM → Prop} {x : Int}, 288 ≤ S.length → (∀ M', StepR (S ++ [(.inl c, 1)]) M' S.length (kd, x, 0, 1) → (∀ y, y ≠ (S.length : Int) → M' y = M y) → F M') → pNv true X mI dI [pR S.length, pI x] (S ++ [(.inl c, 1)]) (pu_zo M S.length c) F) (hdd : 20 ≤ dd) (hdr : dr + 1 ≤ dd) (tk : TkR S0 M0 Ts NB) (hn : 2 ≤ n ∧ n ≤ 7) (ps : PS0 Q S0 M0 Ts NB B S M h d n m w) (sa : StA S0 β S M s cur) (pt : PtR S M s pts) (hB : B + 301 ≤ NB) (h0 : tK Ts h ≠ 0) (h3 : tK Ts h ≠ 3) (hO : O = cmb (gO Ts h (mU Ts (h + 1) 2 (mU Ts (h + 2) 4 p))) sO) (hE : ∀ r S' M', FtR S0 M0 O (NB + 1) r S' M' → E r S' M') (k : ∀ S' M', S <+: S' → PS0 Q S0 M0 Ts NB (B + 301) S' M' (h + 3) d n m (elW Ts n h w) → StA S0 β S' M' s (addS cur (kd, min (tV Ts (h + 1)) (n - 2), 0, 1)) → PtR S' M' s pts → (∀ x : Int, 0 ≤ x → x < β → x ≠ 16 → M' x = M x) → O = cmb p sO → F S' M') : pXi true X mX3_go 7 [pR 16] S M (fun (r4 : Int) (S5 : List psh) (M6 : pM) => S <+: S5 → (S5.length + 1 ≤ 601024) ∧ (pu_hs S5 + 1 ≤ 7293034) ∧ (∀ (r9 : Int) (S10 : List psh) (M11 : pM), r9 = (S5.length : Int) → S10 = S5 ++ [(.inl c, 1)] → M11 = pu_zo M6 S5.length c → pXi true X mX3_bounded 9 [pR 16, pI 0, pI ((M11 16 3) - 2)] S10 M11 (fun (r12 : Int) (S13 : List psh) (M14 : pM) => S10 <+: S13 → (∃ σ, shq S13 r9 = some σ) ∧ pNv true X mI dI [pR r9, pI r12] S13 M14 (fun (M16 : pM) => (shq S13 s = some (.inl 9, 3)) ∧ pAv true X mX8_add 8 [pR s, pR r9] S13 M16 (fun (S18 : List psh) (M19 : pM) => S13 <+: S18 → wX3_tell_219 dd X F E S18 M19))) E)) E := by
  have h288 := tk.1
  have l0 := pre_len ps.1.1
  refine rd_go tk ps h0 h3 hO hE (fun M1 f1 ps1 hO1 _ => ?_)
  have rm := rd_rm tk ps1.1 ps1.2.2.2.2
  refine ⟨by have := rm.1; omega, by have := rm.2; omega, fun r9 S10 M11 e9 e10 e11 => ?_⟩
  subst e9
  subst e10
  have f11 : ∀ x : Int, x < S.length → M11 x = M1 x := fun x hx => by rw [e11, zo_ne (by omega)]
  have ps11 := ps1.cell (σ := (.inl c, 1)) (show ((1 : Nat) : Int) ≤ 8 by decide) (by omega) h288 f11
  rw [ps11.2.1.2.2.1]
  refine rd_bounded tk ps11 (by decide) (by omega) hO1 hE (fun M14 f14 ps14 hK hO2 _ => ⟨⟨_, shq_new⟩, ?_⟩)
  have v1 := (tk_bd tk ps1.2.2.2.1.2.1).2.2.1
  rw [show max (tV Ts (h + 1)) 0 = tV Ts (h + 1) by omega]
  rw [elW_eq v1.1] at ps14
  have z14 : pu_zo M14 S.length c = M14 := zo_self (fun j => by rw [f14 _ (by omega), e11, zo_at])
  have fin := hini (S := S) (M := M14) (x := min (tV Ts (h + 1)) (n - 2)) (F := fun M16 => (shq (S ++ [(.inl c, 1)]) s = some (.inl 9, 3)) ∧ pAv true X mX8_add 8 [pR s, pR S.length] (S ++ [(.inl c, 1)]) M16 (fun (S18 : List psh) (M19 : pM) => (S ++ [(.inl c, 1)]) <+: S18 → wX3_tell_219 dd X F E S18 M19)) (by omega) (fun M16 st fs => ?_)
  · rw [z14] at fin
    exact fin
  · have ff : ∀ x : Int, x < S.length → x ≠ 16 → M16 x = M x := fun x hx h16 => by rw [fs x (by omega), f14 x h16, f11 x hx, f1 x h16]
    have sa16 : StA S0 β (S ++ [(.inl c, 1)]) M16 s cur := sa.up (List.prefix_append _ _) (fun x a b => ff x b (by omega))
    have sc : (288 ≤ s ∧ s < S.length) ∧ 288 ≤ M s 0 ∧ M s 0 < S.length := by obtain ⟨⟨c, sb⟩, _⟩ := sa; exact sb.cells
    have pt16 : PtR (S ++ [(.inl c, 1)]) M16 s pts := pt.fr (List.prefix_append _ _) sc (ff 17 (by omega) (by decide)) (ff 18 (by omega) (by decide)) (fun x a b => ff x b (by omega))
    have ps16 : PS0 Q S0 M0 Ts NB (B + 1) (S ++ [(.inl c, 1)]) M16 (h + 2) d n m (elW Ts n h w) := by
      obtain ⟨p1, p2, p3, p4, p5⟩ := ps14
      refine ⟨⟨p1.1, fun x a b c d e => by rw [fs x (by omega)]; exact p1.2.1 x a b c d e, p1.2.2⟩, ?_, p3, p4, p5⟩
      unfold RdF
      rw [fs 16 (by omega)]
      exact p2
    refine ⟨shq_app (by obtain ⟨⟨c, sb⟩, _⟩ := sa; exact sb.w.2.2.2.1), rd_put hdd hdr tk ps16 sa16 pt16 st (by omega) hO2 hE (fun _ _ _ q _ => q) (fun S' M' pre ps' sa' pt' fr' hO' => ?_)⟩
    have b2 := sa.2.2.1
    refine k S' M' ((List.prefix_append _ _).trans pre) (by rw [show B + 301 = B + 1 + 300 by omega]; exact ps') sa' pt' (fun x a b c => by rw [fr' x a b c]; exact ff x (by omega) c) hO'
theorem rd_maybe {F : List psh → pM → Prop} {dd dr : Nat} {p : Option (Int × Int)} {sO : Ot} (hdd : 20 ≤ dd) (hdr : dr + 1 ≤ dd) (tk : TkR S0 M0 Ts NB) (hn : 2 ≤ n ∧ n ≤ 7) (ps : PS0 Q S0 M0 Ts NB B S M (h + 1) d n m w) (sa : StA S0 β S M s cur) (pt : PtR S M s pts) (hB : B + 301 ≤ NB) (hO : O = cmb (mU Ts (h + 1) 2 (mU Ts (h + 2) 2 (mU Ts (h + 3) 2 (mU Ts (h + 4) 4 p)))) sO) (hE : ∀ r S' M', FtR S0 M0 O (NB + 1) r S' M' → E r S' M') (k : ∀ S' M', S <+: S' → PS0 Q S0 M0 Ts NB (B + 301) S' M' (h + 5) d n m (myW Ts n h w) → StA S0 β S' M' s (addS cur (myE Ts n h)) → PtR S' M' s pts → (∀ x : Int, 0 ≤ x → x < β → x ≠ 16 → M' x = M x) → O = cmb p sO → F S' M') : pXv true X mX3_tellMaybe 10 [pR 16, pR s] S M (fun (S55 : List psh) (M56 : pM) => S <+: S55 → wX3_tell_219 dd X F E S55 M56) E := by
  have h288 := tk.1
  have l0 := pre_len ps.1.1
  have b2 := sa.2.2.1
  have sc : (288 ≤ s ∧ s < S.length) ∧ 288 ≤ M s 0 ∧ M s 0 < S.length := by obtain ⟨⟨c, sb⟩, _⟩ := sa; exact sb.cells
  have ss : shq S s = some (.inl 9, 3) := by obtain ⟨⟨c, sb⟩, _⟩ := sa; exact sb.w.2.2.2.1
  have v1 := (tk_bd tk ps.2.2.2.1.2.1).2.2.1
  refine eX3_tellMaybe (bX3_tellMaybe_0 ?_)
  rw [ps.2.1.2.2.1]
  refine rd_bounded tk ps (by decide) (by omega) hO hE (fun M3 f3 ps3 hK1 hO1 _ => rd_must tk ps3 (by constructor <;> decide) (by decide) (by decide) hO1 hE (fun M6 f6 ps6 hK2 hO2 _ => rd_must tk ps6 (by constructor <;> decide) (by decide) (by decide) hO2 hE (fun M9 f9 ps9 hK3 hO3 _ => ?_)))
  rw [show max (tV Ts (h + 1)) 0 = tV Ts (h + 1) by omega]
  rw [elW_eq v1.1] at ps9
  have k2 := ps3.2.2.2.1
  have k3 := ps6.2.2.2.1
  obtain ⟨_, _, ⟨a0, _⟩, a9⟩ := tk_bd tk k2.2.1
  obtain ⟨_, _, ⟨c0, _⟩, c9⟩ := tk_bd tk k3.2.1
  have a9 : tV Ts (h + 2) ≤ 9999 := a9 hK2
  have c9 : tV Ts (h + 3) ≤ 9999 := c9 hK3
  have a0 : 0 ≤ tV Ts (h + 2) := a0
  have c0 : 0 ≤ tV Ts (h + 3) := c0
  rw [(tk_at tk ps9.1 k2.2.1 k2.1).2.2, (tk_at tk ps9.1 k3.2.1 k3.1).2.2]
  have f09 : ∀ x, x ≠ 16 → M9 x = M x := fun x hx => by rw [f9 x hx, f6 x hx, f3 x hx]
  have k2' := k2.1
  have k3' := k3.1
  have g80 : ∀ M4, (∀ x, x ≠ 16 → M4 x = M x) → PS0 Q S0 M0 Ts NB B S M4 (h + 4) d n m (myW Ts n h w) → wX3_tellMaybe_80 X (fun (S55 : List psh) (M56 : pM) => S <+: S55 → wX3_tell_219 dd X F E S55 M56) E s (min (tV Ts (h + 1)) (n - 2)) (tV Ts (h + 2)) (tV Ts (h + 3)) S M4 := by
    intro M4 f4 ps4
    have rm := rd_rm tk ps4.1 ps4.2.2.2.2
    refine bX3_tellMaybe_80 ⟨by have := rm.1; omega, by have := rm.2; omega, fun r3 S4 M5 e3 e4 e5 => ?_⟩
    subst e3
    subst e4
    subst e5
    refine ⟨⟨_, shq_new⟩, ?_⟩
    refine n_maybe (by omega) (fun M7 st fs => ⟨shq_app ss, ?_⟩)
    have ff : ∀ x : Int, x < S.length → x ≠ 16 → M7 x = M x := fun x hx h16 => by rw [fs x (by omega), f4 x h16]
    have ps7 := ps4.cell (σ := (.inl 8, 3)) (M' := M7) (by decide) (by omega) h288 (fun x hx => fs x (by omega))
    refine rd_put hdd hdr tk ps7 (sa.up (List.prefix_append _ _) (fun x a b => ff x b (by omega))) (pt.fr (List.prefix_append _ _) sc (ff 17 (by omega) (by decide)) (ff 18 (by omega) (by decide)) (fun x a b => ff x b (by omega))) st (by omega) hO3 hE (fun _ _ _ q _ _ => q) (fun S' M' pre ps' sa' pt' fr' hO' => ?_)
    exact k S' M' ((List.prefix_append _ _).trans pre) (by rw [show B + 301 = B + 1 + 300 by omega]; exact ps') sa' pt' (fun x a b c => by rw [fr' x a b c]; exact ff x (by omega) c) hO'
  have g63 : ∀ M4, (∀ x, x ≠ 16 → M4 x = M x) → PS0 Q S0 M0 Ts NB B S M4 (h + 4) d n m (wrI (decide (tV Ts (h + 3) < tV Ts (h + 2))) (elW Ts n h w) 5 (tP Ts (h + 2))) → wX3_tellMaybe_63 X (fun (S55 : List psh) (M56 : pM) => S <+: S55 → wX3_tell_219 dd X F E S55 M56) E s (min (tV Ts (h + 1)) (n - 2)) ((h + 3 : Nat) : Int) (tV Ts (h + 2)) (tV Ts (h + 3)) S M4 := by
    intro M4 f4 ps4
    refine bX3_tellMaybe_63 (c_within (by constructor <;> omega) (by constructor <;> decide) (by constructor <;> decide) (fun a b => ⟨by constructor <;> decide, fun _ => g80 M4 f4 ?_, fun z => by omega⟩) (fun a => ⟨by constructor <;> decide, fun z => absurd rfl z, fun _ => rd_wrong tk ps4 (by decide) k3.2.1 k3.1 (fun M5 f5 ps5 => g80 M5 (fun x hx => (f5 x hx).trans (f4 x hx)) ?_)⟩))
    · unfold myW wrI
      unfold wrI at ps4
      rw [decide_eq_false (show ¬ (tV Ts (h + 3) < 1 ∨ 4 < tV Ts (h + 3)) by omega), if_neg (show ¬ (false = true) by decide)]
      exact ps4
    · unfold myW
      rw [wrI, decide_eq_true (show (tV Ts (h + 3) < 1 ∨ 4 < tV Ts (h + 3)) by omega), if_pos rfl]
      exact ps5
  refine ⟨by omega, by omega, by omega, by omega, by constructor <;> omega, by constructor <;> omega, fun y => g63 M9 f09 ?_, fun y => rd_wrong tk ps9 (by decide) k2.2.1 k2.1 (fun M5 f5 ps5 => g63 M5 (fun x hx => (f5 x hx).trans (f09 x hx)) ?_)⟩
  · have y : tV Ts (h + 2) ≤ tV Ts (h + 3) := y
    rw [wrI, decide_eq_false (by omega), if_neg (by decide)]
    exact ps9
  · rw [wrI, decide_eq_true y, if_pos rfl]
    exact ps5
theorem rd_partOf {F : Int → pM → Prop} {v : Int} (pt : PtR S M s pts) (hm : M 16 8 = pts.length) (p8 : pts.length ≤ 8) (hv : 0 ≤ v ∧ v < 282429536481) (k0 : fdP pts v = none → F (-1) M) (k1 : ∀ j : Nat, j < pts.length → fdP pts v = some (ptd pts j).2 → F j M) : pNi true X mX3_partOf 1 [pR 16, pL v] S M F := by
  have loop : ∀ (q j : Nat), j + q = pts.length → (∀ i : Nat, i < j → (ptd pts i).1 ≠ v) → wX3_partOf_2 X F v j S M := by
    intro q
    induction q with
    | zero =>
      intro j hj hn
      refine bX3_partOf_2 ?_
      rw [hm]
      exact ⟨by constructor <;> omega, by constructor <;> omega, fun _ => k0 (fdP_none 0 (fun i hi => hn i (by omega))), fun y => by omega⟩
    | succ q ih =>
      intro j hj hn
      obtain ⟨a1, _, _, _, a5⟩ := pt j (by omega)
      refine bX3_partOf_2 ?_
      rw [hm, a1]
      refine ⟨by constructor <;> omega, by constructor <;> omega, fun y => by omega, fun _ => ⟨by omega, by omega, ⟨by omega, by omega⟩, ⟨by omega, by omega⟩, fun y => ?_, fun y => k1 j (by omega) (fdP_some pts j (by omega) hn y)⟩⟩
      have := ih (j + 1) (by omega) (fun i hi => by
        by_cases e : i = j
        · subst e; exact y
        · exact hn i (by omega))
      rw [Int.natCast_succ] at this
      exact this
  exact eX3_partOf (bX3_partOf_0 (loop pts.length 0 (by omega) (fun i hi => by omega)))
theorem cmb_oW {kd : Int} {p : Nat → Option (Int × Int)} {s : Ot} : cmb (oW Ts h kd p) s = if tK Ts h = kd then cmb (gO Ts h (p (h + 1))) s else cmb (p h) s := by
  unfold oW
  split <;> rfl
theorem rd_use {F : List psh → pM → Prop} {dd dr : Nat} {p : Nat → Option (Int × Int)} {sO : Ot} (hdd : 20 ≤ dd) (hdr : dr + 1 ≤ dd) (tk : TkR S0 M0 Ts NB) (hn : 2 ≤ n ∧ n ≤ 7) (ps : PS0 Q S0 M0 Ts NB B S M (h + 1) d n pts.length w) (p8 : pts.length ≤ 8) (sa : StA S0 β S M s cur) (pt : PtR S M s pts) (hB : B + 803 ≤ NB) (hO : O = cmb (mU Ts (h + 1) 1 (oW Ts (h + 2) 17 (fun i => oW Ts i 18 (fun j => mU Ts j 4 (p j))))) sO) (hE : ∀ r S' M', FtR S0 M0 O (NB + 1) r S' M' → E r S' M') (k : ∀ S' M', S <+: S' → PS0 Q S0 M0 Ts NB (B + 803) S' M' (usH Ts h) d n pts.length (usW Ts h pts w) → StA S0 β S' M' s (usS Ts n h cur pts) → PtR S' M' s pts → (∀ x : Int, 0 ≤ x → x < β → x ≠ 16 → M' x = M x) → O = cmb (p (h + 2 + usU Ts h + usT Ts h)) sO → F S' M') : pXv true X mX3_tellUse 9 [pR 16, pR s] S M (fun (S60 : List psh) (M61 : pM) => S <+: S60 → wX3_tell_219 dd X F E S60 M61) E := by
  have h288 := tk.1
  have l0 := pre_len ps.1.1
  have b2 := sa.2.2.1
  have sc : (288 ≤ s ∧ s < S.length) ∧ 288 ≤ M s 0 ∧ M s 0 < S.length := by obtain ⟨⟨c, sb⟩, _⟩ := sa; exact sb.cells
  have ss : shq S s = some (.inl 9, 3) := by obtain ⟨⟨c, sb⟩, _⟩ := sa; exact sb.w.2.2.2.1
  have okh := ps.2.2.2.1
  obtain ⟨_, _, v1, _⟩ := tk_bd tk okh.2.1
  have h4 := okh.1
  -- after the words
  have g67 : ∀ (x3 : Int) (M4 : pM), (x3 = -1 ∧ fdP pts (tV Ts (h + 1)) = none ∨ ∃ j : Nat, x3 = j ∧ j < pts.length ∧ fdP pts (tV Ts (h + 1)) = some (ptd pts j).2) → (∀ x, x ≠ 16 → M4 x = M x) → PS0 Q S0 M0 Ts NB B S M4 (h + 2 + usU Ts h + usT Ts h) d n pts.length (usW Ts h pts w) → O = cmb (mU Ts (h + 2 + usU Ts h + usT Ts h) 4 (p (h + 2 + usU Ts h + usT Ts h))) sO → wX3_tellUse_67 X (fun (S60 : List psh) (M61 : pM) => S <+: S60 → wX3_tell_219 dd X F E S60 M61) E s x3 (usU Ts h) (usT Ts h) S M4 := by
    intro x3 M4 hx f4 ps4 hO4
    have hH : usH Ts h = h + 2 + usU Ts h + usT Ts h + 1 := by unfold usH; omega
    have uB : (usU Ts h : Int) = 0 ∨ (usU Ts h : Int) = 1 := by unfold usU; split <;> simp
    have tB : (usT Ts h : Int) = 0 ∨ (usT Ts h : Int) = 1 := by unfold usT; split <;> simp
    refine bX3_tellUse_67 ⟨?_, fun z => ?_, fun z => ?_⟩
    · rcases hx with ⟨e, _⟩ | ⟨j, e, hj, _⟩ <;> constructor <;> omega
    · intro _
      rcases hx with ⟨e, hf⟩ | ⟨j, e, hj, _⟩
      · refine bX3_tell_219 hdd hdr (rd_must tk ps4 (by constructor <;> decide) (by decide) (by decide) hO4 hE (fun M5 f5 ps5 _ hO5 _ => ?_))
        have ff : ∀ x, x ≠ 16 → M5 x = M x := fun x hx => (f5 x hx).trans (f4 x hx)
        refine k S M5 (List.prefix_refl _) ?_ ?_ (pt.fr (List.prefix_refl _) sc (ff 17 (by decide)) (ff 18 (by decide)) (fun x a _ => ff x (by omega))) (fun x _ _ c => ff x c) hO5
        · rw [hH]
          obtain ⟨p1, p2, p3, p4, p5⟩ := ps5
          exact ⟨p1.le (by omega), p2, p3, p4, hB⟩
        · unfold usS
          rw [hf]
          exact sa.u16 ff
      · omega
    · rcases hx with ⟨e, _⟩ | ⟨j, e, hj, hf⟩
      · exact absurd e z
      · subst e
        have pt4 : PtR S M4 s pts := pt.fr (List.prefix_refl _) sc (f4 17 (by decide)) (f4 18 (by decide)) (fun x a _ => f4 x (by omega))
        obtain ⟨a1, ⟨c, a2⟩, a3, a4, a5⟩ := pt4 j hj
        rw [ps4.2.1.2.2.1]
        have rm := rd_rm tk ps4.1 ps4.2.2.2.2
        refine ⟨by omega, by omega, a2.w.2.2.2.1, s_changed a2 a3.1.1 (by constructor <;> omega) (by constructor <;> omega) (rm.le (by decide) (by decide)) (fun S6 M7 c' sb6 g6 f6 _ => ?_)⟩
        have l6 := pre_len g6.1
        have ff : ∀ x : Int, 0 ≤ x → x < S.length → x ≠ 16 → M7 x = M x := fun x a b c => by rw [f6 x a b, f4 x c]
        have sa6 : StA S0 β S6 M7 s cur := sa.up g6.1 (fun x a b => ff x (by omega) b (by omega))
        have pt6 : PtR S6 M7 s pts := pt.fr g6.1 sc (ff 17 (by decide) (by omega) (by decide)) (ff 18 (by decide) (by omega) (by decide)) (fun x a b => ff x (by omega) b (by omega))
        obtain ⟨⟨c6, sb⟩, s1, s2, s3⟩ := sa6
        have cs := sb.cells
        have cn := sb6.cells
        have cs0 : M7 s 0 = M s 0 := by rw [ff s (by omega) sc.1.2 (by omega)]
        have ap : apS M7 S.length s := by
          have n0 : (S.length : Int) ≤ M7 S.length 0 := by obtain ⟨l, _, _, _, a3, _⟩ := sb6; exact a3
          refine ⟨by omega, by omega, ?_⟩
          have n1 : M7 (M7 S.length 0) 1 = -4 ∨ (S.length : Int) ≤ M7 (M7 S.length 0) 1 := by obtain ⟨l, _, _, _, _, _, a5, _⟩ := sb6; exact a5
          rcases n1 with y | y
          · exact Or.inl y
          · refine Or.inr (fun q => ?_)
            rw [cs0, ff (M s 0) (by omega) sc.2.2 (by omega)] at q
            obtain ⟨⟨c0, sb0⟩, _⟩ := sa
            rcases sb0.arr with u | ⟨nn, u⟩
            · omega
            · have := (shq_lt u).2; omega
        have rm6 : RM S6 301 1500 := (rm.grw g6).le (by decide) (by decide)
        refine ⟨sb.w.2.2.2.1, s_addAllP sb sb6 ap s3.1.1 (by rw [chL_len]; exact a3.1.1) s2 s3.2.1 s3.2.2 a3.2.1 a3.2.2 (by decide) (by decide) rm6 (fun S9 M10 c9 sb9 _ cc9 g9 fb _ _ => ?_)⟩
        have fr9 : ∀ x : Int, 0 ≤ x → x < β → M10 x = M7 x := fb.1.2
        have ps9 : PS0 Q S0 M0 Ts NB (B + 802) S9 M10 (h + 2 + usU Ts h + usT Ts h) d n pts.length (usW Ts h pts w) := by
          obtain ⟨p1, p2, p3, p4, p5⟩ := ps4
          have c0 := sb.w
          have c1 := sb9.w
          refine ⟨((p1.grow g6 (by decide) (fun x a b => f6 x a (by omega))).grow (g9.le (c' := 300) (s' := 1200) (by omega) (by omega)) (by decide) (fun x a b => fr9 x a (by omega))).le (by omega), ?_, p3, p4, by omega⟩
          unfold RdF
          rw [fr9 16 (by decide) (by omega), f6 16 (by decide) (by omega)]
          exact p2
        refine bX3_tell_219 hdd hdr (rd_must tk ps9 (by constructor <;> decide) (by decide) (by decide) hO4 hE (fun M5 f5 ps5 _ hO5 _ => ?_))
        have l9 := pre_len g9.1
        have sa9 : StA S0 β S9 M10 s (usS Ts n h cur pts) := by
          unfold usS
          rw [hf]
          refine ⟨⟨c9, sb9⟩, s1, by omega, ok_adAS s3 ⟨⟨?_, fun q => ?_⟩, a3.2⟩ (by decide)⟩
          · show (chL _ _ _ _).length ≤ 200
            rw [chL_len]
            exact a3.1.1
          · show ((chL _ _ _ _).length : Int) = _ ∧ mb (chL _ _ _ _) = _
            rw [chL_len, mb_chL]
            exact a3.1.2 q
        refine k S9 M5 (g6.1.trans g9.1) ?_ (sa9.u16 f5) ((pt6.ly sb (by omega) fb).fr (List.prefix_refl _) sb9.cells (f5 17 (by decide)) (f5 18 (by decide)) (fun x a _ => f5 x (by omega))) (fun x a b c => by rw [f5 x c, fr9 x a b]; exact ff x a (by omega) c) hO5
        rw [hH]
        obtain ⟨p1, p2, p3, p4, p5⟩ := ps5
        exact ⟨p1.le (by omega), p2, p3, p4, hB⟩
  have g49 : ∀ (x3 : Int) (M4 : pM), (x3 = -1 ∧ fdP pts (tV Ts (h + 1)) = none ∨ ∃ j : Nat, x3 = j ∧ j < pts.length ∧ fdP pts (tV Ts (h + 1)) = some (ptd pts j).2) → (∀ x, x ≠ 16 → M4 x = M x) → PS0 Q S0 M0 Ts NB B S M4 (h + 2 + usU Ts h) d n pts.length (usW Ts h pts w) → O = cmb (oW Ts (h + 2 + usU Ts h) 18 (fun j => mU Ts j 4 (p j))) sO → wX3_tellUse_49 X (fun (S60 : List psh) (M61 : pM) => S <+: S60 → wX3_tell_219 dd X F E S60 M61) E s x3 (usU Ts h) S M4 := by
    intro x3 M4 hx f4 ps4 hO4
    rw [cmb_oW] at hO4
    refine bX3_tellUse_49 (rd_is tk ps4 (by constructor <;> decide) (fun y => ⟨by constructor <;> decide, fun z => by omega, fun _ => ?_⟩) (fun y => ⟨by constructor <;> decide, fun _ => ?_, fun z => absurd rfl z⟩))
    · have eT : usT Ts h = 1 := by unfold usT; rw [if_pos y]
      rw [if_pos y] at hO4
      refine rd_go tk ps4 (by omega) (by omega) hO4 hE (fun M5 f5 ps5 hO5 _ => ?_)
      have := g67 x3 M5 hx (fun x hx => (f5 x hx).trans (f4 x hx)) (by rw [eT]; exact ps5) (by rw [eT]; exact hO5)
      rw [eT] at this
      exact this
    · have eT : usT Ts h = 0 := by unfold usT; rw [if_neg y]
      rw [if_neg y] at hO4
      have := g67 x3 M4 hx f4 (by rw [eT]; exact ps4) (by rw [eT]; exact hO4)
      rw [eT] at this
      exact this
  have g31 : ∀ (x3 : Int) (M4 : pM), (x3 = -1 ∧ fdP pts (tV Ts (h + 1)) = none ∨ ∃ j : Nat, x3 = j ∧ j < pts.length ∧ fdP pts (tV Ts (h + 1)) = some (ptd pts j).2) → (∀ x, x ≠ 16 → M4 x = M x) → PS0 Q S0 M0 Ts NB B S M4 (h + 2) d n pts.length (usW Ts h pts w) → O = cmb (oW Ts (h + 2) 17 (fun i => oW Ts i 18 (fun j => mU Ts j 4 (p j)))) sO → wX3_tellUse_31 X (fun (S60 : List psh) (M61 : pM) => S <+: S60 → wX3_tell_219 dd X F E S60 M61) E s x3 S M4 := by
    intro x3 M4 hx f4 ps4 hO4
    rw [cmb_oW] at hO4
    refine bX3_tellUse_31 (rd_is tk ps4 (by constructor <;> decide) (fun y => ⟨by constructor <;> decide, fun z => by omega, fun _ => ?_⟩) (fun y => ⟨by constructor <;> decide, fun _ => ?_, fun z => absurd rfl z⟩))
    · have eT : usU Ts h = 1 := by unfold usU; rw [if_pos y]
      rw [if_pos y] at hO4
      refine rd_go tk ps4 (by omega) (by omega) hO4 hE (fun M5 f5 ps5 hO5 _ => ?_)
      have := g49 x3 M5 hx (fun x hx => (f5 x hx).trans (f4 x hx)) (by rw [eT]; exact ps5) (by rw [eT]; exact hO5)
      rw [eT] at this
      exact this
    · have eT : usU Ts h = 0 := by unfold usU; rw [if_neg y]
      rw [if_neg y] at hO4
      have := g49 x3 M4 hx f4 (by rw [eT]; exact ps4) (by rw [eT]; exact hO4)
      rw [eT] at this
      exact this
  refine eX3_tellUse (bX3_tellUse_0 (rd_must tk ps (by constructor <;> decide) (by decide) (by decide) hO hE (fun M3 f3 ps3 hK hO3 _ => ⟨by omega, by omega, ?_⟩)))
  rw [(tk_at tk ps3.1 okh.2.1 okh.1).2.2]
  have pt3 : PtR S M3 s pts := pt.fr (List.prefix_refl _) sc (f3 17 (by decide)) (f3 18 (by decide)) (fun x a _ => f3 x (by omega))
  refine rd_partOf pt3 ps3.2.1.2.2.2.2.2.1 p8 v1 (fun hf => ⟨by constructor <;> decide, fun z => absurd rfl z, fun _ => rd_wrong tk ps3 (by decide) okh.2.1 okh.1 (fun M4 f4 ps4 => ?_)⟩) (fun j hj hf => ⟨by constructor <;> omega, fun _ => ?_, fun z => by omega⟩)
  · refine g31 (-1) M4 (Or.inl ⟨rfl, hf⟩) (fun x hx => (f4 x hx).trans (f3 x hx)) ?_ hO3
    unfold usW
    rw [hf]
    exact ps4
  · refine g31 j M3 (Or.inr ⟨j, rfl, hj, hf⟩) f3 ?_ hO3
    unfold usW
    rw [hf]
    exact ps3
end
