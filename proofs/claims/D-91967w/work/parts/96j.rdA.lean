/-! ===== the component reads a text ===== -/
set_option maxRecDepth 100000
section
variable {Q : Prop} {X : px} {S0 : List psh} {M0 : pM} {Ts : List tok} {O : Ot} {E : Int → List psh → pM → Prop} {n : Int} {NB : Int}
theorem PS0.q {Q Q' : Prop} {S : List psh} {M : pM} {B : Int} {h d m : Nat} {w : Int × Int} (ps : PS0 Q S0 M0 Ts NB B S M h d n m w) (hq : Q' → w.1 ≠ 0) : PS0 Q' S0 M0 Ts NB B S M h d n m w := ⟨ps.1, ps.2.1, ⟨ps.2.2.1.1, hq⟩, ps.2.2.2⟩
theorem x12_init {b : Bool} {F : pM → Prop} {S : List psh} {M : pM} {r x y : Int} (h288 : 288 ≤ r) (hs : shq S r = some (.inl 10, 2)) (kk : ∀ M', (∀ z, z ≠ r → M' z = M z) → M' r 0 = x → M' r 1 = y → F M') : pNv b X mX12_init 2 [pR r, pI x, pR y] S M F := by
  refine eX12_init (bX12_init_0 ⟨⟨_, hs⟩, hs, nc_hi h288, fun M2 e2 => ⟨hs, nc_hi h288, fun M5 e5 => ?_⟩⟩)
  refine kk M5 (fun z hz => by rw [e5, up_ne hz, e2, up_ne hz]) ?_ (by rw [e5, up_same])
  rw [e5, up_oi (by decide), e2, up_same]
theorem rd_read86 {F : Int → List psh → pM → Prop} {β s : Int} (tk : TkR S0 M0 Ts NB) (hNB : NB = 320 * (Ts.length : Int) + 1000) (hn : 2 ≤ n ∧ n ≤ 7) (hE : ∀ r S' M', FtR S0 M0 O (NB + 1) r S' M' → E r S' M') (k : ∀ r S' M' cur, O = (0, -1, n, cur.1) → lgB cur = false → StA S0 β S' M' s cur → shq S' r = some (.inl 10, 2) → M' r 0 = n → M' r 1 = s → (S0.length : Int) ≤ r → RdW S0 M0 (NB + 1) S' M' → F r S' M') : ∀ (f h : Nat) (pts : List (Int × sps)) (w : Int × Int) (B : Int) (cur : sps) (S : List psh) (M : pM), PS0 False S0 M0 Ts NB B S M h 0 n pts.length w → StA S0 β S M s cur → PtR S M s pts → B ≤ 320 * (h : Int) → 401 ≤ h + f → (w.1 = 0 → lgB cur = false) → O = cmb (prs Ts f h 0 pts.length) (sem Ts n f h (cur, [], pts, w)) → wX3_read_86 X F E s S M := by
  have h288 := tk.1
  intro f
  induction f using Nat.strongRecOn with
  | _ f ih =>
    intro h pts w B cur S M ps sa pt hB h401 hlg hO
    have okh := ps.2.2.2.1
    have l0 := pre_len ps.1.1
    have rm := rd_rm tk ps.1 ps.2.2.2.2
    have b2 := sa.2.2.1
    have b1 := sa.2.1
    have hh4 := okh.1
    have sc : (288 ≤ s ∧ s < S.length) ∧ 288 ≤ M s 0 ∧ M s 0 < S.length := by obtain ⟨⟨c, sb⟩, _⟩ := sa; exact sb.cells
    obtain ⟨g, rfl⟩ : ∃ g, f = g + 1 := ⟨f - 1, by omega⟩
    have p5 := ps.2.2.2.2
    refine bX3_read_86 (rd_is tk ps (by constructor <;> decide) (fun y => ⟨by constructor <;> decide, fun _ => ?_, fun z => by omega⟩) (fun y => ⟨by constructor <;> decide, fun z => absurd rfl z, fun _ => rd_is tk ps (by constructor <;> decide) (fun y2 => ⟨by constructor <;> decide, fun z => by omega, fun _ => ?_⟩) (fun y2 => ⟨by constructor <;> decide, fun _ => ?_, fun z => absurd rfl z⟩)⟩))
    · rw [kd_0 y, if_pos rfl, sm_0 y] at hO
      have hO : O = (if w.1 ≠ 0 then (w.1, w.2, 0, []) else (0, -1, n, cur.1)) := hO
      obtain ⟨p1, ⟨r1, r2, r3, r4, r5, r6⟩, ⟨⟨w1, w2⟩, _⟩, p4, p5⟩ := ps
      rw [r4]
      refine ⟨by constructor <;> omega, fun z => ?_, fun z => ?_⟩
      · rw [if_neg (by omega)] at hO
        refine ⟨by have := rm.1; omega, by have := rm.2; omega, fun r7 S8 M9 e7 e8 e9 => ?_⟩
        subst e7
        subst e8
        have f9 : ∀ x : Int, x < S.length → M9 x = M x := fun x hx => by rw [e9, zo_ne (by omega)]
        rw [f9 16 (by omega), r3]
        refine ⟨⟨_, shq_new⟩, x12_init (by omega) shq_new (fun M11 f11 k0 k1 => ?_)⟩
        have ff : ∀ x : Int, x < S.length → M11 x = M x := fun x hx => by rw [f11 x (by omega), f9 x hx]
        exact k S.length _ M11 cur hO (hlg z) (sa.up (List.prefix_append _ _) (fun x _ b => ff x b)) shq_new k0 k1 l0 ((p1.grow (grw_one (σ := (.inl 10, 2))) (by decide) (fun x a b => ff x (by omega))).le (by omega))
      · rw [if_pos z] at hO
        refine ⟨by have := rm.1; omega, by have := rm.2; omega, fun r7 S8 M9 e7 e8 e9 => ?_⟩
        subst e7
        subst e8
        have f9 : ∀ x : Int, x < S.length → M9 x = M x := fun x hx => by rw [e9, zo_ne (by omega)]
        rw [f9 16 (by omega), r4, r5 z]
        refine ⟨⟨_, shq_new⟩, x7_init (by omega) shq_new (fun M11 f11 k6 k7 => ⟨shq_new, hE _ _ _ ⟨shq_new, ⟨w.1, w.2, hO, by omega, k6, k7⟩, ?_⟩⟩)⟩
        exact (p1.grow (grw_one (σ := (.inl 11, 8))) (by decide) (fun x a b => by rw [f11 x (by omega), f9 x (by omega)])).le (by omega)
    · refine rd_part (Q := w.1 ≠ 0) tk hNB hn hE (ps.q id) sa pt hB h401 y2 hO (fun S' M' h' f' pts' w' B' pre' ps' sa' pt' fr' hO' hB' hh' h401' hf' _ => ih f' hf' h' pts' w' B' cur S' M' (ps'.q (fun q => q.elim)) sa' pt' hB' h401' (fun z => ?_) hO')
      by_cases q : w.1 = 0
      · exact hlg q
      · exact absurd z (ps'.2.2.1.2 q)
    · refine rd_tell tk hNB hn hE 4 0 rfl 30 (g + 1) h pts.length [] pts w B β s cur S M _ (by decide) rfl ps sa pt hB h401 hO (fun _ => ⟨y, y2⟩) (fun z => absurd rfl z) ?_
      intro S' M' h' f' cur' w' B' pre' ps' sa' pt' fr' hO' hB' hh' h401' hf' _
      have ss : shq S' s = some (.inl 9, 3) := by obtain ⟨⟨c, sb⟩, _⟩ := sa'; exact sb.w.2.2.2.1
      have sc' : (288 ≤ s ∧ s < S'.length) ∧ 288 ≤ M' s 0 ∧ M' s 0 < S'.length := by obtain ⟨⟨c, sb⟩, _⟩ := sa'; exact sb.cells
      rw [ps.2.1.1]
      have hO' : O = cmb (prs Ts f' h' 0 pts.length) (sem Ts n f' h' (cur', [], pts, wrI (lgB cur') w' 6 (tP Ts h))) := hO'
      refine ⟨ss, rd_isLong sa' (fun lg => ⟨by constructor <;> decide, fun z => by omega, fun _ => rd_wrong tk ps' (by decide) okh.2.1 okh.1 (fun M4 f4 ps4 => bX3_read_134 ?_)⟩) (fun lg => ⟨by constructor <;> decide, fun _ => bX3_read_134 ?_, fun z => absurd rfl z⟩)⟩
      · rw [wrI, lg, if_pos rfl] at hO'
        refine ih f' hf' h' pts _ B' cur' S' M4 ps4 (sa'.u16 f4) (pt'.fr (List.prefix_refl _) sc' (f4 17 (by decide)) (f4 18 (by decide)) (fun x a _ => f4 x (by omega))) hB' h401' (fun z => ?_) hO'
        exfalso
        unfold wr at z
        split at z
        · rename_i q; exact q.1 z
        · exact absurd (show (6 : Int) = 0 from z) (by decide)
      · rw [wrI, lg, if_neg (by decide)] at hO'
        exact ih f' hf' h' pts _ B' cur' S' M' ps' sa' pt' hB' h401' (fun _ => lg) hO'
theorem rd_read {F : Int → List psh → pM → Prop} (tk : TkR S0 M0 Ts NB) (hNB : NB = 320 * (Ts.length : Int) + 1000) (hO : O = rdO Ts) (hE : ∀ r S' M', FtR S0 M0 O (NB + 1) r S' M' → E r S' M') (k : ∀ r s S' M' cur, O = (0, -1, lgN Ts, cur.1) → lgB cur = false → StA S0 S0.length S' M' s cur → shq S' r = some (.inl 10, 2) → M' r 0 = lgN Ts → M' r 1 = s → (S0.length : Int) ≤ r → RdW S0 M0 (NB + 1) S' M' → F r S' M') : pXr true X mX3_read 31 [pR 16] S0 M0 F E := by
  have h288 := tk.1
  have tl := tk.2.1.2.2.2.1
  unfold rdO at hO
  refine eX3_read (bX3_read_0 (fun M1 e1 M2 e2 M3 e3 M4 e4 => ?_))
  have f4 : ∀ x, x ≠ 16 → M4 x = M0 x := fun x hx => by rw [e4, up_ne hx, e3, up_ne hx, e2, up_ne hx, e1, up_ne hx]
  have ps4 : PS0 False S0 M0 Ts NB 0 S0 M4 0 0 (M0 16 3) 0 (0, 0) := by
    refine ⟨⟨List.prefix_refl _, fun x _ _ c _ _ => f4 x c, by omega, by omega⟩, ⟨?_, ?_, ?_, ?_, fun z => absurd rfl z, ?_, by decide⟩, ⟨⟨⟨Int.le_refl _, by decide⟩, fun z => absurd rfl z⟩, fun z => z.elim⟩, ⟨by decide, by omega, fun j hj => by omega⟩, by omega⟩
    · rw [e4, up_oi (by decide), e3, up_oi (by decide), e2, up_oi (by decide), e1, up_same]; rfl
    · rw [e4, up_oi (by decide), e3, up_oi (by decide), e2, up_same]; rfl
    · rw [e4, up_oi (by decide), e3, up_oi (by decide), e2, up_oi (by decide), e1, up_oi (by decide)]
    · rw [e4, up_oi (by decide), e3, up_same]
    · rw [e4, up_same]; rfl
  refine rd_must tk ps4 (by constructor <;> decide) (by decide) (by decide) hO hE (fun M7 f7 ps7 hK7 hO7 _ => ?_)
  have ok7 := ps7.2.2.2.1
  obtain ⟨_, ⟨pb0, pb1⟩, ⟨v0, _⟩, v9⟩ := tk_bd tk ok7.2.1
  refine rd_bounded tk ps7 (by decide) (by decide) hO7 hE (fun M10 f10 ps10 hK10 hO10 _ => ?_)
  have v9 := v9 hK10
  intro M11 e11
  have f11 : ∀ x, x ≠ 16 → M11 x = M10 x := fun x hx => by rw [e11, up_ne hx]
  have r16 : ∀ j, j ≠ 3 → M11 16 j = M10 16 j := fun j hj => by rw [e11, up_oi hj]
  have kt : M7 16 1 = ((1 : Nat) : Int) := ps7.2.1.1
  have g72 : ∀ Mx : pM, (∀ x, x ≠ 16 → Mx x = M0 x) → PS0 False S0 M0 Ts NB 0 S0 Mx 2 0 (lgN Ts) 0 (lgW0 Ts) → wX3_read_72 X F E S0 Mx := by
    intro Mx fx psx
    have hn : 2 ≤ lgN Ts ∧ lgN Ts ≤ 7 := by unfold lgN; split <;> omega
    refine bX3_read_72 (rd_must tk psx (by constructor <;> decide) (by decide) (by decide) hO10 hE (fun M3 f3 ps3 _ hO3 _ => ?_))
    have rm := rd_rm tk ps3.1 ps3.2.2.2.2
    refine ⟨by have := rm.1; omega, by have := rm.2; omega, fun r6 S7 M8 e6 e7 e8 => ?_⟩
    subst e6
    subst e7
    subst e8
    refine ⟨⟨_, shq_new⟩, s_new (by omega) (rm.le (by decide) (by decide)) (fun M2 sb fx2 _ => ?_)⟩
    have pre : S0 <+: S0 ++ [(.inl 9, 3)] ++ [(.inl 4, 3)] := (List.prefix_append _ _).trans (List.prefix_append _ _)
    have g2 : grw S0 (S0 ++ [(.inl 9, 3)] ++ [(.inl 4, 3)]) 2 6 := ((grw_one (S := S0) (σ := (.inl 9, 3))).trans grw_one).le (by decide) (by decide)
    refine rd_read86 (β := S0.length) tk hNB hn hE (fun r S' M' cur a1 a2 a3 a4 a5 a6 a7 a8 => k r _ S' M' cur a1 a2 a3 a4 a5 a6 a7 a8) 401 3 [] (lgW0 Ts) 2 emS _ M2 ?_ ⟨⟨0, sb⟩, Int.le_refl _, by have := pre_len pre; omega, ⟨⟨by show 0 ≤ 200; decide, fun _ => ⟨rfl, rfl⟩⟩, ⟨by decide, by decide⟩, by decide, by decide⟩⟩ (fun j hj => by simp at hj) (by decide) (by decide) (fun _ => rfl) hO3
    obtain ⟨p1, p2, p3, p4, p5⟩ := ps3
    refine ⟨p1.grow g2 (by decide) (fun x a b => fx2 x b), ?_, p3, p4, by omega⟩
    unfold RdF
    rw [fx2 16 (by omega)]
    exact p2
  have F0 : ∀ Mx : pM, (∀ x, x ≠ 16 → Mx x = M11 x) → ∀ x, x ≠ 16 → Mx x = M0 x := fun Mx fx x hx => by rw [fx x hx, f11 x hx, f10 x hx, f7 x hx, f4 x hx]
  obtain ⟨p1, ⟨r1, r2, r3, r4, r5, r6⟩, p3, p4, p5⟩ := ps10
  rw [r16 4 (by decide), r4]
  by_cases good : 2 ≤ tV Ts 1 ∧ tV Ts 1 ≤ 7
  · have ew : wrI (decide (tV Ts (0 + 1) < 2 ∨ 7 < tV Ts (0 + 1))) (0, 0) 5 (tP Ts (0 + 1)) = lgW0 Ts := by
      unfold wrI lgW0
      rw [decide_eq_false (show ¬ (tV Ts (0 + 1) < 2 ∨ 7 < tV Ts (0 + 1)) from (by rw [show (0 : Nat) + 1 = 1 from rfl]; omega)), if_neg (by decide), if_pos good]
    have en : lgN Ts = tV Ts 1 := by unfold lgN; rw [if_pos good]
    rw [ew] at r4 r5 p3 ⊢
    have z0 : (lgW0 Ts).1 = 0 := by unfold lgW0; rw [if_pos good]
    refine ⟨by rw [z0]; constructor <;> decide, fun _ => g72 M11 (F0 M11 (fun _ _ => rfl)) ?_, fun y => absurd z0 y⟩
    refine ⟨p1.u16 f11, ⟨?_, ?_, ?_, ?_, ?_, ?_⟩, p3, p4, p5⟩
    · rw [r16 1 (by decide)]; exact r1
    · rw [r16 2 (by decide)]; exact r2
    · rw [e11, up_same, en, show (0 : Nat) + 1 = 1 from rfl]; omega
    · rw [r16 4 (by decide)]; exact r4
    · rw [r16 5 (by decide)]; exact r5
    · rw [r16 8 (by decide)]; exact r6
  · have ew : wrI (decide (tV Ts (0 + 1) < 2 ∨ 7 < tV Ts (0 + 1))) (0, 0) 5 (tP Ts (0 + 1)) = lgW0 Ts := by
      unfold wrI lgW0
      rw [decide_eq_true (show tV Ts (0 + 1) < 2 ∨ 7 < tV Ts (0 + 1) from (by rw [show (0 : Nat) + 1 = 1 from rfl]; omega)), if_pos rfl, if_neg good]
      unfold wr
      rw [if_neg (fun z => z.1 rfl)]
    have en : lgN Ts = 7 := by unfold lgN; rw [if_neg good]
    rw [ew] at r4 r5 p3 ⊢
    have z1 : (lgW0 Ts).1 = 5 := by unfold lgW0; rw [if_neg good]
    have z2 : (lgW0 Ts).2 = tP Ts 1 := by unfold lgW0; rw [if_neg good]
    have c14 : M11 14 ((1 : Nat) : Int) = tP Ts 1 := by rw [f11 14 (by decide)]; exact (tk_at tk p1 ok7.2.1 ok7.1).2.1
    rw [kt, c14, r16 5 (by decide), r5 (by omega), z2]
    have pb0 : 0 ≤ tP Ts 1 := pb0
    have pb1 : tP Ts 1 ≤ 2000 := pb1
    refine ⟨by rw [z1]; constructor <;> decide, fun y => by omega, fun _ => ⟨by decide, by decide, by constructor <;> omega, by constructor <;> omega, fun y => absurd rfl y, fun _ M17 e17 => g72 M17 (F0 M17 (fun x hx => by rw [e17, up_ne hx])) ?_⟩⟩
    have q17 : ∀ j, j ≠ 3 → M17 16 j = M10 16 j := fun j hj => by rw [e17, up_oi hj, r16 j hj]
    refine ⟨(p1.u16 f11).u16 (fun x hx => by rw [e17, up_ne hx]), ⟨?_, ?_, ?_, ?_, ?_, ?_⟩, p3, p4, p5⟩
    · rw [q17 1 (by decide)]; exact r1
    · rw [q17 2 (by decide)]; exact r2
    · rw [e17, up_same, en]
    · rw [q17 4 (by decide)]; exact r4
    · rw [q17 5 (by decide)]; exact r5
    · rw [q17 8 (by decide)]; exact r6
end
