/-! ===== mend, mendAt: the twin ===== -/
set_option maxRecDepth 100000
/-- N comes r letters behind P -/
def ext : Nat → Nat → Nat → Prop
  | 0, P, N => N = P
  | r + 1, P, N => ∃ g, g < 4 ∧ ext r (4 * P + g + 1) N
theorem ext_lt : ∀ (r P P' N N' : Nat), P < P' → ext r P N → ext r P' N' → N < N'
  | 0, _, _, _, _, h, a, b => by rw [ext] at a b; omega
  | r + 1, P, P', N, N', h, ⟨g, g4, a⟩, ⟨g', g4', b⟩ => ext_lt r _ _ N N' (by omega) a b
theorem ext_ln : ∀ (r P N : Nat), ext r P N → lnN N = lnN P + r
  | 0, _, _, a => by rw [ext] at a; rw [a]; rfl
  | r + 1, P, N, ⟨g, g4, a⟩ => by rw [ext_ln r _ N a, lnN_ch g4]; omega
theorem ext_vN {n : Nat} : ∀ (r P N : Nat), ext r P N → vN n N → vN n P
  | 0, _, _, a, v => by rw [ext] at a; rw [← a]; exact v
  | r + 1, P, N, ⟨g, g4, a⟩, v => ((vN_ch g4).1 (ext_vN r _ N a v)).2
theorem ext_lt' {i : Nat} : ∀ (r P N : Nat), ext r P N → i < lnN P → ltN i N = ltN i P
  | 0, _, _, a, _ => by rw [ext] at a; rw [a]
  | r + 1, P, N, ⟨g, g4, a⟩, h => by
    rw [ext_lt' r _ N a (by rw [lnN_ch g4]; omega), ltN_ch g4, if_neg (by omega)]
theorem ext_snoc {g : Nat} (hg : g < 4) : ∀ (r P N : Nat), ext r P N → ext (r + 1) P (4 * N + g + 1)
  | 0, P, N, a => by rw [ext] at a; exact ⟨g, hg, by rw [ext, a]⟩
  | r + 1, P, N, ⟨g', g4, a⟩ => ⟨g', g4, ext_snoc hg r _ N a⟩
theorem ext_all : ∀ N : Nat, ext (lnN N) 0 N := by
  intro N
  induction N using Nat.strongRecOn with
  | _ N ih =>
    rcases N_cases N with rfl | ⟨P, g, g4, hP, rfl⟩
    · rw [lnN, ext]
    · rw [lnN_ch g4]
      exact ext_snoc g4 _ _ _ (ih P hP)
section
variable {X : px} {S : List psh} {M : pM}
theorem tw_gated {F : Int → pM → Prop} {n g : Nat} {x : Int} (hn : n ≤ 5) (g1 : g + 1 < n) (k : F (gd n g x) M) : pNi true X mX6_gated 2 [pI x, pI n, pI g] S M F := by
  have p := pow_32 hn
  have e := pow_ishl (n := n) (by omega)
  have loop : ∀ (d b : Nat), b + d = 2 ^ n → wX6_gated_5 X F x n g (fld (bsp (gt g)) x b) b S M := by
    intro d
    induction d with
    | zero =>
      intro b h
      refine bX6_gated_5 ?_
      rw [e]
      refine ⟨by constructor <;> omega, by constructor <;> omega, fun _ => ?_, fun y => by omega⟩
      rw [show b = 2 ^ n by omega]
      exact k
    | succ d ih =>
      intro b h
      have nx := ih (b + 1) (by omega)
      rw [Int.natCast_succ, fld] at nx
      refine bX6_gated_5 ?_
      rw [e, tb_s (by omega)]
      by_cases t : tb x b = true
      · rw [if_pos t] at nx ⊢
        exact ⟨by constructor <;> omega, by constructor <;> omega, fun y => by omega, fun _ => ⟨by constructor <;> decide, fun y => absurd rfl y, fun _ => tw_bitsPassed (n := n) (e := gt g) (by omega) (gt_ok g1) (by show (1 : Int) ≠ 3; decide) (by omega) (bX6_gated_35 nx)⟩⟩
      · rw [if_neg t] at nx ⊢
        exact ⟨by constructor <;> omega, by constructor <;> omega, fun y => by omega, fun _ => ⟨by constructor <;> decide, fun _ => bX6_gated_35 nx, fun y => by omega⟩⟩
  exact eX6_gated (bX6_gated_0 (loop (2 ^ n) 0 (by omega)))
theorem tw_isAllSorted {F : Int → pM → Prop} {n : Nat} {x : Int} (hn : n ≤ 5) (h2 : 2 ≤ n) (k1 : srM n x → F 1 M) (k0 : ¬ srM n x → F 0 M) : pNi true X mX6_isAllSorted 2 [pI x, pI n] S M F := by
  have p := pow_32 hn
  have e := pow_ishl (n := n) (by omega)
  have loop : ∀ (d b : Nat), b + d = 2 ^ n → (∀ c, c < b → tb x c = true → srtB n c = true) → wX6_isAllSorted_2 X F x n b S M := by
    intro d
    induction d with
    | zero =>
      intro b h hb
      refine bX6_isAllSorted_2 ?_
      rw [e]
      exact ⟨by constructor <;> omega, by constructor <;> omega, fun _ => k1 (fun c hc t => hb c (by omega) t), fun y => by omega⟩
    | succ d ih =>
      intro b h hb
      have nx := fun q => ih (b + 1) (by omega) q
      rw [Int.natCast_succ] at nx
      refine bX6_isAllSorted_2 ?_
      rw [e, tb_s (by omega)]
      by_cases t : tb x b = true
      · rw [if_pos t]
        refine ⟨by constructor <;> omega, by constructor <;> omega, fun y => by omega, fun _ => ⟨by constructor <;> decide, fun y => absurd rfl y, fun _ => tw_isSorted (by omega) h2 (by omega) (fun s => ⟨by constructor <;> decide, fun _ => bX6_isAllSorted_28 (nx (fun c hc tc => ?_)), fun y => by omega⟩) (fun s => ⟨by constructor <;> decide, fun y => absurd rfl y, fun _ => k0 (fun q => ?_)⟩)⟩⟩
        · by_cases z : c = b
          · subst z; exact s
          · exact hb c (by omega) tc
        · rw [q b (by omega) t] at s; cases s
      · rw [if_neg t]
        refine ⟨by constructor <;> omega, by constructor <;> omega, fun y => by omega, fun _ => ⟨by constructor <;> decide, fun _ => bX6_isAllSorted_28 (nx (fun c hc tc => ?_)), fun y => by omega⟩⟩
        by_cases z : c = b
        · subst z; exact absurd tc t
        · exact hb c (by omega) tc
  exact eX6_isAllSorted (bX6_isAllSorted_0 (loop (2 ^ n) 0 (by omega) (fun c hc => by omega)))
/-- the search behind P: first those whose next letter is g or more -/
theorem tw_mends9 {F : Int → pM → Prop} {n m : Nat} {x : Int} (hn : n ≤ 5) (h2 : 2 ≤ n) (m10 : m ≤ 10) : ∀ (r a P : Nat) (M : pM), a + r = m → lnN P = a → vN n P → M 287 a = aN n x P → M 286 a = -1 →
    (∀ N M', ext r P N → gdN n x N → (∀ N', ext r P N' → gdN n x N' → N ≤ N') → (∀ c : Int, c ≠ 286 → c ≠ 287 → M' c = M c) → (∀ i : Nat, i < a → M' 286 i = M 286 i) → (∀ i : Nat, a ≤ i → i < m → M' 286 i = (ltN i N : Int)) → M' 287 0 = M 287 0 → F 1 M') →
    ((∀ N, ext r P N → ¬ gdN n x N) → ∀ M', (∀ c : Int, c ≠ 286 → c ≠ 287 → M' c = M c) → (∀ i : Nat, i < a → M' 286 i = M 286 i) → (∀ i : Nat, i ≤ a → M' 287 i = M 287 i) → wX6_mends_9 X F n m ((a : Int) + (-1)) S M') →
    wX6_mends_9 X F n m a S M := by
  intro r
  induction r with
  | zero =>
    intro a P M h1 hl hv hs hg K1 K0
    refine bX6_mends_9 ?_
    rw [hs]
    refine ⟨by constructor <;> omega, fun y => by omega, fun _ => ⟨by constructor <;> omega, by constructor <;> omega, fun y => by omega, fun _ => ⟨by omega, by omega, tw_isAllSorted hn h2 (fun s => ⟨by constructor <;> decide, fun y => by omega, fun _ => ?_⟩) (fun s => ⟨by constructor <;> decide, fun _ => ?_, fun y => absurd rfl y⟩)⟩⟩⟩
    · exact K1 P M rfl ⟨hv, s⟩ (fun N' e _ => by rw [ext] at e; omega) (fun _ _ _ => rfl) (fun _ _ => rfl) (fun i h1 h2 => by omega) rfl
    · exact K0 (fun N e q => by rw [ext] at e; subst e; exact s q.2) M (fun _ _ _ => rfl) (fun _ _ => rfl) (fun _ _ => rfl)
  | succ r ih =>
    intro a P M h1 hl hv hs hg K1 K0
    have inner : ∀ (d g : Nat) (M1 : pM), g + d + 1 = n → M1 286 a = (g : Int) - 1 → (∀ c : Int, c ≠ 286 → c ≠ 287 → M1 c = M c) → (∀ i : Nat, i < a → M1 286 i = M 286 i) → (∀ i : Nat, i ≤ a → M1 287 i = M 287 i) → (∀ N g', g' < g → ext r (4 * P + g' + 1) N → ¬ gdN n x N) → wX6_mends_9 X F n m a S M1 := by
      intro d
      induction d with
      | zero =>
        intro g M1 h3 e1 f1 f2 f3 no
        refine bX6_mends_9 ?_
        rw [e1]
        refine ⟨by constructor <;> omega, fun y => by omega, fun _ => ⟨by constructor <;> omega, by constructor <;> omega, fun _ => ⟨by omega, by omega, by omega, by omega, fun M8 e8 => ?_⟩, fun y => by omega⟩⟩
        have z8 : M8 286 a = g := by rw [e8, up_same]; omega
        rw [z8]
        refine ⟨by omega, by omega, by constructor <;> omega, by constructor <;> omega, fun y => by omega, fun _ => ?_⟩
        refine K0 (fun N e q => ?_) M8 (fun c c1 c2 => by rw [e8, up_ne c1]; exact f1 c c1 c2) (fun i hi => by rw [e8, up_oi (by omega)]; exact f2 i hi) (fun i hi => by rw [e8, up_ne (by decide)]; exact f3 i hi)
        obtain ⟨g', g4, e'⟩ := e
        have := ((vN_ch g4).1 (ext_vN r _ N e' q.1)).1
        exact no N g' (by omega) e' q
      | succ d ihd =>
        intro g M1 h3 e1 f1 f2 f3 no
        refine bX6_mends_9 ?_
        rw [e1]
        refine ⟨by constructor <;> omega, fun y => by omega, fun _ => ⟨by constructor <;> omega, by constructor <;> omega, fun _ => ⟨by omega, by omega, by omega, by omega, fun M8 e8 => ?_⟩, fun y => by omega⟩⟩
        have z8 : M8 286 a = g := by rw [e8, up_same]; omega
        have s8 : M8 287 a = aN n x P := by rw [e8, up_ne (by decide), f3 a (Nat.le_refl _)]; exact hs
        rw [z8, s8]
        refine ⟨by omega, by omega, by constructor <;> omega, by constructor <;> omega, fun _ => ⟨by omega, by omega, by omega, by omega, tw_gated hn (by omega) ⟨by omega, by omega, fun M21 e21 => ⟨by omega, by omega, fun M24 e24 => ?_⟩⟩⟩, fun y => by omega⟩
        have o24 : ∀ c : Int, c ≠ 286 → c ≠ 287 → M24 c = M c := fun c c1 c2 => by rw [e24, up_ne c1, e21, up_ne c2, e8, up_ne c1]; exact f1 c c1 c2
        have g24 : ∀ i : Nat, i < a → M24 286 i = M 286 i := fun i hi => by
          rw [e24, up_oi (by omega), e21, up_ne (by decide), e8, up_oi (by omega)]; exact f2 i hi
        have ga : M24 286 a = g := by rw [e24, up_oi (by omega), e21, up_ne (by decide)]; exact z8
        have s24 : ∀ i : Nat, i ≤ a → M24 287 i = M 287 i := fun i hi => by
          rw [e24, up_ne (by decide), e21, up_oi (by omega), e8, up_ne (by decide)]; exact f3 i hi
        have := ih (a + 1) (4 * P + g + 1) M24 (by omega) (by rw [lnN_ch (by omega)]; omega) ((vN_ch (by omega)).2 ⟨by omega, hv⟩) (by rw [aN_ch (by omega), Int.natCast_succ, e24, up_ne (by decide), e21, up_same]) (by rw [Int.natCast_succ, e24, up_same])
          (fun N M' e q mn o g1 g2 z => K1 N M' ⟨g, by omega, e⟩ q (fun N' ⟨g', g4, e'⟩ q' => by
              rcases Nat.lt_trichotomy g' g with c | c | c
              · exact absurd q' (no N' g' c e')
              · subst c; exact mn N' e' q'
              · exact Nat.le_of_lt (ext_lt r _ _ _ _ (by omega) e e')) (fun c c1 c2 => by rw [o c c1 c2]; exact o24 c c1 c2) (fun i hi => by rw [g1 i (by omega)]; exact g24 i hi) (fun i i1 i2 => by
              by_cases c : i = a
              · subst c
                rw [g1 i (by omega), ga, ext_lt' r _ N e (by rw [lnN_ch (by omega)]; omega), ltN_ch (by omega), if_pos (by omega)]
              · exact g2 i (by omega) i2) (by rw [z, show M24 287 0 = M 287 0 from s24 0 (by omega)]))
          (fun no' M' o g1 z => by
            have := ihd (g + 1) M' (by omega) (by rw [g1 a (by omega), ga]; omega) (fun c c1 c2 => by rw [o c c1 c2]; exact o24 c c1 c2) (fun i hi => by rw [g1 i (by omega)]; exact g24 i hi) (fun i hi => by rw [z i (by omega)]; exact s24 i hi) (fun N g' hg' e => by
              by_cases c : g' = g
              · subst c; exact no' N e
              · exact no N g' (by omega) e)
            rw [Int.natCast_succ, show (a : Int) + 1 + -1 = a by omega]
            exact this)
        rw [Int.natCast_succ] at this
        exact this
    exact inner (n - 1) 0 M (by omega) (by rw [hg]; rfl) (fun _ _ _ => rfl) (fun _ _ => rfl) (fun _ _ => rfl) (fun N g' h => by omega)
theorem tw_mends {F : Int → pM → Prop} {n m : Nat} {x : Int} (hn : n ≤ 5) (h2 : 2 ≤ n) (m10 : m ≤ 10) (hs : M 287 0 = x) (K1 : ∀ N M', lnN N = m → gdN n x N → (∀ N', lnN N' = m → gdN n x N' → N ≤ N') → (∀ c : Int, c ≠ 286 → c ≠ 287 → M' c = M c) → (∀ i : Nat, i < m → M' 286 i = (ltN i N : Int)) → F 1 M') (K0 : (∀ N, lnN N = m → ¬ gdN n x N) → ∀ M', (∀ c : Int, c ≠ 286 → c ≠ 287 → M' c = M c) → M' 287 0 = x → F 0 M') : pNi true X mX6_mends 3 [pR 241, pI n, pI m] S M F := by
  refine eX6_mends (bX6_mends_0 (fun M1 e1 => ?_))
  have ea : ∀ N, lnN N = m → ext m 0 N := fun N h => by have := ext_all N; rw [h] at this; exact this
  have := tw_mends9 (X := X) (S := S) (F := F) (x := x) hn h2 m10 m 0 0 M1 (by omega) (by rw [lnN]) (by rw [vN]; trivial) (by rw [e1, up_ne (by decide), aN]; exact hs) (by rw [e1]; exact up_same)
    (fun N M' e q mn o g1 g2 z => K1 N M' (by rw [ext_ln m 0 N e, lnN]; omega) q (fun N' h q' => mn N' (ea N' h) q') (fun c c1 c2 => by rw [o c c1 c2, e1, up_ne c1]) (fun i hi => g2 i (by omega) hi))
    (fun no M' o g1 z => bX6_mends_9 ⟨by constructor <;> decide, fun _ => K0 (fun N h => no N (ea N h)) M' (fun c c1 c2 => by rw [o c c1 c2, e1, up_ne c1]) (by have := z 0 (by omega); rw [show ((0 : Nat) : Int) = 0 from rfl] at this; rw [this, e1, up_ne (by decide)]; exact hs), fun y => absurd y (by decide)⟩)
  exact this
end
section
variable {X : px} {S : List psh} {M : pM} {σ : sgm}
theorem tw_mending {F : Int → pM → Prop} {t : Int} (ht : inR t) (ti : TI M σ) (ok : okS σ) (k1 : 0 ≤ t → t < σ.1.length → mb (lad σ.1 t).2 ≤ 0 → (lad σ.1 t).1 ≤ 5 → lnN (mdN σ t) ≤ 10 → ∀ M', frT M M' → TT M' → (∀ i : Nat, i < lnN (mdN σ t) → M' 286 i = (ltN i (mdN σ t) : Int)) → F (lnN (mdN σ t)) M') (k0 : ¬ mdC σ t → F (q_mend σ t) M) : pNi true X mX6_mending 4 [pR 241, pI t] S M F := by
  refine eX6_mending (bX6_mending_0 (tw_isLadder ht ti.2.1 ok (fun a b => ⟨by constructor <;> decide, fun _ => tw_maybes ti.2.1 ok a b ?_, fun y => by omega⟩) (fun h => ⟨by constructor <;> decide, fun y => absurd rfl y, fun _ => ?_⟩)))
  · have mbd := mb_bd (lad σ.1 t).2
    have okl := ok.at a b
    have h20 := okl.2.2.2.1
    have t6 := ok.tl b
    obtain ⟨N, e, h2, h7⟩ := okl.nat
    rw [(ti.2.1.2 t a b).1]
    refine ⟨by constructor <;> omega, fun c => ⟨a, t6, by constructor <;> omega, fun n5 => ?_, fun n5 => ?_⟩, fun c => ?_⟩
    · intro M10 e10
      rw [e] at okl
      have hn : N ≤ 5 := by omega
      have p := pow_32 hn
      have pe := pow_ishl (n := N) (by omega)
      obtain ⟨ix, hx⟩ := ini_ok (L := (lad σ.1 t).2) hn okl.2.2.2.2
      have md : mdN σ t = mN N (ini N (lad σ.1 t).2) := by unfold mdN; rw [e, Int.toNat_natCast]
      obtain ⟨gg, least, l10⟩ := mN_ok h2 hn hx
      rw [← md] at gg least l10
      have fT : ∀ M', (∀ c : Int, c ≠ 286 → c ≠ 287 → M' c = M c) → frT M M' ∧ TT M' := fun M' f => ⟨⟨fun x hx => f x (by omega) (by omega), fun j _ => by rw [f 241 (by decide) (by decide)]⟩, by
        rcases ti.1 with z | ⟨n, z1, z2, z3⟩
        · exact Or.inl (by rw [f 241 (by decide) (by decide)]; exact z)
        · exact Or.inr ⟨n, z1, z2, z3.fr (by rw [f 241 (by decide) (by decide)]) (by rw [f 241 (by decide) (by decide)]) (fun x p q => f x (by omega) (by omega))⟩⟩
      have l80 : ∀ (d m : Nat) (M' : pM), m + d = 11 → (∀ N', lnN N' < m → ¬ gdN N (ini N (lad σ.1 t).2) N') → (∀ c : Int, c ≠ 286 → c ≠ 287 → M' c = M c) → M' 287 0 = ini N (lad σ.1 t).2 → wX6_mending_80 X F t m S M' := by
        intro d
        induction d with
        | zero =>
          intro m M' h no f s
          exact absurd gg (no _ (by omega))
        | succ d ih =>
          intro m M' h no f s
          have e2 : M' 242 t = N := by rw [f 242 (by decide) (by decide), (ti.2.1.2 t a b).1]; exact e
          refine bX6_mending_80 ?_
          rw [e2]
          refine ⟨by constructor <;> omega, fun y => by omega, fun _ => ⟨a, t6, tw_mends hn h2 (by omega) s (fun N' M2 hl q mn o g => ⟨by constructor <;> decide, fun y => by omega, fun _ => ?_⟩) (fun no' M2 o z => ⟨by constructor <;> decide, fun _ => ?_, fun y => absurd rfl y⟩)⟩⟩
          · have eq : mdN σ t = N' := by
              rw [md]
              refine mN_eq q (fun N2 h2 q2 => ?_)
              have l2 := lnN_mono N2 N' (by omega)
              rcases Nat.eq_or_lt_of_le l2 with w | w
              · have := mn N2 (by omega) q2; omega
              · exact no N2 (by omega) q2
            obtain ⟨u1, u2⟩ := fT M2 (fun c c1 c2 => by rw [o c c1 c2]; exact f c c1 c2)
            have := k1 a b c (by omega) l10 M2 u1 u2 (by rw [eq, hl]; exact g)
            rw [eq, hl] at this
            exact this
          · have := ih (m + 1) M2 (by omega) (fun N' hN' q => by
              by_cases w : lnN N' = m
              · exact no' N' w q
              · exact no N' (by omega) q) (fun c c1 c2 => by rw [o c c1 c2]; exact f c c1 c2) z
            rw [Int.natCast_succ] at this
            exact this
      have l43 : ∀ (d bb : Nat) (M' : pM), bb + d = 2 ^ N → (∀ c : Int, c ≠ 286 → c ≠ 287 → M' c = M c) → M' 287 0 = fld (fun r => brun (-1) (lad σ.1 t).2 0 r) (-1) bb → wX6_mending_43 X F t bb S M' := by
        intro d
        induction d with
        | zero =>
          intro bb M' h f s
          have e2 : M' 242 t = N := by rw [f 242 (by decide) (by decide), (ti.2.1.2 t a b).1]; exact e
          refine bX6_mending_43 ?_
          rw [e2, pe]
          refine ⟨a, t6, by constructor <;> omega, by constructor <;> omega, fun _ => ?_, fun y => by omega⟩
          exact l80 11 0 M' (by omega) (fun N' h => by omega) f (by rw [s]; unfold ini; rw [show bb = 2 ^ N by omega])
        | succ d ih =>
          intro bb M' h f s
          have e2 : M' 242 t = N := by rw [f 242 (by decide) (by decide), (ti.2.1.2 t a b).1]; exact e
          have th' : THl M' σ.1 := by
            have th := ti.2.1
            unfold THl
            rw [f 241 (by decide) (by decide), f 242 (by decide) (by decide), f 243 (by decide) (by decide), f 244 (by decide) (by decide), f 245 (by decide) (by decide), f 246 (by decide) (by decide), f 247 (by decide) (by decide)]
            exact th
          refine bX6_mending_43 ?_
          rw [e2, pe, s]
          refine ⟨a, t6, by constructor <;> omega, by constructor <;> omega, fun y => by omega, fun _ => tw_bitsEnd th' ok a b e c (by omega) (fun M7 e7 => ?_)⟩
          have := ih (bb + 1) M7 (by omega) (fun c c1 c2 => by rw [e7, up_ne c2]; exact f c c1 c2) (by rw [e7, up_same, fld, if_pos (tb_all bb (by omega))])
          rw [Int.natCast_succ] at this
          exact this
      exact l43 (2 ^ N) 0 M10 (by omega) (fun c c1 c2 => by rw [e10, up_ne c2]) (by rw [e10, up_same, fld])
    · have := k0 (fun z => by have := z.2.2.2; omega)
      unfold q_mend at this
      rw [q_ask1 a b c, if_neg (by omega)] at this
      exact this
    · have := k0 (fun z => by have := z.2.2.1; omega)
      unfold q_mend at this
      rw [q_ask2 a b c] at this
      exact this
  · have := k0 (fun z => h ⟨z.1, z.2.1⟩)
    unfold q_mend at this
    rw [q_ask0 h] at this
    exact this
theorem tw_mend_op {F : Int → pM → Prop} {t : Int} (ht : inR t) (ti : TI M σ) (ok : okS σ) (k : ∀ M', frT M M' → TT M' → F (q_mend σ t) M') : pNi true X mX6_mend 5 [pR 241, pI t] S M F := by
  refine eX6_mend (bX6_mend_0 (tw_mending ht ti ok (fun a b c n5 _ M' f' t' _ => ?_) (fun _ => k M (frT.refl _) ti.1)))
  have := k M' f' t'
  unfold q_mend at this
  rw [q_ask1 a b c, if_pos n5] at this
  exact this
theorem tw_mendAt_op {F : Int → pM → Prop} {t i : Int} (ht : inR t) (hi : inR i) (ti : TI M σ) (ok : okS σ) (k : ∀ M', frT M M' → TT M' → F (q_mendAt σ t i) M') : pNi true X mX6_mendAt 5 [pR 241, pI t, pI i] S M F := by
  refine eX6_mendAt (bX6_mendAt_0 (tw_mending ht ti ok (fun a b c n5 l10 M' f' t' g => ?_) (fun h => ?_)))
  · have kk := k M' f' t'
    unfold q_mendAt at kk
    refine ⟨hi, fun y => ?_, fun y => ⟨hi, by constructor <;> omega, fun w => ?_, fun w => ⟨by omega, by omega, ?_⟩⟩⟩
    · rw [if_neg (fun z => by have := z.2; omega)] at kk; exact kk
    · rw [if_neg (fun z => by have := z.2; omega)] at kk; exact kk
    · rw [if_pos ⟨⟨a, b, c, n5⟩, y, w⟩] at kk
      have gi := g i.toNat (by omega)
      rw [show ((i.toNat : Nat) : Int) = i by omega] at gi
      rw [gi]
      exact kk
  · have kk := k M (frT.refl _) ti.1
    unfold q_mendAt at kk
    rw [if_neg (fun z => h z.1)] at kk
    have neg : q_mend σ t < 0 ∧ -3 ≤ q_mend σ t := by
      unfold q_mend
      by_cases hl : 0 ≤ t ∧ t < σ.1.length
      · rcases Int.lt_or_le 0 (mb (lad σ.1 t).2) with w | w
        · rw [q_ask2 hl.1 hl.2 w]; omega
        · rw [q_ask1 hl.1 hl.2 w, if_neg (fun z => h ⟨hl.1, hl.2, w, z⟩)]; omega
      · rw [q_ask0 hl]; omega
    exact ⟨hi, fun _ => kk, fun y => ⟨hi, by constructor <;> omega, fun _ => kk, fun w => by omega⟩⟩
end
