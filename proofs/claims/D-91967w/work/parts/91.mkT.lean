/-! ===== copy, join, lots: the twin ===== -/
set_option maxRecDepth 100000
def frZ (M M' : pM) : Prop := (∀ x, x ≤ 240 ∨ 248 ≤ x → M' x = M x) ∧ ∀ j, j ≠ 0 → M' 241 j = M 241 j
theorem frZ.refl (M : pM) : frZ M M := ⟨fun _ _ => rfl, fun _ _ => rfl⟩
theorem frZ.trans {M M1 M2 : pM} (a : frZ M M1) (b : frZ M1 M2) : frZ M M2 := ⟨fun x h => (b.1 x h).trans (a.1 x h), fun j h => (b.2 j h).trans (a.2 j h)⟩
theorem TI.add1 {M M' : pM} {σ : sgm} {n : Int} {L : List elt} (ti : TI M σ) (f : frZ M M') (th : THl M' (σ.1 ++ [(n, L)])) : TI M' (s_add1 σ n L) := by
  obtain ⟨tt, _, lg, tp, pl⟩ := ti
  refine ⟨?_, th, ?_, ?_, by rw [f.2 21 (by decide)]; exact pl⟩
  · rcases tt with z | ⟨n, z1, z2, z3⟩
    · exact Or.inl (by rw [f.2 38 (by decide)]; exact z)
    · exact Or.inr ⟨n, z1, z2, z3.fr (f.2 38 (by decide)) (f.2 39 (by decide)) (fun x p q => f.1 x (by omega))⟩
  · show TLg M' σ.2.1
    unfold TLg
    rw [f.2 7 (by decide), f.1 248 (by decide), f.1 249 (by decide), f.1 250 (by decide), f.1 251 (by decide)]
    exact lg
  · show TTp M' σ.2.2.1
    unfold TTp
    rw [f.2 12 (by decide), f.1 252 (by decide)]
    exact tp
section
variable {X : px} {S : List psh} {M : pM}
theorem tw_begin {F : pM → Prop} {n : Int} {Ls : List (Int × List elt)} (th : THl M Ls) (h6 : Ls.length < 6) (k : ∀ M', frZ M M' → THl M' (Ls ++ [(n, [])]) → F M') : pNv true X mX6_begin 1 [pR 241, pI n] S M F := by
  refine eX6_begin (bX6_begin_0 ?_)
  rw [th.1]
  refine ⟨by omega, by omega, fun M3 e3 => ?_⟩
  have z3 : M3 241 0 = Ls.length := by rw [e3, up_ne (by decide)]; exact th.1
  rw [z3]
  refine ⟨by omega, by omega, fun M6 e6 M7 e7 => ?_⟩
  have z6 : M6 241 0 = Ls.length := by rw [e6, up_ne (by decide)]; exact z3
  rw [z6] at e7
  have o : ∀ x, x ≠ 241 → x ≠ 242 → x ≠ 243 → M7 x = M x := fun x a b c => by rw [e7, up_ne a, e6, up_ne c, e3, up_ne b]
  refine k M7 ⟨fun x hx => o x (by omega) (by omega) (by omega), fun j hj => by rw [e7, up_oi hj, e6, up_ne (by decide), e3, up_ne (by decide)]⟩ ⟨by rw [e7, up_same]; simp, fun t p q => ?_⟩
  simp at q
  have v2 : M7 242 t = pu_up M 242 Ls.length n 242 t := by rw [e7, up_ne (by decide), e6, up_ne (by decide), e3]
  have v3 : M7 243 t = pu_up M 243 Ls.length 0 243 t := by
    rw [e7, up_ne (by decide), e6]
    exact congrFun (up_cong (by rw [e3, up_ne (by decide)])) t
  rw [v2, v3, o 244 (by decide) (by decide) (by decide), o 245 (by decide) (by decide) (by decide), o 246 (by decide) (by decide) (by decide), o 247 (by decide) (by decide) (by decide)]
  by_cases d : t = Ls.length
  · rw [d, lad_new, up_same, up_same]
    exact ⟨rfl, rfl, fun i a b => by simp at b; omega⟩
  · rw [lad_app p (by omega), up_oi d, up_oi d]
    exact th.2 t p (by omega)
theorem tw_add {F : pM → Prop} {n : Int} {Ls : List (Int × List elt)} {L : List elt} {e : elt} (th : THl M (Ls ++ [(n, L)])) (h6 : Ls.length < 6) (hL : L.length < 200) (hLs : ∀ t : Int, 0 ≤ t → t < Ls.length → (lad Ls t).2.length ≤ 200) (k : ∀ M', frZ M M' → THl M' (Ls ++ [(n, L ++ [e])]) → F M') : pNv true X mX6_add 1 [pR 241, pI e.1, pI e.2.1, pI e.2.2.1, pI e.2.2.2] S M F := by
  have z0 : M 241 0 = Ls.length + 1 := by rw [th.1]; simp
  have tl := th.2 Ls.length (by omega) (by rw [List.length_append]; simp; omega)
  rw [lad_new] at tl
  obtain ⟨t1, t2, t3⟩ := tl
  refine eX6_add (bX6_add_0 ?_)
  rw [z0, show ((Ls.length : Int) + 1 - 1) = Ls.length by omega, t2]
  have c1200 : 200 * (Ls.length : Int) + (L.length : Int) < 1200 := by omega
  refine ⟨by omega, by omega, by omega, c1200, fun M5 e5 => ⟨by omega, c1200, fun M8 e8 => ⟨by omega, c1200, fun M11 e11 => ⟨by omega, c1200, fun M14 e14 => ?_⟩⟩⟩⟩
  have z14 : M14 243 Ls.length = L.length := by rw [e14, up_ne (by decide), e11, up_ne (by decide), e8, up_ne (by decide), e5, up_ne (by decide)]; exact t2
  rw [z14]
  refine ⟨by omega, by omega, by omega, by omega, fun M19 e19 => ?_⟩
  generalize hc : 200 * (Ls.length : Int) + (L.length : Int) = c at *
  have v4 : M19 244 = pu_up M 244 c e.1 244 := by rw [e19, up_ne (by decide), e14, up_ne (by decide), e11, up_ne (by decide), e8, up_ne (by decide), e5]
  have v5 : M19 245 = pu_up M 245 c e.2.1 245 := by
    rw [e19, up_ne (by decide), e14, up_ne (by decide), e11, up_ne (by decide), e8]
    exact up_cong (by rw [e5, up_ne (by decide)])
  have v6 : M19 246 = pu_up M 246 c e.2.2.1 246 := by
    rw [e19, up_ne (by decide), e14, up_ne (by decide), e11]
    exact up_cong (by rw [e8, up_ne (by decide), e5, up_ne (by decide)])
  have v7 : M19 247 = pu_up M 247 c e.2.2.2 247 := by
    rw [e19, up_ne (by decide), e14]
    exact up_cong (by rw [e11, up_ne (by decide), e8, up_ne (by decide), e5, up_ne (by decide)])
  have v3 : M19 243 = pu_up M 243 Ls.length (L.length + 1) 243 := by
    rw [e19]
    exact up_cong (by rw [e14, up_ne (by decide), e11, up_ne (by decide), e8, up_ne (by decide), e5, up_ne (by decide)])
  have o : ∀ x, x ≠ 243 → x ≠ 244 → x ≠ 245 → x ≠ 246 → x ≠ 247 → M19 x = M x := fun x a b cc d f => by rw [e19, up_ne a, e14, up_ne f, e11, up_ne d, e8, up_ne cc, e5, up_ne b]
  refine k M19 ⟨fun x hx => o x (by omega) (by omega) (by omega) (by omega) (by omega), fun j _ => by rw [o 241 (by decide) (by decide) (by decide) (by decide) (by decide)]⟩ ⟨by rw [o 241 (by decide) (by decide) (by decide) (by decide) (by decide), z0]; simp, fun t p q => ?_⟩
  simp at q
  rw [o 242 (by decide) (by decide) (by decide) (by decide) (by decide), v3, v4, v5, v6, v7]
  by_cases d : t = Ls.length
  · rw [d, lad_new, up_same]
    refine ⟨t1, by simp, fun i a b => ?_⟩
    have b : i < ((L ++ [e]).length : Nat) := b
    rw [List.length_append] at b
    simp at b
    by_cases f : i = L.length
    · rw [f, el_snoc, hc, up_same, up_same, up_same, up_same]
      exact ⟨rfl, rfl, rfl, rfl⟩
    · rw [el_app a (by omega), up_oi (by omega), up_oi (by omega), up_oi (by omega), up_oi (by omega)]
      exact t3 i a (show i < (L.length : Int) by omega)
  · have tt := th.2 t p (by simp; omega)
    rw [lad_app p (by omega)] at tt ⊢
    have hh := hLs t p (by omega)
    rw [up_oi d]
    refine ⟨tt.1, tt.2.1, fun i a b => ?_⟩
    have ne : 200 * t + i ≠ c := by omega
    rw [up_oi ne, up_oi ne, up_oi ne, up_oi ne]
    exact tt.2.2 i a b
end
section
variable {X : px} {S : List psh} {M : pM} {σ : sgm}
theorem okS.len {t : Int} (ok : okS σ) : ∀ t : Int, 0 ≤ t → t < σ.1.length → (lad σ.1 t).2.length ≤ 200 := fun t a b => (ok.at a b).2.2.1
theorem tw_lots_op {F : Int → pM → Prop} {seed n m g : Int} (hn : inR n) (hm : inR m) (hg : inR g) (ti : TI M σ) (ok : okS σ) (k : ∀ M', TI M' (s_lots σ seed n m g) → (∀ x, x ≤ 240 ∨ 288 ≤ x → M' x = M x) → F (q_lots σ n m) M') : pNi true X mX6_lots 3 [pR 241, pI seed, pI n, pI m, pI g] S M F := by
  have h6 := ok.1
  have hl := okS.len (t := 0) ok
  have bad : ¬ loC σ n m → F (-1) M := fun z => by
    have := k M (by unfold s_lots; rw [if_neg z]; exact ti) (fun _ _ => rfl)
    unfold q_lots at this
    rw [if_neg z] at this
    exact this
  refine eX6_lots (bX6_lots_0 ?_)
  rw [ti.2.1.1]
  refine ⟨by constructor <;> omega, fun z => bad (fun w => by have := w.1; omega), fun z => tw_isLegs hn (fun n2 n7 => ⟨by constructor <;> decide, fun z => by omega, fun _ => ⟨hm, fun y => bad (fun w => by have := w.2.2.2; omega), fun m0 => ⟨hm, fun m1 => ?_, fun y => bad (fun w => by have := w.2.2.2; omega)⟩⟩⟩) (fun h => ⟨by constructor <;> decide, fun _ => bad (fun w => by have := w.2; omega), fun z => by omega⟩)⟩
  have C : loC σ n m := ⟨by omega, n2, n7, m0, m1⟩
  refine tw_begin ti.2.1 (by omega) (fun M1 f1 th1 => ?_)
  have loop : ∀ (d i : Nat) (M2 : pM), (i : Int) + d = m → frZ M M2 → THl M2 (σ.1 ++ [(n, ltP seed n g i)]) → wX6_lots_37 X F seed n m g i S M2 := by
    intro d
    induction d with
    | zero =>
      intro i M2 q1 f2 th2
      have z2 : M2 241 0 - 1 = σ.1.length := by rw [th2.1]; simp
      refine bX6_lots_37 ?_
      rw [z2]
      refine ⟨by constructor <;> omega, by constructor <;> omega, fun _ => ?_, fun y => by omega⟩
      have := k M2 (by unfold s_lots; rw [if_pos C, show m.toNat = i by omega]; exact ti.add1 f2 th2) (fun x hx => f2.1 x (by omega))
      unfold q_lots at this
      rw [if_pos C] at this
      exact this
    | succ d ih =>
      intro i M2 q1 f2 th2
      have g69 : ∀ x, x = (ltE seed n g i).1 → wX6_lots_69 X F seed n m g i x S M2 := by
        intro x hx
        subst hx
        refine bX6_lots_69 (tw_lot (by omega) (by omega) ?_)
        have := tw_add (X := X) (S := S) (F := fun M3 => wX6_lots_37 X F seed n m g ((i : Int) + 1) S M3) (e := ltE seed n g i) th2 (by omega) (by rw [ltP_len]; omega) hl (fun M3 f3 th3 => by
          have := ih (i + 1) M3 (by omega) (f2.trans f3) (by rw [ltP]; exact th3)
          rw [Int.natCast_succ] at this
          exact this)
        exact this
      refine bX6_lots_37 ⟨by constructor <;> omega, by constructor <;> omega, fun y => by omega, fun _ => ⟨hg, fun z => bX6_lots_68 (g69 0 ?_), fun z => tw_lot (by decide) (by decide) ?_⟩⟩
      · unfold ltE
        simp [z]
      · have lb := lotI_bd (seed := seed) (w := 2 * (i : Int) + 1) (m := 2) (by decide) (by decide)
        refine ⟨by constructor <;> omega, fun w => bX6_lots_68 (g69 0 ?_), fun w => g69 1 ?_⟩
        · unfold ltE
          simp [w]
        · unfold ltE
          simp [z, w]
  exact loop m.toNat 0 M1 (by omega) f1 th1
theorem tw_copy_op {F : Int → pM → Prop} {t up tu : Int} (ht : inR t) (hu : inR up) (htu : inR tu) (ti : TI M σ) (ok : okS σ) (k : ∀ M', TI M' (s_copy σ t up tu) → (∀ x, x ≤ 240 ∨ 288 ≤ x → M' x = M x) → F (q_copy σ t) M') : pNi true X mX6_copy 2 [pR 241, pI t, pI up, pI tu] S M F := by
  have h6 := ok.1
  have hl := okS.len (t := 0) ok
  have bad : ¬ cpC σ t → F (-1) M := fun z => by
    have := k M (by unfold s_copy; rw [if_neg z]; exact ti) (fun _ _ => rfl)
    unfold q_copy at this
    rw [if_neg z] at this
    exact this
  refine eX6_copy (bX6_copy_0 ?_)
  rw [ti.2.1.1]
  refine ⟨by constructor <;> omega, fun z => bad (fun w => by have := w.1; omega), fun z => tw_isLadder ht ti.2.1 ok (fun a b => ⟨by constructor <;> decide, fun _ => ⟨a, ok.tl b, ?_⟩, fun z => by omega⟩) (fun h => ⟨by constructor <;> decide, fun z => by omega, fun _ => bad (fun w => h w.2)⟩)⟩
  have C : cpC σ t := ⟨by omega, a, b⟩
  have okl := ok.at a b
  have ll := okl.2.2.1
  have t6 := ok.tl b
  have n2 := okl.1
  have n7 := okl.2.1
  rw [(ti.2.1.2 t a b).1]
  refine tw_begin ti.2.1 (by omega) (fun M1 f1 th1 => ?_)
  have loop : ∀ (d : Nat) (i : Int) (M2 : pM), i + d = (lad σ.1 t).2.length → 0 ≤ i → frZ M M2 → THl M2 (σ.1 ++ [((lad σ.1 t).1, (chL up tu (lad σ.1 t).1 (lad σ.1 t).2).take i.toNat)]) → wX6_copy_32 X F t up tu i S M2 := by
    intro d
    induction d with
    | zero =>
      intro i M2 q1 q2 f2 th2
      have z2 : M2 241 0 - 1 = σ.1.length := by rw [th2.1]; simp
      have u := th2.2 t a (by simp; omega)
      rw [lad_app a b] at u
      refine bX6_copy_32 ?_
      rw [z2, u.2.1]
      refine ⟨a, t6, by constructor <;> omega, by constructor <;> omega, fun _ => ?_, fun y => by omega⟩
      rw [List.take_of_length_le (by rw [chL_len]; omega)] at th2
      have := k M2 (by unfold s_copy; rw [if_pos C]; exact ti.add1 f2 th2) (fun x hx => f2.1 x (by omega))
      unfold q_copy at this
      rw [if_pos C] at this
      exact this
    | succ d ih =>
      intro i M2 q1 q2 f2 th2
      have u := th2.2 t a (by simp; omega)
      rw [lad_app a b] at u
      have i1 : i < (lad σ.1 t).2.length := by omega
      have ec := el_chL (up := up) (tu := tu) (n := (lad σ.1 t).1) q2 i1
      have nxt : ∀ M3, frZ M2 M3 → THl M3 (σ.1 ++ [((lad σ.1 t).1, (chL up tu (lad σ.1 t).1 (lad σ.1 t).2).take i.toNat ++ [el (chL up tu (lad σ.1 t).1 (lad σ.1 t).2) i])]) → wX6_copy_32 X F t up tu (i + 1) S M3 := by
        intro M3 f3 th3
        refine ih (i + 1) M3 (by omega) (by omega) (f2.trans f3) ?_
        rw [take_snoc q2 (by rw [chL_len]; exact i1)]
        exact th3
      have g68 : ∀ j : Int, j = (if up = 0 then i else (lad σ.1 t).2.length - 1 - i) → wX6_copy_68 X F t up tu i (200 * t) j S M2 := by
        intro j hj
        have j0 : 0 ≤ j ∧ j < (lad σ.1 t).2.length := by subst hj; split <;> omega
        rw [← hj] at ec
        obtain ⟨m1, m2, m3, m4⟩ := u.2.2 j j0.1 j0.2
        have hk : (el (lad σ.1 t).2 j).1 = 0 ∨ (el (lad σ.1 t).2 j).1 = 1 ∨ (el (lad σ.1 t).2 j).1 = 2 ∨ (el (lad σ.1 t).2 j).1 = 3 := by obtain ⟨_, _, h⟩ := okl.at j0.1 j0.2; omega
        have g135 : ∀ s1 s2, s1 = (el (chL up tu (lad σ.1 t).1 (lad σ.1 t).2) i).1 → s2 = (el (chL up tu (lad σ.1 t).1 (lad σ.1 t).2) i).2.1 → wX6_copy_135 X F t up tu i (200 * t + j) s1 s2 S M2 := by
          intro s1 s2 h1 h2
          subst h1
          subst h2
          refine bX6_copy_135 ?_
          rw [m3, m4]
          have e3 : (el (lad σ.1 t).2 j).2.2.1 = (el (chL up tu (lad σ.1 t).1 (lad σ.1 t).2) i).2.2.1 ∧ (el (lad σ.1 t).2 j).2.2.2 = (el (chL up tu (lad σ.1 t).1 (lad σ.1 t).2) i).2.2.2 := by
            rw [ec]
            split
            · exact ⟨rfl, rfl⟩
            · exact ⟨rfl, rfl⟩
          rw [e3.1, e3.2]
          refine ⟨by omega, by omega, by omega, by omega, tw_add th2 (by omega) (by rw [List.length_take, chL_len]; omega) hl nxt⟩
        have g102 : ∀ s1, s1 = (el (chL up tu (lad σ.1 t).1 (lad σ.1 t).2) i).1 → wX6_copy_102 X F t up tu i (200 * t + j) s1 S M2 := by
          intro s1 h1
          refine bX6_copy_102 ?_
          rw [m2, u.1]
          refine ⟨htu, fun w => ⟨by omega, by omega, g135 _ _ h1 ?_⟩, fun w => ⟨a, t6, by omega, by omega, g135 _ _ h1 ?_⟩⟩
          · rw [ec, if_pos w]
          · rw [ec, if_neg w]; rfl
        refine bX6_copy_68 ?_
        rw [m1]
        refine ⟨by omega, by omega, htu, fun w => g102 _ ?_, fun w => ⟨by constructor <;> omega, fun h1 => bX6_copy_96 (g102 _ ?_), fun h1 => ⟨by constructor <;> omega, fun h2 => g102 _ ?_, fun h2 => bX6_copy_96 (g102 _ ?_)⟩⟩⟩
        · rw [ec, if_pos w]
        · rw [ec, if_neg w]
          unfold turnE
          simp [h1]
        · rw [ec, if_neg w]
          unfold turnE
          simp [h1, h2]
        · rw [ec, if_neg w]
          unfold turnE
          simp [h2]
      refine bX6_copy_32 ?_
      rw [u.2.1]
      exact ⟨a, t6, by constructor <;> omega, by constructor <;> omega, fun y => by omega, fun _ => ⟨hu, fun w => g68 _ (by rw [if_pos w]), fun w => ⟨a, t6, g68 _ (by rw [if_neg w])⟩⟩⟩
  exact loop (lad σ.1 t).2.length 0 M1 (by omega) (by omega) f1 (by simpa using th1)
theorem tw_join_op {F : Int → pM → Prop} {t u : Int} (ht : inR t) (hu : inR u) (ti : TI M σ) (ok : okS σ) (k : ∀ M', TI M' (s_join σ t u) → (∀ x, x ≤ 240 ∨ 288 ≤ x → M' x = M x) → F (q_join σ t u) M') : pNi true X mX6_join 2 [pR 241, pI t, pI u] S M F := by
  have h6 := ok.1
  have hl := okS.len (t := 0) ok
  have bad : ¬ jnC σ t u → F (-1) M := fun z => by
    have := k M (by unfold s_join; rw [if_neg z]; exact ti) (fun _ _ => rfl)
    unfold q_join at this
    rw [if_neg z] at this
    exact this
  refine eX6_join (bX6_join_0 ?_)
  rw [ti.2.1.1]
  refine ⟨by constructor <;> omega, fun z => bad (fun w => by have := w.1; omega), fun z => tw_isLadder ht ti.2.1 ok (fun a b => ⟨by constructor <;> decide, fun z => by omega, fun _ => tw_isLadder hu ti.2.1 ok (fun a' b' => ⟨by constructor <;> decide, fun z => by omega, fun _ => ?_⟩) (fun h => ⟨by constructor <;> decide, fun _ => bad (fun w => h ⟨w.2.2.2.1, w.2.2.2.2.1⟩), fun z => by omega⟩)⟩) (fun h => ⟨by constructor <;> decide, fun _ => bad (fun w => h ⟨w.2.1, w.2.2.1⟩), fun z => by omega⟩)⟩
  have okt := ok.at a b
  have oku := ok.at a' b'
  have t6 := ok.tl b
  have u6 := ok.tl b'
  have t1 := okt.1
  have t2 := okt.2.1
  have u1 := oku.1
  have u2 := oku.2.1
  have lt := okt.2.2.1
  have lu := oku.2.2.1
  have mt := mb_bd (lad σ.1 t).2
  have mu' := mb_bd (lad σ.1 u).2
  obtain ⟨p1, p2, p3⟩ := ti.2.1.2 t a b
  obtain ⟨q1, q2, q3⟩ := ti.2.1.2 u a' b'
  rw [p1, p2, q1, q2]
  refine ⟨a, t6, a', u6, by constructor <;> omega, by constructor <;> omega, fun ne => bad (fun w => ne w.2.2.2.2.2.1), fun eq => ⟨a, t6, a', u6, by constructor <;> omega, fun long => bad (fun w => by have := w.2.2.2.2.2.2.1; omega), fun fit => tw_maybes ti.2.1 ok a b (tw_maybes ti.2.1 ok a' b' ⟨by constructor <;> omega, fun few => ⟨a, t6, ?_⟩, fun many => bad (fun w => by have := w.2.2.2.2.2.2.2; omega)⟩)⟩⟩
  have C : jnC σ t u := ⟨by omega, a, b, a', b', eq, by omega, few⟩
  rw [p1]
  refine tw_begin ti.2.1 (by omega) (fun M1 f1 th1 => ?_)
  have l159 : ∀ (d : Nat) (i : Int) (M2 : pM), i + d = (lad σ.1 u).2.length → 0 ≤ i → frZ M M2 → THl M2 (σ.1 ++ [((lad σ.1 t).1, (lad σ.1 t).2 ++ (lad σ.1 u).2.take i.toNat)]) → wX6_join_159 X F u i S M2 := by
    intro d
    induction d with
    | zero =>
      intro i M2 w1 w2 f2 th2
      have z2 : M2 241 0 - 1 = σ.1.length := by rw [th2.1]; simp
      have v := th2.2 u a' (by simp; omega)
      rw [lad_app a' b'] at v
      refine bX6_join_159 ?_
      rw [z2, v.2.1]
      refine ⟨a', u6, by constructor <;> omega, by constructor <;> omega, fun _ => ?_, fun y => by omega⟩
      rw [List.take_of_length_le (show (lad σ.1 u).2.length ≤ i.toNat by omega)] at th2
      have := k M2 (by unfold s_join; rw [if_pos C]; exact ti.add1 f2 th2) (fun x hx => f2.1 x (by omega))
      unfold q_join at this
      rw [if_pos C] at this
      exact this
    | succ d ih =>
      intro i M2 w1 w2 f2 th2
      have i1 : i < (lad σ.1 u).2.length := by omega
      have v := th2.2 u a' (by simp; omega)
      rw [lad_app a' b'] at v
      obtain ⟨m1, m2, m3, m4⟩ := v.2.2 i w2 i1
      refine bX6_join_159 ?_
      rw [v.2.1, m1, m2, m3, m4]
      refine ⟨a', u6, by constructor <;> omega, by constructor <;> omega, fun y => by omega, fun _ => ⟨by omega, by omega, by omega, by omega, by omega, by omega, by omega, by omega, tw_add th2 (by omega) (by rw [List.length_append, List.length_take]; omega) hl (fun M3 f3 th3 => ih (i + 1) M3 (by omega) (by omega) (f2.trans f3) ?_)⟩⟩
      rw [take_snoc w2 i1, ← List.append_assoc]
      exact th3
  have l89 : ∀ (d : Nat) (i : Int) (M2 : pM), i + d = (lad σ.1 t).2.length → 0 ≤ i → frZ M M2 → THl M2 (σ.1 ++ [((lad σ.1 t).1, (lad σ.1 t).2.take i.toNat)]) → wX6_join_89 X F t u i S M2 := by
    intro d
    induction d with
    | zero =>
      intro i M2 w1 w2 f2 th2
      have v := th2.2 t a (by simp; omega)
      rw [lad_app a b] at v
      refine bX6_join_89 ?_
      rw [v.2.1]
      refine ⟨a, t6, by constructor <;> omega, by constructor <;> omega, fun _ => l159 (lad σ.1 u).2.length 0 M2 (by omega) (by omega) f2 ?_, fun y => by omega⟩
      rw [List.take_of_length_le (show (lad σ.1 t).2.length ≤ i.toNat by omega)] at th2
      simpa using th2
    | succ d ih =>
      intro i M2 w1 w2 f2 th2
      have i1 : i < (lad σ.1 t).2.length := by omega
      have v := th2.2 t a (by simp; omega)
      rw [lad_app a b] at v
      obtain ⟨m1, m2, m3, m4⟩ := v.2.2 i w2 i1
      refine bX6_join_89 ?_
      rw [v.2.1, m1, m2, m3, m4]
      refine ⟨a, t6, by constructor <;> omega, by constructor <;> omega, fun y => by omega, fun _ => ⟨by omega, by omega, by omega, by omega, by omega, by omega, by omega, by omega, tw_add th2 (by omega) (by rw [List.length_take]; omega) hl (fun M3 f3 th3 => ih (i + 1) M3 (by omega) (by omega) (f2.trans f3) ?_)⟩⟩
      rw [take_snoc w2 i1]
      exact th3
  exact l89 (lad σ.1 t).2.length 0 M1 (by omega) (by omega) f1 (by simpa using th1)
end
