/-! ===== count, place, clear, back, feed ===== -/
set_option maxRecDepth 100000
def q_count (σ : sgm) (w : Int) : Int := if w = 0 then σ.1.length else if w = 1 then σ.2.1.length else if w = 2 then σ.2.2.1.length else -1
def s_clear (σ : sgm) : sgm := ([], [], σ.2.2.1, σ.2.2.2)
def bkC (σ : sgm) (n : Int) : Prop := 0 ≤ n ∧ n ≤ σ.2.2.1.length
noncomputable def q_back (σ : sgm) (n : Int) : Int := @ite _ (bkC σ n) (Classical.propDecidable _) (σ.2.2.1.length - n) (-1)
noncomputable def s_back (σ : sgm) (n : Int) : sgm := @ite _ (bkC σ n) (Classical.propDecidable _) (σ.1, σ.2.1, σ.2.2.1.take (σ.2.2.1.length - n).toNat, σ.2.2.2) σ
def bys (x : Int) : List Int := [byt x 24, byt x 16, byt x 8, byt x 0]
def fdC (σ : sgm) : Prop := σ.2.2.1.length + 20 ≤ 2000
noncomputable def q_feed (σ : sgm) : Int := @ite _ (fdC σ) (Classical.propDecidable _) (σ.2.2.1.length + 20 : Int) (-1)
noncomputable def s_feed (σ : sgm) (a b c d e : Int) : sgm := @ite _ (fdC σ) (Classical.propDecidable _) (σ.1, σ.2.1, σ.2.2.1 ++ bys a ++ bys b ++ bys c ++ bys d ++ bys e, σ.2.2.2) σ
theorem ok_clear {σ : sgm} (h : okS σ) : okS (s_clear σ) := ⟨by simp [s_clear], fun p hp => by simp [s_clear] at hp, ⟨by simp [s_clear], fun k a b => by simp [s_clear] at b; omega⟩, h.2.2.2⟩
theorem ok_back {σ : sgm} {n : Int} (h : okS σ) : okS (s_back σ n) := by
  unfold s_back
  by_cases c : bkC σ n
  · rw [if_pos c]
    refine ⟨h.1, h.2.1, h.2.2.1, ?_, fun x hx => h.2.2.2.2.1 x (List.mem_of_mem_take hx), h.2.2.2.2.2⟩
    have := h.2.2.2.1
    show (List.take _ _).length ≤ 2000
    rw [List.length_take]
    omega
  · rw [if_neg c]; exact h
theorem bys_bd {x y : Int} (h : y ∈ bys x) : 0 ≤ y ∧ y < 256 := by
  unfold bys at h
  simp only [List.mem_cons, List.not_mem_nil, or_false] at h
  rcases h with h | h | h | h <;> (subst h; exact byt_bd)
theorem ok_feed {σ : sgm} {a b c d e : Int} (h : okS σ) : okS (s_feed σ a b c d e) := by
  unfold s_feed
  by_cases q : fdC σ
  · rw [if_pos q]
    refine ⟨h.1, h.2.1, h.2.2.1, ?_, fun x hx => ?_, h.2.2.2.2.2⟩
    · unfold fdC at q
      simp [bys]
      omega
    · simp only [List.mem_append] at hx
      rcases hx with ((((w | w) | w) | w) | w) | w
      · exact h.2.2.2.2.1 x w
      · exact bys_bd w
      · exact bys_bd w
      · exact bys_bd w
      · exact bys_bd w
      · exact bys_bd w
  · rw [if_neg q]; exact h
section
variable {X : px} {S : List psh} {M : pM} {σ : sgm}
theorem c_count_op {F : Int → pM → Prop} {w : Int} (hw : inR w) (cp : CP S M σ) (k : F (q_count σ w) M) : pNi true X mX0_count 2 [pR 0, pI w] S M F := by
  unfold q_count at k
  obtain ⟨sc, ch, lg, tp, pl⟩ := cp
  refine eX0_count (bX0_count_0 ⟨hw, fun z => ?_, fun z => ?_, fun z => ?_, fun z => ?_⟩)
  · rw [if_neg (by omega), if_neg (by omega), if_neg (by omega)] at k; exact k
  · rw [if_pos z] at k
    obtain ⟨l, c, a0, a1, a2, a3, _⟩ := ch
    refine j_size a1 ?_
    rw [a3]; exact k
  · rw [if_neg (by omega), if_pos z] at k
    rw [lg.1]; exact k
  · rw [if_neg (by omega), if_neg (by omega), if_pos z] at k
    rw [tp.1]; exact k
theorem tw_count_op {F : Int → pM → Prop} {w : Int} (hw : inR w) (ti : TI M σ) (k : F (q_count σ w) M) : pNi true X mX6_count 1 [pR 241, pI w] S M F := by
  unfold q_count at k
  obtain ⟨tt, th, lg, tp, pl⟩ := ti
  refine eX6_count (bX6_count_0 ⟨hw, fun a => ⟨hw, fun b => ⟨hw, fun c => ?_, fun c => ?_⟩, fun b => ?_⟩, fun a => ?_⟩)
  · rw [if_neg a, if_neg b, if_neg c] at k; exact k
  · rw [if_neg a, if_neg b, if_pos c] at k; rw [tp.1]; exact k
  · rw [if_neg a, if_pos b] at k; rw [lg.1]; exact k
  · rw [if_pos a] at k; rw [th.1]; exact k
theorem c_place_op {F : Int → pM → Prop} (cp : CP S M σ) (k : F σ.2.2.2 M) : pNi true X mX0_place 1 [pR 0] S M F := by
  refine eX0_place (bX0_place_0 ?_)
  rw [cp.2.2.2.2]; exact k
theorem tw_place_op {F : Int → pM → Prop} (ti : TI M σ) (k : F σ.2.2.2 M) : pNi true X mX6_place 1 [pR 241] S M F := by
  refine eX6_place (bX6_place_0 ?_)
  rw [ti.2.2.2.2]; exact k
theorem j_clear {b : Bool} {F : pM → Prop} {a c : Int} {l : List Int} (h : AL S M a l c) (na : ∀ i, pu_nc_ b a i) (ne : M a 1 = -4 ∨ 288 ≤ M a 1) (k : ∀ M', (∀ x, x ≠ a → x ≠ M a 1 → M' x = M x) → M' a 1 = M a 1 → M' a 2 = 0 → F M') : pNv b X mJ2_clear 1 [pR a] S M F := by
  have hcap := h.cap
  obtain ⟨h1, h2, h3⟩ := h
  refine eJ2_clear (bJ2_clear_0 ⟨h1, h1, na 0, fun M2 e2 => ⟨h1, h1, h1, na 2, fun M7 e7 => ?_⟩⟩)
  have m2 : M2 a 2 = l.length := by rw [e2, up_oi (by decide)]; exact h2
  have m1 : M2 a 1 = M a 1 := by rw [e2, up_oi (by decide)]
  rw [m1, m2]
  have k7 : ∀ x, x ≠ a → M7 x = M x := fun x hx => by rw [e7, up_ne hx, e2, up_ne hx]
  have z1 : M7 a 1 = M a 1 := by rw [e7, up_oi (by decide)]; exact m1
  have z2 : M7 a 2 = 0 := by rw [e7, up_same]
  have loop : ∀ (m : Nat) (i : Int) (M1 : pM), i + m = l.length → 0 ≤ i → (∀ x, x ≠ a → x ≠ M a 1 → M1 x = M x) → M1 a 1 = M a 1 → M1 a 2 = 0 → wJ2_clear_27 b X F (M a 1) l.length i S M1 := by
    intro m
    induction m with
    | zero =>
      intro i M1 q1 q2 f1 f2 f3
      exact bJ2_clear_27 ⟨by constructor <;> omega, by constructor <;> omega, fun _ => k M1 f1 f2 f3, fun z => by omega⟩
    | succ m ih =>
      intro i M1 q1 q2 f1 f2 f3
      rcases h3 with ⟨g1, g2, g3⟩ | ⟨n, g1, g2, g3, g4, g5, g6⟩
      · rw [g2] at q1
        simp at q1
        omega
      · have gl := shq_lt g2
        have hae : a ≠ M a 1 := fun z => by rw [← z, h1] at g2; cases g2
        refine bJ2_clear_27 ⟨by constructor <;> omega, by constructor <;> omega, fun z => by omega, fun _ => ⟨n, g2, nc_hi (by omega), q2, by omega, fun M8 e8 => ?_⟩⟩
        exact ih (i + 1) M8 (by omega) (by omega) (fun x x1 x2 => by rw [e8, up_ne x2]; exact f1 x x1 x2) (by rw [e8, up_ne hae]; exact f2) (by rw [e8, up_ne hae]; exact f3)
  exact loop l.length 0 M7 (by omega) (by omega) (fun x x1 _ => k7 x x1) z1 z2
theorem c_clear_op {F : Int → pM → Prop} (cp : CP S M σ) (k : ∀ M', CP S M' (s_clear σ) → (∀ x, 241 ≤ x → x ≤ 287 → M' x = M x) → F σ.1.length M') : pNi true X mX0_clear 2 [pR 0] S M F := by
  obtain ⟨sc, ch, lg, tp, pl⟩ := cp
  obtain ⟨l, c, a0, a1, a2, a3, a4, a5, a6⟩ := ch
  have hcap := a1.cap
  refine eX0_clear (bX0_clear_0 (j_size a1 (j_clear a1 (fun i => nc_19) a2 (fun M3 f3 g1 g2 M4 e4 => ?_))))
  have ne0 : M 19 1 ≠ 0 := by omega
  have oth : ∀ x, x ≠ 0 → x ≠ 19 → x ≠ M 19 1 → M4 x = M x := fun x x0 x1 x2 => by rw [e4, up_ne x0]; exact f3 x x1 x2
  have fld : ∀ j, j ≠ 17 → M4 0 j = M 0 j := fun j hj => by rw [e4, up_oi hj, f3 0 (by decide) (by omega)]
  have hz : ∀ x : Int, 0 ≤ x → x < 288 → x ≠ M 19 1 := fun x p q => by omega
  rw [a3]
  refine k M4 ⟨sc.fr (fun j hj => fld j (by omega)) (fun x hx => oth x (by omega) (by omega) (hz x (by omega) (by omega))), ⟨[], c, a0, ⟨a1.1, ?_, ?_⟩, ?_, rfl, by simp [s_clear], fun t p q => by simp [s_clear] at q; omega, fun p hp => by simp [s_clear] at hp⟩, ⟨by rw [e4, up_same]; rfl, fun q p p' => by simp [s_clear] at p'; omega⟩, ?_, by rw [fld 10 (by decide)]; exact pl⟩ (fun x p q => oth x (by omega) (by omega) (by omega))
  · rw [e4, up_ne (by decide), g2]; rfl
  · rw [e4, up_ne (by decide), g1]
    rcases a1.2.2 with w | ⟨n, w1, w2, w3, w4, w5, w6⟩
    · exact Or.inl ⟨w.1, rfl, w.2.2⟩
    · exact Or.inr ⟨n, w1, w2, w3, w4, by simp, fun i p q => by simp at q; omega⟩
  · rw [e4, up_ne (by decide), g1]; exact a2
  · unfold CTp
    rw [oth 11 (by decide) (by decide) (hz 11 (by omega) (by omega)), oth 12 (by decide) (by decide) (hz 12 (by omega) (by omega))]
    exact tp
theorem tw_clear_op {F : Int → pM → Prop} (ti : TI M σ) (k : ∀ M', TI M' (s_clear σ) → (∀ x, x ≤ 240 ∨ 288 ≤ x → M' x = M x) → F σ.1.length M') : pNi true X mX6_clear 1 [pR 241] S M F := by
  obtain ⟨tt, th, lg, tp, pl⟩ := ti
  refine eX6_clear (bX6_clear_0 (fun M1 e1 M2 e2 => ?_))
  have oth : ∀ x, x ≠ 241 → M2 x = M x := fun x hx => by rw [e2, up_ne hx, e1, up_ne hx]
  have fld : ∀ j, j ≠ 0 → j ≠ 7 → M2 241 j = M 241 j := fun j h0 h7 => by rw [e2, up_oi h7, e1, up_oi h0]
  rw [th.1]
  refine k M2 ⟨?_, ⟨by rw [e2, up_oi (by decide), e1, up_same]; rfl, fun t p q => by simp [s_clear] at q; omega⟩, ⟨by rw [e2, up_same]; rfl, fun q p p' => by simp [s_clear] at p'; omega⟩, ?_, by rw [fld 21 (by decide) (by decide)]; exact pl⟩ (fun x hx => oth x (by omega))
  · rcases tt with z | ⟨n, z1, z2, z3⟩
    · exact Or.inl (by rw [fld 38 (by decide) (by decide)]; exact z)
    · exact Or.inr ⟨n, z1, z2, z3.fr (fld 38 (by decide) (by decide)) (fld 39 (by decide) (by decide)) (fun x p q => oth x (by omega))⟩
  · unfold TTp
    rw [fld 12 (by decide) (by decide), oth 252 (by decide)]
    exact tp
/-- only the tape changes: the component -/
theorem CP.tape {M' : pM} {tp' : List Int} (cp : CP S M σ) (h1 : ∀ x, x ≠ 11 → x ≠ 12 → M' x = M x) (tp : CTp M' tp') : CP S M' (σ.1, σ.2.1, tp', σ.2.2.2) := by
  obtain ⟨sc, ch, lg, _, pl⟩ := cp
  have f0 := h1 0 (by decide) (by decide)
  refine ⟨sc.fr (fun j _ => by rw [f0]) (fun x hx => h1 x (by omega) (by omega)), ?_, ?_, tp, by rw [f0]; exact pl⟩
  · have ch' := ch
    obtain ⟨ll, cc, b0, b1, b2, _⟩ := ch
    refine ch'.fr (h1 19 (by decide) (by decide)) (fun qq => ?_) ⟨List.prefix_refl _, fun y p _ _ => h1 y (by omega) (by omega)⟩
    rcases b2 with y | y
    · exact absurd y qq
    · exact h1 _ (by omega) (by omega)
  · unfold CLg
    rw [f0, h1 25 (by decide) (by decide), h1 26 (by decide) (by decide), h1 27 (by decide) (by decide)]
    exact lg
theorem TI.tape {M' : pM} {tp' : List Int} (ti : TI M σ) (h1 : ∀ x, x ≠ 241 → x ≠ 252 → M' x = M x) (h2 : ∀ j, j ≠ 12 → M' 241 j = M 241 j) (tp : TTp M' tp') : TI M' (σ.1, σ.2.1, tp', σ.2.2.2) := by
  obtain ⟨tt, th, lg, _, pl⟩ := ti
  refine ⟨?_, ?_, ?_, tp, by rw [h2 21 (by decide)]; exact pl⟩
  · rcases tt with z | ⟨n, z1, z2, z3⟩
    · exact Or.inl (by rw [h2 38 (by decide)]; exact z)
    · exact Or.inr ⟨n, z1, z2, z3.fr (h2 38 (by decide)) (h2 39 (by decide)) (fun x p q => h1 x (by omega) (by omega))⟩
  · unfold THl
    rw [h2 0 (by decide), h1 242 (by decide) (by decide), h1 243 (by decide) (by decide), h1 244 (by decide) (by decide), h1 245 (by decide) (by decide), h1 246 (by decide) (by decide), h1 247 (by decide) (by decide)]
    exact th
  · unfold TLg
    rw [h2 7 (by decide), h1 248 (by decide) (by decide), h1 249 (by decide) (by decide), h1 250 (by decide) (by decide), h1 251 (by decide) (by decide)]
    exact lg
theorem at_take {l : List Int} {m : Nat} {i : Int} (h0 : 0 ≤ i) (h1 : i < m) : at0 (l.take m) i = at0 l i := by
  unfold at0
  rw [List.getD_eq_getElem?_getD, List.getD_eq_getElem?_getD, List.getElem?_take, if_pos (by omega)]
theorem c_back_op {F : Int → pM → Prop} {n : Int} (hn : inR n) (cp : CP S M σ) (ok : okS σ) (k : ∀ M', CP S M' (s_back σ n) → (∀ x, 241 ≤ x → x ≤ 287 → M' x = M x) → F (q_back σ n) M') : pNi true X mX0_back 3 [pR 0, pI n] S M F := by
  have tp := cp.2.2.2.1
  have h2 := ok.2.2.2.1
  refine eX0_back (bX0_back_0 (eX2_back (bX2_back_0 ?_)))
  rw [tp.1]
  refine c_within hn (by constructor <;> decide) (by constructor <;> omega) (fun c d => ⟨by constructor <;> decide, fun _ M4 e4 => ?_, fun z => by omega⟩) (fun h => ⟨by constructor <;> decide, fun z => by omega, fun _ => ?_⟩)
  · have C : bkC σ n := ⟨c, d⟩
    have v : M4 11 1 = σ.2.2.1.length - n := by rw [e4, up_same, tp.1]
    have := k M4 ?_ (fun x p q => by rw [e4, up_ne (by omega)])
    · unfold q_back at this
      rw [if_pos C, ← v] at this
      exact this
    · unfold s_back
      rw [if_pos C]
      refine cp.tape (fun x x1 _ => by rw [e4, up_ne x1]) ⟨?_, fun q p p' => ?_⟩
      · rw [v, List.length_take]; omega
      · rw [List.length_take] at p'
        rw [at_take p (by omega), e4, up_ne (by decide)]
        exact tp.2 q p (by omega)
  · have C : ¬ bkC σ n := fun z => by have := z.1; have := z.2; omega
    have := k M (by unfold s_back; rw [if_neg C]; exact cp) (fun _ _ _ => rfl)
    unfold q_back at this
    rw [if_neg C] at this
    exact this
theorem tw_back_op {F : Int → pM → Prop} {n : Int} (hn : inR n) (ti : TI M σ) (ok : okS σ) (k : ∀ M', TI M' (s_back σ n) → (∀ x, x ≤ 240 ∨ 288 ≤ x → M' x = M x) → F (q_back σ n) M') : pNi true X mX6_back 1 [pR 241, pI n] S M F := by
  have tp := ti.2.2.2.1
  have h2 := ok.2.2.2.1
  have bad : ¬ bkC σ n → F (-1) M := fun C => by
    have := k M (by unfold s_back; rw [if_neg C]; exact ti) (fun _ _ => rfl)
    unfold q_back at this
    rw [if_neg C] at this
    exact this
  refine eX6_back (bX6_back_0 ?_)
  rw [tp.1]
  refine ⟨hn, fun z => bad (fun w => by have := w.1; omega), fun c => ⟨hn, by constructor <;> omega, fun d M4 e4 => ?_, fun z => bad (fun w => by have := w.2; omega)⟩⟩
  have C : bkC σ n := ⟨c, d⟩
  have v : M4 241 12 = σ.2.2.1.length - n := by rw [e4, up_same]
  have := k M4 ?_ (fun x hx => by rw [e4, up_ne (by omega)])
  · unfold q_back at this
    rw [if_pos C, ← v] at this
    exact this
  · unfold s_back
    rw [if_pos C]
    refine ti.tape (fun x x1 _ => by rw [e4, up_ne x1]) (fun j hj => by rw [e4, up_oi hj]) ⟨?_, fun q p p' => ?_⟩
    · rw [v, List.length_take]; omega
    · rw [List.length_take] at p'
      rw [at_take p (by omega), e4, up_ne (by decide)]
      exact tp.2 q p (by omega)
theorem c_put {F : pM → Prop} {x : Int} {tp : List Int} (hx : inR x) (ct : CTp M tp) (h : tp.length + 4 ≤ 2000) (k : ∀ M', (∀ y, y ≠ 11 → y ≠ 12 → M' y = M y) → CTp M' (tp ++ bys x) → F M') : pNv true X mX2_put 1 [pR 11, pI x] S M F := by
  have step : ∀ (s : Int) (t : List Int) (M1 : pM), (s = 0 ∨ s = 8 ∨ s = 16 ∨ s = 24) → t.length < 2000 → (∀ y, y ≠ 11 → y ≠ 12 → M1 y = M y) → CTp M1 t → (∀ M2, (∀ y, y ≠ 11 → y ≠ 12 → M2 y = M y) → CTp M2 (t ++ [byt x s]) → wX2_put_3 X F x (s + -8) S M2) → wX2_put_3 X F x s S M1 := by
    intro s t M1 hs ht f1 c1 kk
    have bb := sb_bd (byt_bd (x := x) (s := s))
    refine bX2_put_3 ?_
    rw [c1.1, byt_c hx hs]
    refine ⟨by constructor <;> omega, fun z => by omega, fun _ => ⟨by omega, by omega, bb.1, bb.2, fun M6 e6 M7 e7 => kk M7 (fun y y1 y2 => by rw [e7, up_ne y1, e6, up_ne y2]; exact f1 y y1 y2) ⟨?_, fun q p p' => ?_⟩⟩⟩
    · rw [e7, up_same, e6, up_ne (by decide), c1.1]; simp
    · rw [e7, up_ne (by decide), e6]
      simp at p'
      by_cases d : q = t.length
      · rw [d, up_same, at_app2 (by omega)]
        simp [at0]
      · rw [up_oi d, at_app p (by omega)]
        exact c1.2 q p (by omega)
  refine eX2_put (bX2_put_0 (step 24 tp M (by omega) (by omega) (fun _ _ _ => rfl) ct (fun M1 f1 c1 => step 16 _ M1 (by omega) (by simp; omega) f1 c1 (fun M2 f2 c2 => step 8 _ M2 (by omega) (by simp; omega) f2 c2 (fun M3 f3 c3 => step 0 _ M3 (by omega) (by simp; omega) f3 c3 (fun M4 f4 c4 => ?_))))))
  refine bX2_put_3 ⟨by constructor <;> decide, fun _ => k M4 f4 ?_, fun z => by omega⟩
  simpa [bys] using c4
theorem tw_typed {F : pM → Prop} {x : Int} {tp : List Int} (hx : inR x) (ct : TTp M tp) (h : tp.length + 4 ≤ 2000) (k : ∀ M', (∀ y, y ≠ 241 → y ≠ 252 → M' y = M y) → (∀ j, j ≠ 12 → M' 241 j = M 241 j) → TTp M' (tp ++ bys x) → F M') : pNv true X mX6_typed 1 [pR 241, pI x] S M F := by
  have step : ∀ (s : Int) (t : List Int) (M1 : pM), 0 ≤ s → s < 4 → t.length < 2000 → (∀ y, y ≠ 241 → y ≠ 252 → M1 y = M y) → (∀ j, j ≠ 12 → M1 241 j = M 241 j) → TTp M1 t → (∀ M2, (∀ y, y ≠ 241 → y ≠ 252 → M2 y = M y) → (∀ j, j ≠ 12 → M2 241 j = M 241 j) → TTp M2 (t ++ [byt x (24 - 8 * s)]) → wX6_typed_2 X F x (s + 1) S M2) → wX6_typed_2 X F x s S M1 := by
    intro s t M1 s0 s1 ht f1 g1 c1 kk
    refine bX6_typed_2 ?_
    rw [c1.1, byt_t hx (by omega) (by omega)]
    refine ⟨by constructor <;> omega, fun z => by omega, fun _ => ⟨by omega, by omega, fun M4 e4 M5 e5 => kk M5 (fun y y1 y2 => by rw [e5, up_ne y1, e4, up_ne y2]; exact f1 y y1 y2) (fun j hj => by rw [e5, up_oi hj, e4, up_ne (by decide)]; exact g1 j hj) ⟨?_, fun q p p' => ?_⟩⟩⟩
    · rw [e5, up_same, e4, up_ne (by decide), c1.1]; simp
    · rw [e5, up_ne (by decide), e4]
      simp at p'
      by_cases d : q = t.length
      · rw [d, up_same, at_app2 (by omega)]
        simp [at0]
      · rw [up_oi d, at_app p (by omega)]
        exact c1.2 q p (by omega)
  refine eX6_typed (bX6_typed_0 (step 0 tp M (by omega) (by omega) (by omega) (fun _ _ _ => rfl) (fun _ _ => rfl) ct (fun M1 f1 g1 c1 => step 1 _ M1 (by omega) (by omega) (by simp; omega) f1 g1 c1 (fun M2 f2 g2 c2 => step 2 _ M2 (by omega) (by omega) (by simp; omega) f2 g2 c2 (fun M3 f3 g3 c3 => step 3 _ M3 (by omega) (by omega) (by simp; omega) f3 g3 c3 (fun M4 f4 g4 c4 => ?_))))))
  refine bX6_typed_2 ⟨by constructor <;> decide, fun _ => k M4 f4 g4 ?_, fun z => by omega⟩
  simpa [bys] using c4
theorem bys_len (x : Int) : (bys x).length = 4 := rfl
theorem c_feed_op {F : Int → pM → Prop} {a b c d e : Int} (ha : inR a) (hb : inR b) (hc : inR c) (hd : inR d) (he : inR e) (cp : CP S M σ) (ok : okS σ) (k : ∀ M', CP S M' (s_feed σ a b c d e) → (∀ x, 241 ≤ x → x ≤ 287 → M' x = M x) → F (q_feed σ) M') : pNi true X mX0_feed 3 [pR 0, pI a, pI b, pI c, pI d, pI e] S M F := by
  have tp := cp.2.2.2.1
  have h2 := ok.2.2.2.1
  refine eX0_feed (bX0_feed_0 (eX2_feed (bX2_feed_0 ?_)))
  rw [tp.1]
  refine ⟨by constructor <;> omega, fun z => ?_, fun z => ?_⟩
  · have C : fdC σ := by unfold fdC; omega
    refine c_put ha tp (by omega) (fun M1 f1 c1 => c_put hb c1 (by simp [bys_len]; omega) (fun M2 f2 c2 => c_put hc c2 (by simp [bys_len]; omega) (fun M3 f3 c3 => c_put hd c3 (by simp [bys_len]; omega) (fun M4 f4 c4 => c_put he c4 (by simp [bys_len]; omega) (fun M5 f5 c5 => ?_)))))
    have ff : ∀ y, y ≠ 11 → y ≠ 12 → M5 y = M y := fun y y1 y2 => by rw [f5 y y1 y2, f4 y y1 y2, f3 y y1 y2, f2 y y1 y2, f1 y y1 y2]
    have := k M5 (by unfold s_feed; rw [if_pos C]; exact cp.tape ff c5) (fun x p q => ff x (by omega) (by omega))
    unfold q_feed at this
    rw [if_pos C] at this
    rw [c5.1]
    simp only [List.length_append, bys_len]
    rw [show (((σ.2.2.1.length + 4 + 4 + 4 + 4 + 4 : Nat)) : Int) = (σ.2.2.1.length : Int) + 20 by omega]
    exact this
  · have C : ¬ fdC σ := by unfold fdC; omega
    have := k M (by unfold s_feed; rw [if_neg C]; exact cp) (fun _ _ _ => rfl)
    unfold q_feed at this
    rw [if_neg C] at this
    exact this
theorem tw_feed_op {F : Int → pM → Prop} {a b c d e : Int} (ha : inR a) (hb : inR b) (hc : inR c) (hd : inR d) (he : inR e) (ti : TI M σ) (ok : okS σ) (k : ∀ M', TI M' (s_feed σ a b c d e) → (∀ x, x ≤ 240 ∨ 288 ≤ x → M' x = M x) → F (q_feed σ) M') : pNi true X mX6_feed 2 [pR 241, pI a, pI b, pI c, pI d, pI e] S M F := by
  have tp := ti.2.2.2.1
  have h2 := ok.2.2.2.1
  refine eX6_feed (bX6_feed_0 ?_)
  rw [tp.1]
  refine ⟨by constructor <;> omega, fun z => ?_, fun z => ?_⟩
  · have C : fdC σ := by unfold fdC; omega
    refine tw_typed ha tp (by omega) (fun M1 f1 g1 c1 => tw_typed hb c1 (by simp [bys_len]; omega) (fun M2 f2 g2 c2 => tw_typed hc c2 (by simp [bys_len]; omega) (fun M3 f3 g3 c3 => tw_typed hd c3 (by simp [bys_len]; omega) (fun M4 f4 g4 c4 => tw_typed he c4 (by simp [bys_len]; omega) (fun M5 f5 g5 c5 => ?_)))))
    have ff : ∀ y, y ≠ 241 → y ≠ 252 → M5 y = M y := fun y y1 y2 => by rw [f5 y y1 y2, f4 y y1 y2, f3 y y1 y2, f2 y y1 y2, f1 y y1 y2]
    have gg : ∀ j, j ≠ 12 → M5 241 j = M 241 j := fun j hj => by rw [g5 j hj, g4 j hj, g3 j hj, g2 j hj, g1 j hj]
    have := k M5 (by unfold s_feed; rw [if_pos C]; exact ti.tape ff gg c5) (fun x hx => ff x (by omega) (by omega))
    unfold q_feed at this
    rw [if_pos C] at this
    rw [c5.1]
    simp only [List.length_append, bys_len]
    rw [show (((σ.2.2.1.length + 4 + 4 + 4 + 4 + 4 : Nat)) : Int) = (σ.2.2.1.length : Int) + 20 by omega]
    exact this
  · have C : ¬ fdC σ := by unfold fdC; omega
    have := k M (by unfold s_feed; rw [if_neg C]; exact ti) (fun _ _ => rfl)
    unfold q_feed at this
    rw [if_neg C] at this
    exact this
end
