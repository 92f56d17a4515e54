/-! ===== a ladder comes: the component ===== -/
set_option maxRecDepth 100000
theorem StsR.mv {z z' : Int} {S S' : List psh} {M M' : pM} {s c sz mbs : Int} {L : List elt} (hz : ∀ n : Nat × Nat, shq S z = some (.inl n.1, n.2) → False) (h : StsR z S M s L c sz mbs) (f : frH z S M S' M') (hz' : z' = z ∨ (S.length : Int) ≤ z') : StsR z' S' M' s L c sz mbs := by
  have h' := h.fr hz f
  obtain ⟨l, a1, a2, a3, a4, a5, a6, a7, a8, a9⟩ := h
  have ns : s ≠ z := fun q => hz (9, 3) (by rw [← q]; exact a2)
  have na : M s 0 ≠ z := fun q => hz (4, 3) (by rw [← q]; exact a4.1)
  have es := f.2 s a1 (shq_lt a2).2 ns
  have ea := f.2 (M s 0) a3 (shq_lt a4.1).2 na
  obtain ⟨l', b1, b2, b3, b4, b5, b6, b7, b8, b9⟩ := h'
  refine ⟨l', b1, b2, b3, b4, ?_, b6, b7, b8, b9⟩
  rcases b5 with y | y
  · exact Or.inl y
  · refine Or.inr ⟨y.1, ?_⟩
    rcases hz' with w | w
    · rw [w]; exact y.2
    · rw [es, ea] at y ⊢
      rcases a4.2.2 with q | ⟨n, _, q, _⟩
      · omega
      · have := (shq_lt q).2; omega
theorem LadR.mv {z z' : Int} {S S' : List psh} {M M' : pM} {r n : Int} {L : List elt} (hz : ∀ n : Nat × Nat, shq S z = some (.inl n.1, n.2) → False) (h : LadR z S M r n L) (f : frH z S M S' M') (hz' : z' = z ∨ (S.length : Int) ≤ z') : LadR z' S' M' r n L := by
  obtain ⟨a1, a2, a3, c, a4⟩ := h
  have nr : r ≠ z := fun q => hz (10, 2) (by rw [← q]; exact a2)
  have er := f.2 r a1 (shq_lt a2).2 nr
  refine ⟨a1, shq_pre f.1 a2, by rw [er]; exact a3, c, ?_⟩
  rw [er]
  exact a4.mv hz f hz'
theorem CP.up {S S' : List psh} {M M' : pM} {σ : sgm} (h : CP S M σ) (hs : S <+: S') (hm : ∀ x : Int, 0 ≤ x → x < S.length → M' x = M x) : CP S' M' σ := by
  obtain ⟨sc, ch, lg, tp, pl⟩ := h
  have ch' := ch
  obtain ⟨l, c, a0, a1, a2, a3, _⟩ := ch
  have f : ∀ x : Int, 0 ≤ x → x < 288 → M' x = M x := fun x h0 hx => hm x h0 (by omega)
  refine ⟨sc.fr (fun j _ => by rw [f 0 (by decide) (by decide)]) (fun x hx => f x (by omega) (by omega)), ?_, ?_, ?_, by rw [f 0 (by decide) (by decide)]; exact pl⟩
  · refine ch'.fr (f 19 (by decide) (by decide)) (fun q => ?_) ⟨hs, fun x p' p _ => hm x (by omega) p⟩
    rcases a1.2.2 with w | ⟨n, _, w, _⟩
    · exact absurd w.1 q
    · exact hm _ (shq_lt w).1 (shq_lt w).2
  · unfold CLg
    rw [f 0 (by decide) (by decide), f 25 (by decide) (by decide), f 26 (by decide) (by decide), f 27 (by decide) (by decide)]
    exact lg
  · unfold CTp
    rw [f 11 (by decide) (by decide), f 12 (by decide) (by decide)]
    exact tp
theorem lad_app {Ls : List (Int × List elt)} {p : Int × List elt} {t : Int} (h0 : 0 ≤ t) (h1 : t < Ls.length) : lad (Ls ++ [p]) t = lad Ls t := by
  unfold lad
  rw [List.getD_eq_getElem?_getD, List.getD_eq_getElem?_getD, List.getElem?_append_left (by omega)]
theorem lad_new {Ls : List (Int × List elt)} {p : Int × List elt} : lad (Ls ++ [p]) Ls.length = p := by
  unfold lad
  rw [List.getD_eq_getElem?_getD, List.getElem?_append_right (by omega)]
  simp
def s_add1 (σ : sgm) (n : Int) (L : List elt) : sgm := (σ.1 ++ [(n, L)], σ.2.1, σ.2.2.1, σ.2.2.2)
theorem ok_add1 {σ : sgm} {n : Int} {L : List elt} (h : okS σ) (h6 : σ.1.length < 6) (ok : okL n L) : okS (s_add1 σ n L) := by
  refine ⟨by simp [s_add1]; omega, fun p hp => ?_, ⟨h.2.2.1.1, fun k a b => ?_⟩, h.2.2.2⟩
  · simp only [s_add1, List.mem_append, List.mem_singleton] at hp
    rcases hp with w | w
    · exact h.2.1 p w
    · rw [w]; exact ok
  · rcases h.2.2.1.2 k a b with w | w
    · exact Or.inl w
    · refine Or.inr ⟨w.1, by simp [s_add1]; omega, ?_⟩
      have e : lad (s_add1 σ n L).1 (lgc (s_add1 σ n L).2.1 k).1 = lad σ.1 (lgc σ.2.1 k).1 := lad_app w.1 w.2.1
      rw [e]
      exact w.2.2
section
variable {X : px} {σ : sgm}
theorem c_comes {S0 S : List psh} {M0 M : pM} {F : Int → List psh → pM → Prop} {s n c : Int} {L : List elt} (cp : CP S0 M0 σ) (h6 : σ.1.length < 6) (hp : S0 <+: S) (fr : ∀ x : Int, 0 ≤ x → x < S0.length → M x = M0 x) (st : StB S0.length S M s L c L.length (mb L)) (ok : okL n L) (rm : RM S 303 1502) (k : ∀ S' M', CP S' M' (s_add1 σ n L) → grw S S' 302 1302 → (∀ x, 241 ≤ x → x ≤ 287 → M' x = M0 x) → F σ.1.length S' M') : pAi true X mX0_comes 8 [pR 0, pI n, pR s] S M F := by
  have cp1 := cp.up hp fr
  have zl0 := cp.2.1.zl
  have l0 := pre_len hp
  have sw := st.w
  have rmo := rm
  obtain ⟨rm1, rm2⟩ := rm
  refine eX0_comes (bX0_comes_0 ⟨by omega, by omega, fun r3 S4 M5 e3 e4 e5 => ?_⟩)
  subst e3; subst e4; subst e5
  have sh10 : shq (S ++ [(.inl 10, 2)]) (S.length : Int) = some (.inl 10, 2) := shq_new
  refine ⟨⟨_, sh10⟩, eX12_init (bX12_init_0 ⟨⟨_, sh10⟩, sh10, nc_hi (by omega), fun M2 e2 => ⟨sh10, nc_hi (by omega), fun M7 e7 => ?_⟩⟩)⟩
  have f7 : ∀ x, x ≠ (S.length : Int) → M7 x = M x := fun x hx => by rw [e7, up_ne hx, e2, up_ne hx, zo_ne hx]
  have r0 : M7 S.length 0 = n := by rw [e7, up_oi (by decide), e2, up_same]
  have r1 : M7 S.length 1 = s := by rw [e7, up_same]
  generalize hS4 : S ++ [((.inl 10, 2) : psh)] = S4 at *
  have g4 : grw S S4 1 2 := by rw [← hS4]; exact grw_one
  have len4 : (S4.length : Int) = S.length + 1 := by rw [← hS4]; simp
  have cp4 : CP S4 M7 σ := cp1.up g4.1 (fun x _ q => f7 x (by omega))
  have st4 : StB S0.length S4 M7 s L c L.length (mb L) := st.fr g4.1 (fun x _ q => f7 x (by omega))
  have zz4 := cp4.2.1.z
  have z7 : M7 19 1 = M0 19 1 := by rw [f7 19 (by omega), fr 19 (by decide) (by omega)]
  have chx := cp4.2.1
  obtain ⟨l, cc, a0, a1, a2, a3, a4, a5, a6⟩ := cp4.2.1
  have lrn : LadR (M7 19 1) S4 M7 S.length n L := by
    obtain ⟨ll, b0, b1, b2, b3, b4, b5, b6, b7, b8, b9⟩ := st4
    refine ⟨by omega, sh10, r0, c, ll, ?_⟩
    rw [r1]
    refine ⟨by omega, b2, by omega, b4, ?_, b6, b7, b8, b9⟩
    rcases b5 with y | y
    · exact Or.inl y
    · exact Or.inr ⟨by omega, by omega⟩
  refine j_add a1 (by omega) (fun i => nc_19) a2 (by omega) (Or.inr sh10) (fun i p q => Or.inr (a5 i p (by omega)).2.1) ((rmo.grw g4).le (by decide) (by decide)) (fun S9 M10 c' al cc' g9 f9 m9 hp9 => ?_)
  refine j_size al ?_
  have zn : ∀ x : Int, 0 ≤ x → x < 288 → x ≠ M7 19 1 := fun x p q => by omega
  have fH : frH (M7 19 1) S4 M7 S9 M10 := ⟨g9.1, fun x p q w => f9 x q (by omega) w⟩
  have hz' : M10 19 1 = M7 19 1 ∨ (S4.length : Int) ≤ M10 19 1 := m9.imp id (fun w => by omega)
  have low : ∀ x : Int, 0 ≤ x → x < 288 → x ≠ 19 → M10 x = M7 x := fun x p q w => f9 x (by omega) w (zn x p q)
  have cap := al.cap
  have capo := a1.cap
  have ans : ((l ++ [(S.length : Int)]).length : Int) - 1 = σ.1.length := by simp; omega
  rw [ans]
  have h0 := low 0 (by decide) (by decide) (by decide)
  refine k S9 M10 ⟨cp4.1.fr (fun j _ => by rw [h0]) (fun x hx => low x (by omega) (by omega) (by omega)), ⟨l ++ [(S.length : Int)], c', by have := pre_len g9.1; omega, al, ?_, by simp [s_add1]; omega, by simp [s_add1]; omega, fun t p q => ?_, fun p hp' => ?_⟩, ?_, ?_, by rw [h0]; exact cp4.2.2.2.2⟩ ((g4.trans g9).le (by omega) (by omega)) (fun x p q => ?_)
  · rcases m9 with w | w
    · rw [w]; exact a2
    · exact Or.inr (by omega)
  · simp [s_add1] at q
    by_cases d : t = σ.1.length
    · show LadR (M10 19 1) S9 M10 (at0 (l ++ [(S.length : Int)]) t) (lad (σ.1 ++ [(n, L)]) t).1 (lad (σ.1 ++ [(n, L)]) t).2
      rw [d, lad_new, at_app2 (by omega)]
      have : at0 [(S.length : Int)] ((σ.1.length : Int) - l.length) = S.length := by rw [a3, Int.sub_self]; rfl
      rw [this]
      exact lrn.mv zz4 fH hz'
    · show LadR (M10 19 1) S9 M10 (at0 (l ++ [(S.length : Int)]) t) (lad (σ.1 ++ [(n, L)]) t).1 (lad (σ.1 ++ [(n, L)]) t).2
      rw [lad_app p (by omega), at_app p (by omega)]
      exact (a5 t p (by omega)).mv zz4 fH hz'
  · simp only [s_add1, List.mem_append, List.mem_singleton] at hp'
    rcases hp' with w | w
    · exact a6 p w
    · rw [w]; exact ok
  · show CLg M10 σ.2.1
    unfold CLg
    rw [h0, low 25 (by decide) (by decide) (by decide), low 26 (by decide) (by decide) (by decide), low 27 (by decide) (by decide) (by decide)]
    exact cp4.2.2.1
  · show CTp M10 σ.2.2.1
    unfold CTp
    rw [low 11 (by decide) (by decide) (by decide), low 12 (by decide) (by decide) (by decide)]
    exact cp4.2.2.2.1
  · rw [low x (by omega) (by omega) (by omega), f7 x (by omega), fr x (by omega) (by omega)]
end
/-- a ladder's steps, as such -/
theorem StsR.B {z : Int} {S : List psh} {M : pM} {s c sz mbs : Int} {L : List elt} (h : StsR z S M s L c sz mbs) : StB 288 S M s L c sz mbs := by
  obtain ⟨l, a1, a2, a3, a4, a5, a6, a7, a8, a9⟩ := h
  exact ⟨l, by decide, a1, a2, a3, a4, a5.imp id (fun w => w.1), a6, a7, a8, a9⟩
def cpC (σ : sgm) (t : Int) : Prop := σ.1.length ≠ 6 ∧ 0 ≤ t ∧ t < σ.1.length
noncomputable def q_copy (σ : sgm) (t : Int) : Int := @ite _ (cpC σ t) (Classical.propDecidable _) (σ.1.length : Int) (-1)
noncomputable def s_copy (σ : sgm) (t up tu : Int) : sgm := @ite _ (cpC σ t) (Classical.propDecidable _) (s_add1 σ (lad σ.1 t).1 (chL up tu (lad σ.1 t).1 (lad σ.1 t).2)) σ
theorem okE_turn {n : Int} {e : elt} (h : okE n e) : okE n (turnE n e) := by
  obtain ⟨a, b, c⟩ := h
  unfold turnE
  refine ⟨by simp only []; omega, by simp only []; omega, ?_⟩
  simp only []
  split
  · omega
  · split <;> omega
theorem mb_map {f : elt → elt} (hf : ∀ e, (f e).1 = 3 ↔ e.1 = 3) : ∀ L : List elt, mb (L.map f) = mb L
  | [] => rfl
  | e :: L => by
    rw [List.map_cons, mb, mb, mb_map hf L]
    by_cases c : e.1 = 3
    · rw [if_pos c, if_pos ((hf e).2 c)]
    · rw [if_neg c, if_neg (fun w => c ((hf e).1 w))]
theorem mb_rev : ∀ L : List elt, mb L.reverse = mb L
  | [] => rfl
  | e :: L => by
    rw [List.reverse_cons, mb_app, mb_rev L, mb]
    simp only [mb]
    omega
theorem turn3 {n : Int} {e : elt} : (turnE n e).1 = 3 ↔ e.1 = 3 := by
  unfold turnE
  simp only []
  split
  · omega
  · split <;> omega
theorem mb_chL {up tu n : Int} {L : List elt} : mb (chL up tu n L) = mb L := by
  unfold chL
  rw [mb_map (fun e => by split; exact Iff.rfl; exact turn3)]
  by_cases c : up = 0
  · rw [if_pos c]
  · rw [if_neg c, mb_rev]
theorem ok_chL {up tu n : Int} {L : List elt} (h : okL n L) : okL n (chL up tu n L) := by
  refine ⟨h.1, h.2.1, by rw [chL_len]; exact h.2.2.1, by rw [mb_chL]; exact h.2.2.2.1, fun e he => ?_⟩
  unfold chL at he
  obtain ⟨x, h1, h2⟩ := List.mem_map.1 he
  have hx : x ∈ L := by
    by_cases c : up = 0
    · rw [if_pos c] at h1; exact h1
    · rw [if_neg c] at h1; exact List.mem_reverse.1 h1
  rw [← h2]
  split
  · exact h.2.2.2.2 x hx
  · exact okE_turn (h.2.2.2.2 x hx)
theorem ok_copy {σ : sgm} {t up tu : Int} (h : okS σ) : okS (s_copy σ t up tu) := by
  unfold s_copy
  by_cases c : cpC σ t
  · rw [if_pos c]
    have := h.1
    exact ok_add1 h (by have := c.1; omega) (ok_chL (h.at c.2.1 c.2.2))
  · rw [if_neg c]; exact h
section
variable {X : px} {S : List psh} {M : pM} {σ : sgm}
theorem c_copy_op {F : Int → List psh → pM → Prop} {t up tu : Int} (ht : inR t) (hu : inR up) (htu : inR tu) (cp : CP S M σ) (ok : okS σ) (rm : RM S 900 4000) (k : ∀ S' M', CP S' M' (s_copy σ t up tu) → grw S S' 900 4000 → (∀ x, 241 ≤ x → x ≤ 287 → M' x = M x) → F (q_copy σ t) S' M') : pAi true X mX0_copy 9 [pR 0, pI t, pI up, pI tu] S M F := by
  have h6 := ok.1
  have bad : ¬ cpC σ t → F (-1) S M := fun z => by
    have := k S M (by unfold s_copy; rw [if_neg z]; exact cp) ((grw.refl S).le (by decide) (by decide)) (fun _ _ _ => rfl)
    unfold q_copy at this
    rw [if_neg z] at this
    exact this
  have ch := cp.2.1
  obtain ⟨l, cc, a0, a1, a2, a3, a4, a5, a6⟩ := cp.2.1
  refine eX0_copy (bX0_copy_0 (j_size a1 ?_))
  rw [a3]
  refine ⟨by constructor <;> omega, fun z => bad (fun w => by have := w.1; omega), fun z => c_isLadder ch ht (fun a b => ⟨by constructor <;> decide, fun _ => ?_, fun z => by omega⟩) (fun h => ⟨by constructor <;> decide, fun z => by omega, fun _ => bad (fun w => h w.2)⟩)⟩
  have C : cpC σ t := ⟨by omega, a, b⟩
  refine c_get ch a b (fun r lr okl hs => ?_)
  obtain ⟨lw1, lw2, lw3, lw4, lw5⟩ := lr.w
  rw [lw4]
  obtain ⟨_, _, _, co, sts⟩ := lr
  refine ⟨hs, hs, hs, hs, lw2, s_changed sts.B okl.2.2.1 hu htu (rm.le (by decide) (by decide)) (fun S1 M1 c1 st1 g1 f1 hp1 => ?_)⟩
  have okc := ok_chL (up := up) (tu := tu) okl
  have st1' : StB S.length S1 M1 S.length (chL up tu (lad σ.1 t).1 (lad σ.1 t).2) c1 (chL up tu (lad σ.1 t).1 (lad σ.1 t).2).length (mb (chL up tu (lad σ.1 t).1 (lad σ.1 t).2)) := by rw [chL_len, mb_chL]; exact st1
  refine c_comes cp (by omega) g1.1 f1 st1' okc ((rm.grw g1).le (by omega) (by omega)) (fun S2 M2 cp2 g2 f2 hp2 => ?_)
  have := k S2 M2 (by unfold s_copy; rw [if_pos C]; exact cp2) ((g1.trans g2).le (by omega) (by omega)) f2
  unfold q_copy at this
  rw [if_pos C] at this
  exact this
end
