/-! ===== steps that are laid beside others ===== -/
set_option maxRecDepth 100000
def frLy (β s : Int) (S : List psh) (M : pM) (S' : List psh) (M' : pM) : Prop := frU β S M S' M' ∧ (∀ y : Int, 0 ≤ y → y < S.length → y ≠ s → y ≠ M s 0 → y ≠ M (M s 0) 1 → M' y = M y) ∧ M' s 0 = M s 0 ∧ (M' (M s 0) 1 = M (M s 0) 1 ∨ (S.length : Int) ≤ M' (M s 0) 1)
theorem frLy.refl (β s : Int) (S : List psh) (M : pM) : frLy β s S M S M := ⟨frU.refl _ _ _, fun _ _ _ _ _ _ => rfl, rfl, Or.inl rfl⟩
theorem frLy.trans {β s : Int} {S S1 S2 : List psh} {M M1 M2 : pM} (a : frLy β s S M S1 M1) (b : frLy β s S1 M1 S2 M2) : frLy β s S M S2 M2 := by
  obtain ⟨a1, a2, a3, a4⟩ := a
  obtain ⟨b1, b2, b3, b4⟩ := b
  have l := pre_len a1.1
  refine ⟨a1.trans b1, fun y y0 y1 h1 h2 h3 => ?_, b3.trans a3, ?_⟩
  · rw [b2 y y0 (by omega) h1 (by rw [a3]; exact h2) (by rw [a3]; rcases a4 with w | w; rw [w]; exact h3; omega)]
    exact a2 y y0 y1 h1 h2 h3
  · rw [a3] at b4
    rcases b4 with w | w
    · rw [w]; exact a4
    · exact Or.inr (by omega)
theorem frLy.wr {β s : Int} {S S1 : List psh} {M M1 M2 : pM} (a : frLy β s S M S1 M1) (hs : β ≤ s) (sa : s ≠ M s 0) (f : ∀ y, y ≠ s → M2 y = M1 y) (f0 : M2 s 0 = M1 s 0) : frLy β s S M S1 M2 := by
  obtain ⟨a1, a2, a3, a4⟩ := a
  exact ⟨⟨a1.1, fun x p q => by rw [f x (by omega)]; exact a1.2 x p q⟩, fun y y0 y1 h1 h2 h3 => by rw [f y h1]; exact a2 y y0 y1 h1 h2 h3, f0.trans a3, by rw [f _ (fun w => sa w.symm)]; exact a4⟩
theorem StB.sa {β : Int} {S : List psh} {M : pM} {s c sz mbs : Int} {L : List elt} (h : StB β S M s L c sz mbs) : s ≠ M s 0 := fun w => by
  obtain ⟨l, a0, a1, a2, a3, a4, _⟩ := h
  have a41 := a4.1
  rw [← w, a2] at a41
  cases a41
section
variable {X : px} {b : Bool}
theorem s_add22P {S : List psh} {M M0 : pM} {F : List psh → pM → Prop} {β s r c sz mbs : Int} {L : List elt} {e : elt} (h : StB β S M s L c sz mbs) (h1 : 0 ≤ sz ∧ sz ≤ 100000) (h2 : 0 ≤ mbs ∧ mbs ≤ 100000) (st : StepR S M0 r e) (hk : e.1 = 0 ∨ e.1 = 1 ∨ e.1 = 2 ∨ e.1 = 3) (k : ∀ M', StB β S M' s L c (cap5 (sz + 1)) (if e.1 = 3 then cap5 (mbs + 1) else mbs) → (∀ y, y ≠ s → M' y = M y) → M' s 0 = M s 0 → F S M') : wX8_add_22 b X F s r S M := by
  obtain ⟨l, a0, a1, a2, a3, a4, a5, a6, a7, a8, a9⟩ := h
  have sa : s ≠ M s 0 := fun w => by
    have a41 := a4.1
    rw [← w, a2] at a41
    cases a41
  have se : s ≠ M (M s 0) 1 := fun w => by
    rcases a4.2.2 with z | ⟨n, _, z, _⟩
    · omega
    · rw [← w, a2] at z; cases z
  have step : ∀ M' : pM, (∀ y, y ≠ s → M' y = M y) → M' s 0 = M s 0 → StB β S M' s L c (M' s 1) (M' s 2) := by
    intro M' f0 f1
    refine ⟨l, a0, a1, a2, by rw [f1]; exact a3, by rw [f1]; exact a4.fr (List.prefix_refl _) (f0 _ (fun w => sa w.symm)) (fun _ => f0 _ (fun w => se w.symm)), by rw [f1, f0 _ (fun w => sa w.symm)]; exact a5, a6, fun i p q => ?_, rfl, rfl⟩
    have st' := a7 i p q
    refine st'.fr (List.prefix_refl _) (f0 _ (fun w => ?_))
    obtain ⟨_, _, y | y | y | y⟩ := st'
    · rw [w, a2] at y; cases y.2
    · rw [w, a2] at y; cases y.2
    · rw [w, a2] at y; cases y.2
    · rw [w, a2] at y; cases y.2.1
  refine bX8_add_22 ?_
  rw [a8]
  refine ⟨a2, by constructor <;> omega, a2, nc_hi (by omega), fun M3 e3 => ?_⟩
  have f3 : ∀ y, y ≠ s → M3 y = M y := fun y hy => by rw [e3, up_ne hy]
  have m2 : M3 s 2 = mbs := by rw [e3, up_oi (by decide)]; exact a9
  have m1 : M3 s 1 = cap5 (sz + 1) := by rw [e3, up_same]; rfl
  have m0 : M3 s 0 = M s 0 := by rw [e3, up_oi (by decide)]
  refine d_sort (G := fun r7 M8 => inR r7 ∧ (r7 ≠ 3 → F S M8) ∧ (r7 = 3 → (shq S s = some (.inl 9, 3)) ∧ (inR ((M8 s 2) + 1)) ∧ (shq S s = some (.inl 9, 3)) ∧ (pu_nc_ b s 2) ∧ (∀ M12 : pM, M12 = pu_up M8 s 2 (min ((M8 s 2) + 1) 100000) → F S M12))) st ?_
  rw [m2]
  refine ⟨by constructor <;> omega, fun ne => ?_, fun eq => ⟨a2, by constructor <;> omega, a2, nc_hi (by omega), fun M12 e12 => ?_⟩⟩
  · have := step M3 f3 m0
    rw [m1, m2] at this
    rw [if_neg ne] at k
    exact k M3 this f3 m0
  · have := step M12 (fun y hy => by rw [e12, up_ne hy]; exact f3 y hy) (by rw [e12, up_oi (by decide)]; exact m0)
    rw [show M12 s 1 = cap5 (sz + 1) by rw [e12, up_oi (by decide)]; exact m1, show M12 s 2 = cap5 (mbs + 1) by rw [e12, up_same]; rfl] at this
    rw [if_pos eq] at k
    exact k M12 this (fun y hy => by rw [e12, up_ne hy]; exact f3 y hy) (by rw [e12, up_oi (by decide)]; exact m0)
theorem s_addP {S : List psh} {M : pM} {F : List psh → pM → Prop} {β s r c sz mbs : Int} {L : List elt} {e : elt} (h : StB β S M s L c sz mbs) (hL : L.length ≤ 200) (hS : β ≤ S.length) (h1 : 0 ≤ sz ∧ sz ≤ 100000) (h2 : 0 ≤ mbs ∧ mbs ≤ 100000) (st : StepR S M r e) (rm : RM S 1 300) (k : ∀ S' M' c', StB β S' M' s (if L.length < 200 then L ++ [e] else L) c' (cap5 (sz + 1)) (if e.1 = 3 then cap5 (mbs + 1) else mbs) → c ≤ c' → grw S S' (c' - c) (4 * (c' - c)) → frLy β s S M S' M' → F S' M') : pAv b X mX8_add 8 [pR s, pR r] S M F := by
  have hk : e.1 = 0 ∨ e.1 = 1 ∨ e.1 = 2 ∨ e.1 = 3 := by obtain ⟨_, _, y | y | y | y⟩ := st <;> omega
  have h0 := h
  have sA := h.sa
  obtain ⟨l, a0, a1, a2, a3, a4, a5, a6, a7, a8, a9⟩ := h
  refine eX8_add (bX8_add_0 ⟨a2, a4.1, j_size a4 ⟨by constructor <;> omega, fun w => ?_, fun w => ⟨a2, a4.1, s_push h0 (by omega) hS st rm (fun S' M' c' st' cc g f m0 me hp => ?_)⟩⟩⟩)
  · refine s_add22P h0 h1 h2 st hk (fun M' st' f' f0 => ?_)
    have := k S M' c ?_ (Int.le_refl _) (by rw [Int.sub_self]; exact grw.refl _) ((frLy.refl β s S M).wr a1 sA f' f0)
    · exact this
    · rw [if_neg (by omega)]; exact st'
  · have fb : frLy β s S M S' M' := ⟨⟨g.1, fun x p q => f x p (by omega) (by omega) (by rcases a5 with y | y <;> omega)⟩, fun y y0 y1 _ y2 y3 => f y y0 y1 y2 y3, m0, me.imp id (fun w => by omega)⟩
    refine s_add22P st' h1 h2 (st.fr g.1 (f r (by have := st.1; omega) st.lt ?_ ?_)) hk (fun M2 st2 f2 f0 => ?_)
    · intro w
      have a41 := a4.1
      rw [← w] at a41
      obtain ⟨_, _, y | y | y | y⟩ := st
      · rw [a41] at y; cases y.2
      · rw [a41] at y; cases y.2
      · rw [a41] at y; cases y.2
      · rw [a41] at y; cases y.2.1
    · intro w
      rcases a4.2.2 with z | ⟨n, _, z, _⟩
      · have := st.1; omega
      · exact st.nar (n := n) (by rw [w]; exact z)
    · have := k S' M2 c' ?_ cc g (fb.wr a1 sA f2 f0)
      · exact this
      · rw [if_pos (by omega)]; exact st2
theorem s_addAllP {S : List psh} {M : pM} {F : List psh → pM → Prop} {β γ s o c co sz mbs szo mbo times : Int} {L Lo : List elt} (h : StB β S M s L c sz mbs) (ho : StB γ S M o Lo co szo mbo) (ap : apS M o s) (hL : L.length ≤ 200) (hLo : Lo.length ≤ 200) (hS : β ≤ S.length) (h1 : 0 ≤ sz ∧ sz ≤ 100000) (h2 : 0 ≤ mbs ∧ mbs ≤ 100000) (h1o : 0 ≤ szo ∧ szo ≤ 100000) (h2o : 0 ≤ mbo ∧ mbo ≤ 100000) (t0 : 0 ≤ times) (t1 : times ≤ 10000) (rm : RM S 301 1500) (k : ∀ S' M' c', StB β S' M' s ((L ++ rep Lo times.toNat).take 200) c' (cap5 (sz + szo * times)) (cap5 (mbs + mbo * times)) → StB γ S' M' o Lo co szo mbo → c ≤ c' → grw S S' (c' - c) (4 * (c' - c)) → frLy β s S M S' M' → F S' M') : pAv b X mX8_addAll 8 [pR s, pR o, pI times] S M F := by
  have hw := h.w
  have tz : szo * times ≤ 100000 * 10000 := Int.mul_le_mul h1o.2 t1 t0 (by decide)
  have tz0 : 0 ≤ szo * times := Int.mul_nonneg h1o.1 t0
  have tm : mbo * times ≤ 100000 * 10000 := Int.mul_le_mul h2o.2 t1 t0 (by decide)
  have tm0 : 0 ≤ mbo * times := Int.mul_nonneg h2o.1 t0
  -- the end
  have fin : ∀ S1 M1 c1, StB β S1 M1 s ((L ++ rep Lo times.toNat).take 200) c1 sz mbs → StB γ S1 M1 o Lo co szo mbo → apS M1 o s → c ≤ c1 → grw S S1 (c1 - c) (4 * (c1 - c)) → frLy β s S M S1 M1 → wX8_addAll_80 b X F s o times S1 M1 := by
    intro S1 M1 c1 hs hoo app cc g f
    have hw1 := hs.w
    have how := hoo.w
    refine bX8_addAll_80 ?_
    rw [hw1.2.2.2.2.2.1, how.2.2.2.2.2.1]
    refine ⟨hw1.2.2.2.1, how.2.2.2.1, by constructor <;> omega, hw1.2.2.2.1, nc_hi (by omega), fun M4 e4 => ?_⟩
    have os : o ≠ s := app.1
    have m42 : M4 s 2 = mbs := by rw [e4, up_oi (by decide)]; exact hw1.2.2.2.2.2.2.1
    have m4o : M4 o = M1 o := by rw [e4, up_ne os]
    rw [m42, m4o, how.2.2.2.2.2.2.1]
    refine ⟨hw1.2.2.2.1, how.2.2.2.1, by constructor <;> omega, hw1.2.2.2.1, nc_hi (by omega), fun M10 e10 => ?_⟩
    have fy : ∀ y, y ≠ s → M10 y = M1 y := fun y hy => by rw [e10, up_ne hy, e4, up_ne hy]
    have n0 : M10 s 0 = M1 s 0 := by rw [e10, up_oi (by decide), e4, up_oi (by decide)]
    have n1 : M10 s 1 = cap5 (sz + szo * times) := by rw [e10, up_oi (by decide), e4, up_same]; rfl
    have n2 : M10 s 2 = cap5 (mbs + mbo * times) := by rw [e10, up_same]; rfl
    refine k S1 M10 c1 ?_ ?_ cc g (f.wr (by omega) (fun w => h.sa w) fy n0)
    · obtain ⟨l, a0, a1, a2, a3, a4, a5, a6, a7, a8, a9⟩ := hs
      have sa : s ≠ M1 s 0 := fun w => by
        have a41 := a4.1
        rw [← w, a2] at a41
        cases a41
      have se : s ≠ M1 (M1 s 0) 1 := fun w => by
        rcases a4.2.2 with z | ⟨n, _, z, _⟩
        · omega
        · rw [← w, a2] at z; cases z
      refine ⟨l, a0, a1, a2, by rw [n0]; exact a3, by rw [n0]; exact a4.fr (List.prefix_refl _) (fy _ (fun w => sa w.symm)) (fun _ => fy _ (fun w => se w.symm)), by rw [n0, fy _ (fun w => sa w.symm)]; exact a5, a6, fun i p q => ?_, n1, n2⟩
      have st' := a7 i p q
      refine st'.fr (List.prefix_refl _) (fy _ (fun w => ?_))
      obtain ⟨_, _, y | y | y | y⟩ := st'
      · rw [w, a2] at y; cases y.2
      · rw [w, a2] at y; cases y.2
      · rw [w, a2] at y; cases y.2
      · rw [w, a2] at y; cases y.2.1
    · exact (hoo.other (List.prefix_refl _) hw1.2.2.2.1 hw1.2.2.2.2.1 app (fun y _ _ y1 _ _ => fy y y1) hs.arr).1
  -- one more element
  have l23 : ∀ (kk : Nat) (kt : Int), (kk : Int) < times → (∀ S1 M1 c1, StB β S1 M1 s ((L ++ rep Lo (kk + 1)).take 200) c1 sz mbs → StB γ S1 M1 o Lo co szo mbo → apS M1 o s → c ≤ c1 → grw S S1 (c1 - c) (4 * (c1 - c)) → frLy β s S M S1 M1 → wX8_addAll_74 b X F s o times kt S1 M1) → ∀ (m : Nat) (i : Int) (S1 : List psh) (M1 : pM) (c1 : Int), i + m = Lo.length → 0 ≤ i → StB β S1 M1 s ((L ++ rep Lo kk ++ Lo.take i.toNat).take 200) c1 sz mbs → StB γ S1 M1 o Lo co szo mbo → apS M1 o s → c ≤ c1 → grw S S1 (c1 - c) (4 * (c1 - c)) → frLy β s S M S1 M1 → wX8_addAll_23 b X F s o times kt i S1 M1 := by
    intro kk kt hkk k74 m
    induction m with
    | zero =>
      intro i S1 M1 c1 q1 q2 hs hoo app cc g f
      have how := hoo.w
      refine bX8_addAll_23 ⟨how.2.2.2.1, how.2.2.2.2.1, hoo.len ⟨by constructor <;> omega, by constructor <;> omega, fun _ => k74 S1 M1 c1 ?_ hoo app cc g f, fun y => by omega⟩⟩
      rw [rep_snoc, ← List.append_assoc]
      rw [List.take_of_length_le (show Lo.length ≤ i.toNat by omega)] at hs
      exact hs
    | succ m ih =>
      intro i S1 M1 c1 q1 q2 hs hoo app cc g f
      have how := hoo.w
      have hsw := hs.w
      have i1 : i < Lo.length := by omega
      have tl : ((L ++ rep Lo kk ++ Lo.take i.toNat).take 200).length ≤ 200 := by rw [List.length_take]; omega
      refine bX8_addAll_23 ⟨how.2.2.2.1, how.2.2.2.2.1, hoo.len ⟨by constructor <;> omega, by constructor <;> omega, fun y => by omega, fun _ => ⟨hsw.2.2.2.1, hsw.2.2.2.2.1, hs.len ⟨by constructor <;> omega, fun full => k74 S1 M1 c1 ?_ hoo app cc g f, fun room => ⟨hsw.2.2.2.1, how.2.2.2.1, how.2.2.2.2.1, hoo.get q2 i1 (fun q st => ⟨st.is, hsw.2.2.2.2.1, ?_⟩)⟩⟩⟩⟩⟩
      · have := take_full (A := L ++ rep Lo kk ++ Lo.take i.toNat) (B := Lo.drop i.toNat) (n := 200) (by omega)
        rw [List.append_assoc, List.take_append_drop] at this
        rw [rep_snoc, ← List.append_assoc, this]
        exact hs
      · refine s_push hs (by omega) (by have := pre_len g.1; omega) st ((rm.grw g).le (by omega) (by omega)) (fun S2 M2 c2 hs2 cc2 g2 f2 m0 me hp => ?_)
        have ot := hoo.other g2.1 hsw.2.2.2.1 hsw.2.2.2.2.1 app (fun y y0 y1 _ y2 y3 => f2 y y0 y1 y2 y3) hs.arr
        have app2 : apS M2 o s := by
          refine ⟨app.1, by rw [ot.2.1, m0]; exact app.2.1, ?_⟩
          rw [ot.2.1, ot.2.2, m0]
          rcases me with w | w
          · rw [w]; exact app.2.2
          · rw [w]
            rcases hoo.arr with z | ⟨n, z⟩
            · exact Or.inl z
            · exact Or.inr (by have := (shq_lt z).2; omega)
        have fa : frLy β s S1 M1 S2 M2 := ⟨⟨g2.1, fun x p q => f2 x p (by have := pre_len g.1; omega) (by obtain ⟨l, a0, a1, a2, a3, a4, a5, _⟩ := hs; omega) (by obtain ⟨l, a0, a1, a2, a3, a4, a5, _⟩ := hs; rcases a5 with y | y <;> omega)⟩, fun y y0 y1 _ y2 y3 => f2 y y0 y1 y2 y3, m0, me.imp id (fun w => by omega)⟩
        refine ih (i + 1) S2 M2 c2 (by omega) (by omega) ?_ ot.1 app2 (by omega) ((g.trans g2).le (by omega) (by omega)) (f.trans fa)
        rw [take_snoc q2 i1, ← List.append_assoc, take_push (by omega)]
        exact hs2
  have l2 : ∀ (m kk : Nat) (S1 : List psh) (M1 : pM) (c1 : Int), (kk : Int) + m = times → StB β S1 M1 s ((L ++ rep Lo kk).take 200) c1 sz mbs → StB γ S1 M1 o Lo co szo mbo → apS M1 o s → c ≤ c1 → grw S S1 (c1 - c) (4 * (c1 - c)) → frLy β s S M S1 M1 → wX8_addAll_2 b X F s o times kk S1 M1 := by
    intro m
    induction m with
    | zero =>
      intro kk S1 M1 c1 q1 hs hoo app cc g f
      refine bX8_addAll_2 ⟨by constructor <;> omega, by constructor <;> omega, fun _ => fin S1 M1 c1 ?_ hoo app cc g f, fun y => by omega⟩
      rw [show times.toNat = kk by omega]
      exact hs
    | succ m ih =>
      intro kk S1 M1 c1 q1 hs hoo app cc g f
      have hsw := hs.w
      have tl : ((L ++ rep Lo kk).take 200).length ≤ 200 := by rw [List.length_take]; omega
      refine bX8_addAll_2 ⟨by constructor <;> omega, by constructor <;> omega, fun y => by omega, fun _ => ⟨hsw.2.2.2.1, hsw.2.2.2.2.1, hs.len ⟨by constructor <;> omega, fun full => fin S1 M1 c1 ?_ hoo app cc g f, fun room => ?_⟩⟩⟩
      · obtain ⟨d, hd⟩ : ∃ d, times.toNat = kk + d := ⟨times.toNat - kk, by omega⟩
        have : ∀ d, ∃ R, rep Lo (kk + d) = rep Lo kk ++ R := by
          intro d
          induction d with
          | zero => exact ⟨[], by simp⟩
          | succ d ihd =>
            obtain ⟨R, hR⟩ := ihd
            exact ⟨R ++ Lo, by rw [← Nat.add_assoc, rep_snoc, hR, List.append_assoc]⟩
        obtain ⟨R, hR⟩ := this d
        rw [hd, hR, ← List.append_assoc, take_full (by omega)]
        exact hs
      · refine l23 kk kk (by omega) (fun S2 M2 c2 hs2 ho2 ap2 cc2 g2 f2 => bX8_addAll_74 ?_) Lo.length 0 S1 M1 c1 (by omega) (by omega) (by simpa using hs) hoo app cc g f
        have := ih (kk + 1) S2 M2 c2 (by omega) hs2 ho2 ap2 cc2 g2 f2
        rw [Int.natCast_succ] at this
        exact this
  refine eX8_addAll (bX8_addAll_0 ?_)
  refine l2 times.toNat 0 S M c (by omega) ?_ ho ap (Int.le_refl _) (by rw [Int.sub_self]; exact grw.refl _) (frLy.refl _ _ _ _)
  rw [rep, List.append_nil, List.take_of_length_le hL]
  exact h
end
