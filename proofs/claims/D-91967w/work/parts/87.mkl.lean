/-! ===== addAll, changed, comes ===== -/
set_option maxRecDepth 100000
def rep (L : List elt) : Nat → List elt
  | 0 => []
  | k + 1 => L ++ rep L k
theorem rep_snoc (L : List elt) : ∀ k, rep L (k + 1) = rep L k ++ L
  | 0 => by simp [rep]
  | k + 1 => by
    show L ++ rep L (k + 1) = (L ++ rep L k) ++ L
    rw [rep_snoc L k, List.append_assoc]
def turnE (n : Int) (e : elt) : elt := (if e.1 = 1 then 2 else if e.1 = 2 then 1 else e.1, n - 2 - e.2.1, e.2.2.1, e.2.2.2)
/-- two lists of steps that share no cell that changes -/
def apS (M : pM) (o s : Int) : Prop := o ≠ s ∧ M o 0 ≠ M s 0 ∧ (M (M o 0) 1 = -4 ∨ M (M o 0) 1 ≠ M (M s 0) 1)
theorem StB.other {β : Int} {S S' : List psh} {M M' : pM} {o s c sz mbs : Int} {L : List elt} (h : StB β S M o L c sz mbs) (hs : S <+: S') (ss : shq S s = some (.inl 9, 3)) (sa : shq S (M s 0) = some (.inl 4, 3)) (ap : apS M o s) (hm : ∀ y : Int, 0 ≤ y → y < S.length → y ≠ s → y ≠ M s 0 → y ≠ M (M s 0) 1 → M' y = M y) (he : M (M s 0) 1 = -4 ∨ ∃ n, shq S (M (M s 0) 1) = some (.inr 5, n)) : StB β S' M' o L c sz mbs ∧ M' o = M o ∧ M' (M o 0) = M (M o 0) := by
  obtain ⟨l, a0, a1, a2, a3, a4, a5, a6, a7, a8, a9⟩ := h
  obtain ⟨p1, p2, p3⟩ := ap
  have ne_inl : ∀ (x : Int) (σ : Nat × Nat), shq S x = some (.inl σ.1, σ.2) → x ≠ M (M s 0) 1 := by
    intro x σ hx w
    rcases he with z | ⟨n, z⟩
    · have := shq_lt hx; omega
    · rw [← w, hx] at z; cases z
  have oa : o ≠ M s 0 := fun w => by rw [← w, a2] at sa; cases sa
  have as : M o 0 ≠ s := fun w => by
    have := a4.1
    rw [w, ss] at this
    cases this
  have eo := hm o (by omega) (shq_lt a2).2 p1 oa (ne_inl o (9, 3) a2)
  have ea := hm (M o 0) (by omega) (shq_lt a4.1).2 as p2 (ne_inl _ (4, 3) a4.1)
  refine ⟨⟨l, a0, a1, shq_pre hs a2, by rw [eo]; exact a3, ?_, by rw [eo, ea]; exact a5, a6, fun i p q => ?_, by rw [eo]; exact a8, by rw [eo]; exact a9⟩, eo, ea⟩
  · rw [eo]
    refine a4.fr hs ea (fun q => ?_)
    obtain ⟨_, _, w | ⟨n, _, w, _⟩⟩ := a4
    · exact absurd w.1 q
    · refine hm _ (shq_lt w).1 (shq_lt w).2 (fun z => ?_) (fun z => ?_) (p3.resolve_left q)
      · rw [z, ss] at w; cases w
      · rw [z, sa] at w; cases w
  · have st := a7 i p q
    have hsh : ∃ σ : Nat × Nat, shq S (at0 l i) = some (.inl σ.1, σ.2) ∧ σ.1 ≠ 9 ∧ σ.1 ≠ 4 := by
      obtain ⟨_, _, y | y | y | y⟩ := st
      · exact ⟨(5, 1), y.2, by decide, by decide⟩
      · exact ⟨(6, 1), y.2, by decide, by decide⟩
      · exact ⟨(7, 1), y.2, by decide, by decide⟩
      · exact ⟨(8, 3), y.2.1, by decide, by decide⟩
    obtain ⟨σ, h1, h2, h3⟩ := hsh
    refine st.fr hs (hm _ (by have := st.1; omega) st.lt (fun z => ?_) (fun z => ?_) (ne_inl _ σ h1))
    · rw [z, ss] at h1
      injection h1 with h1
      injection h1 with h1 _
      injection h1 with h1
      exact h2 h1.symm
    · rw [z, sa] at h1
      injection h1 with h1
      injection h1 with h1 _
      injection h1 with h1
      exact h3 h1.symm
theorem StB.arr {β : Int} {S : List psh} {M : pM} {s c sz mbs : Int} {L : List elt} (h : StB β S M s L c sz mbs) : M (M s 0) 1 = -4 ∨ ∃ n, shq S (M (M s 0) 1) = some (.inr 5, n) := by
  obtain ⟨l, a0, a1, a2, a3, a4, a5, a6, a7, a8, a9⟩ := h
  rcases a4.2.2 with w | ⟨n, _, w, _⟩
  · exact Or.inl w.1
  · exact Or.inr ⟨n, w⟩
theorem StB.len {β : Int} {S : List psh} {M : pM} {s c sz mbs : Int} {L : List elt} {F : Int → pM → Prop} {b : Bool} {X : px} (h : StB β S M s L c sz mbs) (k : F L.length M) : pNi b X mJ2_size 1 [pR (M s 0)] S M F := by
  obtain ⟨l, a0, a1, a2, a3, a4, a5, a6, a7, a8, a9⟩ := h
  refine j_size a4 ?_
  rw [a6]
  exact k
theorem StB.get {β : Int} {S : List psh} {M : pM} {s c sz mbs i : Int} {L : List elt} {F : Int → pM → Prop} {b : Bool} {X : px} (h : StB β S M s L c sz mbs) (h1 : 0 ≤ i) (h2 : i < L.length) (k : ∀ q, StepR S M q (el L i) → F q M) : pNr b X mJ2_get 3 [pR (M s 0), pI i] S M F := by
  obtain ⟨l, a0, a1, a2, a3, a4, a5, a6, a7, a8, a9⟩ := h
  exact j_get a4 h1 (by omega) (k _ (a7 i h1 h2))
theorem take_push {A : List elt} {e : elt} {n : Nat} (h : (A.take n).length < n) : (A ++ [e]).take n = A.take n ++ [e] := by
  rw [List.length_take] at h
  rw [List.take_of_length_le (show A.length ≤ n by omega), List.take_of_length_le (by simp; omega)]
theorem take_full {A B : List elt} {n : Nat} (h : n ≤ (A.take n).length) : (A ++ B).take n = A.take n := by
  rw [List.length_take] at h
  rw [List.take_append_of_le_length (by omega)]
section
variable {X : px} {b : Bool}
theorem s_addAll {S : List psh} {M : pM} {F : List psh → pM → Prop} {β γ s o c co sz mbs szo mbo times : Int} {L Lo : List elt} (h : StB β S M s L c sz mbs) (ho : StB γ S M o Lo co szo mbo) (ap : apS M o s) (hL : L.length ≤ 200) (hLo : Lo.length ≤ 200) (hS : β ≤ S.length) (h1 : 0 ≤ sz ∧ sz ≤ 100000) (h2 : 0 ≤ mbs ∧ mbs ≤ 100000) (h1o : 0 ≤ szo ∧ szo ≤ 100000) (h2o : 0 ≤ mbo ∧ mbo ≤ 100000) (t0 : 0 ≤ times) (t1 : times ≤ 10000) (rm : RM S 301 1500) (k : ∀ S' M' c', StB β S' M' s ((L ++ rep Lo times.toNat).take 200) c' (cap5 (sz + szo * times)) (cap5 (mbs + mbo * times)) → StB γ S' M' o Lo co szo mbo → c ≤ c' → grw S S' (c' - c) (4 * (c' - c)) → frU β S M S' M' → F S' M') : pAv b X mX8_addAll 8 [pR s, pR o, pI times] S M F := by
  have hw := h.w
  have tz : szo * times ≤ 100000 * 10000 := Int.mul_le_mul h1o.2 t1 t0 (by decide)
  have tz0 : 0 ≤ szo * times := Int.mul_nonneg h1o.1 t0
  have tm : mbo * times ≤ 100000 * 10000 := Int.mul_le_mul h2o.2 t1 t0 (by decide)
  have tm0 : 0 ≤ mbo * times := Int.mul_nonneg h2o.1 t0
  -- the end
  have fin : ∀ S1 M1 c1, StB β S1 M1 s ((L ++ rep Lo times.toNat).take 200) c1 sz mbs → StB γ S1 M1 o Lo co szo mbo → apS M1 o s → c ≤ c1 → grw S S1 (c1 - c) (4 * (c1 - c)) → frU β S M S1 M1 → wX8_addAll_80 b X F s o times S1 M1 := by
    intro S1 M1 c1 hs hoo app cc g f
    have hw1 := hs.w
    have how := hoo.w
    refine bX8_addAll_80 ?_
    rw [hw1.2.2.2.2.2.1, how.2.2.2.2.2.1]
    refine ⟨hw1.2.2.2.1, how.2.2.2.1, by constructor <;> omega, hw1.2.2.2.1, nc_hi (by omega), fun M4 e4 => ?_⟩
    have os : o ≠ s := app.1
    have m42 : M4 s 2 = mbs := by rw [e4, up_oi (by decide)]; exact hw1.2.2.2.2.2.2.1
    have m4o : M4 o = M1 o := by rw [e4, up_ne os]
    rw [m42, m4o, how.2.2.2.2.2.2.1]
    refine ⟨hw1.2.2.2.1, how.2.2.2.1, by constructor <;> omega, hw1.2.2.2.1, nc_hi (by omega), fun M10 e10 => ?_⟩
    have fy : ∀ y, y ≠ s → M10 y = M1 y := fun y hy => by rw [e10, up_ne hy, e4, up_ne hy]
    have n0 : M10 s 0 = M1 s 0 := by rw [e10, up_oi (by decide), e4, up_oi (by decide)]
    have n1 : M10 s 1 = cap5 (sz + szo * times) := by rw [e10, up_oi (by decide), e4, up_same]; rfl
    have n2 : M10 s 2 = cap5 (mbs + mbo * times) := by rw [e10, up_same]; rfl
    refine k S1 M10 c1 ?_ ?_ cc g ⟨f.1, fun x p q => by rw [fy x (by omega)]; exact f.2 x p q⟩
    · obtain ⟨l, a0, a1, a2, a3, a4, a5, a6, a7, a8, a9⟩ := hs
      have sa : s ≠ M1 s 0 := fun w => by
        have a41 := a4.1
        rw [← w, a2] at a41
        cases a41
      have se : s ≠ M1 (M1 s 0) 1 := fun w => by
        rcases a4.2.2 with z | ⟨n, _, z, _⟩
        · omega
        · rw [← w, a2] at z; cases z
      refine ⟨l, a0, a1, a2, by rw [n0]; exact a3, by rw [n0]; exact a4.fr (List.prefix_refl _) (fy _ (fun w => sa w.symm)) (fun _ => fy _ (fun w => se w.symm)), by rw [n0, fy _ (fun w => sa w.symm)]; exact a5, a6, fun i p q => ?_, n1, n2⟩
      have st' := a7 i p q
      refine st'.fr (List.prefix_refl _) (fy _ (fun w => ?_))
      obtain ⟨_, _, y | y | y | y⟩ := st'
      · rw [w, a2] at y; cases y.2
      · rw [w, a2] at y; cases y.2
      · rw [w, a2] at y; cases y.2
      · rw [w, a2] at y; cases y.2.1
    · exact (hoo.other (List.prefix_refl _) hw1.2.2.2.1 hw1.2.2.2.2.1 app (fun y _ _ y1 _ _ => fy y y1) hs.arr).1
  -- one more element
  have l23 : ∀ (kk : Nat) (kt : Int), (kk : Int) < times → (∀ S1 M1 c1, StB β S1 M1 s ((L ++ rep Lo (kk + 1)).take 200) c1 sz mbs → StB γ S1 M1 o Lo co szo mbo → apS M1 o s → c ≤ c1 → grw S S1 (c1 - c) (4 * (c1 - c)) → frU β S M S1 M1 → wX8_addAll_74 b X F s o times kt S1 M1) → ∀ (m : Nat) (i : Int) (S1 : List psh) (M1 : pM) (c1 : Int), i + m = Lo.length → 0 ≤ i → StB β S1 M1 s ((L ++ rep Lo kk ++ Lo.take i.toNat).take 200) c1 sz mbs → StB γ S1 M1 o Lo co szo mbo → apS M1 o s → c ≤ c1 → grw S S1 (c1 - c) (4 * (c1 - c)) → frU β S M S1 M1 → wX8_addAll_23 b X F s o times kt i S1 M1 := by
    intro kk kt hkk k74 m
    induction m with
    | zero =>
      intro i S1 M1 c1 q1 q2 hs hoo app cc g f
      have how := hoo.w
      refine bX8_addAll_23 ⟨how.2.2.2.1, how.2.2.2.2.1, hoo.len ⟨by constructor <;> omega, by constructor <;> omega, fun _ => k74 S1 M1 c1 ?_ hoo app cc g f, fun y => by omega⟩⟩
      rw [rep_snoc, ← List.append_assoc]
      rw [List.take_of_length_le (show Lo.length ≤ i.toNat by omega)] at hs
      exact hs
    | succ m ih =>
      intro i S1 M1 c1 q1 q2 hs hoo app cc g f
      have how := hoo.w
      have hsw := hs.w
      have i1 : i < Lo.length := by omega
      have tl : ((L ++ rep Lo kk ++ Lo.take i.toNat).take 200).length ≤ 200 := by rw [List.length_take]; omega
      refine bX8_addAll_23 ⟨how.2.2.2.1, how.2.2.2.2.1, hoo.len ⟨by constructor <;> omega, by constructor <;> omega, fun y => by omega, fun _ => ⟨hsw.2.2.2.1, hsw.2.2.2.2.1, hs.len ⟨by constructor <;> omega, fun full => k74 S1 M1 c1 ?_ hoo app cc g f, fun room => ⟨hsw.2.2.2.1, how.2.2.2.1, how.2.2.2.2.1, hoo.get q2 i1 (fun q st => ⟨st.is, hsw.2.2.2.2.1, ?_⟩)⟩⟩⟩⟩⟩
      · have := take_full (A := L ++ rep Lo kk ++ Lo.take i.toNat) (B := Lo.drop i.toNat) (n := 200) (by omega)
        rw [List.append_assoc, List.take_append_drop] at this
        rw [rep_snoc, ← List.append_assoc, this]
        exact hs
      · refine s_push hs (by omega) (by have := pre_len g.1; omega) st ((rm.grw g).le (by omega) (by omega)) (fun S2 M2 c2 hs2 cc2 g2 f2 m0 me hp => ?_)
        have ot := hoo.other g2.1 hsw.2.2.2.1 hsw.2.2.2.2.1 app (fun y y0 y1 _ y2 y3 => f2 y y0 y1 y2 y3) hs.arr
        have app2 : apS M2 o s := by
          refine ⟨app.1, by rw [ot.2.1, m0]; exact app.2.1, ?_⟩
          rw [ot.2.1, ot.2.2, m0]
          rcases me with w | w
          · rw [w]; exact app.2.2
          · rw [w]
            rcases hoo.arr with z | ⟨n, z⟩
            · exact Or.inl z
            · exact Or.inr (by have := (shq_lt z).2; omega)
        have fa : frU β S1 M1 S2 M2 := ⟨g2.1, fun x p q => f2 x p (by have := pre_len g.1; omega) (by obtain ⟨l, a0, a1, a2, a3, a4, a5, _⟩ := hs; omega) (by obtain ⟨l, a0, a1, a2, a3, a4, a5, _⟩ := hs; rcases a5 with y | y <;> omega)⟩
        refine ih (i + 1) S2 M2 c2 (by omega) (by omega) ?_ ot.1 app2 (by omega) ((g.trans g2).le (by omega) (by omega)) (f.trans fa)
        rw [take_snoc q2 i1, ← List.append_assoc, take_push (by omega)]
        exact hs2
  have l2 : ∀ (m kk : Nat) (S1 : List psh) (M1 : pM) (c1 : Int), (kk : Int) + m = times → StB β S1 M1 s ((L ++ rep Lo kk).take 200) c1 sz mbs → StB γ S1 M1 o Lo co szo mbo → apS M1 o s → c ≤ c1 → grw S S1 (c1 - c) (4 * (c1 - c)) → frU β S M S1 M1 → wX8_addAll_2 b X F s o times kk S1 M1 := by
    intro m
    induction m with
    | zero =>
      intro kk S1 M1 c1 q1 hs hoo app cc g f
      refine bX8_addAll_2 ⟨by constructor <;> omega, by constructor <;> omega, fun _ => fin S1 M1 c1 ?_ hoo app cc g f, fun y => by omega⟩
      rw [show times.toNat = kk by omega]
      exact hs
    | succ m ih =>
      intro kk S1 M1 c1 q1 hs hoo app cc g f
      have hsw := hs.w
      have tl : ((L ++ rep Lo kk).take 200).length ≤ 200 := by rw [List.length_take]; omega
      refine bX8_addAll_2 ⟨by constructor <;> omega, by constructor <;> omega, fun y => by omega, fun _ => ⟨hsw.2.2.2.1, hsw.2.2.2.2.1, hs.len ⟨by constructor <;> omega, fun full => fin S1 M1 c1 ?_ hoo app cc g f, fun room => ?_⟩⟩⟩
      · obtain ⟨d, hd⟩ : ∃ d, times.toNat = kk + d := ⟨times.toNat - kk, by omega⟩
        have : ∀ d, ∃ R, rep Lo (kk + d) = rep Lo kk ++ R := by
          intro d
          induction d with
          | zero => exact ⟨[], by simp⟩
          | succ d ihd =>
            obtain ⟨R, hR⟩ := ihd
            exact ⟨R ++ Lo, by rw [← Nat.add_assoc, rep_snoc, hR, List.append_assoc]⟩
        obtain ⟨R, hR⟩ := this d
        rw [hd, hR, ← List.append_assoc, take_full (by omega)]
        exact hs
      · refine l23 kk kk (by omega) (fun S2 M2 c2 hs2 ho2 ap2 cc2 g2 f2 => bX8_addAll_74 ?_) Lo.length 0 S1 M1 c1 (by omega) (by omega) (by simpa using hs) hoo app cc g f
        have := ih (kk + 1) S2 M2 c2 (by omega) hs2 ho2 ap2 cc2 g2 f2
        rw [Int.natCast_succ] at this
        exact this
  refine eX8_addAll (bX8_addAll_0 ?_)
  refine l2 times.toNat 0 S M c (by omega) ?_ ho ap (Int.le_refl _) (by rw [Int.sub_self]; exact grw.refl _) (frU.refl _ _ _)
  rw [rep, List.append_nil, List.take_of_length_le hL]
  exact h
end
