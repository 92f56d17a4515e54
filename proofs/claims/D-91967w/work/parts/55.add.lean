/-! ===== ArrayList.add; bits ===== -/
set_option maxRecDepth 100000
theorem ishr_eq {u v : Int} (hu : inR u) (h1 : 0 ≤ v) (h2 : v < 32) : ishr u v = u / 2 ^ v.toNat := by
  obtain ⟨k, hk⟩ : ∃ k : Nat, v = k := ⟨v.toNat, by omega⟩
  subst hk
  have hk : k < 32 := by omega
  have e : (Int32.ofInt (k : Int) &&& 31) = Int32.ofInt k := by
    have : ∀ j, j < 32 → (Int32.ofInt ((j : Nat) : Int) &&& 31) = Int32.ofInt ((j : Nat) : Int) := by decide
    exact this k hk
  unfold ishr
  rw [e, ← Int32.toInt_toBitVec, Int32.toBitVec_shiftRight]
  have e2 : ((Int32.ofInt (k : Int)).toBitVec.smod 32) = BitVec.ofNat 32 k := by
    have : ∀ j, j < 32 → ((Int32.ofInt ((j : Nat) : Int)).toBitVec.smod 32) = BitVec.ofNat 32 j := by decide
    exact this k hk
  rw [e2, BitVec.sshiftRight_eq', BitVec.toInt_sshiftRight, Int32.toInt_toBitVec, i32_toInt hu, Int.shiftRight_eq_div_pow]
  congr 1
  rw [BitVec.toNat_ofNat, Nat.mod_eq_of_lt (by omega), Int.toNat_natCast]
  norm_cast
theorem ishr1 {u : Int} (hu : inR u) : ishr u 1 = u / 2 := by
  rw [ishr_eq hu (by decide) (by decide)]
  rfl
section
variable {X : px} {b : Bool}
theorem j_put {S : List psh} {M : pM} {F : List psh → pM → Prop} {a x e : Int} {l : List Int} {n : Nat} (na : ∀ i, pu_nc_ b a i) (ne : 288 ≤ e) (h1 : shq S a = some (.inl 4, 3)) (he : shq S e = some (.inr 5, n)) (hM : M a 1 = e) (hl : l.length < n) (hn : n ≤ 300) (hv : ∀ i : Int, 0 ≤ i → i < l.length → M e i = at0 l i) (hx : isElt S x) (k : ∀ M', AL S M' a (l ++ [x]) n → (∀ y, y ≠ a → y ≠ e → M' y = M y) → M' a 1 = e → F S M') : wJ2_add_2_11 b X F a x e l.length S M := by
  have hae : a ≠ e := fun z => by rw [z, he] at h1; cases h1
  refine bJ2_add_2_11 ⟨n, he, nc_hi ne, by omega, by omega, hx, fun M6 e6 => ⟨h1, na 2, fun M8 e8 => ?_⟩⟩
  subst e6
  subst e8
  have g1 : pu_up (pu_up M e l.length x) a 2 (l.length + 1) a 1 = e := by rw [up_oi (by decide), up_ne hae]; exact hM
  refine k _ ⟨h1, by rw [up_same]; simp, Or.inr ⟨n, rfl, by rw [g1]; exact he, by omega, hn, by simp; omega, fun i p q => ?_⟩⟩ (fun y p q => by rw [up_ne p, up_ne q]) g1
  rw [g1, up_ne (fun z => hae z.symm)]
  by_cases c : i = l.length
  · subst c
    rw [up_same, at_app2 (by omega)]
    simp [at0]
  · simp at q
    rw [up_oi c, hv i p (by omega), at_app p (by omega)]
theorem j_add {S : List psh} {M : pM} {F : Int → List psh → pM → Prop} {a x c : Int} {l : List Int} (h : AL S M a l c) (hl : l.length < 200) (na : ∀ i, pu_nc_ b a i) (ne : M a 1 = -4 ∨ 288 ≤ M a 1) (h288 : 288 ≤ S.length) (hx : isElt S x) (hall : ∀ i : Int, 0 ≤ i → i < l.length → isElt S (at0 l i)) (rm : RM S 1 300) (k : ∀ S' M' c', AL S' M' a (l ++ [x]) c' → c ≤ c' → grw S S' (c' - c) (4 * (c' - c)) → (∀ y : Int, y < S.length → y ≠ a → y ≠ M a 1 → M' y = M y) → (M' a 1 = M a 1 ∨ M' a 1 = S.length) → F 1 S' M') : pAi b X mJ2_add 7 [pR a, pR x] S M F := by
  obtain ⟨h1, h2, h3⟩ := h
  obtain ⟨rm1, rm2⟩ := rm
  have ha := shq_lt h1
  refine eJ2_add (bJ2_add_0 ⟨h1, h1, na 0, fun M2 e2 => ⟨h1, h1, h1, eJ2_add_2 ?_⟩⟩)
  have m2 : M2 a 2 = l.length := by rw [e2, up_oi (by decide)]; exact h2
  have m1 : M2 a 1 = M a 1 := by rw [e2, up_oi (by decide)]
  have mo : ∀ y, y ≠ a → M2 y = M y := fun y hy => by rw [e2, up_ne hy]
  rw [m2, m1]
  rcases h3 with ⟨g1, g2, g3⟩ | ⟨n, g1, g2, g3, g4, g5, g6⟩
  · subst g2
    subst g3
    rw [g1]
    refine bJ2_add_2_0e ⟨h1, eJ2_grow (bJ2_grow_0 ⟨h1, h1, eJ2_grow_2 (bJ2_grow_2_0e (m1.trans g1) ⟨h1, ?_, 10, ?_, by omega, by omega, fun r7 S8 M9 q1 q2 q3 => ?_⟩)⟩)⟩
    · rw [m2]; constructor <;> simp
    · rw [m2]; decide
    · subst q1
      subst q2
      have hne : a ≠ (S.length : Int) := by omega
      refine ⟨shq_app h1, na 1, fun M14 e14 _ _ => ?_⟩
      have z1 : M14 a 1 = S.length := by rw [e14, up_same]
      refine j_put (l := []) (n := 10) na (by omega) (shq_app h1) shq_new z1 (by simp) (by omega) (fun i p q => by simp at q; omega) (isElt_pre (List.prefix_append _ _) hx) (fun M' al fr m' hp => ?_)
      refine k _ M' 10 al (by omega) (grw_one.le (by omega) (by simp)) (fun y y1 y2 _ => ?_) (Or.inr m')
      rw [fr y y2 (by omega), e14, up_ne y2, q3, z_ne (by omega), mo y y2]
  · have gb := shq_lt g2
    have e288 : 288 ≤ M a 1 := by omega
    have hae : a ≠ M a 1 := fun z => by rw [← z, h1] at g2; cases g2
    refine bJ2_add_2_0 ⟨n, g2, ⟨by omega, by omega⟩, ⟨by omega, by omega⟩, fun _ => ?_, fun q => ⟨h1, eJ2_grow (bJ2_grow_0 ⟨h1, h1, eJ2_grow_2 (bJ2_grow_2_0 ⟨h1, n, by rw [m1]; exact g2, ⟨by omega, by omega⟩, fun _ => ?_, fun z => by omega⟩)⟩)⟩⟩
    · refine j_put (n := n) na e288 h1 g2 m1 (by omega) g4 (fun i p q => by rw [mo _ (fun z => hae z.symm)]; exact g6 i p q) hx (fun M' al fr m' hp => ?_)
      subst g1
      exact k S M' n al (by omega) (by rw [Int.sub_self]; exact grw.refl _) (fun y _ y2 y3 => by rw [fr y y2 y3, mo y y2]) (Or.inl m')
    · have hq : (l.length : Int) = n := q
      have hmx : max (M2 a 2 + 1 - (n : Int)) (ishr (n : Int) 1) = max 1 ((n : Int) / 2) := by rw [m2, ishr1 ⟨by omega, by omega⟩]; congr 1; omega
      obtain ⟨w, hw⟩ : ∃ w : Nat, (n : Int) + max 1 ((n : Int) / 2) = w := ⟨((n : Int) + max 1 ((n : Int) / 2)).toNat, by omega⟩
      refine bJ2_grow_2_20 (eJ11_newLength (bJ11_newLength_0 ?_))
      rw [hmx, hw, m2, ishr1 ⟨by omega, by omega⟩, m1]
      refine ⟨⟨by omega, by omega⟩, ⟨by omega, by omega⟩, ⟨by omega, by omega⟩, fun z => by omega, fun _ => ⟨⟨by omega, by omega⟩, fun z => by omega, fun _ => ⟨h1, eJ12_copyOf (bJ12_copyOf_0 ⟨n, g2, eJ12_copyOf_2 (bJ12_copyOf_2_0 ⟨fun z => absurd rfl z, fun _ => ⟨w, rfl, by omega, by omega, fun r1 S2 M3 q1 q2 q3 => ?_⟩⟩)⟩)⟩⟩⟩
      subst q1
      subst q2
      have hne : a ≠ (S.length : Int) := by omega
      have hne2 : M a 1 ≠ (S.length : Int) := by omega
      have z3 : ∀ y, y ≠ (S.length : Int) → M3 y = M2 y := fun y hy => by rw [q3, z_ne hy]
      have hmin : min (n : Int) (w : Int) = n := by omega
      refine ⟨n, shq_app g2, ⟨by omega, by omega⟩, ⟨by omega, by omega⟩, n, w, shq_app g2, shq_new, nc_hi' (by omega), by omega, by omega, by omega, by omega, by omega, fun i p q => Or.inr ?_, fun M12 e12 _ _ => ⟨shq_app h1, na 1, fun M7 e7 _ _ => ?_⟩⟩
      · rw [Int.zero_add, z3 _ hne2, mo _ (fun z => hae z.symm), g6 i p (by omega)]
        exact isElt_pre (List.prefix_append _ _) (hall i p (by omega))
      · have z1 : M7 a 1 = S.length := by rw [e7, up_same]
        have cp : ∀ y, y ≠ (S.length : Int) → M12 y = M2 y := fun y hy => by rw [e12, cpy_ne hy, z3 y hy]
        refine j_put (l := l) (n := w) na (by omega) (shq_app h1) shq_new z1 (by omega) (by omega) (fun i p q => ?_) (isElt_pre (List.prefix_append _ _) hx) (fun M' al fr m' hp => ?_)
        · rw [e7, up_ne (fun z => hne z.symm), e12, cpy_in (by omega) (by omega), show (0 : Int) + (i - 0) = i by omega, z3 _ hne2, mo _ (fun z => hae z.symm), g6 i p q]
        · subst g1
          refine k _ M' w al (by omega) (grw_one.le (by omega) (by simp only []; omega)) (fun y y1 y2 y3 => ?_) (Or.inr m')
          rw [fr y y2 (by omega), e7, up_ne y2, cp y (by omega), mo y y2]
end
