/-! ===== cleared, kept: the component's operations ===== -/
set_option maxRecDepth 100000
theorem fr3_C {M M' : pM} (h : ∀ x, x ≠ 20 → x ≠ 21 → x ≠ 22 → M' x = M x) : frC M M' := ⟨fun x hx => h x (by omega) (by omega) (by omega), fun j _ => by rw [h 0 (by decide) (by decide) (by decide)]⟩
theorem SC.fr {M M' : pM} (sc : SC M) (h0 : ∀ j, j = 2 ∨ j = 15 ∨ j = 16 → M' 0 j = M 0 j) (h1 : ∀ x, x = 1 ∨ x = 2 ∨ x = 3 ∨ x = 5 ∨ x = 6 → M' x = M x) : SC M' := by
  obtain ⟨s1, s2, s3, s4⟩ := sc
  refine ⟨?_, s2.fr (h0 2 (by decide)) (h1 5 (by decide)), s3.fr (h0 15 (by decide)) (h0 16 (by decide)), s4.fr (h1 6 (by decide))⟩
  rcases s1 with z | ⟨n, z1, z2, z3⟩
  · exact Or.inl (by rw [h1 1 (by decide)]; exact z)
  · exact Or.inr ⟨n, z1, z2, z3.fr (h1 1 (by decide)) (h1 2 (by decide)) (h1 3 (by decide))⟩
theorem fr3_SC {M M' : pM} (sc : SC M) (h : ∀ x, x ≠ 20 → x ≠ 21 → x ≠ 22 → M' x = M x) : SC M' := sc.fr (fun j _ => by rw [h 0 (by decide) (by decide) (by decide)]) (fun x hx => h x (by omega) (by omega) (by omega))
section
variable {X : px} {S : List psh} {M : pM} {σ : sgm}
theorem c_cleared {F : Int → pM → Prop} {t : Int} (ht : inR t) (cp : CP S M σ) (k1 : 0 ≤ t → t < σ.1.length → pln (lad σ.1 t).2 = 1 → ∀ M', (∀ x, x ≠ 20 → x ≠ 21 → x ≠ 22 → M' x = M x) → lft (M' 20) 0 (lad σ.1 t).2.length = clrd (lad σ.1 t).2 → (∀ j : Int, 0 ≤ j → j < (lad σ.1 t).2.length → M' 20 j = 0 ∨ M' 20 j = 1) → F (clrd (lad σ.1 t).2).length M') (k2 : 0 ≤ t → t < σ.1.length → pln (lad σ.1 t).2 ≠ 1 → F (-2) M) (k0 : ¬ (0 ≤ t ∧ t < σ.1.length) → F (-1) M) : pNi true X mX0_cleared 7 [pR 0, pI t] S M F := by
  refine eX0_cleared (bX0_cleared_0 (c_isLadder cp.2.1 ht (fun a b => ⟨by constructor <;> decide, fun _ => ?_, fun z => by omega⟩) (fun h => ⟨by constructor <;> decide, fun z => by omega, fun _ => k0 h⟩)))
  refine c_get cp.2.1 a b (fun r lr ok hs => ⟨hs, hs, l_isPlain lr ok ?_⟩)
  have pi := (pln_iff (lad σ.1 t).2).1
  exact ⟨by constructor <;> omega, fun z => c_get cp.2.1 a b (fun r lr ok hs => ⟨hs, c_clears cp.2.1.z lr ok (k1 a b (by omega))⟩), fun z => k2 a b (by omega)⟩
theorem c_cleared_op {F : Int → pM → Prop} {t : Int} (ht : inR t) (cp : CP S M σ) (k : ∀ M', frC M M' → SC M' → F (q_cleared σ t) M') : pNi true X mX0_cleared 7 [pR 0, pI t] S M F := by
  refine c_cleared ht cp (fun a b c M1 f1 _ _ => ?_) (fun a b c => ?_) (fun h => ?_)
  · have := k M1 (fr3_C f1) (fr3_SC cp.1 f1)
    unfold q_cleared at this
    rw [if_pos ⟨a, b⟩, if_pos c] at this
    exact this
  · have := k M (frC.refl _) cp.1
    unfold q_cleared at this
    rw [if_pos ⟨a, b⟩, if_neg c] at this
    exact this
  · have := k M (frC.refl _) cp.1
    unfold q_cleared at this
    rw [if_neg h] at this
    exact this
theorem c_kept_op {F : Int → pM → Prop} {t i : Int} (ht : inR t) (hi : inR i) (cp : CP S M σ) (k : ∀ M', frC M M' → SC M' → F (q_kept σ t i) M') : pNi true X mX0_kept 8 [pR 0, pI t, pI i] S M F := by
  have bad : (∀ M', frC M M' → SC M' → ¬ (0 ≤ t ∧ t < σ.1.length ∧ pln (lad σ.1 t).2 = 1 ∧ 0 ≤ i ∧ i < (clrd (lad σ.1 t).2).length) → F (-1) M') := fun M' f s z => by
    have := k M' f s
    unfold q_kept at this
    rw [if_neg z] at this
    exact this
  refine eX0_kept (bX0_kept_0 (c_cleared ht cp (fun a b c M1 f1 l1 h1 => ?_) (fun a b c => ⟨by constructor <;> decide, fun z => by omega, fun _ => bad M (frC.refl _) cp.1 (fun z => c z.2.2.1)⟩) (fun h => ⟨by constructor <;> decide, fun z => by omega, fun _ => bad M (frC.refl _) cp.1 (fun z => h ⟨z.1, z.2.1⟩)⟩)))
  have okl := cp.2.1.ok a b
  have hl := okl.2.2.1
  have ch1 := cp.2.1.frC (fr3_C f1)
  have cl : (clrd (lad σ.1 t).2).length ≤ (lad σ.1 t).2.length := by
    have := (clr_sub (L := (lad σ.1 t).2) (lad σ.1 t).2.length (seg (fun x => x) 0 (lad σ.1 t).2.length)).1
    rw [seg_len] at this
    exact this
  refine ⟨by constructor <;> omega, fun _ => ?_, fun z => by omega⟩
  have never : ∀ (m : Nat) (j x : Int), j + m = (lad σ.1 t).2.length → 0 ≤ j → inR x → (x < 0 ∨ m < x) → F (-1) M1 → wX0_kept_15 X F t x j S M1 := by
    intro m
    induction m with
    | zero =>
      intro j x q1 q2 hx hh kk
      exact bX0_kept_15 (c_get ch1 a b (fun r lr ok hs => ⟨hs, hs, l_size lr ⟨by constructor <;> omega, by constructor <;> omega, fun _ => kk, fun z => by omega⟩⟩))
    | succ m ih =>
      intro j x q1 q2 hx hh kk
      have hj := h1 j q2 (by omega)
      refine bX0_kept_15 (c_get ch1 a b (fun r lr ok hs => ⟨hs, hs, l_size lr ⟨by constructor <;> omega, by constructor <;> omega, fun z => by omega, fun _ => ⟨q2, by omega, by constructor <;> omega, fun _ => ⟨hx, fun _ => ?_, fun z => by omega⟩, fun _ => bX0_kept_57 (ih (j + 1) x (by omega) (by omega) hx (by omega) kk)⟩⟩⟩))
      refine bX0_kept_57 ?_
      by_cases c : x = -2147483648
      · refine kept_wrap ?_
        exact ih (j + 1) _ (by omega) (by omega) (by constructor <;> omega) (by omega) kk
      · exact ih (j + 1) _ (by omega) (by omega) (by have := hx.1; have := hx.2; constructor <;> omega) (by omega) kk
  have loop : ∀ (m : Nat) (j x : Int), j + m = (lad σ.1 t).2.length → 0 ≤ j → 0 ≤ x → inR x → ((lft (M1 20) j m).length ≤ x → F (-1) M1) → (x < (lft (M1 20) j m).length → F (at0 (lft (M1 20) j m) x) M1) → wX0_kept_15 X F t x j S M1 := by
    intro m
    induction m with
    | zero =>
      intro j x q1 q2 x0 hx k0 k1
      exact bX0_kept_15 (c_get ch1 a b (fun r lr ok hs => ⟨hs, hs, l_size lr ⟨by constructor <;> omega, by constructor <;> omega, fun _ => k0 (by simp [lft]; omega), fun z => by omega⟩⟩))
    | succ m ih =>
      intro j x q1 q2 x0 hx k0 k1
      have hj := h1 j q2 (by omega)
      rw [lft] at k0 k1
      refine bX0_kept_15 (c_get ch1 a b (fun r lr ok hs => ⟨hs, hs, l_size lr ⟨by constructor <;> omega, by constructor <;> omega, fun z => by omega, fun _ => ⟨q2, by omega, by constructor <;> omega, fun c => ⟨hx, fun d => bX0_kept_57 (ih (j + 1) (x + -1) (by omega) (by omega) (by omega) (by have := hx.2; constructor <;> omega) (fun z => ?_) (fun z => ?_)), fun d => ?_⟩, fun c => bX0_kept_57 (ih (j + 1) x (by omega) (by omega) x0 hx ?_ ?_)⟩⟩⟩))
      · rw [if_pos c] at k0
        exact k0 (by rw [List.length_cons]; omega)
      · rw [if_pos c] at k1
        have := k1 (by rw [List.length_cons]; omega)
        rw [show at0 (j :: lft (M1 20) (j + 1) m) x = at0 (lft (M1 20) (j + 1) m) (x + -1) by
          unfold at0
          rw [show x.toNat = (x + -1).toNat + 1 by omega]
          rfl] at this
        exact this
      · rw [if_pos c] at k1
        have := k1 (by rw [List.length_cons]; omega)
        subst d
        exact this
      · rw [if_neg c] at k0
        exact k0
      · rw [if_neg c] at k1
        exact k1
  by_cases c0 : i < 0
  · exact never (lad σ.1 t).2.length 0 i (by omega) (by omega) hi (Or.inl c0) (bad M1 (fr3_C f1) (fr3_SC cp.1 f1) (by omega))
  · refine loop (lad σ.1 t).2.length 0 i (by omega) (by omega) (by omega) hi (fun z => ?_) (fun z => ?_)
    · rw [l1] at z
      exact bad M1 (fr3_C f1) (fr3_SC cp.1 f1) (by omega)
    · rw [l1] at z ⊢
      have := k M1 (fr3_C f1) (fr3_SC cp.1 f1)
      unfold q_kept at this
      rw [if_pos ⟨a, b, c, by omega, z⟩] at this
      exact this
end
