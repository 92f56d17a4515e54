/-! ===== the twin's turns and moves ===== -/
set_option maxRecDepth 100000
section
variable {X : px} {S : List psh}
theorem tw_distances {F : pM → Prop} {n : Nat} {o sl s : Int} {M : pM} (hn : n ≤ 7) (a : 0 ≤ o) (b : o < fac n) (h8 : FF n o ≤ 800) (hs0 : 0 ≤ s) (hs1 : s < FF n o) (hsl : sl = 0 ∨ sl = 1) (go : GO n o M) (k : ∀ M' : pM, (∀ x, x ≠ 280 → M' x = M x) → dst (EG n o sl) s (M' 280) → F M') : pNv true X mX6_distances 1 [pR 241, pI (FF n o), pI s, pI sl] S M F := by
  have hF := FF_bd hn o
  have loop : ∀ (m : Nat) (i : Int), i + m = FF n o → 0 ≤ i → wX6_distances_3 X F (FF n o) s sl i S (ovr M 280 0 i (fun _ => -1)) := by
    intro m
    induction m with
    | zero =>
      intro i q1 q2
      have e : i = FF n o := by omega
      subst e
      refine bX6_distances_3 ?_
      ((repeat' (first | (with_reducible apply And.intro) | (with_reducible intro _ e; subst e) | (with_reducible intro _))) <;> (try (first | omega | (with_reducible assumption))))
      have fval : ∀ v, 0 ≤ v → v < FF n o → v ≠ s → pu_up (ovr M 280 0 (FF n o) (fun _ => -1)) 280 s 0 280 v = -1 := fun v p q r => by rw [up_oi r, ovr_in p q]
      refine tw_dist33 (M0 := M) hn a b h8 hs0 hs1 hsl go k (mu (pu_up (ovr M 280 0 (FF n o) (fun _ => -1)) 280 s 0 280) (FF n o).toNat + 1).toNat _ (by have := mu_nn (f := pu_up (ovr M 280 0 (FF n o) (fun _ => -1)) 280 s 0 280) (FF n o).toNat; omega) (fun x hx => by rw [up_ne hx, ovr_ne hx]) ⟨up_same, fun v p q => ?_⟩
      by_cases c : v = s
      · subst c
        rw [up_same]
        refine ⟨by omega, fun _ => ⟨?_, 0, rfl, rfl⟩⟩
        have := cnt_add (p := fun _ => false) (q := fin (fun x => if x = v then 0 else -1)) (x := v) rfl (by unfold fin; simp) (fun j hj => by unfold fin; simp [hj]) (FF n o).toNat 0 p (by omega)
        have e2 := cnt_congr (p := fin (pu_up (ovr M 280 0 (FF n o) (fun _ => -1)) 280 v 0 280)) (q := fin (fun x => if x = v then 0 else -1)) (FF n o).toNat 0 (fun j s1 s2 => by
          unfold fin
          by_cases d : j = v
          · subst d
            rw [up_same]
            simp
          · rw [fval j s1 (by omega) d]
            simp [d])
        have := (cnt_bd (p := fun _ => false) (FF n o).toNat 0).1
        omega
      · rw [fval v p q c]
        exact ⟨by omega, fun h => by omega⟩
    | succ m ih =>
      intro i q1 q2
      refine bX6_distances_3 ?_
      ((repeat' (first | (with_reducible apply And.intro) | (with_reducible intro _ e; subst e) | (with_reducible intro _))) <;> (try (first | omega | (with_reducible assumption))))
      rw [ovr_step (by omega) rfl]
      exact ih (i + 1) (by omega) (by omega)
  refine eX6_distances (bX6_distances_0 ?_)
  have := loop (FF n o).toNat 0 (by omega) (by omega)
  rwa [ovr_nil (by omega)] at this
end
