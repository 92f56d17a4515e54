/-! ===== the words: length, charAt of old Strings ===== -/
set_option maxRecDepth 100000
def wds : Nat → List Int
  | 0 => [108, 101, 103, 115]
  | 1 => [112, 97, 114, 116]
  | 2 => [114, 117, 110, 103]
  | 3 => [103, 97, 116, 101]
  | 4 => [98, 97, 99, 107]
  | 5 => [109, 97, 121, 98, 101]
  | 6 => [117, 115, 101]
  | 7 => [117, 112, 115, 105, 100, 101]
  | 8 => [116, 117, 114, 110, 101, 100]
  | 9 => [116, 105, 109, 101, 115]
  | _ => []
section Str
variable {b : Bool} {X : px} {S : List psh} {M : pM} {i : Nat}
theorem sv_cod (hi : i < 10) : ∀ s : State, pu_Z X s → ∃ w : Nat, xO X ((8 + i) + 2) = some w ∧ va_OF "java/lang/String" "coder" "B" (pu_v X (pI 0)) w (pu_A X) s (xH X) := by
  intro s h
  obtain ⟨-, -, -, -, -, -, -, -, -, -, -, -, adK, adV, g1, g2⟩ := h
  refine ⟨adK i, ?_, (g2.1 i hi).2.1⟩
  rw [show 8 + i + 2 = 10 + i by omega]
  exact (g1 i hi).1
theorem sv_val (hi : i < 10) : ∀ s : State, pu_Z X s → ∃ w : Nat, xO X ((8 + i) + 2) = some w ∧ va_OF "java/lang/String" "value" "[B" (pu_v X (pR (pu_bs8 i))) w (pu_A X) s (xH X) := by
  intro s h
  obtain ⟨-, -, -, -, -, -, -, -, -, -, -, -, adK, adV, g1, g2⟩ := h
  refine ⟨adK i, ?_, ?_⟩
  · rw [show 8 + i + 2 = 10 + i by omega]
    exact (g1 i hi).1
  · show va_OF _ _ _ (va_rf (pu_rf X (pu_bs8 i))) _ _ _ _
    rw [pu_bs8_rf, (g1 i hi).2]
    exact (g2.1 i hi).2.2.1
theorem wd_len : ∀ i : Nat, i < 10 → pu_len.getD i 0 = (wds i).length := by decide
theorem wd_byt : ∀ i : Nat, i < 10 → ∀ j : Nat, j < 6 → (pu_byt.getD i []).getD j 0 = Int32.ofInt (at0 (wds i) j) := by decide
theorem wd_l6 : ∀ i : Nat, i < 10 → (wds i).length ≤ 6 := by decide
theorem sv_byt (hi : i < 10) : ∀ s : State, pu_Z X s → ∃ w : Nat, xO X ((18 + i) + 2) = some w ∧ va_T .byte w (wds i).length (fun j => .int (Int32.ofInt (at0 (wds i) j))) (pu_A X) s (xH X) := by
  intro s h
  obtain ⟨-, -, -, -, -, -, -, -, -, -, -, -, adK, adV, g1, g2⟩ := h
  refine ⟨adV i, ?_, ?_⟩
  · rw [show 18 + i + 2 = 20 + i by omega]
    exact (g1 i hi).2
  · have t := (g2.1 i hi).2.2.2
    rw [wd_len i hi] at t
    obtain ⟨cell, c1, c2, c3, c4, c5, c6, c7⟩ := t
    refine ⟨cell, c1, c2, c3, c4, c5, fun j hj => ?_, c7⟩
    have l6 := wd_l6 i hi
    rw [c6 j hj]
    show some (Value.int ((pu_byt.getD i []).getD j 0)) = some (Value.int (Int32.ofInt (at0 (wds i) j)))
    rw [wd_byt i hi j (by omega)]
theorem sv_len (hi : i < 10) : ∀ s : State, pu_Z X s → ∃ (w : Nat) (ty : FieldType) (f : Nat → Value), xO X ((18 + i) + 2) = some w ∧ va_T ty w (wds i).length f (pu_A X) s (xH X) := by
  intro s h
  obtain ⟨w, a1, a2⟩ := sv_byt hi s h
  exact ⟨w, _, _, a1, a2⟩
theorem j_cod {F : Int → pM → Prop} (hi : i < 10) (k : F 0 M) : pNi b X mJ3_coder 1 [pR (pu_ws8 i)] S M F := by
  refine pS_of (by decide) (by decide) rfl ?_
  refine pu_gets (v := pI 1) rfl pu_zC q581 dJ3_coder_0 ?_
  refine pu_if_eq (tgt := 13) dJ3_coder_3 (by decide) ⟨by decide, by decide⟩ (fun c => absurd c (by decide)) (fun c => ?_)
  refine pu_aload_n dJ3_coder_6 rfl rfl ?_
  refine pu_oget (q := 8 + i) (v := pI 0) (sv_cod hi) rfl q1990 dJ3_coder_7 ?_
  refine pu_goto (tgt := 14) dJ3_coder_10 (by decide) ?_
  exact pu_iret (ty := .byte) dJ3_coder_14 rfl rfl ⟨rfl, k⟩
theorem j_lat {F : Int → pM → Prop} (hi : i < 10) (k : F 1 M) : pNi b X mJ3_isLatin1 1 [pR (pu_ws8 i)] S M F := by
  refine pS_of (by decide) (by decide) rfl ?_
  refine pu_gets (v := pI 1) rfl pu_zC q581 dJ3_isLatin1_0 ?_
  refine pu_if_eq (tgt := 17) dJ3_isLatin1_3 (by decide) ⟨by decide, by decide⟩ (fun c => absurd c (by decide)) (fun c => ?_)
  refine pu_aload_n dJ3_isLatin1_6 rfl rfl ?_
  refine pu_oget (q := 8 + i) (v := pI 0) (sv_cod hi) rfl q1990 dJ3_isLatin1_7 ?_
  refine pu_if_ne (tgt := 17) dJ3_isLatin1_10 (by decide) ⟨by decide, by decide⟩ (fun c => absurd rfl c) (fun c => ?_)
  refine pu_iconst dJ3_isLatin1_13 ?_
  refine pu_goto (tgt := 18) dJ3_isLatin1_14 (by decide) ?_
  exact pu_iret (ty := .boolean) dJ3_isLatin1_18 rfl rfl ⟨rfl, k⟩
theorem wd_shr : ∀ i : Nat, i < 10 → ishr ((wds i).length : Int) 0 = ((wds i).length : Int) := by decide
theorem wd_chr : ∀ i : Nat, i < 10 → ∀ j : Nat, j < 6 → i2cc (iand (at0 (wds i) j) 255) = at0 (wds i) j := by decide
theorem wd_bd : ∀ i : Nat, i < 10 → ∀ j : Nat, j < 6 → 0 ≤ at0 (wds i) j ∧ at0 (wds i) j < 65536 := by decide
theorem j_len {F : Int → pM → Prop} (hi : i < 10) (k : F ((wds i).length : Int) M) : pNi true X mJ3_length 2 [pR (pu_ws8 i)] S M F := by
  refine pS_of (by decide) (by decide) rfl ?_
  refine pu_aload_n dJ3_length_0 rfl rfl ?_
  refine pu_oget (q := 8 + i) (v := pR (pu_bs8 i)) (sv_val hi) rfl q1989 dJ3_length_1 ?_
  refine pu_olen (q := 18 + i) (sv_len hi) dJ3_length_4 ?_
  refine pu_aload_n dJ3_length_5 rfl rfl ?_
  refine cs_J3_335 (as := []) (st := [pI ((wds i).length : Int)]) rfl (by decide) rfl rfl dJ3_length_6 hi rfl (j_cod (F := fun r M' => r = 0 ∧ M' = M) hi ⟨rfl, rfl⟩) (kNi fun r M1 h => ?_) (fun _ _ _ h => h.elim)
  obtain ⟨rfl, rfl⟩ := h
  refine pu_ishr dJ3_length_9 ?_
  rw [wd_shr i hi]
  exact pu_iret (ty := .int) dJ3_length_10 rfl rfl ⟨rfl, k⟩
theorem j_at1 {F : Int → pM → Prop} {c : Int} (hi : i < 10) (h0 : 0 ≤ c) (h1 : c < (wds i).length) (k : F (at0 (wds i) c) M) : pNi b X mJ4_charAt 3 [pR (pu_bs8 i), pI c] S M F := by
  have l6 := wd_l6 i hi
  refine pS_of (by decide) (by decide) rfl ?_
  refine pu_iload_n dJ4_charAt_0 rfl rfl ?_
  refine pu_aload_n dJ4_charAt_1 rfl rfl ?_
  refine pu_olen (q := 18 + i) (sv_len hi) dJ4_charAt_2 ?_
  refine cl_J4_9 (as := [pI c, pI ((wds i).length : Int)]) (st := []) rfl (by decide) rfl rfl dJ4_charAt_3 (eJ3_checkIndex (F := fun M' => M' = M) (bJ3_checkIndex_0 (eJ5_checkIndex (bJ5_checkIndex_0 ⟨by constructor <;> omega, fun z => by omega, fun _ => ⟨by constructor <;> omega, by constructor <;> omega, fun _ => rfl, fun z => by omega⟩⟩)))) (kNv fun M1 h => ?_) (fun _ _ _ h => h.elim)
  subst h
  refine pu_aload_n dJ4_charAt_6 rfl rfl ?_
  refine pu_iload_n dJ4_charAt_7 rfl rfl ?_
  refine pu_obald (q := 18 + i) (sv_byt hi) (by omega) dJ4_charAt_8 h0 h1 ?_
  refine pu_sipush dJ4_charAt_9 rfl ?_
  refine pu_iand dJ4_charAt_12 ?_
  refine pu_i2c dJ4_charAt_13 ?_
  rw [wd_chr i hi c.toNat (by omega)]
  have bd := wd_bd i hi c.toNat (by omega)
  have e : ((c.toNat : Nat) : Int) = c := by omega
  rw [e] at bd ⊢
  exact pu_iret (ty := .char) dJ4_charAt_14 rfl (pu_narrow_char bd.1 bd.2) ⟨rfl, k⟩
theorem j_chr {F : Int → pM → Prop} {c : Int} (hi : i < 10) (h0 : 0 ≤ c) (h1 : c < (wds i).length) (k : F (at0 (wds i) c) M) : pNi true X mJ3_charAt 5 [pR (pu_ws8 i), pI c] S M F := by
  have l6 := wd_l6 i hi
  refine pS_of (by decide) (by decide) rfl ?_
  refine pu_aload_n dJ3_charAt_0 rfl rfl ?_
  refine cs_J3_492 (as := []) (st := []) rfl (by decide) rfl rfl dJ3_charAt_1 hi rfl (j_lat (F := fun r M' => r = 1 ∧ M' = M) hi ⟨rfl, rfl⟩) (kNi fun r M1 h => ?_) (fun _ _ _ h => h.elim)
  obtain ⟨rfl, rfl⟩ := h
  refine pu_if_eq (tgt := 16) dJ3_charAt_4 (by decide) ⟨by decide, by decide⟩ (fun c => absurd c (by decide)) (fun _ => ?_)
  refine pu_aload_n dJ3_charAt_7 rfl rfl ?_
  refine pu_oget (q := 8 + i) (v := pR (pu_bs8 i)) (sv_val hi) rfl q1989 dJ3_charAt_8 ?_
  refine pu_iload_n dJ3_charAt_11 rfl rfl ?_
  refine cl_J3_495 (as := [pR (pu_bs8 i), pI c]) (st := []) rfl (by decide) rfl rfl dJ3_charAt_12 (j_at1 (F := fun r M' => r = at0 (wds i) c ∧ M' = M1) hi h0 h1 ⟨rfl, rfl⟩) (kNi fun r M2 h => ?_) (fun _ _ _ h => h.elim)
  obtain ⟨rfl, rfl⟩ := h
  have bd := wd_bd i hi c.toNat (by omega)
  have e : ((c.toNat : Nat) : Int) = c := by omega
  rw [e] at bd
  exact pu_iret (ty := .char) dJ3_charAt_15 rfl (pu_narrow_char bd.1 bd.2) ⟨rfl, k⟩
end Str
