/-! ===== by hand: an ArrayList whose elementData is the empty one; cells that may be written ===== -/
set_option maxRecDepth 100000
theorem nc_hi {b : Bool} {a i : Int} (h : 288 ≤ a) : pu_nc_ b a i := by
  have key : ∀ q ∈ pu_cons, q.1 < 288 := by decide
  intro _ q hq e
  have := key q hq
  omega
theorem nc_hi' {b : Bool} {a : Int} (h : 288 ≤ a) : b = true → ∀ q ∈ pu_cons, q.1 ≠ a := by
  have key : ∀ q ∈ pu_cons, q.1 < 288 := by decide
  intro _ q hq e
  have := key q hq
  omega
theorem nc_19 {b : Bool} {i : Int} : pu_nc_ b 19 i := by
  have key : ∀ q ∈ pu_cons, q.1 ≠ 19 := by decide
  intro _ q hq e
  exact key q hq e.1
theorem pu_len4 {X : px} : ∀ s : State, pu_Z X s → ∃ (w : Nat) (ty : FieldType) (f : Nat → Value), xO X (2 + 2) = some w ∧ va_T ty w 0 f (pu_A X) s (xH X) := by
  intro s z
  obtain ⟨_, _, ⟨w, a, _, c⟩, _⟩ := z
  exact ⟨w, _, _, a, c⟩
theorem bJ2_add_2_0e {b : Bool} {X : px} {F : List psh → pM → Prop} {S : List psh} {M : pM} {x0 x1 : Int} (k : (shq S x0 = some (.inl 4, 3)) ∧ pAr b X mJ2_grow 5 [pR x0] S M (fun (r6 : Int) (S7 : List psh) (M8 : pM) => S <+: S7 → wJ2_add_2_11 b X F x0 x1 r6 0 S7 M8)) : wJ2_add_2_0 b X F x0 x1 (-4) 0 S M := by
  refine pu_iload_n dJ2_add_2_0 rfl rfl ?_
  refine pu_aload_n dJ2_add_2_1 rfl rfl ?_
  refine pu_olen (q := 2) pu_len4 dJ2_add_2_2 ?_
  refine pu_icmp_ne (tgt := 11) dJ2_add_2_3 (by decide) ⟨by decide, by decide⟩ ⟨by decide, by decide⟩ (fun c => absurd rfl c) (fun c => ?_)
  refine pu_aload_n dJ2_add_2_6 rfl rfl ?_
  obtain ⟨q5, k⟩ := k
  refine cl_J2_129 (as := []) (st := []) rfl (by decide) rfl rfl dJ2_add_2_7 (pu_shq q5) k (kAr fun r6 S7 M8 hp k => ?_) (fun _ _ _ h => h.elim)
  replace k := k hp
  refine pu_astore_n (ls' := [(0, pR x0), (1, pR x1), (2, pR r6), (3, pI 0)]) dJ2_add_2_10 rfl rfl rfl ?_
  exact k
theorem bJ2_grow_2_0e {b : Bool} {X : px} {F : Int → List psh → pM → Prop} {S : List psh} {M : pM} {x0 x1 : Int} (he : M x0 1 = -4) (k : (shq S x0 = some (.inl 4, 3)) ∧ (inR x1) ∧ ∃ n10 : Nat, (max 10 x1) = (n10 : Int) ∧ (S.length + 1 ≤ 601024) ∧ (pu_hs S + n10 ≤ 7293034) ∧ (∀ (r7 : Int) (S8 : List psh) (M9 : pM), r7 = (S.length : Int) → S8 = S ++ [(.inr 5, n10)] → M9 = pu_z M S.length (-1) → (shq S8 x0 = some (.inl 4, 3)) ∧ (pu_nc_ b x0 1) ∧ (∀ M14 : pM, M14 = pu_up M9 x0 1 r7 → F r7 S8 M14))) : wJ2_grow_2_0 b X F x0 x1 S M := by
  obtain ⟨q1, q6, k⟩ := k
  refine pu_aload_n dJ2_grow_2_0 rfl rfl ?_
  refine gf_J2_9 rfl dJ2_grow_2_1 (pu_shq q1) ?_
  dsimp only
  rw [he]
  refine pu_olen (q := 2) pu_len4 dJ2_grow_2_4 ?_
  refine pu_istore_n (ls' := [(0, pR x0), (1, pI x1), (2, pI ((0 : Nat) : Int))]) dJ2_grow_2_5 rfl rfl rfl ?_
  refine pu_iload_n dJ2_grow_2_6 rfl rfl ?_
  refine pu_if_gt (tgt := 20) dJ2_grow_2_7 (by decide) ⟨by decide, by decide⟩ (fun c => absurd c (by decide)) (fun c => ?_)
  refine pu_aload_n dJ2_grow_2_10 rfl rfl ?_
  refine gf_J2_9 rfl dJ2_grow_2_11 (pu_shq q1) ?_
  dsimp only
  rw [he]
  refine pu_gets (v := pR (-4)) rfl pu_z4 q383 dJ2_grow_2_14 ?_
  refine pu_acmp_eq (tgt := 45) dJ2_grow_2_17 (by decide) (fun c => ?_) (fun c => absurd rfl c)
  refine pu_aload_n dJ2_grow_2_45 rfl rfl ?_
  refine pu_bipush dJ2_grow_2_46 rfl ?_
  refine pu_iload_n dJ2_grow_2_48 rfl rfl ?_
  refine pu_mmax rfl q842 dJ2_grow_2_49 (by decide) rfl ⟨by decide, by decide⟩ q6 ?_
  obtain ⟨n10, q11, k⟩ := k
  obtain ⟨q12, k⟩ := k
  obtain ⟨q13, k⟩ := k
  let r7 : Int := (S.length : Int)
  let S8 : List psh := S ++ [(.inr 5, n10)]
  let M9 : pM := pu_z M S.length (-1)
  replace k := k _ _ _ rfl rfl rfl
  refine pu_anew (t := 5) (n := n10) dJ2_grow_2_52 rfl (by decide) rfl q843 q11 q12 q13 ?_
  refine pu_dup_x1 dJ2_grow_2_55 rfl rfl ?_
  obtain ⟨q15, k⟩ := k
  obtain ⟨q16, k⟩ := k
  let M14 : pM := pu_up M9 x0 1 r7
  replace k := k _ rfl
  refine pf_J2_9 rfl dJ2_grow_2_56 (pu_shq q15) q16 ?_
  exact pu_aret dJ2_grow_2_59 rfl (Or.inr ⟨_, rfl⟩) k
theorem df_4_2 : pu_df 4 2 = 0 := by rfl
theorem df_9_1 : pu_df 9 1 = 0 := by rfl
theorem df_9_2 : pu_df 9 2 = 0 := by rfl
theorem pw_ls {b : Bool} {X : px} {y : pmd} {d pc : Nat} {ls ls' : List (Nat × pv)} {st : List pv} {h : ph} {Q : po → ph → Prop} (e : pu_ls X ls = pu_ls X ls') (k : pw b X y d pc ls st h Q) : pw b X y d pc ls' st h Q := by
  intro p e1 s m args below meth c H locs cells slots lsa g hM hsz hg hH hlo hl
  rw [← e] at hl
  exact k p e1 s m args below meth c H locs cells slots lsa g hM hsz hg hH hlo hl
theorem ofInt_wrap (z : Int) : Int32.ofInt (z + 4294967296) = Int32.ofInt z := by
  rw [← Int32.toInt_inj, Int32.toInt_ofInt, Int32.toInt_ofInt]
  have e : (z + 4294967296) % ((Int32.size : Nat) : Int) = z % ((Int32.size : Nat) : Int) := by
    rw [show ((Int32.size : Nat) : Int) = 4294967296 from rfl]
    omega
  unfold Int.bmod
  rw [e]
theorem kept_wrap {X : px} {F : Int → pM → Prop} {S : List psh} {M : pM} {x1 x3 x4 : Int} (k : wX0_kept_15 X F x1 (x3 + 4294967296) x4 S M) : wX0_kept_15 X F x1 x3 x4 S M := by
  refine pw_ls ?_ k
  show [_, _, (_, Value.int (Int32.ofInt (x3 + 4294967296))), _] = [_, _, (_, Value.int (Int32.ofInt x3)), _]
  rw [ofInt_wrap]
theorem sh_w {S : List psh} (h : pu_perm <+: S) {a : Int} (ha : a = 23 ∨ a = 24) : shq S a = some (.inr 4, 5040) := by
  rcases ha with rfl | rfl
  · exact shq_pre h rfl
  · exact shq_pre h rfl
theorem nc_w {b : Bool} {a i : Int} (ha : a = 23 ∨ a = 24) : pu_nc_ b a i := by
  have key : ∀ q ∈ pu_cons, q.1 ≠ 23 ∧ q.1 ≠ 24 := by decide
  intro _ q hq e
  have := key q hq
  omega
theorem nd_ref {M : pM} (hc : ∀ q ∈ pu_cons, M q.1 q.2.1 = q.2.2) {g : Int} (h0 : 0 ≤ g) (h1 : g < 201) : M 29 g = 30 + g := by
  have hm : ((29 : Int), ((g.toNat : Nat) : Int), (30 + (g.toNat : Nat) : Int)) ∈ pu_cons := by
    unfold pu_cons
    exact List.mem_append_right _ (List.mem_map.2 ⟨g.toNat, List.mem_range.2 (by omega), rfl⟩)
  have := hc _ hm
  simp only at this
  rw [show ((g.toNat : Nat) : Int) = g by omega] at this
  exact this
theorem nd_sh {S : List psh} (h : pu_perm <+: S) {a : Int} (h0 : 30 ≤ a) (h1 : a < 231) : shq S a = some (.inr 0, 7) := by
  have key : ∀ j, j < 201 → pu_perm[30 + j]? = some (.inr 0, 7) := by decide
  refine shq_pre h ?_
  unfold shq
  rw [if_pos (by omega), show a.toNat = 30 + (a.toNat - 30) by omega]
  exact key _ (by omega)
theorem nd_nc {b : Bool} {a i : Int} (h0 : 30 ≤ a) (h1 : a < 231) : pu_nc_ b a i := by
  have key : ∀ q ∈ pu_cons, q.1 < 30 ∨ 231 ≤ q.1 := by decide
  intro _ q hq e
  have := key q hq
  omega
theorem gt_ref {M : pM} (hc : ∀ q ∈ pu_cons, M q.1 q.2.1 = q.2.2) {g : Int} (h0 : 0 ≤ g) (h1 : g < 4) : M 236 g = 237 + g ∧ M (237 + g) 0 = g := by
  have h : g = 0 ∨ g = 1 ∨ g = 2 ∨ g = 3 := by omega
  rcases h with rfl | rfl | rfl | rfl
  · exact ⟨hc _ co_236_0, hc _ co_237_0⟩
  · exact ⟨hc _ co_236_1, hc _ co_238_0⟩
  · exact ⟨hc _ co_236_2, hc _ co_239_0⟩
  · exact ⟨hc _ co_236_3, hc _ co_240_0⟩
theorem gt_sh {S : List psh} (h : pu_perm <+: S) {g : Int} (h0 : 0 ≤ g) (h1 : g < 4) : shq S (237 + g) = some (.inl 6, 1) := by
  have e : g = 0 ∨ g = 1 ∨ g = 2 ∨ g = 3 := by omega
  rcases e with rfl | rfl | rfl | rfl
  · exact shq_pre h rfl
  · exact shq_pre h rfl
  · exact shq_pre h rfl
  · exact shq_pre h rfl
