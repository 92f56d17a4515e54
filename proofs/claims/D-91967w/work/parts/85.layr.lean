/-! ===== ladder, element ===== -/
set_option maxRecDepth 100000
def lyu (f : Int → Int) (k : Int) : Int → Int := fun x => if x = k ∨ x = k + 1 then 1 + max (f k) (f (k + 1)) else f x
/-- the layers, one by one -/
def lyr : List elt → (Int → Int) → List Int
  | [], _ => []
  | e :: L, f => (1 + max (f e.2.1) (f (e.2.1 + 1))) :: lyr L (lyu f e.2.1)
theorem lyr_len : ∀ (L : List elt) (f : Int → Int), (lyr L f).length = L.length
  | [], _ => rfl
  | e :: L, f => by rw [lyr, List.length_cons, List.length_cons, lyr_len L]
def mxl : List Int → Int
  | [] => 0
  | x :: l => max x (mxl l)
theorem mxl_nn : ∀ l : List Int, 0 ≤ mxl l
  | [] => Int.le_refl _
  | x :: l => by have := mxl_nn l; rw [mxl]; omega
theorem mxl_snoc : ∀ (l : List Int) (x : Int), 0 ≤ x → mxl (l ++ [x]) = max (mxl l) x
  | [], x, h => by show max x 0 = max 0 x; omega
  | y :: l, x, h => by rw [List.cons_append, mxl, mxl, mxl_snoc l x h]; omega
theorem at_cons {x : Int} {l : List Int} {i : Int} (h : 0 < i) : at0 (x :: l) i = at0 l (i - 1) := by
  unfold at0
  rw [show i.toNat = (i - 1).toNat + 1 by omega]
  rfl
theorem lyr_bd {n : Int} : ∀ (L : List elt) (f : Int → Int) (c : Int), (∀ e ∈ L, okE n e) → n ≤ 7 → (∀ x, 0 ≤ x → x < 7 → 0 ≤ f x ∧ f x ≤ c) → ∀ y ∈ lyr L f, 1 ≤ y ∧ y ≤ c + L.length
  | [], f, c, _, _, _, y, h => by cases h
  | e :: L, f, c, he, hn, hf, y, h => by
    have h1 := he e (List.mem_cons_self ..)
    have a := hf e.2.1 h1.1 (by have := h1.2.1; omega)
    have b := hf (e.2.1 + 1) (by have := h1.1; omega) (by have := h1.2.1; omega)
    rw [lyr] at h
    rw [List.length_cons]
    rcases List.mem_cons.1 h with w | w
    · omega
    · have := lyr_bd L (lyu f e.2.1) (c + 1) (fun x hx => he x (List.mem_cons_of_mem _ hx)) hn (fun x x0 x1 => by
        unfold lyu
        have := hf x x0 x1
        split <;> omega) y w
      omega
def q_ladder (σ : sgm) (t w : Int) : Int := if 0 ≤ t ∧ t < σ.1.length then (if w = 0 then (lad σ.1 t).1 else if w = 1 then (lad σ.1 t).2.length else if w = 2 then mb (lad σ.1 t).2 else if w = 3 then mxl (lyr (lad σ.1 t).2 (fun _ => 0)) else if w = 4 then pln (lad σ.1 t).2 else -1) else -1
def q_element (σ : sgm) (t i w : Int) : Int := if 0 ≤ t ∧ t < σ.1.length ∧ 0 ≤ i ∧ i < (lad σ.1 t).2.length then (if w = 0 then (el (lad σ.1 t).2 i).2.1 else if w = 1 then (el (lad σ.1 t).2 i).1 else if w = 2 then (if (el (lad σ.1 t).2 i).1 = 3 then (el (lad σ.1 t).2 i).2.2.1 else -1) else if w = 3 then (if (el (lad σ.1 t).2 i).1 = 3 then (el (lad σ.1 t).2 i).2.2.2 else -1) else if w = 4 then at0 (lyr (lad σ.1 t).2 (fun _ => 0)) i else -1) else -1
theorem CP.grow {S S' : List psh} {M M' : pM} {σ : sgm} (h : CP S M σ) (hs : S <+: S') (hm : ∀ x : Int, x < S.length → M' x = M x) : CP S' M' σ := by
  obtain ⟨sc, ch, lg, tp, pl⟩ := h
  have ch' := ch
  obtain ⟨l, c, a0, a1, a2, a3, _⟩ := ch
  have f : ∀ x : Int, x < 288 → M' x = M x := fun x hx => hm x (by omega)
  refine ⟨sc.fr (fun j _ => by rw [f 0 (by decide)]) (fun x hx => f x (by omega)), ?_, ?_, ?_, by rw [f 0 (by decide)]; exact pl⟩
  · refine ch'.fr (f 19 (by decide)) (fun q => ?_) ⟨hs, fun x _ p _ => hm x p⟩
    rcases a1.2.2 with w | ⟨n, _, w, _⟩
    · exact absurd w.1 q
    · exact hm _ (shq_lt w).2
  · unfold CLg
    rw [f 0 (by decide), f 25 (by decide), f 26 (by decide), f 27 (by decide)]
    exact lg
  · unfold CTp
    rw [f 11 (by decide), f 12 (by decide)]
    exact tp
section
variable {X : px} {b : Bool}
theorem l_layer {S : List psh} {M : pM} {F : Int → List psh → pM → Prop} {z r n i : Int} {L : List elt} (hz : ∀ n : Nat × Nat, shq S z = some (.inl n.1, n.2) → False) (lr : LadR z S M r n L) (ok : okL n L) (h288 : 288 ≤ S.length) (i0 : 0 ≤ i) (i1 : i < L.length) (rm : RM S 1 7) (k : ∀ M', (∀ x, x ≠ (S.length : Int) → M' x = M x) → F (at0 (lyr L (fun _ => 0)) i) (S ++ [(.inr 0, 7)]) M') : pAi b X mX12_layer 5 [pR r, pI i] S M F := by
  have hl := ok.2.2.1
  have hn := ok.2.1
  obtain ⟨rm1, rm2⟩ := rm
  refine eX12_layer (bX12_layer_0 ⟨by omega, by omega, fun r1 S2 M3 e1 e2 e3 => ?_⟩)
  subst e1
  subst e2
  have lm : ∀ M' : pM, (∀ x, x ≠ (S.length : Int) → M' x = M x) → LadR z (S ++ [(.inr 0, 7)]) M' r n L := fun M' f => lr.fr hz ⟨List.prefix_append _ _, fun x _ p _ => f x (by omega)⟩
  have sh : shq (S ++ [(.inr 0, 7)]) (S.length : Int) = some (.inr 0, 7) := shq_new
  have nc : ∀ j, pu_nc_ b (S.length : Int) j := fun j => nc_hi (by omega)
  have loop : ∀ (s : List elt) (j x3 : Int) (f : Int → Int) (M' : pM), L.drop j.toNat = s → 0 ≤ j → j ≤ i + 1 → (∀ x, x ≠ (S.length : Int) → M' x = M x) → (∀ x, 0 ≤ x → x < 7 → M' S.length x = f x ∧ 0 ≤ f x ∧ f x ≤ j) → (j = i + 1 → x3 = at0 (lyr L (fun _ => 0)) i) → (j ≤ i → at0 (lyr s f) (i - j) = at0 (lyr L (fun _ => 0)) i) → wX12_layer_10 b X F r i S.length x3 j (S ++ [(.inr 0, 7)]) M' := by
    intro s
    induction s with
    | nil =>
      intro j x3 f M' q0 q1 q2 fr hM h1 h2
      have := drop_nil q0 q1
      have ej : j = i + 1 := by omega
      refine bX12_layer_10 ⟨by constructor <;> omega, by constructor <;> omega, fun _ => ?_, fun y => by omega⟩
      rw [h1 ej]
      exact k M' fr
    | cons e s ih =>
      intro j x3 f M' q0 q1 q2 fr hM h1 h2
      obtain ⟨e1, e2, e3'⟩ := drop_cons q0 q1
      have he := ok.at q1 e3'
      rw [e1] at he
      obtain ⟨k0, k1, _⟩ := he
      obtain ⟨m1, m2, m3⟩ := hM e.2.1 k0 (by omega)
      obtain ⟨p1, p2, p3⟩ := hM (e.2.1 + 1) (by omega) (by omega)
      have lr' := lm M' fr
      refine bX12_layer_10 ⟨by constructor <;> omega, by constructor <;> omega, fun y => ?_, fun y => ⟨lr'.w.1, l_at lr' q1 e3' (fun q st => ?_)⟩⟩
      · rw [h1 (by omega)]
        exact k M' fr
      · rw [e1] at st
        rw [st.2.1, m1, p1]
        refine ⟨st.is, 7, sh, k0, by omega, 7, sh, by omega, by omega, by constructor <;> omega, by constructor <;> omega, 7, sh, nc _, k0, by omega, fun M22 e22 => ⟨7, sh, nc _, by omega, by omega, fun M28 e28 => ?_⟩⟩
        refine ih (j + 1) _ (lyu f e.2.1) M28 e2 (by omega) (by omega) (fun x hx => by rw [e28, up_ne hx, e22, up_ne hx]; exact fr x hx) (fun x x0 x1 => ?_) (fun w => ?_) (fun w => ?_)
        · have hx := hM x x0 x1
          rw [e28, e22]
          unfold lyu
          by_cases d1 : x = e.2.1 + 1
          · rw [d1, up_same, if_pos (Or.inr rfl)]
            omega
          · rw [up_oi d1]
            by_cases d2 : x = e.2.1
            · rw [d2, up_same, if_pos (Or.inl rfl)]
              omega
            · rw [up_oi d2, if_neg (by omega)]
              omega
        · have := h2 (by omega)
          rw [lyr, show i - j = 0 by omega] at this
          exact this
        · have := h2 (by omega)
          rw [lyr, at_cons (by omega), show i - j - 1 = i - (j + 1) by omega] at this
          exact this
  refine loop L 0 0 (fun _ => 0) M3 rfl (by omega) (by omega) (fun x hx => by rw [e3, z_ne hx]) (fun x x0 x1 => ⟨by rw [e3, z_at], Int.le_refl _, Int.le_refl _⟩) (fun w => by omega) (fun _ => by rw [Int.sub_zero])
theorem l_layers {F : Int → List psh → pM → Prop} {z r n : Int} {L : List elt} (ok : okL n L) : ∀ (m : Nat) (i : Int) (S : List psh) (M : pM), (∀ n : Nat × Nat, shq S z = some (.inl n.1, n.2) → False) → z < S.length → LadR z S M r n L → 288 ≤ S.length → i + m = L.length → 0 ≤ i → RM S m (7 * m) → (∀ S' M', grw S S' m (7 * m) → (∀ x : Int, x < S.length → M' x = M x) → F (mxl (lyr L (fun _ => 0))) S' M') → wX12_layers_4 b X F r (mxl ((lyr L (fun _ => 0)).take i.toNat)) i S M := by
  have hl := ok.2.2.1
  intro m
  induction m with
  | zero =>
    intro i S M hz hzl lr h288 q1 q2 rm k
    refine bX12_layers_4 ⟨lr.w.1, l_size lr ⟨by constructor <;> omega, by constructor <;> omega, fun _ => ?_, fun y => by omega⟩⟩
    rw [List.take_of_length_le (by rw [lyr_len]; omega)]
    exact k S M ((grw.refl S).le (by omega) (by omega)) (fun _ _ => rfl)
  | succ m ih =>
    intro i S M hz hzl lr h288 q1 q2 rm k
    have bd := lyr_bd L (fun _ => 0) 0 ok.2.2.2.2 ok.2.1 (fun _ _ _ => ⟨Int.le_refl _, Int.le_refl _⟩)
    have ai := bd _ (at0_mem q2 (show i < (lyr L (fun _ => 0)).length by rw [lyr_len]; omega))
    have mm : 0 ≤ mxl ((lyr L (fun _ => 0)).take i.toNat) ∧ mxl ((lyr L (fun _ => 0)).take i.toNat) ≤ 200 := by
      refine ⟨mxl_nn _, ?_⟩
      have : ∀ l : List Int, (∀ y ∈ l, y ≤ 200) → mxl l ≤ 200 := by
        intro l
        induction l with
        | nil => intro _; simp [mxl]
        | cons x l ihl =>
          intro h
          rw [mxl]
          have := ihl (fun y hy => h y (List.mem_cons_of_mem _ hy))
          have := h x (List.mem_cons_self ..)
          omega
      exact this _ (fun y hy => by have := bd y (List.mem_of_mem_take hy); omega)
    refine bX12_layers_4 ⟨lr.w.1, l_size lr ⟨by constructor <;> omega, by constructor <;> omega, fun y => by omega, fun _ => ⟨lr.w.1, l_layer hz lr ok h288 q2 (by omega) (rm.le (by omega) (by omega)) (fun M' f' hp => ⟨by constructor <;> omega, by constructor <;> omega, ?_⟩)⟩⟩⟩
    have tk : (lyr L (fun _ => 0)).take (i + 1).toNat = (lyr L (fun _ => 0)).take i.toNat ++ [at0 (lyr L (fun _ => 0)) i] := by
      rw [show (i + 1).toNat = i.toNat + 1 by omega, List.take_add_one]
      congr 1
      unfold at0
      rw [List.getD_eq_getElem?_getD, List.getElem?_eq_getElem (by rw [lyr_len]; omega)]
      rfl
    have hz' : ∀ n : Nat × Nat, shq (S ++ [(.inr 0, 7)]) z = some (.inl n.1, n.2) → False := by
      intro n' w
      by_cases zz : 0 ≤ z
      · refine hz n' ?_
        unfold shq at w ⊢
        rw [if_pos zz] at w ⊢
        rwa [List.getElem?_append_left (by omega)] at w
      · have := shq_lt w; omega
    have g1 : grw S (S ++ [(.inr 0, 7)]) 1 7 := grw_one
    have := ih (i + 1) (S ++ [(.inr 0, 7)]) M' hz' (by simp; omega) (lr.fr hz ⟨List.prefix_append _ _, fun x _ p _ => f' x (by omega)⟩) (by simp; omega) (by omega) (by omega) ((rm.grw g1).le (by omega) (by omega)) (fun S2 M2 g2 f2 => k S2 M2 ((g1.trans g2).le (by omega) (by omega)) (fun x hx => by rw [f2 x (by simp; omega), f' x (by omega)]))
    rw [tk, mxl_snoc _ _ (by omega)] at this
    exact this
end
section
variable {X : px} {S : List psh} {M : pM} {σ : sgm}
theorem CH.zl {Ls : List (Int × List elt)} (h : CH S M Ls) : M 19 1 < S.length ∧ 288 ≤ S.length := by
  obtain ⟨l, c, a0, a1, _⟩ := h
  refine ⟨?_, a0⟩
  rcases a1.2.2 with w | ⟨n, _, w, _⟩
  · omega
  · exact (shq_lt w).2
theorem c_ladder_op {F : Int → List psh → pM → Prop} {t w : Int} (ht : inR t) (hw : inR w) (cp : CP S M σ) (rm : RM S 200 1400) (k : ∀ S' M', grw S S' 200 1400 → (∀ x : Int, x < S.length → M' x = M x) → F (q_ladder σ t w) S' M') : pAi true X mX0_ladder 7 [pR 0, pI t, pI w] S M F := by
  have k0 := k S M ((grw.refl S).le (by decide) (by decide)) (fun _ _ => rfl)
  unfold q_ladder at k k0
  refine eX0_ladder (bX0_ladder_0 (c_isLadder cp.2.1 ht (fun a b => ⟨by constructor <;> decide, fun _ => ?_, fun z => by omega⟩) (fun h => ⟨by constructor <;> decide, fun z => by omega, fun _ => by rw [if_neg h] at k0; exact k0⟩)))
  refine c_get cp.2.1 a b (fun r lr ok hs => ?_)
  rw [if_pos ⟨a, b⟩] at k k0
  have pi := (pln_iff (lad σ.1 t).2).1
  have zl := cp.2.1.zl
  refine ⟨hs, hw, fun z => ?_, fun z => ⟨hs, ?_⟩, fun z => ⟨hs, l_size lr ?_⟩, fun z => ⟨hs, lr.w.2.1, ?_⟩, fun z => ⟨hs, ?_⟩, fun z => ⟨hs, l_isPlain lr ok ⟨by constructor <;> omega, fun y => ?_, fun y => ?_⟩⟩⟩
  · rw [if_neg (by omega), if_neg (by omega), if_neg (by omega), if_neg (by omega), if_neg (by omega)] at k0; exact k0
  · rw [if_pos z] at k0; rw [lr.w.2.2.2.1]; exact k0
  · rw [if_neg (by omega), if_pos z] at k0; exact k0
  · rw [if_neg (by omega), if_neg (by omega), if_pos z] at k0; rw [lr.w.2.2.2.2]; exact k0
  · have hl := ok.2.2.1
    have := l_layers (X := X) (b := true) (F := fun r15 S16 M17 => S <+: S16 → F r15 S16 M17) ok (lad σ.1 t).2.length 0 S M cp.2.1.z zl.1 lr zl.2 (by omega) (by omega) (rm.le (by omega) (by omega)) (fun S' M' g' f' _ => by
      have := k S' M' (g'.le (by omega) (by omega)) f'
      rw [if_neg (by omega), if_neg (by omega), if_neg (by omega), if_pos z] at this
      exact this)
    exact eX12_layers (bX12_layers_0 this)
  · rw [if_neg (by omega), if_neg (by omega), if_neg (by omega), if_neg (by omega), if_pos z, y] at k0; exact k0
  · rw [if_neg (by omega), if_neg (by omega), if_neg (by omega), if_neg (by omega), if_pos z, show pln (lad σ.1 t).2 = 1 by omega] at k0; exact k0
theorem c_element_op {F : Int → List psh → pM → Prop} {t i w : Int} (ht : inR t) (hi : inR i) (hw : inR w) (cp : CP S M σ) (rm : RM S 200 1400) (k : ∀ S' M', grw S S' 200 1400 → (∀ x : Int, x < S.length → M' x = M x) → F (q_element σ t i w) S' M') : pAi true X mX0_element 6 [pR 0, pI t, pI i, pI w] S M F := by
  have k0 := k S M ((grw.refl S).le (by decide) (by decide)) (fun _ _ => rfl)
  unfold q_element at k k0
  refine eX0_element (bX0_element_0 (c_isElement ht hi cp (fun hel => ⟨by constructor <;> decide, fun _ => ?_, fun z => by omega⟩) (fun hel => ⟨by constructor <;> decide, fun z => by omega, fun _ => by rw [if_neg (show ¬ (0 ≤ t ∧ t < σ.1.length ∧ 0 ≤ i ∧ i < (lad σ.1 t).2.length) from hel)] at k0; exact k0⟩)))
  obtain ⟨a, b, i0, i1⟩ := id hel
  have zl := cp.2.1.zl
  rw [if_pos ⟨a, b, i0, i1⟩] at k k0
  refine c_get cp.2.1 a b (fun r lr ok hs => ⟨hs, hs, l_at lr i0 i1 (fun q st => ?_)⟩)
  have h3 : shq S q = some (.inl 8, 3) ↔ (el (lad σ.1 t).2 i).1 = 3 := by
    obtain ⟨_, _, c | c | c | c⟩ := st
    · rw [c.2]; exact ⟨fun h => (by cases h), fun h => by omega⟩
    · rw [c.2]; exact ⟨fun h => (by cases h), fun h => by omega⟩
    · rw [c.2]; exact ⟨fun h => (by cases h), fun h => by omega⟩
    · exact ⟨fun _ => c.1, fun _ => c.2.1⟩
  have ab : (el (lad σ.1 t).2 i).1 = 3 → M q 1 = (el (lad σ.1 t).2 i).2.2.1 ∧ M q 2 = (el (lad σ.1 t).2 i).2.2.2 := by
    intro h
    obtain ⟨_, _, c | c | c | c⟩ := st
    · omega
    · omega
    · omega
    · exact c.2.2
  refine ⟨hw, fun z => ?_, fun z => ⟨st.is, ?_⟩, fun z => d_sort (G := fun r13 M14 => F r13 S M14) st ?_, fun z => ⟨st.is, fun y => ⟨y, y, ?_⟩, fun y => ?_⟩, fun z => ⟨st.is, fun y => ⟨y, y, ?_⟩, fun y => ?_⟩, fun z => c_get cp.2.1 a b (fun r' lr' ok' hs' => ⟨hs', hs', l_layer cp.2.1.z lr' ok' zl.2 i0 i1 (rm.le (by omega) (by omega)) (fun M' f' hp => ?_)⟩)⟩
  · rw [if_neg (by omega), if_neg (by omega), if_neg (by omega), if_neg (by omega), if_neg (by omega)] at k0; exact k0
  · rw [if_pos z] at k0; rw [st.2.1]; exact k0
  · rw [if_neg (by omega), if_pos z] at k0; exact k0
  · rw [if_neg (by omega), if_neg (by omega), if_pos z, if_pos (h3.1 y)] at k0
    rw [(ab (h3.1 y)).1]; exact k0
  · rw [if_neg (by omega), if_neg (by omega), if_pos z, if_neg (fun x => y (h3.2 x))] at k0; exact k0
  · rw [if_neg (by omega), if_neg (by omega), if_neg (by omega), if_pos z, if_pos (h3.1 y)] at k0
    rw [(ab (h3.1 y)).2]; exact k0
  · rw [if_neg (by omega), if_neg (by omega), if_neg (by omega), if_pos z, if_neg (fun x => y (h3.2 x))] at k0; exact k0
  · have := k _ M' ((grw_one (S := S) (σ := (.inr 0, 7))).le (by decide) (by decide)) (fun x hx => f' x (by omega))
    rw [if_neg (by omega), if_neg (by omega), if_neg (by omega), if_neg (by omega), if_pos z] at this
    exact this
/-- the twin's layers -/
theorem tw_layer {F : Int → pM → Prop} {t : Int} (ti : TI M σ) (ok : okS σ) (a : 0 ≤ t) (b : t < σ.1.length) (k : ∀ M', frT M M' → TT M' → (∀ i : Int, 0 ≤ i → i < (lad σ.1 t).2.length → M' 267 i = at0 (lyr (lad σ.1 t).2 (fun _ => 0)) i) → F (mxl (lyr (lad σ.1 t).2 (fun _ => 0))) M') : pNi true X mX6_layer 1 [pR 241, pI t] S M F := by
  have okl := ok.at a b
  have h6 := ok.tl b
  have hl := okl.2.2.1
  have hn := okl.2.1
  obtain ⟨u1, u2, u3⟩ := ti.2.1.2 t a b
  have bdl := lyr_bd (lad σ.1 t).2 (fun _ => 0) 0 okl.2.2.2.2 hn (fun _ _ _ => ⟨Int.le_refl _, Int.le_refl _⟩)
  have l25 : ∀ (s : List elt) (i x2 : Int) (f : Int → Int) (M1 : pM), (lad σ.1 t).2.drop i.toNat = s → 0 ≤ i → i ≤ (lad σ.1 t).2.length → (∀ x, x ≠ 267 → x ≠ 268 → M1 x = M x) → (∀ x, 0 ≤ x → x < 7 → M1 268 x = f x ∧ 0 ≤ f x ∧ f x ≤ i) → (∀ j : Int, 0 ≤ j → j < i → M1 267 j = at0 (lyr (lad σ.1 t).2 (fun _ => 0)) j) → (∀ j : Int, i ≤ j → j < (lad σ.1 t).2.length → at0 (lyr s f) (j - i) = at0 (lyr (lad σ.1 t).2 (fun _ => 0)) j) → 0 ≤ x2 → x2 ≤ i → max x2 (mxl (lyr s f)) = mxl (lyr (lad σ.1 t).2 (fun _ => 0)) → wX6_layer_25 X F t x2 i S M1 := by
    intro s
    induction s with
    | nil =>
      intro i x2 f M1 q0 q1 q2 fr hM h1 h2 x0 x1 hm
      have := drop_nil q0 q1
      refine bX6_layer_25 ?_
      rw [fr 243 (by decide) (by decide), u2]
      refine ⟨a, h6, by constructor <;> omega, by constructor <;> omega, fun _ => ?_, fun y => by omega⟩
      have kk := k M1 ⟨fun x hx => fr x (by omega) (by omega), fun j _ => by rw [fr 241 (by decide) (by decide)]⟩ ?_ (fun j p q => h1 j p (by omega))
      · rw [← hm, lyr, mxl] at kk
        rw [show max x2 0 = x2 by omega] at kk
        exact kk
      · rcases ti.1 with z | ⟨n, z1, z2, z3⟩
        · exact Or.inl (by rw [fr 241 (by decide) (by decide)]; exact z)
        · exact Or.inr ⟨n, z1, z2, z3.fr (by rw [fr 241 (by decide) (by decide)]) (by rw [fr 241 (by decide) (by decide)]) (fun x p q => fr x (by omega) (by omega))⟩
    | cons e s ih =>
      intro i x2 f M1 q0 q1 q2 fr hM h1 h2 x0 x1 hm
      obtain ⟨e1, e2, e3⟩ := drop_cons q0 q1
      have he := okl.at q1 e3
      have lgv := (u3 i q1 e3).2.1
      rw [e1] at he lgv
      obtain ⟨k0, k1, _⟩ := he
      obtain ⟨m1, m2, m3⟩ := hM e.2.1 k0 (by omega)
      obtain ⟨p1, p2, p3⟩ := hM (e.2.1 + 1) (by omega) (by omega)
      have g87 : ∀ s0, s0 + 1 = 1 + max (f e.2.1) (f (e.2.1 + 1)) → wX6_layer_87 X F t x2 i e.2.1 s0 S M1 := by
        intro s0 hs0
        have val : at0 (lyr (lad σ.1 t).2 (fun _ => 0)) i = s0 + 1 := by
          have := h2 i (Int.le_refl _) e3
          rw [Int.sub_self, lyr] at this
          rw [← this, hs0]
          rfl
        refine bX6_layer_87 ⟨k0, by omega, fun M3 e3' => ⟨by omega, by omega, fun M6 e6 => ⟨q1, by omega, fun M9 e9 => ?_⟩⟩⟩
        have nxt : ∀ y, y = max x2 (s0 + 1) → wX6_layer_131 X F t i y S M9 := by
          intro y hy
          refine bX6_layer_131 (ih (i + 1) y (lyu f e.2.1) M9 e2 (by omega) (by omega) (fun x w1 w2 => by rw [e9, up_ne w1, e6, up_ne w2, e3', up_ne w2]; exact fr x w1 w2) (fun x w0 w1 => ?_) (fun j w0 w1 => ?_) (fun j w0 w1 => ?_) (by omega) (by omega) ?_)
          · have hx := hM x w0 w1
            rw [e9, up_ne (by decide), e6, e3']
            unfold lyu
            by_cases d1 : x = e.2.1 + 1
            · rw [d1, up_same, if_pos (Or.inr rfl)]
              omega
            · rw [up_oi d1]
              by_cases d2 : x = e.2.1
              · rw [d2, up_same, if_pos (Or.inl rfl)]
                omega
              · rw [up_oi d2, if_neg (by omega)]
                omega
          · rw [e9]
            by_cases d : j = i
            · rw [d, up_same, val]
            · rw [up_oi d, e6, up_ne (by decide), e3', up_ne (by decide)]
              exact h1 j w0 (by omega)
          · have := h2 j (by omega) w1
            rw [lyr, at_cons (by omega), show j - i - 1 = j - (i + 1) by omega] at this
            exact this
          · rw [lyr, mxl] at hm
            omega
        exact ⟨by constructor <;> omega, by constructor <;> omega, fun y => nxt _ (by omega), fun y => nxt _ (by omega)⟩
      refine bX6_layer_25 ?_
      rw [fr 243 (by decide) (by decide), u2, fr 245 (by decide) (by decide), lgv, m1, p1]
      exact ⟨a, h6, by constructor <;> omega, by constructor <;> omega, fun y => by omega, fun _ => ⟨by omega, by omega, k0, by omega, by omega, by omega, by constructor <;> omega, by constructor <;> omega, fun y => ⟨by omega, by omega, g87 _ (by omega)⟩, fun y => ⟨k0, by omega, g87 _ (by omega)⟩⟩⟩
  have l4 : ∀ (m : Nat) (i : Int) (M1 : pM), i + m = 7 → 0 ≤ i → (∀ x, x ≠ 267 → x ≠ 268 → M1 x = M x) → (∀ x, 0 ≤ x → x < i → M1 268 x = 0) → wX6_layer_4 X F t 0 i S M1 := by
    intro m
    induction m with
    | zero =>
      intro i M1 q1 q2 fr h
      refine bX6_layer_4 ⟨by constructor <;> omega, fun _ => l25 _ 0 0 (fun _ => 0) M1 rfl (by omega) (by omega) fr (fun x x0 x1 => ⟨h x x0 (by omega), Int.le_refl _, Int.le_refl _⟩) (fun j p q => by omega) (fun j p q => by rw [Int.sub_zero]; rfl) (Int.le_refl _) (Int.le_refl _) ?_, fun y => by omega⟩
      have := mxl_nn (lyr ((lad σ.1 t).2.drop (0 : Int).toNat) (fun _ => 0))
      rw [show max 0 (mxl (lyr ((lad σ.1 t).2.drop (0 : Int).toNat) (fun _ => 0))) = mxl (lyr ((lad σ.1 t).2.drop (0 : Int).toNat) (fun _ => 0)) by omega]
      rfl
    | succ m ih =>
      intro i M1 q1 q2 fr h
      refine bX6_layer_4 ⟨by constructor <;> omega, fun y => by omega, fun _ => ⟨q2, by omega, fun M4 e4 => ih (i + 1) M4 (by omega) (by omega) (fun x x1 x2 => by rw [e4, up_ne x2]; exact fr x x1 x2) (fun x x0 x1 => ?_)⟩⟩
      rw [e4]
      by_cases d : x = i
      · rw [d, up_same]
      · rw [up_oi d]; exact h x x0 (by omega)
  exact eX6_layer (bX6_layer_0 (l4 7 0 M (by omega) (by omega) (fun _ _ _ => rfl) (fun x x0 x1 => by omega)))
theorem tw_ladder_op {F : Int → pM → Prop} {t w : Int} (ht : inR t) (hw : inR w) (ti : TI M σ) (ok : okS σ) (k : ∀ M', frT M M' → TT M' → F (q_ladder σ t w) M') : pNi true X mX6_ladder 2 [pR 241, pI t, pI w] S M F := by
  have k0 := k M (frT.refl _) ti.1
  unfold q_ladder at k k0
  refine eX6_ladder (bX6_ladder_0 (tw_isLadder ht ti.2.1 ok (fun a b => ⟨by constructor <;> decide, fun z => by omega, fun _ => ?_⟩) (fun h => ⟨by constructor <;> decide, fun _ => by rw [if_neg h] at k0; exact k0, fun z => by omega⟩)))
  rw [if_pos ⟨a, b⟩] at k k0
  have h6 := ok.tl b
  have pi := (pln_iff (lad σ.1 t).2).1
  refine ⟨hw, fun z => ?_, fun z => ⟨hw, fun y => ⟨hw, fun w0 => ⟨hw, fun w1 => ⟨hw, fun w2 => ⟨hw, fun w3 => tw_isPlain ti.2.1 ok a b ⟨by constructor <;> omega, fun q => ?_, fun q => ?_⟩, fun w3 => tw_layer ti ok a b (fun M1 f1 t1 _ => ?_)⟩, fun w2 => tw_maybes ti.2.1 ok a b ?_⟩, fun w1 => ⟨a, h6, ?_⟩⟩, fun w0 => ⟨a, h6, ?_⟩⟩, fun y => ?_⟩⟩
  · rw [if_neg (by omega), if_neg (by omega), if_neg (by omega), if_neg (by omega), if_neg (by omega)] at k0; exact k0
  · rw [if_neg (by omega), if_neg (by omega), if_neg (by omega), if_neg (by omega), if_pos (by omega), q] at k0; exact k0
  · rw [if_neg (by omega), if_neg (by omega), if_neg (by omega), if_neg (by omega), if_pos (by omega), show pln (lad σ.1 t).2 = 1 by omega] at k0; exact k0
  · have := k M1 f1 t1
    rw [if_neg (by omega), if_neg (by omega), if_neg (by omega), if_pos w3] at this
    exact this
  · rw [if_neg (by omega), if_neg (by omega), if_pos w2] at k0; exact k0
  · rw [if_neg (by omega), if_pos w1] at k0; rw [(ti.2.1.2 t a b).2.1]; exact k0
  · rw [if_pos w0] at k0; rw [(ti.2.1.2 t a b).1]; exact k0
  · rw [if_neg (by omega), if_neg (by omega), if_neg (by omega), if_neg (by omega), if_neg (by omega)] at k0; exact k0
theorem tw_element_op {F : Int → pM → Prop} {t i w : Int} (ht : inR t) (hi : inR i) (hw : inR w) (ti : TI M σ) (ok : okS σ) (k : ∀ M', frT M M' → TT M' → F (q_element σ t i w) M') : pNi true X mX6_element 2 [pR 241, pI t, pI i, pI w] S M F := by
  have k0 := k M (frT.refl _) ti.1
  unfold q_element at k k0
  have bad : ¬ (0 ≤ t ∧ t < σ.1.length ∧ 0 ≤ i ∧ i < (lad σ.1 t).2.length) → F (-1) M := fun z => by rw [if_neg z] at k0; exact k0
  refine eX6_element (bX6_element_0 (tw_isLadder ht ti.2.1 ok (fun a b => ⟨by constructor <;> decide, fun z => by omega, fun _ => ?_⟩) (fun h => ⟨by constructor <;> decide, fun _ => bad (fun z => h ⟨z.1, z.2.1⟩), fun z => by omega⟩)))
  have okl := ok.at a b
  have h6 := ok.tl b
  have hl := okl.2.2.1
  obtain ⟨u1, u2, u3⟩ := ti.2.1.2 t a b
  rw [u2]
  refine ⟨hi, fun z => bad (by omega), fun i0 => ⟨a, h6, hi, by constructor <;> omega, fun z => bad (by omega), fun i1 => ?_⟩⟩
  rw [if_pos ⟨a, b, i0, i1⟩] at k k0
  obtain ⟨m1, m2, m3, m4⟩ := u3 i i0 i1
  rw [m1, m2, m3, m4]
  have hk : (el (lad σ.1 t).2 i).1 = 0 ∨ (el (lad σ.1 t).2 i).1 = 1 ∨ (el (lad σ.1 t).2 i).1 = 2 ∨ (el (lad σ.1 t).2 i).1 = 3 := by obtain ⟨_, _, h⟩ := okl.at i0 i1; omega
  refine ⟨hw, fun z => ?_, fun w0 => ⟨hw, fun w4 => ⟨hw, fun w2 => ⟨hw, fun y => ⟨by omega, by omega, by constructor <;> omega, fun q => ⟨hw, fun v => ⟨by omega, by omega, ?_⟩, fun v => ⟨by omega, by omega, ?_⟩⟩, fun q => ?_⟩, fun y => tw_layer ti ok a b (fun M1 f1 t1 h1 => ⟨i0, by omega, ?_⟩)⟩, fun w2 => ⟨hw, fun y => ⟨by omega, by omega, ?_⟩, fun y => ⟨by omega, by omega, ?_⟩⟩⟩, fun w4 => ?_⟩⟩
  · rw [if_neg (by omega), if_neg (by omega), if_neg (by omega), if_neg (by omega), if_neg (by omega)] at k0; exact k0
  · rw [if_neg (by omega), if_neg (by omega), if_neg (by omega), if_pos (by omega), if_pos q] at k0; exact k0
  · rw [if_neg (by omega), if_neg (by omega), if_pos (by omega), if_pos q] at k0; exact k0
  · by_cases w2' : w = 2
    · rw [if_neg (by omega), if_neg (by omega), if_pos w2', if_neg q] at k0; exact k0
    · rw [if_neg (by omega), if_neg (by omega), if_neg w2', if_pos (by omega), if_neg q] at k0; exact k0
  · have := k M1 f1 t1
    rw [if_neg (by omega), if_neg (by omega), if_neg (by omega), if_neg (by omega), if_pos y] at this
    rw [h1 i i0 i1]
    exact this
  · rw [if_neg (by omega), if_pos (by omega)] at k0; exact k0
  · rw [if_pos y] at k0; exact k0
  · rw [if_neg (by omega), if_neg (by omega), if_neg (by omega), if_neg (by omega), if_neg (by omega)] at k0; exact k0
end
