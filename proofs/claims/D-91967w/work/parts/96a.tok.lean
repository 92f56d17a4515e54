/-! ===== tokens of a text ===== -/
set_option maxRecDepth 100000
def isL (c : Int) : Bool := decide (97 ≤ c ∧ c ≤ 122)
def isD (c : Int) : Bool := decide (48 ≤ c ∧ c ≤ 57)
def isB (c : Int) : Bool := decide (c = 9 ∨ c = 10 ∨ c = 13 ∨ c = 32)
def cod (w : List Int) : Int := w.foldl (fun a c => a * 27 + c - 96) 0
def nmb (w : List Int) : Int := w.foldl (fun a c => 10 * a + c - 48) 0
def wkO (x : Int) : Int := if x = 240049 then 0 else if x = 316163 then 1 else if x = 369988 then 2 else if x = 139055 then 3 else if x = 40187 then 4 else if x = 6946700 then 5 else if x = 15827 then 6 else if x = 310210754 then 7 else if x = 298503040 then 8 else if x = 10815598 then 9 else -1
abbrev tok : Type := Int × Int × Int
/-- the kind and the value of what begins here, and what is behind it -/
def tk1 (c : Int) (t : List Int) : Int × Int × List Int :=
  if isL c = true then (if 8 < ((c :: t).takeWhile isL).length then 3 else if 0 ≤ wkO (cod ((c :: t).takeWhile isL)) then 10 + wkO (cod ((c :: t).takeWhile isL)) else 1, cod (((c :: t).takeWhile isL).take 8), (c :: t).dropWhile isL)
  else if isD c = true then (if 4 < ((c :: t).takeWhile isD).length then 3 else 2, nmb (((c :: t).takeWhile isD).take 4), (c :: t).dropWhile isD)
  else (if c = 59 then 4 else if c = 123 then 5 else if c = 125 then 6 else 3, 0, t)
def tks (N : Int) : Nat → List Int → List tok
  | 0, _ => [(0, N, 0)]
  | f + 1, l => match l.dropWhile isB with
    | [] => [(0, N, 0)]
    | c :: t => ((tk1 c t).1, N - ((c :: t).length : Int), (tk1 c t).2.1) :: tks N f (tk1 c t).2.2
def tkL (tp : List Int) : List tok := tks tp.length (tp.length + 1) tp
theorem dw_len (p : Int → Bool) : ∀ l : List Int, (l.dropWhile p).length ≤ l.length
  | [] => Nat.le_refl _
  | c :: t => by
    rw [List.dropWhile_cons]
    split
    · have := dw_len p t; rw [List.length_cons]; omega
    · exact Nat.le_refl _
theorem tk1_len (c : Int) (t : List Int) : (tk1 c t).2.2.length ≤ t.length := by
  unfold tk1
  split
  · rename_i h
    show (List.dropWhile isL (c :: t)).length ≤ _
    rw [List.dropWhile_cons, if_pos h]
    exact dw_len _ _
  · split
    · rename_i h
      show (List.dropWhile isD (c :: t)).length ≤ _
      rw [List.dropWhile_cons, if_pos h]
      exact dw_len _ _
    · exact Nat.le_refl _
/-- a token's place goes up, and stays within -/
theorem tks_pl {N : Int} : ∀ (f : Nat) (l : List Int), (l.length : Int) ≤ N → l.length < f → (∀ j : Nat, j < (tks N f l).length → N - l.length + j ≤ ((tks N f l).getD j (0, 0, 0)).2.1 ∧ ((tks N f l).getD j (0, 0, 0)).2.1 ≤ N) ∧ (∀ i j : Nat, i < j → j < (tks N f l).length → ((tks N f l).getD i (0, 0, 0)).2.1 < ((tks N f l).getD j (0, 0, 0)).2.1) ∧ (∀ j : Nat, j + 1 < (tks N f l).length → ((tks N f l).getD j (0, 0, 0)).1 ≠ 0) ∧ 1 ≤ (tks N f l).length ∧ ((tks N f l).getD ((tks N f l).length - 1) (0, 0, 0)) = (0, N, 0)
  | 0, l, _, h => by omega
  | f + 1, l, hN, h => by
    rw [tks]
    have dl := dw_len isB l
    cases e : l.dropWhile isB with
    | nil =>
      refine ⟨fun j hj => ?_, fun i j h1 h2 => ?_, fun j hj => ?_, ?_, rfl⟩
      · simp at hj; subst hj; simp; omega
      · simp at h2; omega
      · simp at hj
      · simp
    | cons c t =>
      rw [e, List.length_cons] at dl
      have tl := tk1_len c t
      obtain ⟨p1, p2, p3, p4, p5⟩ := tks_pl (N := N) f (tk1 c t).2.2 (by omega) (by omega)
      have k0 : (tk1 c t).1 ≠ 0 := by
        unfold tk1
        split
        · show (if _ then (3 : Int) else if _ then 10 + wkO (cod ((c :: t).takeWhile isL)) else 1) ≠ 0
          generalize wkO (cod ((c :: t).takeWhile isL)) = v
          split
          · decide
          · split
            · intro z; have z2 : (10 : Int) + v = 0 := z; omega
            · decide
        · split
          · show (if _ then (3 : Int) else _) ≠ 0
            split <;> decide
          · show (if _ then (4 : Int) else _) ≠ 0
            split
            · decide
            · split
              · decide
              · split <;> decide
      simp only [List.length_cons]
      refine ⟨fun j hj => ?_, fun i j h1 h2 => ?_, fun j hj => ?_, by omega, ?_⟩
      · cases j with
        | zero => simp only [List.getD_cons_zero]; omega
        | succ j =>
          simp only [List.getD_cons_succ]
          have := p1 j (by omega)
          omega
      · cases j with
        | zero => omega
        | succ j =>
          have q := p1 j (by omega)
          cases i with
          | zero => simp only [List.getD_cons_zero, List.getD_cons_succ]; omega
          | succ i => simp only [List.getD_cons_succ]; exact p2 i j (by omega) (by omega)
      · cases j with
        | zero => simp only [List.getD_cons_zero]; exact k0
        | succ j => simp only [List.getD_cons_succ]; exact p3 j (by omega)
      · obtain ⟨m, hm⟩ : ∃ m, (tks N f (tk1 c t).2.2).length = m + 1 := ⟨(tks N f (tk1 c t).2.2).length - 1, by omega⟩
        rw [hm] at p5 ⊢
        simp only [Nat.add_sub_cancel, List.getD_cons_succ] at p5 ⊢
        exact p5
def tkA (tp : List Int) (j : Nat) : tok := (tkL tp).getD j (0, 0, 0)
theorem tkA_ok (tp : List Int) : (∀ j : Nat, j < (tkL tp).length → (j : Int) ≤ (tkA tp j).2.1 ∧ (tkA tp j).2.1 ≤ tp.length) ∧ (∀ i j : Nat, i < j → j < (tkL tp).length → (tkA tp i).2.1 < (tkA tp j).2.1) ∧ (∀ j : Nat, j + 1 < (tkL tp).length → (tkA tp j).1 ≠ 0) ∧ 1 ≤ (tkL tp).length ∧ tkA tp ((tkL tp).length - 1) = (0, (tp.length : Int), 0) := by
  obtain ⟨p1, p2, p3, p4, p5⟩ := tks_pl (N := tp.length) (tp.length + 1) tp (Int.le_refl _) (by omega)
  exact ⟨fun j hj => ⟨by have := (p1 j hj).1; unfold tkA; unfold tkL; omega, (p1 j hj).2⟩, p2, p3, p4, p5⟩
/-- words and their numbers -/
theorem cod_in : ∀ (w : List Int) (a : Int), 0 ≤ a → (∀ c ∈ w, 97 ≤ c ∧ c ≤ 122) → a ≤ w.foldl (fun a c => a * 27 + c - 96) a
  | [], a, _, _ => Int.le_refl _
  | c :: w, a, h, hc => by
    have h1 := hc c List.mem_cons_self
    have := cod_in w (a * 27 + c - 96) (by omega) (fun x hx => hc x (List.mem_cons_of_mem _ hx))
    show a ≤ w.foldl _ (a * 27 + c - 96)
    omega
theorem cod_snoc (w : List Int) (c : Int) : cod (w ++ [c]) = cod w * 27 + c - 96 := by
  unfold cod
  rw [List.foldl_append]
  rfl
theorem cod_bd : ∀ (m : Nat) (w : List Int), w.length = m → (∀ c ∈ w, 97 ≤ c ∧ c ≤ 122) → 0 ≤ cod w ∧ cod w < 27 ^ m := by
  intro m
  induction m with
  | zero =>
    intro w h _
    rw [List.eq_nil_of_length_eq_zero h]
    exact ⟨by decide, by decide⟩
  | succ m ih =>
    intro w h hc
    obtain ⟨u, c, e⟩ : ∃ u c, w = u ++ [c] := by
      rcases List.eq_nil_or_concat w with z | ⟨u, c, z⟩
      · rw [z] at h; simp at h
      · exact ⟨u, c, by rw [z, List.concat_eq_append]⟩
    subst e
    rw [List.length_append, List.length_cons, List.length_nil] at h
    obtain ⟨i1, i2⟩ := ih u (by omega) (fun x hx => hc x (List.mem_append_left _ hx))
    have := hc c (List.mem_append_right _ List.mem_cons_self)
    rw [cod_snoc, Int.pow_succ]
    omega
theorem cod_inj : ∀ (m : Nat) (w u : List Int), w.length = m → (∀ c ∈ w, 97 ≤ c ∧ c ≤ 122) → (∀ c ∈ u, 97 ≤ c ∧ c ≤ 122) → cod w = cod u → w = u := by
  intro m
  induction m with
  | zero =>
    intro w u h _ hu e
    rw [List.eq_nil_of_length_eq_zero h] at e ⊢
    rcases List.eq_nil_or_concat u with z | ⟨v, c, z⟩
    · exact z.symm
    · exfalso
      rw [z, List.concat_eq_append, cod_snoc] at e
      rw [List.concat_eq_append] at z
      have h0 := (cod_bd v.length v rfl (fun x hx => hu x (by rw [z]; exact List.mem_append_left _ hx))).1
      have := hu c (by rw [z]; exact List.mem_append_right _ List.mem_cons_self)
      have e0 : cod [] = 0 := rfl
      omega
  | succ m ih =>
    intro w u h hw hu e
    rcases List.eq_nil_or_concat w with z | ⟨w', c, z⟩
    · rw [z] at h; simp at h
    · rw [List.concat_eq_append] at z
      subst z
      rw [List.length_append, List.length_cons, List.length_nil] at h
      have hw' : ∀ x ∈ w', 97 ≤ x ∧ x ≤ 122 := fun x hx => hw x (List.mem_append_left _ hx)
      have h0 := (cod_bd w'.length w' rfl hw').1
      have hc := hw c (List.mem_append_right _ List.mem_cons_self)
      rcases List.eq_nil_or_concat u with z | ⟨u', d, z⟩
      · exfalso
        rw [z, cod_snoc] at e
        have e0 : cod [] = 0 := rfl
        omega
      · rw [List.concat_eq_append] at z
        subst z
        have hu' : ∀ x ∈ u', 97 ≤ x ∧ x ≤ 122 := fun x hx => hu x (List.mem_append_left _ hx)
        have hd := hu d (List.mem_append_right _ List.mem_cons_self)
        rw [cod_snoc, cod_snoc] at e
        have e1 : cod w' = cod u' := by omega
        have e2 : c = d := by omega
        rw [ih w' u' (by omega) hw' hu' e1, e2]
theorem wds_ok : ∀ k : Nat, k < 10 → (∀ c ∈ wds k, 97 ≤ c ∧ c ≤ 122) ∧ wkO (cod (wds k)) = k := by decide
def cds : Nat → Int := fun k => cod (wds k)
theorem wkO_cases (x : Int) : (wkO x = -1 ∧ ∀ k : Nat, k < 10 → x ≠ cds k) ∨ ∃ k : Nat, k < 10 ∧ x = cds k ∧ wkO x = k := by
  by_cases h : ∃ k : Nat, k < 10 ∧ x = cds k
  · obtain ⟨k, h1, h2⟩ := h
    exact Or.inr ⟨k, h1, h2, by rw [h2]; exact (wds_ok k h1).2⟩
  · refine Or.inl ⟨?_, fun k hk e => h ⟨k, hk, e⟩⟩
    have n : ∀ k : Nat, k < 10 → x ≠ cds k := fun k hk e => h ⟨k, hk, e⟩
    have n0 : x ≠ 240049 := n 0 (by decide)
    have n1 : x ≠ 316163 := n 1 (by decide)
    have n2 : x ≠ 369988 := n 2 (by decide)
    have n3 : x ≠ 139055 := n 3 (by decide)
    have n4 : x ≠ 40187 := n 4 (by decide)
    have n5 : x ≠ 6946700 := n 5 (by decide)
    have n6 : x ≠ 15827 := n 6 (by decide)
    have n7 : x ≠ 310210754 := n 7 (by decide)
    have n8 : x ≠ 298503040 := n 8 (by decide)
    have n9 : x ≠ 10815598 := n 9 (by decide)
    unfold wkO
    rw [if_neg n0, if_neg n1, if_neg n2, if_neg n3, if_neg n4, if_neg n5, if_neg n6, if_neg n7, if_neg n8, if_neg n9]
theorem cds_inj {j k : Nat} (hj : j < 10) (hk : k < 10) (e : cds j = cds k) : j = k := by
  have a := (wds_ok j hj).2
  have b := (wds_ok k hk).2
  unfold cds at e
  rw [e] at a
  omega
