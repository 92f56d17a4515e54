/-! ===== the two states ===== -/
set_option maxRecDepth 100000
def lgc (Lg : List (Int × Int × Int)) (k : Int) : Int × Int × Int := Lg.getD k.toNat (-1, 0, 0)
def CLg (M : pM) (Lg : List (Int × Int × Int)) : Prop := M 0 17 = Lg.length ∧ ∀ k : Int, 0 ≤ k → k < Lg.length → M 25 k = (lgc Lg k).1 ∧ M 26 k = (lgc Lg k).2.1 ∧ ((lgc Lg k).1 ≠ -1 → M 27 k = (lgc Lg k).2.2)
def TLg (M : pM) (Lg : List (Int × Int × Int)) : Prop := M 241 7 = Lg.length ∧ ∀ k : Int, 0 ≤ k → k < Lg.length → M 248 k = (lgc Lg k).1 ∧ ((lgc Lg k).1 ≠ -1 → M 249 k = (lgc Lg k).2.1 ∧ M 250 k = (lgc Lg k).2.2 ∧ M 251 k = -1) ∧ ((lgc Lg k).1 = -1 → M 251 k = (lgc Lg k).2.1)
/-- a byte with its sign -/
def sb (x : Int) : Int := if x < 128 then x else x - 256
def CTp (M : pM) (tp : List Int) : Prop := M 11 1 = tp.length ∧ ∀ k : Int, 0 ≤ k → k < tp.length → M 12 k = sb (at0 tp k)
def TTp (M : pM) (tp : List Int) : Prop := M 241 12 = tp.length ∧ ∀ k : Int, 0 ≤ k → k < tp.length → M 252 k = at0 tp k
def THl (M : pM) (Ls : List (Int × List elt)) : Prop := M 241 0 = Ls.length ∧ ∀ t : Int, 0 ≤ t → t < Ls.length → M 242 t = (lad Ls t).1 ∧ M 243 t = (lad Ls t).2.length ∧ ∀ i : Int, 0 ≤ i → i < (lad Ls t).2.length → M 244 (200 * t + i) = (el (lad Ls t).2 i).1 ∧ M 245 (200 * t + i) = (el (lad Ls t).2 i).2.1 ∧ M 246 (200 * t + i) = (el (lad Ls t).2 i).2.2.1 ∧ M 247 (200 * t + i) = (el (lad Ls t).2 i).2.2.2
/-- ladders, logs, the tape, the place -/
abbrev sgm : Type := List (Int × List elt) × List (Int × Int × Int) × List Int × Int
def okG (Ls : List (Int × List elt)) (Lg : List (Int × Int × Int)) : Prop := Lg.length ≤ 40 ∧ ∀ k : Int, 0 ≤ k → k < Lg.length → ((lgc Lg k).1 = -1 ∧ 0 ≤ (lgc Lg k).2.1 ∧ (lgc Lg k).2.1 < k) ∨ (0 ≤ (lgc Lg k).1 ∧ (lgc Lg k).1 < Ls.length ∧ 0 ≤ (lgc Lg k).2.1 ∧ (lgc Lg k).2.1 < (lad Ls (lgc Lg k).1).1 ∧ 0 ≤ (lgc Lg k).2.2 ∧ (lgc Lg k).2.2 < (lad Ls (lgc Lg k).1).1)
def okS (σ : sgm) : Prop := σ.1.length ≤ 6 ∧ (∀ p ∈ σ.1, okL p.1 p.2) ∧ okG σ.1 σ.2.1 ∧ σ.2.2.1.length ≤ 2000 ∧ (∀ x ∈ σ.2.2.1, 0 ≤ x ∧ x < 256) ∧ -1 ≤ σ.2.2.2 ∧ σ.2.2.2 ≤ 2000
def CP (S : List psh) (M : pM) (σ : sgm) : Prop := SC M ∧ CH S M σ.1 ∧ CLg M σ.2.1 ∧ CTp M σ.2.2.1 ∧ M 0 10 = σ.2.2.2
def TI (M : pM) (σ : sgm) : Prop := TT M ∧ THl M σ.1 ∧ TLg M σ.2.1 ∧ TTp M σ.2.2.1 ∧ M 241 21 = σ.2.2.2
theorem CH.frC {S : List psh} {M M' : pM} {Ls : List (Int × List elt)} (h : CH S M Ls) (f : frC M M') : CH S M' Ls := by
  have h0 := h
  obtain ⟨l, c, a0, a1, a2, _⟩ := h
  refine h0.fr (f.1 19 (by omega)) (fun q => ?_) ⟨List.prefix_refl _, fun x p _ _ => f.1 x (by omega)⟩
  rcases a2 with a | a
  · exact absurd a q
  · exact f.1 _ (by omega)
theorem CP.frC {S : List psh} {M M' : pM} {σ : sgm} (h : CP S M σ) (f : frC M M') (s : SC M') : CP S M' σ := by
  obtain ⟨_, a2, a3, a4, a5⟩ := h
  refine ⟨s, a2.frC f, ?_, ?_, by rw [f.2 10 (by decide)]; exact a5⟩
  · unfold CLg
    rw [f.2 17 (by decide), f.1 25 (by decide), f.1 26 (by decide), f.1 27 (by decide)]
    exact a3
  · unfold CTp
    rw [f.1 11 (by decide), f.1 12 (by decide)]
    exact a4
theorem TI.frT {M M' : pM} {σ : sgm} (h : TI M σ) (f : frT M M') (s : TT M') : TI M' σ := by
  obtain ⟨_, a2, a3, a4, a5⟩ := h
  refine ⟨s, ?_, ?_, ?_, by rw [f.2 21 (by decide)]; exact a5⟩
  · unfold THl
    rw [f.2 0 (by decide), f.1 242 (by decide), f.1 243 (by decide), f.1 244 (by decide), f.1 245 (by decide), f.1 246 (by decide), f.1 247 (by decide)]
    exact a2
  · unfold TLg
    rw [f.2 7 (by decide), f.1 248 (by decide), f.1 249 (by decide), f.1 250 (by decide), f.1 251 (by decide)]
    exact a3
  · unfold TTp
    rw [f.2 12 (by decide), f.1 252 (by decide)]
    exact a4
theorem CP.tw {S : List psh} {M M' : pM} {σ : sgm} (h : CP S M σ) (f : ∀ x, x ≤ 240 ∨ 288 ≤ x → M' x = M x) : CP S M' σ := by
  obtain ⟨⟨s1, s2, s3, s4⟩, a2, a3, a4, a5⟩ := h
  have f0 := f 0 (by decide)
  refine ⟨⟨?_, s2.fr (by rw [f0]) (f 5 (by decide)), s3.fr (by rw [f0]) (by rw [f0]), s4.fr (f 6 (by decide))⟩, ?_, ?_, ?_, by rw [f0]; exact a5⟩
  · rcases s1 with z | ⟨n, z1, z2, z3⟩
    · exact Or.inl (by rw [f 1 (by decide)]; exact z)
    · exact Or.inr ⟨n, z1, z2, z3.fr (f 1 (by decide)) (f 2 (by decide)) (f 3 (by decide))⟩
  · have h0 := a2
    obtain ⟨l, c, b0, b1, b2, _⟩ := a2
    refine h0.fr (f 19 (by decide)) (fun q => ?_) ⟨List.prefix_refl _, fun x p _ _ => f x (by omega)⟩
    rcases b2 with y | y
    · exact absurd y q
    · exact f _ (by omega)
  · unfold CLg
    rw [f0, f 25 (by decide), f 26 (by decide), f 27 (by decide)]
    exact a3
  · unfold CTp
    rw [f 11 (by decide), f 12 (by decide)]
    exact a4
theorem TI.co {M M' : pM} {σ : sgm} (h : TI M σ) (f : ∀ x, 241 ≤ x → x ≤ 287 → M' x = M x) : TI M' σ := by
  have f1 := f 241 (by decide) (by decide)
  obtain ⟨a1, a2, a3, a4, a5⟩ := h
  refine ⟨?_, ?_, ?_, ?_, by rw [f1]; exact a5⟩
  · rcases a1 with z | ⟨n, z1, z2, z3⟩
    · exact Or.inl (by rw [f1]; exact z)
    · exact Or.inr ⟨n, z1, z2, z3.fr (by rw [f1]) (by rw [f1]) (fun x p q => f x (by omega) (by omega))⟩
  · unfold THl
    rw [f1, f 242 (by decide) (by decide), f 243 (by decide) (by decide), f 244 (by decide) (by decide), f 245 (by decide) (by decide), f 246 (by decide) (by decide), f 247 (by decide) (by decide)]
    exact a2
  · unfold TLg
    rw [f1, f 248 (by decide) (by decide), f 249 (by decide) (by decide), f 250 (by decide) (by decide), f 251 (by decide) (by decide)]
    exact a3
  · unfold TTp
    rw [f1, f 252 (by decide) (by decide)]
    exact a4
theorem okS.at {σ : sgm} {t : Int} (h : okS σ) (h1 : 0 ≤ t) (h2 : t < σ.1.length) : okL (lad σ.1 t).1 (lad σ.1 t).2 := h.2.1 _ (lad_mem h1 h2)
theorem okS.tl {σ : sgm} {t : Int} (h : okS σ) (h2 : t < σ.1.length) : t < 6 := by have := h.1; omega
theorem drop_cons {L s : List elt} {e : elt} {i : Int} (h : L.drop i.toNat = e :: s) (h0 : 0 ≤ i) : el L i = e ∧ L.drop (i + 1).toNat = s ∧ i < L.length := by
  have hl : i.toNat < L.length := by
    have := congrArg List.length h
    simp at this
    omega
  have := List.drop_eq_getElem_cons hl
  rw [h] at this
  injection this with e1 e2
  refine ⟨?_, by rw [show (i + 1).toNat = i.toNat + 1 by omega]; exact e2.symm, by omega⟩
  unfold el
  rw [List.getD_eq_getElem?_getD, List.getElem?_eq_getElem hl, e1]
  rfl
theorem drop_nil {L : List elt} {i : Int} (h : L.drop i.toNat = []) (h0 : 0 ≤ i) : (L.length : Int) ≤ i := by
  have := List.drop_eq_nil_iff.1 h
  omega
theorem i32_bd (x : Int32) : inR x.toInt := ⟨by have := Int32.le_toInt x; omega, by have := Int32.toInt_lt x; omega⟩
theorem iand_R {u v : Int} : inR (iand u v) := i32_bd _
theorem ishl1 {k : Int} (h0 : 0 ≤ k) (h1 : k ≤ 20) : ishl 1 k = 2 ^ k.toNat ∧ 1 ≤ ishl 1 k ∧ ishl 1 k ≤ 1048576 := by
  have : ∀ j, j < 21 → ishl 1 ((j : Nat) : Int) = 2 ^ j ∧ 1 ≤ ishl 1 ((j : Nat) : Int) ∧ ishl 1 ((j : Nat) : Int) ≤ 1048576 := by decide
  have := this k.toNat (by omega)
  rw [show ((k.toNat : Nat) : Int) = k by omega] at this
  exact this
/-- the bit of a maybe -/
def bit (th m : Int) : Int := if iand (ishr th m) 1 = 1 then 1 else 0
noncomputable def pas (n : Nat) (o : Int) (e : elt) (t : Int) : Int := if chg e (dg n o e.2.1) (dg n o (e.2.1 + 1)) t = 1 then sw n o e.2.1 else o
theorem pas_bd {n : Nat} {o t : Int} {e : elt} (he : okE n e) (a : 0 ≤ o) (b : o < fac n) : 0 ≤ pas n o e t ∧ pas n o e t < fac n := by
  unfold pas
  split
  · exact sw_bd he.1 (by have := he.2.1; omega)
  · exact ⟨a, b⟩
/-- down a ladder, one (or none) left out -/
noncomputable def gob (n : Nat) (th bt : Int) : List elt → Int → Int → Int → Int
  | [], _, o, _ => o
  | e :: L, i, o, m => gob n th bt L (i + 1) (if i = bt then o else pas n o e (bit th m)) (if e.1 = 3 then m + 1 else m)
theorem gob_bd {n : Nat} {th bt : Int} : ∀ (L : List elt) (i o m : Int), (∀ e ∈ L, okE n e) → 0 ≤ o → o < fac n → 0 ≤ gob n th bt L i o m ∧ gob n th bt L i o m < fac n
  | [], i, o, m, _, a, b => ⟨a, b⟩
  | e :: L, i, o, m, h, a, b => by
    have he := h e (List.mem_cons_self ..)
    have := pas_bd (t := bit th m) he a b
    rw [gob]
    refine gob_bd L _ _ _ (fun x hx => h x (List.mem_cons_of_mem _ hx)) ?_ ?_
    · split <;> omega
    · split <;> omega
theorem dg_rng {n : Nat} {o i : Int} (hn : n ≤ 7) (a : 0 ≤ i) (b : i < n) : 0 ≤ dg n o i ∧ dg n o i < n := by
  have := (dg_F (n := n) (v := o)).bd a b
  exact this
