/-! ===== THE PURE LAYER: kinds of contracts (N: makes nothing; A: may make cells; X: may throw) ===== -/
set_option maxRecDepth 100000
abbrev pM : Type := Int → Int → Int
def qNi (S : List psh) (F : Int → pM → Prop) (o : po) (h : ph) : Prop := match o with
  | .inl (some (.inl r)) => h.1 = S ∧ F r h.2
  | _ => False
def qNl (S : List psh) (F : Int → pM → Prop) (o : po) (h : ph) : Prop := match o with
  | .inl (some (.inr (.inl r))) => h.1 = S ∧ F r h.2
  | _ => False
def qNr (S : List psh) (F : Int → pM → Prop) (o : po) (h : ph) : Prop := match o with
  | .inl (some (.inr (.inr r))) => h.1 = S ∧ F r h.2
  | _ => False
def qNv (S : List psh) (F : pM → Prop) (o : po) (h : ph) : Prop := match o with
  | .inl none => h.1 = S ∧ F h.2
  | _ => False
def qAi (F : Int → List psh → pM → Prop) (o : po) (h : ph) : Prop := match o with
  | .inl (some (.inl r)) => F r h.1 h.2
  | _ => False
def qAl (F : Int → List psh → pM → Prop) (o : po) (h : ph) : Prop := match o with
  | .inl (some (.inr (.inl r))) => F r h.1 h.2
  | _ => False
def qAr (F : Int → List psh → pM → Prop) (o : po) (h : ph) : Prop := match o with
  | .inl (some (.inr (.inr r))) => F r h.1 h.2
  | _ => False
def qAv (F : List psh → pM → Prop) (o : po) (h : ph) : Prop := match o with
  | .inl none => F h.1 h.2
  | _ => False
def qXi (F : Int → List psh → pM → Prop) (E : Int → List psh → pM → Prop) (o : po) (h : ph) : Prop := match o with
  | .inl (some (.inl r)) => F r h.1 h.2
  | .inr z => E z h.1 h.2
  | _ => False
def qXr (F : Int → List psh → pM → Prop) (E : Int → List psh → pM → Prop) (o : po) (h : ph) : Prop := match o with
  | .inl (some (.inr (.inr r))) => F r h.1 h.2
  | .inr z => E z h.1 h.2
  | _ => False
def qXv (F : List psh → pM → Prop) (E : Int → List psh → pM → Prop) (o : po) (h : ph) : Prop := match o with
  | .inl none => F h.1 h.2
  | .inr z => E z h.1 h.2
  | _ => False
abbrev pNi (b : Bool) (X : px) (y : pmd) (d : Nat) (as : List pv) (S : List psh) (M : pM) (F : Int → pM → Prop) : Prop := pS b X y d as (S, M) (qNi S F)
abbrev pNl (b : Bool) (X : px) (y : pmd) (d : Nat) (as : List pv) (S : List psh) (M : pM) (F : Int → pM → Prop) : Prop := pS b X y d as (S, M) (qNl S F)
abbrev pNr (b : Bool) (X : px) (y : pmd) (d : Nat) (as : List pv) (S : List psh) (M : pM) (F : Int → pM → Prop) : Prop := pS b X y d as (S, M) (qNr S F)
abbrev pNv (b : Bool) (X : px) (y : pmd) (d : Nat) (as : List pv) (S : List psh) (M : pM) (F : pM → Prop) : Prop := pS b X y d as (S, M) (qNv S F)
abbrev pAi (b : Bool) (X : px) (y : pmd) (d : Nat) (as : List pv) (S : List psh) (M : pM) (F : Int → List psh → pM → Prop) : Prop := pS b X y d as (S, M) (qAi F)
abbrev pAl (b : Bool) (X : px) (y : pmd) (d : Nat) (as : List pv) (S : List psh) (M : pM) (F : Int → List psh → pM → Prop) : Prop := pS b X y d as (S, M) (qAl F)
abbrev pAr (b : Bool) (X : px) (y : pmd) (d : Nat) (as : List pv) (S : List psh) (M : pM) (F : Int → List psh → pM → Prop) : Prop := pS b X y d as (S, M) (qAr F)
abbrev pAv (b : Bool) (X : px) (y : pmd) (d : Nat) (as : List pv) (S : List psh) (M : pM) (F : List psh → pM → Prop) : Prop := pS b X y d as (S, M) (qAv F)
abbrev pXi (b : Bool) (X : px) (y : pmd) (d : Nat) (as : List pv) (S : List psh) (M : pM) (F : Int → List psh → pM → Prop) (E : Int → List psh → pM → Prop) : Prop := pS b X y d as (S, M) (qXi F E)
abbrev pXr (b : Bool) (X : px) (y : pmd) (d : Nat) (as : List pv) (S : List psh) (M : pM) (F : Int → List psh → pM → Prop) (E : Int → List psh → pM → Prop) : Prop := pS b X y d as (S, M) (qXr F E)
abbrev pXv (b : Bool) (X : px) (y : pmd) (d : Nat) (as : List pv) (S : List psh) (M : pM) (F : List psh → pM → Prop) (E : Int → List psh → pM → Prop) : Prop := pS b X y d as (S, M) (qXv F E)
section PuK
variable {b : Bool} {X : px} {y : pmd} {d pc : Nat} {ls : List (Nat × pv)} {st : List pv} {S : List psh} {M : pM} {Q : po → ph → Prop} {as : List pv}
theorem kNi {F : Int → pM → Prop} (k : ∀ (r : Int) (M1 : pM), F r M1 → pw b X y d pc ls (pI r :: st) (S, M1) Q) : ∀ (r : Option pv) (h' : ph), S <+: h'.1 → qNi S F (.inl r) h' → pw b X y d pc ls (r.toList ++ st) h' Q := by
  intro r h' _ hq
  rcases r with _ | r | r | r <;> first | exact hq.elim | skip
  obtain ⟨S', M'⟩ := h'
  obtain ⟨rfl, hq⟩ := hq
  exact k r M' hq
theorem kNl {F : Int → pM → Prop} (k : ∀ (r : Int) (M1 : pM), F r M1 → pw b X y d pc ls (pL r :: st) (S, M1) Q) : ∀ (r : Option pv) (h' : ph), S <+: h'.1 → qNl S F (.inl r) h' → pw b X y d pc ls (r.toList ++ st) h' Q := by
  intro r h' _ hq
  rcases r with _ | r | r | r <;> first | exact hq.elim | skip
  obtain ⟨S', M'⟩ := h'
  obtain ⟨rfl, hq⟩ := hq
  exact k r M' hq
theorem kNr {F : Int → pM → Prop} (k : ∀ (r : Int) (M1 : pM), F r M1 → pw b X y d pc ls (pR r :: st) (S, M1) Q) : ∀ (r : Option pv) (h' : ph), S <+: h'.1 → qNr S F (.inl r) h' → pw b X y d pc ls (r.toList ++ st) h' Q := by
  intro r h' _ hq
  rcases r with _ | r | r | r <;> first | exact hq.elim | skip
  obtain ⟨S', M'⟩ := h'
  obtain ⟨rfl, hq⟩ := hq
  exact k r M' hq
theorem kNv {F : pM → Prop} (k : ∀ (M1 : pM), F M1 → pw b X y d pc ls st (S, M1) Q) : ∀ (r : Option pv) (h' : ph), S <+: h'.1 → qNv S F (.inl r) h' → pw b X y d pc ls (r.toList ++ st) h' Q := by
  intro r h' _ hq
  rcases r with _ | r | r | r <;> first | exact hq.elim | skip
  obtain ⟨S', M'⟩ := h'
  obtain ⟨rfl, hq⟩ := hq
  exact k M' hq
theorem kAi {F : Int → List psh → pM → Prop} (k : ∀ (r : Int) (S1 : List psh) (M1 : pM), S <+: S1 → F r S1 M1 → pw b X y d pc ls (pI r :: st) (S1, M1) Q) : ∀ (r : Option pv) (h' : ph), S <+: h'.1 → qAi F (.inl r) h' → pw b X y d pc ls (r.toList ++ st) h' Q := by
  intro r h' hp hq
  rcases r with _ | r | r | r <;> first | exact hq.elim | skip
  exact k r h'.1 h'.2 hp hq
theorem kAl {F : Int → List psh → pM → Prop} (k : ∀ (r : Int) (S1 : List psh) (M1 : pM), S <+: S1 → F r S1 M1 → pw b X y d pc ls (pL r :: st) (S1, M1) Q) : ∀ (r : Option pv) (h' : ph), S <+: h'.1 → qAl F (.inl r) h' → pw b X y d pc ls (r.toList ++ st) h' Q := by
  intro r h' hp hq
  rcases r with _ | r | r | r <;> first | exact hq.elim | skip
  exact k r h'.1 h'.2 hp hq
theorem kAr {F : Int → List psh → pM → Prop} (k : ∀ (r : Int) (S1 : List psh) (M1 : pM), S <+: S1 → F r S1 M1 → pw b X y d pc ls (pR r :: st) (S1, M1) Q) : ∀ (r : Option pv) (h' : ph), S <+: h'.1 → qAr F (.inl r) h' → pw b X y d pc ls (r.toList ++ st) h' Q := by
  intro r h' hp hq
  rcases r with _ | r | r | r <;> first | exact hq.elim | skip
  exact k r h'.1 h'.2 hp hq
theorem kAv {F : List psh → pM → Prop} (k : ∀ (S1 : List psh) (M1 : pM), S <+: S1 → F S1 M1 → pw b X y d pc ls st (S1, M1) Q) : ∀ (r : Option pv) (h' : ph), S <+: h'.1 → qAv F (.inl r) h' → pw b X y d pc ls (r.toList ++ st) h' Q := by
  intro r h' hp hq
  rcases r with _ | r | r | r <;> first | exact hq.elim | skip
  exact k h'.1 h'.2 hp hq
theorem kXi {F : Int → List psh → pM → Prop} {E : Int → List psh → pM → Prop} (k : ∀ (r : Int) (S1 : List psh) (M1 : pM), S <+: S1 → F r S1 M1 → pw b X y d pc ls (pI r :: st) (S1, M1) Q) : ∀ (r : Option pv) (h' : ph), S <+: h'.1 → qXi F E (.inl r) h' → pw b X y d pc ls (r.toList ++ st) h' Q := by
  intro r h' hp hq
  rcases r with _ | r | r | r <;> first | exact hq.elim | skip
  exact k r h'.1 h'.2 hp hq
theorem kXr {F : Int → List psh → pM → Prop} {E : Int → List psh → pM → Prop} (k : ∀ (r : Int) (S1 : List psh) (M1 : pM), S <+: S1 → F r S1 M1 → pw b X y d pc ls (pR r :: st) (S1, M1) Q) : ∀ (r : Option pv) (h' : ph), S <+: h'.1 → qXr F E (.inl r) h' → pw b X y d pc ls (r.toList ++ st) h' Q := by
  intro r h' hp hq
  rcases r with _ | r | r | r <;> first | exact hq.elim | skip
  exact k r h'.1 h'.2 hp hq
theorem kXv {F : List psh → pM → Prop} {E : Int → List psh → pM → Prop} (k : ∀ (S1 : List psh) (M1 : pM), S <+: S1 → F S1 M1 → pw b X y d pc ls st (S1, M1) Q) : ∀ (r : Option pv) (h' : ph), S <+: h'.1 → qXv F E (.inl r) h' → pw b X y d pc ls (r.toList ++ st) h' Q := by
  intro r h' hp hq
  rcases r with _ | r | r | r <;> first | exact hq.elim | skip
  exact k h'.1 h'.2 hp hq
theorem pNi_mono {F G : Int → pM → Prop} (h : pNi b X y d as S M F) (k : ∀ r M1, F r M1 → G r M1) : pNi b X y d as S M G := by
  refine pS_mono h fun o h' _ hq => ?_
  rcases o with (_ | r | r | r) | z <;> first | exact hq.elim | exact ⟨hq.1, k _ _ hq.2⟩
theorem pNl_mono {F G : Int → pM → Prop} (h : pNl b X y d as S M F) (k : ∀ r M1, F r M1 → G r M1) : pNl b X y d as S M G := by
  refine pS_mono h fun o h' _ hq => ?_
  rcases o with (_ | r | r | r) | z <;> first | exact hq.elim | exact ⟨hq.1, k _ _ hq.2⟩
theorem pNr_mono {F G : Int → pM → Prop} (h : pNr b X y d as S M F) (k : ∀ r M1, F r M1 → G r M1) : pNr b X y d as S M G := by
  refine pS_mono h fun o h' _ hq => ?_
  rcases o with (_ | r | r | r) | z <;> first | exact hq.elim | exact ⟨hq.1, k _ _ hq.2⟩
theorem pNv_mono {F G : pM → Prop} (h : pNv b X y d as S M F) (k : ∀ M1, F M1 → G M1) : pNv b X y d as S M G := by
  refine pS_mono h fun o h' _ hq => ?_
  rcases o with (_ | r | r | r) | z <;> first | exact hq.elim | exact ⟨hq.1, k _ hq.2⟩
theorem pAi_mono {F G : Int → List psh → pM → Prop} (h : pAi b X y d as S M F) (k : ∀ r S1 M1, S <+: S1 → F r S1 M1 → G r S1 M1) : pAi b X y d as S M G := by
  refine pS_mono h fun o h' hp hq => ?_
  rcases o with (_ | r | r | r) | z <;> first | exact hq.elim | exact k _ _ _ hp hq
theorem pAr_mono {F G : Int → List psh → pM → Prop} (h : pAr b X y d as S M F) (k : ∀ r S1 M1, S <+: S1 → F r S1 M1 → G r S1 M1) : pAr b X y d as S M G := by
  refine pS_mono h fun o h' hp hq => ?_
  rcases o with (_ | r | r | r) | z <;> first | exact hq.elim | exact k _ _ _ hp hq
theorem pAv_mono {F G : List psh → pM → Prop} (h : pAv b X y d as S M F) (k : ∀ S1 M1, S <+: S1 → F S1 M1 → G S1 M1) : pAv b X y d as S M G := by
  refine pS_mono h fun o h' hp hq => ?_
  rcases o with (_ | r | r | r) | z <;> first | exact hq.elim | exact k _ _ hp hq
theorem pXi_mono {F G : Int → List psh → pM → Prop} {E E2 : Int → List psh → pM → Prop} (h : pXi b X y d as S M F E) (k : ∀ r S1 M1, S <+: S1 → F r S1 M1 → G r S1 M1) (kx : ∀ r S1 M1, S <+: S1 → E r S1 M1 → E2 r S1 M1) : pXi b X y d as S M G E2 := by
  refine pS_mono h fun o h' hp hq => ?_
  rcases o with (_ | r | r | r) | z <;> first | exact kx _ _ _ hp hq | exact hq.elim | exact k _ _ _ hp hq
theorem pXr_mono {F G : Int → List psh → pM → Prop} {E E2 : Int → List psh → pM → Prop} (h : pXr b X y d as S M F E) (k : ∀ r S1 M1, S <+: S1 → F r S1 M1 → G r S1 M1) (kx : ∀ r S1 M1, S <+: S1 → E r S1 M1 → E2 r S1 M1) : pXr b X y d as S M G E2 := by
  refine pS_mono h fun o h' hp hq => ?_
  rcases o with (_ | r | r | r) | z <;> first | exact kx _ _ _ hp hq | exact hq.elim | exact k _ _ _ hp hq
theorem pXv_mono {F G : List psh → pM → Prop} {E E2 : Int → List psh → pM → Prop} (h : pXv b X y d as S M F E) (k : ∀ S1 M1, S <+: S1 → F S1 M1 → G S1 M1) (kx : ∀ r S1 M1, S <+: S1 → E r S1 M1 → E2 r S1 M1) : pXv b X y d as S M G E2 := by
  refine pS_mono h fun o h' hp hq => ?_
  rcases o with (_ | r | r | r) | z <;> first | exact kx _ _ _ hp hq | exact hq.elim | exact k _ _ hp hq
/-- fewer locals -/
def lpk (ps : List Nat) (ls : List (Nat × pv)) : List (Nat × pv) := match ps with
  | [] => []
  | p :: t => match ls[p]? with
    | some q => q :: lpk t ls
    | none => lpk t ls
theorem lpk_mem {ps : List Nat} {ls : List (Nat × pv)} {q : Nat × pv} (h : q ∈ lpk ps ls) : q ∈ ls := by
  induction ps with
  | nil => cases h
  | cons p t ih =>
    unfold lpk at h
    split at h
    · rename_i q' hq
      rcases List.mem_cons.mp h with e | e
      · rw [e]; exact List.mem_of_getElem? hq
      · exact ih e
    · exact ih h
theorem pu_sub {ls' : List (Nat × pv)} {h : ph} (ps : List Nat) (hs : lpk ps ls = ls') (k : pw b X y d pc ls' st h Q) : pw b X y d pc ls st h Q := by
  subst hs
  intro p e s m args below meth c H locs cells slots lsa g hM hsz hg hH hlo hl
  refine k p e s m args below meth c H locs cells slots lsa g hM hsz hg hH hlo ⟨hl.1, hl.2.1, fun q hq => hl.2.2 q ?_⟩
  obtain ⟨a, ha, rfl⟩ := List.mem_map.mp hq
  exact List.mem_map.mpr ⟨a, lpk_mem ha, rfl⟩
def shq (S : List psh) (a : Int) : Option psh := if 0 ≤ a then S[a.toNat]? else none
theorem pu_shq {a : Int} {σ : psh} (h : shq S a = some σ) : pu_sh b (S, M) a σ := fun _ => h
theorem pu_shP {a : Int} {σ : psh} {h : ph} (n : Nat) (hn : pu_perm[n]? = some σ) (ha : a = (n : Int)) : pu_sh true h a σ := by
  intro hp
  obtain ⟨t, ht⟩ := hp rfl
  subst ha
  unfold shp
  rw [if_pos (by omega), Int.toNat_natCast, ← ht]
  have hlt : n < pu_perm.length := (List.getElem?_eq_some_iff.mp hn).1
  rw [List.getElem?_append_left hlt]
  exact hn
theorem pu_ncP {a i : Int} (h : pu_cons.all (fun q => !(decide (q.1 = a))) = true) : pu_nc_ true a i := by
  intro _ q hq hc
  have := List.all_eq_true.mp h q hq
  simp [hc.1] at this
theorem pu_ncJ {a i : Int} (h : pu_cons.all (fun q => !(decide (q.1 = a) && decide (q.2.1 = i))) = true) : pu_nc_ true a i := by
  intro _ q hq hc
  have := List.all_eq_true.mp h q hq
  simp [hc.1, hc.2] at this
theorem pu_ncD {a i : Int} (h : 288 ≤ a) : pu_nc_ b a i := by
  intro _ q hq hc
  have := pu_cons_lt q hq
  omega
theorem pu_ncF {a i : Int} : pu_nc_ false a i := fun h => by cases h
/-- an element: a rung, a gate, a back, a maybe -/
def isStep (S : List psh) (r : Int) : Prop := shq S r = some (.inl 5, 1) ∨ shq S r = some (.inl 6, 1) ∨ shq S r = some (.inl 7, 1) ∨ shq S r = some (.inl 8, 3)
theorem shq_pre {S S1 : List psh} {a : Int} {σ : psh} (hp : S <+: S1) (h : shq S a = some σ) : shq S1 a = some σ := by
  obtain ⟨t, rfl⟩ := hp
  unfold shq at h ⊢
  split at h
  · rename_i ha
    rw [if_pos ha, List.getElem?_append_left ((List.getElem?_eq_some_iff.mp h).1)]
    exact h
  · cases h
theorem isStep_pre {S S1 : List psh} {a : Int} (hp : S <+: S1) (h : isStep S a) : isStep S1 a := by
  rcases h with h | h | h | h
  · exact Or.inl (shq_pre hp h)
  · exact Or.inr (Or.inl (shq_pre hp h))
  · exact Or.inr (Or.inr (Or.inl (shq_pre hp h)))
  · exact Or.inr (Or.inr (Or.inr (shq_pre hp h)))
theorem pu_narrow_char {v : Int} (h1 : 0 ≤ v) (h2 : v < 65536) : narrow .char (.int (Int32.ofInt v)) = .int (Int32.ofInt v) := by
  show Value.int (Int32.ofInt v).toUInt32.toUInt16.toUInt32.toInt32 = _
  congr 1
  rw [← Int32.toInt_inj, i32_toInt ⟨by omega, by omega⟩]
  obtain ⟨n, rfl⟩ : ∃ n : Nat, v = n := ⟨v.toNat, by omega⟩
  have e : (Int32.ofInt (n : Int)).toUInt32 = UInt32.ofNat n := by rfl
  rw [e]
  have e2 : (UInt32.ofNat n).toUInt16.toUInt32 = UInt32.ofNat n := by
    apply UInt32.toNat_inj.mp
    simp
    omega
  rw [e2, ← e]
  exact i32_toInt ⟨by omega, by omega⟩
end PuK
/-- what is permanent may be used anywhere -/
theorem pw_perm {X : px} {y : pmd} {d pc : Nat} {ls : List (Nat × pv)} {st : List pv} {S : List psh} {M : pM} {Q : po → ph → Prop} (k : pu_perm <+: S → (∀ q ∈ pu_cons, M q.1 q.2.1 = q.2.2) → pw true X y d pc ls st (S, M) Q) : pw true X y d pc ls st (S, M) Q := by
  intro p e s m args below meth c H locs cells slots lsa g hM hsz hg hH hlo hl
  exact k (hH.2.2.2.2.2 rfl).1 (hH.2.2.2.2.2 rfl).2 p e s m args below meth c H locs cells slots lsa g hM hsz hg hH hlo hl
/-- limits may be used anywhere -/
theorem pw_room {b : Bool} {X : px} {y : pmd} {d pc : Nat} {ls : List (Nat × pv)} {st : List pv} {S : List psh} {M : pM} {Q : po → ph → Prop} (k : S.length ≤ 601024 → pu_hs S ≤ 7293034 → pw b X y d pc ls st (S, M) Q) : pw b X y d pc ls st (S, M) Q := by
  intro p e s m args below meth c H locs cells slots lsa g hM hsz hg hH hlo hl
  exact k hH.2.2.2.1 hH.2.2.2.2.1 p e s m args below meth c H locs cells slots lsa g hM hsz hg hH hlo hl
