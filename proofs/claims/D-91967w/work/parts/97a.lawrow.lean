/-! ===== rows for the law's walk ===== -/
set_option maxRecDepth 100000
section LawRow
variable {b : Bool} {X : px} {y : pmd} {d pc : Nat} {ls : List (Nat × pv)} {st : List pv} {h : ph} {Q : po → ph → Prop}
/-- two equal ints -/
theorem pu_icmp_eqS {u v off : Int} {tgt : Nat} (hd : decode y.2.1 pc = .ok (.if_icmp .eq off, 3)) (ht : (pc : Int) + off = (tgt : Int)) (huv : u = v) (k : pw b X y d tgt ls st h Q) : pw b X y d pc ls (pI v :: pI u :: st) h Q := by
  intro p e s m args below meth c H locs cells slots lsa g hM hsz hg hH hlo hl
  exact lv_icmp_eq (x := Int32.ofInt u) (y := Int32.ofInt v) hM.1 hM.2.1 hd ht (fun _ => k p e s m args below meth c H locs cells slots lsa g hM hsz hg hH hlo hl) (fun q => absurd (by rw [huv]) q)
theorem pu_lcmp_eqS {u v off : Int} {tgt : Nat} (hd : decode y.2.1 pc = .ok (.lcmp, 1)) (hd2 : decode y.2.1 (pc + 1) = .ok (.ifCond .eq off, 3)) (ht : ((pc + 1 : Nat) : Int) + off = (tgt : Int)) (huv : u = v) (k : pw b X y d tgt ls st h Q) : pw b X y d pc ls (pL v :: pL u :: st) h Q := by
  intro p e s m args below meth c H locs cells slots lsa g hM hsz hg hH hlo hl
  refine W.lcmp (x := Int64.ofInt u) (y := Int64.ofInt v) hM.1 hM.2.1 hd ?_
  refine lv_if_eq hM.1 hM.2.1 hd2 ht (fun _ => k p e s m args below meth c H locs cells slots lsa g hM hsz hg hH hlo hl) (fun q => absurd ?_ q)
  rw [huv]
  unfold lg_cmp
  simp
/-- a contract that wants the lasting cells, where they stand -/
theorem pS_tf {as : List pv} {Q2 : po → ph → Prop} (hp : pu_perm <+: h.1) (hcs : ∀ q ∈ pu_cons, h.2 q.1 q.2.1 = q.2.2) (hS : pS true X y d as h Q2) (hQ : ∀ o h', h.1 <+: h'.1 → (∀ q ∈ pu_cons, h'.2 q.1 q.2.1 = q.2.2) → Q2 o h' → Q o h') : pS false X y d as h Q := by
  intro p e ha hc hk s m args below hf happ hpre _
  obtain ⟨p1, p2, p3⟩ := hpre
  obtain ⟨k, o, h1, h2, h3, hq⟩ := hS p e ha hc hk s m args below hf happ ⟨p1, ⟨p2.1, p2.2.1, p2.2.2.1, p2.2.2.2.1, p2.2.2.2.2.1, fun _ => ⟨hp, hcs⟩⟩, p3⟩ trivial
  refine ⟨k, o, h1, h2, h3, ?_⟩
  have dn : ∀ {h' : ph} {H : Heap}, pu_H true X h' H → pu_H false X h' H := fun q => ⟨q.1, q.2.1, q.2.2.1, q.2.2.2.1, q.2.2.2.2.1, fun z => by cases z⟩
  have cs : ∀ {h' : ph} {H : Heap}, pu_H true X h' H → ∀ q ∈ pu_cons, h'.2 q.1 q.2.1 = q.2.2 := fun q => (q.2.2.2.2.2 rfl).2
  rcases hq with ⟨⟨r, h', q1, q2, q3, q4⟩, hL⟩ | ⟨q, ho, E, ce, L, ⟨z, h', x1, x2, x3, x4, x5⟩, hr⟩
  · exact Or.inl ⟨⟨r, h', q1, dn q2, q3, hQ _ _ q3 (cs q2) q4⟩, hL⟩
  · exact Or.inr ⟨q, ho, E, ce, L, ⟨z, h', x1, x2, dn x3, x4, hQ _ _ x4 (cs x3) x5⟩, hr⟩
end LawRow
section LawRow2
variable {X : px} {y : pmd} {d : Nat} {as : List pv} {S : List psh} {M : pM}
theorem tf_Ni {F G : Int → pM → Prop} (hp : pu_perm <+: S) (hc : ∀ q ∈ pu_cons, M q.1 q.2.1 = q.2.2) (k : pNi true X y d as S M F) (g : ∀ r M1, (∀ q ∈ pu_cons, M1 q.1 q.2.1 = q.2.2) → F r M1 → G r M1) : pNi false X y d as S M G := by
  refine pS_tf hp hc k fun o h' _ cs hq => ?_
  revert hq
  unfold qNi
  split
  · exact fun hq => ⟨hq.1, g _ _ cs hq.2⟩
  · exact id
theorem tf_Nl {F G : Int → pM → Prop} (hp : pu_perm <+: S) (hc : ∀ q ∈ pu_cons, M q.1 q.2.1 = q.2.2) (k : pNl true X y d as S M F) (g : ∀ r M1, (∀ q ∈ pu_cons, M1 q.1 q.2.1 = q.2.2) → F r M1 → G r M1) : pNl false X y d as S M G := by
  refine pS_tf hp hc k fun o h' _ cs hq => ?_
  revert hq
  unfold qNl
  split
  · exact fun hq => ⟨hq.1, g _ _ cs hq.2⟩
  · exact id
theorem tf_Ai {F G : Int → List psh → pM → Prop} (hp : pu_perm <+: S) (hc : ∀ q ∈ pu_cons, M q.1 q.2.1 = q.2.2) (k : pAi true X y d as S M F) (g : ∀ r S1 M1, S <+: S1 → (∀ q ∈ pu_cons, M1 q.1 q.2.1 = q.2.2) → F r S1 M1 → G r S1 M1) : pAi false X y d as S M G := by
  refine pS_tf hp hc k fun o h' hs cs hq => ?_
  revert hq
  unfold qAi
  split
  · exact fun hq => g _ _ _ hs cs hq
  · exact id
end LawRow2
theorem sh2_0 {S : List psh} (h : pu_perm <+: S) : shq S 0 = some (.inl 0, 30) ∧ shq S 241 = some (.inl 12, 60) := ⟨shq_pre h rfl, shq_pre h rfl⟩
