/-! ===== the component reads: what is told ===== -/
set_option maxRecDepth 100000
theorem cap5_bd {x : Int} (h : 0 ≤ x) : 0 ≤ cap5 x ∧ cap5 x ≤ 100000 := by unfold cap5; omega
theorem mb_one (e : elt) : mb [e] = if e.1 = 3 then 1 else 0 := by
  rw [mb]
  split <;> rfl
theorem rep_len (L : List elt) : ∀ t : Nat, ((rep L t).length : Int) = L.length * t
  | 0 => by rw [rep]; simp
  | t + 1 => by
    rw [rep_snoc, List.length_append, Int.natCast_add, rep_len L t, Int.natCast_succ, Int.mul_add, Int.mul_one]
theorem rep_mb (L : List elt) : ∀ t : Nat, mb (rep L t) = mb L * t
  | 0 => by rw [rep]; simp; rfl
  | t + 1 => by
    rw [rep_snoc, mb_app, rep_mb L t, Int.natCast_succ, Int.mul_add, Int.mul_one]
theorem ok_addS {s : sps} {e : elt} (h : okSp s) : okSp (addS s e) := by
  obtain ⟨⟨h1, hx⟩, h2, h3⟩ := h
  refine ⟨⟨?_, ?_⟩, cap5_bd (by omega), ?_⟩
  · show (if s.1.length < 200 then s.1 ++ [e] else s.1).length ≤ 200
    split
    · rw [List.length_append, List.length_cons, List.length_nil]; omega
    · exact h1
  · intro hz
    have hz : cap5 (s.2.1 + 1) ≤ 200 := hz
    have hz2 : s.2.1 + 1 ≤ 200 := by unfold cap5 at hz; omega
    obtain ⟨x1, x2⟩ := hx (by omega)
    have mbd := mb_bd s.1
    show ((if s.1.length < 200 then s.1 ++ [e] else s.1).length : Int) = cap5 (s.2.1 + 1) ∧ mb (if s.1.length < 200 then s.1 ++ [e] else s.1) = (if e.1 = 3 then cap5 (s.2.2 + 1) else s.2.2)
    rw [if_pos (by omega), mb_app, mb_one, List.length_append, List.length_cons, List.length_nil]
    refine ⟨by unfold cap5; omega, ?_⟩
    split
    · unfold cap5; omega
    · omega
  · show 0 ≤ (if e.1 = 3 then cap5 (s.2.2 + 1) else s.2.2) ∧ (if e.1 = 3 then cap5 (s.2.2 + 1) else s.2.2) ≤ 100000
    split
    · exact cap5_bd (by omega)
    · exact h3
theorem ok_adAS {s o : sps} {t : Int} (h : okSp s) (ho : okSp o) (ht : 0 ≤ t) : okSp (adAS s o t) := by
  obtain ⟨⟨h1, hx⟩, h2, h3⟩ := h
  obtain ⟨⟨o1, ox⟩, o2, o3⟩ := ho
  have a := Int.mul_nonneg o2.1 ht
  have b := Int.mul_nonneg o3.1 ht
  refine ⟨⟨?_, ?_⟩, cap5_bd (by omega), cap5_bd (by omega)⟩
  · show ((s.1 ++ rep o.1 t.toNat).take 200).length ≤ 200
    rw [List.length_take]
    omega
  · intro hz
    have hz : cap5 (s.2.1 + o.2.1 * t) ≤ 200 := hz
    have hz2 : s.2.1 + o.2.1 * t ≤ 200 := by unfold cap5 at hz; omega
    obtain ⟨x1, x2⟩ := hx (by omega)
    have tt : ((t.toNat : Nat) : Int) = t := by omega
    have rl : ((rep o.1 t.toNat).length : Int) = o.2.1 * t ∧ mb (rep o.1 t.toNat) = o.2.2 * t := by
      rcases Int.lt_or_le 0 t with q | q
      · have : o.2.1 * 1 ≤ o.2.1 * t := Int.mul_le_mul_of_nonneg_left (by omega) o2.1
        obtain ⟨y1, y2⟩ := ox (by omega)
        rw [rep_len, rep_mb, tt, y1, y2]
        exact ⟨rfl, rfl⟩
      · rw [show t = 0 by omega]
        rw [show (0 : Int).toNat = 0 from rfl, rep]
        simp
        rfl
    have m1 := mb_bd s.1
    have m2 := mb_bd (rep o.1 t.toNat)
    show (((s.1 ++ rep o.1 t.toNat).take 200).length : Int) = cap5 (s.2.1 + o.2.1 * t) ∧ mb ((s.1 ++ rep o.1 t.toNat).take 200) = cap5 (s.2.2 + o.2.2 * t)
    rw [List.take_of_length_le (by rw [List.length_append]; omega), List.length_append, mb_app]
    unfold cap5
    omega
theorem zo_self {M : pM} {a : Int} {c : Nat} (h : ∀ j, M a j = pu_df c j) : pu_zo M a c = M := by
  funext x
  by_cases e : x = a
  · subst e
    funext j
    rw [zo_at, h]
  · rw [zo_ne e]
theorem pt_new {S : List psh} {M M' : pM} {s s' : Int} {pts : List (Int × sps)} (h : PtR S M s pts) {S' : List psh} (hs : S <+: S') (h17 : M' 17 = M 17) (h18 : M' 18 = M 18) (f : ∀ x : Int, 288 ≤ x → x < S.length → M' x = M x) (n1 : (S.length : Int) ≤ s') (n2 : (S.length : Int) ≤ M' s' 0) (n3 : M' (M' s' 0) 1 = -4) : PtR S' M' s' pts := by
  intro k hk
  obtain ⟨a1, ⟨c, a2⟩, a3, a4, a5⟩ := h k hk
  have cc := a2.cells
  have eo := f _ cc.1.1 cc.1.2
  have ea := f _ cc.2.1 cc.2.2
  rw [h17, h18]
  refine ⟨a1, ⟨c, a2.fr hs f⟩, a3, ⟨by omega, by rw [eo]; omega, ?_⟩, a5⟩
  rw [eo, ea, n3]
  by_cases z : M (M (M 18 k) 0) 1 = -4
  · exact Or.inl z
  · exact Or.inr z
section
variable {Q : Prop} {X : px} {S0 S : List psh} {M0 M : pM} {Ts : List tok} {O : Ot} {E : Int → List psh → pM → Prop} {B : Int} {h d : Nat} {n : Int} {m : Nat} {w : Int × Int} {NB β s : Int} {cur : sps} {pts : List (Int × sps)}
theorem rd_put {F : List psh → pM → Prop} {dd dr : Nat} {e : elt} {r : Int} {p : Option (Int × Int)} {sO : Ot} (hdd : 20 ≤ dd) (hdr : dr + 1 ≤ dd) (tk : TkR S0 M0 Ts NB) (ps : PS0 Q S0 M0 Ts NB B S M h d n m w) (sa : StA S0 β S M s cur) (pt : PtR S M s pts) (st : StepR S M r e) (hB : B + 300 ≤ NB) (hO : O = cmb (mU Ts h 4 p) sO) (hE : ∀ r S' M', FtR S0 M0 O (NB + 1) r S' M' → E r S' M') {G : List psh → pM → Prop} (hG : ∀ S' M', S <+: S' → wX3_tell_219 dd X F E S' M' → G S' M') (k : ∀ S' M', S <+: S' → PS0 Q S0 M0 Ts NB (B + 300) S' M' (h + 1) d n m w → StA S0 β S' M' s (addS cur e) → PtR S' M' s pts → (∀ x : Int, 0 ≤ x → x < β → x ≠ 16 → M' x = M x) → O = cmb p sO → F S' M') : pAv true X mX8_add 8 [pR s, pR r] S M G := by
  obtain ⟨⟨c, sb⟩, s1, s2, s3⟩ := sa
  have h288 := tk.1
  have sw := sb.w
  refine s_addP sb s3.1.1 s2 s3.2.1 s3.2.2 st ((rd_rm tk ps.1 ps.2.2.2.2).le (by decide) (by decide)) (fun S' M' c' sb' cc g fb => ?_)
  have pre := g.1
  have sw' := sb'.w
  have fr : ∀ x : Int, 0 ≤ x → x < β → M' x = M x := fb.1.2
  have ps' : PS0 Q S0 M0 Ts NB (B + 300) S' M' h d n m w := by
    obtain ⟨p1, p2, p3, p4, p5⟩ := ps
    refine ⟨p1.grow (g.le (by omega) (Int.le_refl _)) (by omega) (fun x a b => fr x a (by omega)), ?_, p3, p4, hB⟩
    unfold RdF
    rw [fr 16 (by decide) (by omega)]
    exact p2
  refine hG S' M' pre (bX3_tell_219 hdd hdr (rd_must tk ps' (by constructor <;> decide) (by decide) (by decide) hO hE (fun M2 f2 ps2 _ hO2 _ => ?_)))
  refine k S' M2 pre ps2 ?_ ?_ (fun x a b c => by rw [f2 x c]; exact fr x a b) hO2
  · exact StA.u16 ⟨⟨c', sb'⟩, s1, by have := pre_len pre; omega, ok_addS s3⟩ f2
  · exact (pt.ly sb (by omega) fb).fr (List.prefix_refl _) sb'.cells (f2 17 (by decide)) (f2 18 (by decide)) (fun x a _ => f2 x (by omega))
/-- what a statement gives -/
def TlK (Q : Prop) (S0 : List psh) (M0 : pM) (Ts : List tok) (O : Ot) (NB : Int) (n : Int) (st : List (Int × Nat × sps)) (pts : List (Int × sps)) (β s : Int) (f h mm : Nat) (S : List psh) (M : pM) (F : List psh → pM → Prop) : Prop := ∀ (S' : List psh) (M' : pM) (h' f' : Nat) (cur' : sps) (w' : Int × Int) (B' : Int), S <+: S' → PS0 Q S0 M0 Ts NB B' S' M' h' st.length n pts.length w' → StA S0 β S' M' s cur' → PtR S' M' s pts → (∀ x : Int, 0 ≤ x → x < β → x ≠ 16 → M' x = M x) → O = cmb (prs Ts f' h' st.length mm) (sem Ts n f' h' (cur', st, pts, aft Ts st h cur' w')) → B' ≤ 320 * (h' : Int) → h < h' → 401 ≤ h' + f' → f' < f → F S' M'
def TellOK (Q : Prop) (X : px) (S0 : List psh) (M0 : pM) (Ts : List tok) (O : Ot) (E : Int → List psh → pM → Prop) (NB n : Int) (d : Nat) : Prop := ∀ (dd f h mm : Nat) (st : List (Int × Nat × sps)) (pts : List (Int × sps)) (w : Int × Int) (B β s : Int) (cur : sps) (S : List psh) (M : pM) (F : List psh → pM → Prop), 21 + 2 * (4 - d) ≤ dd → st.length = d → PS0 Q S0 M0 Ts NB B S M h st.length n pts.length w → StA S0 β S M s cur → PtR S M s pts → B ≤ 320 * (h : Int) → 401 ≤ h + f → O = cmb (prs Ts f h st.length mm) (sem Ts n f h (cur, st, pts, w)) → (d = 0 → tK Ts h ≠ 0 ∧ tK Ts h ≠ 11) → (d ≠ 0 → tK Ts h ≠ 6) → TlK Q S0 M0 Ts O NB n st pts β s f h mm S M F → pXv true X mX3_tell dd [pR 16, pR s] S M F E
/-- what a body gives -/
def BdK (Q : Prop) (S0 : List psh) (M0 : pM) (Ts : List tok) (O : Ot) (NB : Int) (n : Int) (fr : Int × Nat × sps) (st : List (Int × Nat × sps)) (pts : List (Int × sps)) (f h mm : Nat) (S : List psh) (M : pM) (F : Int → List psh → pM → Prop) : Prop := ∀ (r : Int) (S' : List psh) (M' : pM) (h' f' : Nat) (cur' : sps) (w' : Int × Int) (B' : Int), S <+: S' → PS0 Q S0 M0 Ts NB B' S' M' h' st.length n pts.length w' → StA S0 S.length S' M' r cur' → PtR S' M' r pts → (∀ x : Int, 0 ≤ x → x < S.length → x ≠ 16 → M' x = M x) → O = cmb (prs Ts f' h' st.length mm) (sem Ts n f' h' (pop Ts fr st pts cur' w')) → B' ≤ 320 * ((h' : Int) - 1) → h < h' → 401 ≤ h' + f' → f' < f → F r S' M'
theorem rd_body12 {F : Int → List psh → pM → Prop} {dd mm : Nat} {fr : Int × Nat × sps} {st : List (Int × Nat × sps)} {r : Int} {S1 : List psh} {M1 : pM} {f1 h1 : Nat} (tk : TkR S0 M0 Ts NB) (hNB : NB = 320 * (Ts.length : Int) + 1000) (hd : st.length + 1 ≤ 4) (hdd : 20 ≤ dd) (hdr : 21 + 2 * (4 - (st.length + 1)) + 1 ≤ dd) (tell : TellOK Q X S0 M0 Ts O E NB n (st.length + 1)) (hE : ∀ r S' M', FtR S0 M0 O (NB + 1) r S' M' → E r S' M') (h01 : S0 <+: S1) (k : BdK Q S0 M0 Ts O NB n fr st pts f1 h1 mm S1 M1 F) : ∀ (f h : Nat) (cur : sps) (w : Int × Int) (B : Int) (S : List psh) (M : pM), f ≤ f1 → h1 ≤ h → S1 <+: S → (∀ x : Int, 0 ≤ x → x < S1.length → x ≠ 16 → M x = M1 x) → PS0 Q S0 M0 Ts NB B S M h (st.length + 1) n pts.length w → StA S0 S1.length S M r cur → PtR S M r pts → B ≤ 320 * (h : Int) → 401 ≤ h + f → O = cmb (prs Ts f h (st.length + 1) mm) (sem Ts n f h (cur, fr :: st, pts, w)) → wX3_body_12 dd X F E r S M := by
  intro f
  induction f using Nat.strongRecOn with
  | _ f ih =>
    intro h cur w B S M hf hh pre frm ps sa pt hB h401 hO
    have h4 := ps.2.2.2.1.1
    obtain ⟨g, rfl⟩ : ∃ g, f = g + 1 := ⟨f - 1, by omega⟩
    refine bX3_body_12 hdd (dr := dd - 1) (by omega) (rd_is tk ps (by constructor <;> decide) (fun y => ⟨by constructor <;> decide, fun _ => ?_, fun z => by omega⟩) (fun y => ⟨by constructor <;> decide, fun z => absurd rfl z, fun _ => ?_⟩))
    · rw [kd_6 y, if_neg (by omega), sm_6 y, Nat.add_sub_cancel] at hO
      refine rd_go tk ps (by omega) (by omega) hO hE (fun M' f' ps' hO' _ M7 e7 => ?_)
      have d7 : M' 16 2 = ((st.length + 1 : Nat) : Int) := ps'.2.1.2.1
      rw [d7] at e7
      have f7 : ∀ x, x ≠ 16 → M7 x = M' x := fun x hx => by rw [e7, up_ne hx]
      have ff : ∀ x, x ≠ 16 → M7 x = M x := fun x hx => (f7 x hx).trans (f' x hx)
      refine k r S M7 (h + 1) g cur w B pre ?_ (sa.u16 ff) (pt.fr (List.prefix_refl _) ?_ (ff 17 (by decide)) (ff 18 (by decide)) (fun x a _ => ff x (by omega))) (fun x a b c => by rw [ff x c]; exact frm x a b c) hO' (by omega) (by omega) (by omega) (by omega)
      · obtain ⟨p1, ⟨r1, r2, r3, r4, r5, r6⟩, p3, p4, p5⟩ := ps'
        refine ⟨p1.u16 f7, ⟨?_, ?_, ?_, ?_, ?_, ?_⟩, p3, p4, p5⟩
        · rw [e7, up_oi (by decide)]; exact r1
        · rw [e7, up_same]; omega
        · rw [e7, up_oi (by decide)]; exact r3
        · rw [e7, up_oi (by decide)]; exact r4
        · rw [e7, up_oi (by decide)]; exact r5
        · rw [e7, up_oi (by decide)]; exact r6
      · obtain ⟨⟨c, sb⟩, _⟩ := sa
        exact sb.cells
    · refine tell (dd - 1) (g + 1) h mm (fr :: st) pts w B S1.length r cur S M _ (by omega) (by rw [List.length_cons]) (by rw [List.length_cons]; exact ps) sa pt hB h401 (by rw [List.length_cons]; exact hO) (fun z => by omega) (fun _ => y) ?_
      intro S' M' h' f' cur' w' B' pre' ps' sa' pt' fr' hO' hB' hh' h401' hf' _
      rw [List.length_cons] at ps' hO'
      exact ih f' hf' h' cur' w' B' S' M' (by omega) (by omega) (pre.trans pre') (fun x a b c => (fr' x a b c).trans (frm x a b c)) ps' sa' pt' hB' h401' hO'
theorem rd_body {F : Int → List psh → pM → Prop} {dd f mm : Nat} {fr : Int × Nat × sps} {st : List (Int × Nat × sps)} (tk : TkR S0 M0 Ts NB) (hNB : NB = 320 * (Ts.length : Int) + 1000) (hdd : 20 ≤ dd) (hdr : st.length + 1 ≤ 4 → 21 + 2 * (4 - (st.length + 1)) + 1 ≤ dd) (tell : st.length + 1 ≤ 4 → TellOK Q X S0 M0 Ts O E NB n (st.length + 1)) (hE : ∀ r S' M', FtR S0 M0 O (NB + 1) r S' M' → E r S' M') (hd : st.length ≤ 4) (ps : PS0 Q S0 M0 Ts NB B S M h st.length n pts.length w) (pt : PtR S M s pts) (hB : B + 2 ≤ 320 * (h : Int)) (h401 : 401 ≤ h + f) (hO : O = cmb (oP Ts h st.length (prs Ts f (h + 1) (st.length + 1) mm)) (sem Ts n f (h + 1) (emS, fr :: st, pts, w))) (k : BdK Q S0 M0 Ts O NB n fr st pts (f + 1) h mm S M F) : pXr true X mX3_body dd [pR 16] S M F E := by
  have h288 := tk.1
  have h4 := ps.2.2.2.1
  have l0 := pre_len ps.1.1
  refine eX3_body (bX3_body_0 hdd (dr := dd - 1) (by omega) (eX3_opens (bX3_opens_0 (rd_is tk ps (by constructor <;> decide) (fun y => ⟨by constructor <;> decide, fun _ => ?_, fun z => by omega⟩) (fun y => ⟨by constructor <;> decide, fun z => absurd rfl z, fun _ => rd_fault tk ps (by decide) (by unfold oP at hO; rw [if_neg y] at hO; exact hO) hE⟩)))))
  unfold oP at hO
  rw [if_pos y] at hO
  rw [ps.2.1.2.1]
  refine ⟨by constructor <;> omega, fun z M5 e5 => ?_, fun z => rd_fault tk ps (by decide) (by rw [if_pos (show st.length = 4 by omega)] at hO; exact hO) hE⟩
  rw [if_neg (by omega)] at hO
  have f5 : ∀ x, x ≠ 16 → M5 x = M x := fun x hx => by rw [e5, up_ne hx]
  have ps5 : PS0 Q S0 M0 Ts NB B S M5 h (st.length + 1) n pts.length w := by
    obtain ⟨p1, ⟨r1, r2, r3, r4, r5, r6⟩, p3, p4, p5⟩ := ps
    refine ⟨p1.u16 f5, ⟨?_, ?_, ?_, ?_, ?_, ?_⟩, p3, p4, p5⟩
    · rw [e5, up_oi (by decide)]; exact r1
    · rw [e5, up_same]; rfl
    · rw [e5, up_oi (by decide)]; exact r3
    · rw [e5, up_oi (by decide)]; exact r4
    · rw [e5, up_oi (by decide)]; exact r5
    · rw [e5, up_oi (by decide)]; exact r6
  refine rd_go tk ps5 (by omega) (by omega) hO hE (fun M' f' ps' hO' _ => ?_)
  intro _
  have rm := rd_rm tk ps'.1 ps'.2.2.2.2
  have ff : ∀ x, x ≠ 16 → M' x = M x := fun x hx => (f' x hx).trans (f5 x hx)
  refine ⟨by have := rm.1; omega, by have := rm.2; omega, fun r5 S6 M7 e1 e2 e3 => ?_⟩
  subst e1
  subst e2
  subst e3
  refine ⟨⟨_, shq_new⟩, s_new (by omega) (rm.le (by decide) (by decide)) (fun M2 sb fx _ => ?_)⟩
  have pre : S <+: S ++ [(.inl 9, 3)] ++ [(.inl 4, 3)] := (List.prefix_append _ _).trans (List.prefix_append _ _)
  have g2 : grw S (S ++ [(.inl 9, 3)] ++ [(.inl 4, 3)]) 2 6 := ((grw_one (S := S) (σ := (.inl 9, 3))).trans grw_one).le (by decide) (by decide)
  have cc := sb.cells
  refine rd_body12 (fr := fr) (S1 := S) (M1 := M) (f1 := f) (h1 := h + 1) tk hNB (by omega) hdd (hdr (by omega)) (tell (by omega)) hE ps.1.1 (fun r S' M' h' f' cur' w' B' q1 q2 q3 q4 q5 q6 q7 q8 q9 q10 => k r S' M' h' f' cur' w' B' q1 q2 q3 q4 q5 q6 q7 (by omega) q9 (by omega)) f (h + 1) emS w (B + 2) _ M2 (Nat.le_refl _) (Nat.le_refl _) pre (fun x a b c => by rw [fx x b, ff x c]) ?_ ⟨⟨0, sb⟩, l0, by have := pre_len pre; omega, ⟨⟨by show 0 ≤ 200; decide, fun _ => ⟨rfl, rfl⟩⟩, ⟨by decide, by decide⟩, by decide, by decide⟩⟩ ?_ (by omega) (by omega) hO'
  · obtain ⟨p1, ⟨r1, r2, r3, r4, r5, r6⟩, p3, p4, p5⟩ := ps'
    have c16 : M2 16 = M' 16 := fx 16 (by omega)
    refine ⟨p1.grow g2 (by decide) (fun x a b => fx x (by omega)), ?_, p3, p4, by have := h4.2.1; omega⟩
    unfold RdF
    rw [c16]
    exact ⟨r1, r2, r3, r4, r5, r6⟩
  · have n3 : M2 (M2 S.length 0) 1 = -4 := by
      obtain ⟨l, a0, a1, a2, a3, a4, _⟩ := sb
      rcases a4.2.2 with z | ⟨q, z1, z2, z3, _⟩
      · exact z.1
      · omega
    have n2 : (S.length : Int) ≤ M2 S.length 0 := by
      obtain ⟨l, a0, a1, a2, a3, _⟩ := sb
      exact a3
    exact pt_new pt pre (by rw [fx 17 (by omega), ff 17 (by decide)]) (by rw [fx 18 (by omega), ff 18 (by decide)]) (fun x a b => by rw [fx x b, ff x (by omega)]) (Int.le_refl _) n2 n3
end
