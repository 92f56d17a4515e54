/-! ===== the twin tells: each statement ===== -/
set_option maxRecDepth 100000
def ptl (pts : List (Int × List elt)) (k : Nat) : Int × List elt := pts.getD k (0, [])
def StkR (Ts : List tok) (M : pM) (np : Nat) : List (Int × Nat) → Prop
  | [] => True
  | (t, fr) :: st => M 265 st.length = t ∧ (t ≠ -1 → M 266 st.length = fr) ∧ (t = -1 → M 259 np = fr ∧ M 257 np = tV Ts fr) ∧ StkR Ts M np st
def okSt (Ts : List tok) : Bool → Nat → List (Int × Nat) → Prop
  | ip, _, [] => ip = false
  | ip, len, (t, fr) :: st => (t = -1 ∧ ip = true ∧ st = [] ∧ okH Ts fr) ∨ ((0 ≤ t ∧ t ≤ 9999) ∧ fr ≤ len ∧ okSt Ts ip fr st)
theorem okSt.mono {Ts : List tok} {ip : Bool} {a b : Nat} (h : a ≤ b) : ∀ {st : List (Int × Nat)}, okSt Ts ip a st → okSt Ts ip b st
  | [], q => q
  | (t, fr) :: st, q => by
    rcases q with q | ⟨q1, q2, q3⟩
    · exact Or.inl q
    · exact Or.inr ⟨q1, by omega, q3⟩
def PtT (M : pM) (pts : List (Int × List elt)) : Prop := ∀ p : Nat, p < pts.length → M 257 p = (ptl pts p).1 ∧ M 258 p = 1 ∧ ToR M p (ptl pts p).2 ∧ okK (ptl pts p).2 ∧ 0 ≤ (ptl pts p).1 ∧ (ptl pts p).1 < 282429536481
def nP (ip : Bool) (m : Nat) : Nat := m + (if ip = true then 1 else 0)
def frTd (M0 M : pM) : Prop := (∀ x, x ≠ 241 → (x < 257 ∨ 266 < x) → M x = M0 x) ∧ ∀ j, j ≠ 19 → j ≠ 20 → j ≠ 21 → j ≠ 22 → j ≠ 31 → j ≠ 34 → j ≠ 35 → M 241 j = M0 241 j
def TB (Ts : List tok) (M : pM) (L tl : List elt) (ip : Bool) (st : List (Int × Nat)) (pts : List (Int × List elt)) : Prop := (ToR M (inT ip pts.length) L ∧ okK L) ∧ (ip = true → ToR M 8 tl ∧ okK tl ∧ M 258 pts.length = 0) ∧ PtT M pts ∧ (StkR Ts M pts.length st ∧ okSt Ts ip L.length st) ∧ nP ip pts.length ≤ 8 ∧ st.length ≤ 4
def TF (M : pM) (h d m : Nat) (i n : Int) (w : Int × Int) : Prop := M 241 19 = h ∧ M 241 31 = d ∧ M 241 22 = m ∧ M 241 34 = i ∧ M 241 35 = n ∧ M 241 20 = w.1 ∧ M 241 21 = w.2
def TSt (M0 : pM) (Ts : List tok) (n : Int) (M : pM) (h : Nat) (L tl : List elt) (ip : Bool) (st : List (Int × Nat)) (pts : List (Int × List elt)) (w : Int × Int) : Prop := frTd M0 M ∧ TF M h st.length (nP ip pts.length) (inT ip pts.length) n w ∧ TB Ts M L tl ip st pts ∧ okFw w ∧ okH Ts h
theorem putL_ge {L A : List elt} (h : L.length ≤ 201) : L.length ≤ (putL L A).length := by unfold putL; rw [List.length_take, List.length_append]; omega
theorem ToR.u {M M' : pM} {p : Int} {L : List elt} (h : ToR M p L) (f : ∀ x, x ≠ 241 → M' x = M x) : ToR M' p L := by
  unfold ToR
  rw [f 260 (by decide), f 261 (by decide), f 262 (by decide), f 263 (by decide), f 264 (by decide)]
  exact h
theorem StkR.u {Ts : List tok} {M M' : pM} {np : Nat} (h5 : M' 265 = M 265) (h6 : M' 266 = M 266) (h9 : M' 259 = M 259) (h7 : M' 257 = M 257) : ∀ (st : List (Int × Nat)), StkR Ts M np st → StkR Ts M' np st
  | [], _ => trivial
  | (t, fr) :: st, ⟨a, b, c, d⟩ => ⟨by rw [h5]; exact a, by rw [h6]; exact b, by rw [h9, h7]; exact c, StkR.u h5 h6 h9 h7 st d⟩
theorem TB.u {Ts : List tok} {M M' : pM} {L tl : List elt} {ip : Bool} {st : List (Int × Nat)} {pts : List (Int × List elt)} (h : TB Ts M L tl ip st pts) (f : ∀ x, x ≠ 241 → M' x = M x) : TB Ts M' L tl ip st pts := by
  obtain ⟨⟨a1, a2⟩, b, c, ⟨d1, d2⟩, e⟩ := h
  refine ⟨⟨a1.u f, a2⟩, fun z => ⟨(b z).1.u f, (b z).2.1, by rw [f 258 (by decide)]; exact (b z).2.2⟩, fun p hp => ?_, ⟨StkR.u (f 265 (by decide)) (f 266 (by decide)) (f 259 (by decide)) (f 257 (by decide)) st d1, d2⟩, e⟩
  rw [f 257 (by decide), f 258 (by decide)]
  obtain ⟨q1, q2, q3, q4⟩ := c p hp
  exact ⟨q1, q2, q3.u f, q4⟩
theorem inT_bd {ip : Bool} {m : Nat} (h : nP ip m ≤ 8) : 0 ≤ inT ip m ∧ inT ip m < 9 := by
  unfold inT
  unfold nP at h
  cases ip
  · exact ⟨show (0 : Int) ≤ 8 by decide, show (8 : Int) < 9 by decide⟩
  · simp at h ⊢; omega
theorem inT_ne {ip : Bool} {m p : Nat} (h : nP ip m ≤ 8) (hp : p < m) : (p : Int) ≠ inT ip m := by
  unfold inT
  unfold nP at h
  cases ip
  · simp at h ⊢; omega
  · simp at h ⊢; omega
/-- the list in hand changes -/
theorem TB.put {Ts : List tok} {M M' : pM} {L L' tl : List elt} {ip : Bool} {st : List (Int × Nat)} {pts : List (Int × List elt)} (h : TB Ts M L tl ip st pts) (f : frX (inT ip pts.length) M M') (to : ToR M' (inT ip pts.length) L') (ok : okK L') (hlen : L.length ≤ L'.length) : TB Ts M' L' tl ip st pts := by
  obtain ⟨⟨a1, a2⟩, b, c, ⟨d1, d2⟩, e1, e2⟩ := h
  refine ⟨⟨to, ok⟩, fun z => ?_, fun p hp => ?_, ⟨StkR.u (f.1 265 (by omega)) (f.1 266 (by omega)) (f.1 259 (by omega)) (f.1 257 (by omega)) st d1, d2.mono hlen⟩, e1, e2⟩
  · obtain ⟨b1, b2, b3⟩ := b z
    refine ⟨f.2 8 tl ?_ (by decide) b2.1 b1, b2, by rw [f.1 258 (by omega)]; exact b3⟩
    subst z
    unfold inT
    unfold nP at e1
    simp at e1 ⊢
    omega
  · obtain ⟨q1, q2, q3, q4, q5⟩ := c p hp
    rw [f.1 257 (by omega), f.1 258 (by omega)]
    exact ⟨q1, q2, f.2 p _ (inT_ne e1 hp) (by omega) q4.1 q3, q4, q5⟩
theorem frTd.x {p : Int} {M0 M M' : pM} (h : frTd M0 M) (f : frX p M M') : frTd M0 M' := ⟨fun x a b => by
  rcases Int.lt_or_le x 260 with q | q
  · rw [f.1 x (by omega)]; exact h.1 x a b
  · rw [f.1 x (by omega)]; exact h.1 x a b, fun j h1 h2 h3 h4 h5 h6 h7 => by rw [f.1 241 (by omega)]; exact h.2 j h1 h2 h3 h4 h5 h6 h7⟩
theorem TF.x {p : Int} {M M' : pM} {h d m : Nat} {i n : Int} {w : Int × Int} (t : TF M h d m i n w) (f : frX p M M') : TF M' h d m i n w := by
  unfold TF
  rw [f.1 241 (by omega)]
  exact t
section
variable {X : px} {S : List psh} {M0 M : pM} {Ts : List tok} {n : Int} {h : Nat} {L tl : List elt} {ip : Bool} {st : List (Int × Nat)} {pts : List (Int × List elt)} {w : Int × Int}
theorem ts_tok (tk : TkT M0 Ts) (fd : frTd M0 M) {j : Nat} (o : okH Ts j) : M 253 j = srt5 (tK Ts j) ∧ M 254 j = tP Ts j ∧ (tK Ts j ≠ 0 → tK Ts j ≠ 1 → tK Ts j ≠ 3 → M 255 j = wht (tkd Ts j)) ∧ (tK Ts j = 1 → M 256 j = tV Ts j) := by
  rw [fd.1 253 (by decide) (by omega), fd.1 254 (by decide) (by omega), fd.1 255 (by decide) (by omega), fd.1 256 (by decide) (by omega)]
  exact tk.2 j o
theorem tv_bd (tk : TkT M0 Ts) {j : Nat} (o : okH Ts j) : (0 ≤ tV Ts j ∧ tV Ts j < 282429536481) ∧ (tK Ts j = 2 → tV Ts j ≤ 9999) ∧ 0 ≤ tP Ts j ∧ tP Ts j ≤ 2000 := by
  obtain ⟨t1, _, _, _, _, _, t7, t8⟩ := tk.1
  have := t1 j o.2.1
  exact ⟨t7 j o.2.1, t8 j o.2.1, by omega, this.2⟩
/-- a field of the twin alone -/
theorem TSt.fld {M' : pM} {h' : Nat} {w' : Int × Int} (t : TSt M0 Ts n M h L tl ip st pts w) (f : ∀ x, x ≠ 241 → M' x = M x) (f2 : ∀ j, j ≠ 19 → j ≠ 20 → j ≠ 21 → M' 241 j = M 241 j) (a1 : M' 241 19 = h') (a2 : M' 241 20 = w'.1) (a3 : M' 241 21 = w'.2) (ok : okFw w') (o : okH Ts h') : TSt M0 Ts n M' h' L tl ip st pts w' := by
  obtain ⟨p1, ⟨q1, q2, q3, q4, q5, q6, q7⟩, p3, p4, p5⟩ := t
  refine ⟨⟨fun x a b => by rw [f x a]; exact p1.1 x a b, fun j h1 h2 h3 h4 h5 h6 h7 => by rw [f2 j h1 h2 h3]; exact p1.2 j h1 h2 h3 h4 h5 h6 h7⟩, ⟨a1, ?_, ?_, ?_, ?_, a2, a3⟩, p3.u f, ok, o⟩
  · rw [f2 31 (by decide) (by decide) (by decide)]; exact q2
  · rw [f2 22 (by decide) (by decide) (by decide)]; exact q3
  · rw [f2 34 (by decide) (by decide) (by decide)]; exact q4
  · rw [f2 35 (by decide) (by decide) (by decide)]; exact q5
theorem TSt.go {M' : pM} {h' : Nat} (t : TSt M0 Ts n M h L tl ip st pts w) (e : M' = pu_up M 241 19 (h' : Int)) (o : okH Ts h') : TSt M0 Ts n M' h' L tl ip st pts w := by
  have t0 := t
  obtain ⟨_, ⟨_, _, _, _, _, q6, q7⟩, _, p4, _⟩ := t
  exact t0.fld (fun x hx => by rw [e, up_ne hx]) (fun j h1 _ _ => by rw [e, up_oi h1]) (by rw [e, up_same]) (by rw [e, up_oi (by decide)]; exact q6) (by rw [e, up_oi (by decide)]; exact q7) p4 o
theorem ts_tells {F : pM → Prop} {kd : Int} {j : Nat} (tk : TkT M0 Ts) (t : TSt M0 Ts n M h L tl ip st pts w) (hk : 1 ≤ kd ∧ kd ≤ 6) (o : okH Ts j) (k : ∀ M', TSt M0 Ts n M' h L tl ip st pts (wr w kd (tP Ts j)) → F M') : pNv true X mX6_tells 1 [pR 241, pI kd, pI j] S M F := by
  have t0 := t
  obtain ⟨p1, ⟨q1, q2, q3, q4, q5, q6, q7⟩, p3, p4, p5⟩ := t
  obtain ⟨_, _, b1, b2⟩ := tv_bd tk o
  obtain ⟨w1, w2⟩ := p4
  have h4 := o.1
  have same : (w.1 ≠ 0 ∧ (w.2 < tP Ts j ∨ (tP Ts j = w.2 ∧ w.1 ≤ kd))) → F M := fun z => by
    have e : wr w kd (tP Ts j) = w := by unfold wr; rw [if_pos z]
    have := k M
    rw [e] at this
    exact this t0
  have set : ¬ (w.1 ≠ 0 ∧ (w.2 < tP Ts j ∨ (tP Ts j = w.2 ∧ w.1 ≤ kd))) → wX6_tells_39 X F kd (tP Ts j) S M := fun z => by
    have e : wr w kd (tP Ts j) = (kd, tP Ts j) := by unfold wr; rw [if_neg z]
    refine bX6_tells_39 (fun M1 e1 M2 e2 => ?_)
    have := k M2
    rw [e] at this
    refine this (t0.fld (fun x hx => by rw [e2, up_ne hx, e1, up_ne hx]) (fun i _ h2 h3 => by rw [e2, up_oi h3, e1, up_oi h2]) (by rw [e2, up_oi (by decide), e1, up_oi (by decide)]; exact q1) (by rw [e2, up_oi (by decide), e1, up_same]) (by rw [e2, up_same]) ⟨⟨show (0 : Int) ≤ kd by omega, show kd ≤ 6 by omega⟩, fun _ => ⟨b1, b2⟩⟩ p5)
  refine eX6_tells (bX6_tells_0 ?_)
  rw [(ts_tok tk p1 o).2.1, q6, q7]
  refine ⟨by omega, by omega, by constructor <;> omega, fun z => set (fun y => y.1 z), fun z => ?_⟩
  have w2' := w2 z
  exact ⟨by constructor <;> omega, by constructor <;> omega, fun y => same ⟨z, by omega⟩, fun y => ⟨by constructor <;> omega, by constructor <;> omega, fun q => set (fun u => by omega), fun q => ⟨by constructor <;> omega, by constructor <;> omega, fun u => set (fun u => by omega), fun u => same ⟨z, by omega⟩⟩⟩⟩
theorem ts_put {F : pM → Prop} {e : elt} (t : TSt M0 Ts n M h L tl ip st pts w) (he : 0 ≤ e.1 ∧ e.1 ≤ 3) (k : ∀ M', frX (inT ip pts.length) M M' → TSt M0 Ts n M' h (putL L [e]) tl ip st pts w → F M') : pNv true X mX6_put 1 [pR 241, pI e.1, pI e.2.1, pI e.2.2.1, pI e.2.2.2] S M F := by
  obtain ⟨p1, p2, p3, p4, p5⟩ := t
  refine tl_put (inT_bd p3.2.2.2.2.1) p2.2.2.2.1 p3.1.1 p3.1.2.1 (fun M' f to => k M' f ⟨p1.x f, p2.x f, p3.put f to (p3.1.2.put (fun x hx => by rw [List.mem_singleton.1 hx]; exact he)) (putL_ge p3.1.2.1), p4, p5⟩)
theorem ts_isLong {F : Int → pM → Prop} (t : TSt M0 Ts n M h L tl ip st pts w) (k1 : lgT L = true → F 1 M) (k0 : lgT L = false → F 0 M) : pNi true X mX6_isLong 1 [pR 241] S M F := by
  obtain ⟨p1, p2, p3, p4, p5⟩ := t
  exact tl_isLong (inT_bd p3.2.2.2.2.1) p2.2.2.2.1 p3.1.1 p3.1.2 k1 k0
theorem ts_leg {F : pM → Prop} (tk : TkT M0 Ts) (hn : 2 ≤ n ∧ n ≤ 7) (t : TSt M0 Ts n M h L tl ip st pts w) (o : okH Ts (h + 1)) (e : tK Ts (h + 1) = 2) (k : ∀ M', TSt M0 Ts n M' h L tl ip st pts (elW Ts n h w) → F M') : pNv true X mX6_checkLeg 2 [pR 241, pI ((h + 1 : Nat) : Int)] S M F := by
  obtain ⟨v1, v2, _⟩ := tv_bd tk o
  have v2 := v2 e
  have h4 := o.1
  have tt := (ts_tok tk t.1 o).2.2.1 (by omega) (by omega) (by omega)
  rw [wht_i e] at tt
  refine eX6_checkLeg (bX6_checkLeg_0 ?_)
  rw [tt, t.2.1.2.2.2.2.1]
  refine ⟨by omega, by omega, by constructor <;> omega, by constructor <;> omega, fun y => k M ?_, fun y => ts_tells tk t (by decide) o (fun M' t' => k M' ?_)⟩
  · unfold elW wrI
    rw [decide_eq_false (by omega), if_neg (by decide)]
    exact t
  · unfold elW wrI
    rw [decide_eq_true y, if_pos rfl]
    exact t'
theorem ts_elem {F : pM → Prop} (tk : TkT M0 Ts) (hn : 2 ≤ n ∧ n ≤ 7) (t : TSt M0 Ts n M h L tl ip st pts w) (e : tK Ts h = 12 ∨ tK Ts h = 13 ∨ tK Ts h = 14) (o : okH Ts (h + 1)) (e1 : tK Ts (h + 1) = 2) (o3 : okH Ts (h + 3)) (k : ∀ M', TSt M0 Ts n M' (h + 3) (putL L [elR Ts h]) tl ip st pts (elW Ts n h w) → F M') : pNv true X mX6_tellElement 3 [pR 241, pI (tK Ts h - 10)] S M F := by
  have h4 := o.1
  refine eX6_tellElement (bX6_tellElement_0 ?_)
  rw [t.2.1.1]
  refine ts_leg tk hn t o e1 (fun M1 t1 => ?_)
  have tt := (ts_tok tk t1.1 o).2.2.1 (by omega) (by omega) (by omega)
  rw [wht_i e1] at tt
  have tt : M1 255 ((h : Int) + 1) = tV Ts (h + 1) := tt
  rw [t1.2.1.1, tt]
  refine ⟨by omega, by omega, ?_⟩
  have := ts_put (X := X) (S := S) (F := fun M4 => ∀ M5 : pM, M5 = pu_up M4 241 19 ((M4 241 19) + 3) → F M5) (e := elR Ts h) t1 (by unfold elR; show 0 ≤ tK Ts h - 12 ∧ tK Ts h - 12 ≤ 3; omega) (fun M4 _ t4 M5 e5 => k M5 (t4.go (by rw [e5, t4.2.1.1]; rfl) o3))
  rw [show tK Ts h - 10 - 2 = tK Ts h - 12 by omega]
  exact this
theorem ts_maybe {F : pM → Prop} (tk : TkT M0 Ts) (hn : 2 ≤ n ∧ n ≤ 7) (t : TSt M0 Ts n M h L tl ip st pts w) (o1 : okH Ts (h + 1)) (e1 : tK Ts (h + 1) = 2) (o2 : okH Ts (h + 2)) (e2 : tK Ts (h + 2) = 2) (o3 : okH Ts (h + 3)) (e3 : tK Ts (h + 3) = 2) (o5 : okH Ts (h + 5)) (k : ∀ M', TSt M0 Ts n M' (h + 5) (putL L [myR Ts h]) tl ip st pts (myV Ts n h w) → F M') : pNv true X mX6_tellMaybe 3 [pR 241] S M F := by
  have h4 := o3.1
  obtain ⟨⟨a0, _⟩, a9, _⟩ := tv_bd tk o2
  obtain ⟨⟨b0, _⟩, b9, _⟩ := tv_bd tk o3
  have a9 := a9 e2
  have b9 := b9 e3
  refine eX6_tellMaybe (bX6_tellMaybe_0 ?_)
  rw [t.2.1.1]
  refine ts_leg tk hn t o1 e1 (fun M1 t1 => ?_)
  have v1 : ∀ M1 w', TSt M0 Ts n M1 h L tl ip st pts w' → M1 255 ((h : Int) + 1) = tV Ts (h + 1) ∧ M1 255 ((h : Int) + 2) = tV Ts (h + 2) ∧ M1 255 ((h : Int) + 3) = tV Ts (h + 3) := fun M1 w' t1 => by
    have q1 := (ts_tok tk t1.1 o1).2.2.1 (by omega) (by omega) (by omega)
    have q2 := (ts_tok tk t1.1 o2).2.2.1 (by omega) (by omega) (by omega)
    have q3 := (ts_tok tk t1.1 o3).2.2.1 (by omega) (by omega) (by omega)
    rw [wht_i e1] at q1
    rw [wht_i e2] at q2
    rw [wht_i e3] at q3
    exact ⟨q1, q2, q3⟩
  obtain ⟨_, u2, u3⟩ := v1 M1 _ t1
  rw [t1.2.1.1, u2, u3]
  have g71 : ∀ M2, TSt M0 Ts n M2 h L tl ip st pts (myV Ts n h w) → wX6_tellMaybe_71 X F (tV Ts (h + 2)) (tV Ts (h + 3)) S M2 := fun M2 t2 => by
    refine bX6_tellMaybe_71 ?_
    rw [t2.2.1.1, (v1 M2 _ t2).1]
    refine ⟨by omega, by omega, ?_⟩
    exact ts_put (X := X) (S := S) (e := myR Ts h) t2 (show (0 : Int) ≤ 3 ∧ (3 : Int) ≤ 3 by decide) (fun M4 _ t4 M5 e5 => k M5 (t4.go (by rw [e5, t4.2.1.1]; rfl) o5))
  have g55 : ∀ M2, TSt M0 Ts n M2 h L tl ip st pts (wrI (decide (tV Ts (h + 3) < 1 ∨ 4 < tV Ts (h + 3))) (elW Ts n h w) 5 (tP Ts (h + 3))) → wX6_tellMaybe_55 X F (tV Ts (h + 2)) (tV Ts (h + 3)) S M2 := fun M2 t2 => by
    refine bX6_tellMaybe_55 ⟨by constructor <;> omega, by constructor <;> omega, fun y => g71 M2 ?_, fun y => ?_⟩
    · unfold myV
      rw [wrI, decide_eq_false (by omega), if_neg (by decide)]
      exact t2
    · rw [t2.2.1.1]
      refine ts_tells (j := h + 2) tk t2 (by decide) o2 (fun M3 t3 => g71 M3 ?_)
      unfold myV
      rw [wrI, decide_eq_true y, if_pos rfl]
      exact t3
  have g44 : (tV Ts (h + 3) < 1 ∨ 4 < tV Ts (h + 3)) → wX6_tellMaybe_44 X F (tV Ts (h + 2)) (tV Ts (h + 3)) S M1 := fun y => by
    refine bX6_tellMaybe_44 ?_
    rw [t1.2.1.1]
    refine ts_tells (j := h + 3) tk t1 (by decide) o3 (fun M3 t3 => g55 M3 ?_)
    rw [wrI, decide_eq_true y, if_pos rfl]
    exact t3
  refine ⟨by omega, by omega, by omega, by omega, by constructor <;> omega, fun y => g44 (Or.inl y), fun y => ⟨by constructor <;> omega, fun z => g55 M1 ?_, fun z => g44 (Or.inr z)⟩⟩
  rw [wrI, decide_eq_false (by omega), if_neg (by decide)]
  exact t1
theorem fdL_none : ∀ (pts : List (Int × List elt)) (v : Int), (∀ k : Nat, k < pts.length → (ptl pts k).1 ≠ v) → fdL pts v = none
  | [], _, _ => rfl
  | (a, s) :: l, v, h => by
    have h0 : a ≠ v := h 0 (by simp)
    have ih := fdL_none l v (fun k hk => h (k + 1) (by simp; omega))
    unfold fdL
    rw [ih]
    exact if_neg h0
theorem fdL_some : ∀ (pts : List (Int × List elt)) (v : Int) (k : Nat), k < pts.length → (ptl pts k).1 = v → (∀ j : Nat, k < j → j < pts.length → (ptl pts j).1 ≠ v) → fdL pts v = some (ptl pts k).2
  | [], _, k, h, _, _ => by simp at h
  | (a, s) :: l, v, 0, _, e, hj => by
    have e : a = v := e
    have ih := fdL_none l v (fun k hk => hj (k + 1) (by omega) (by simp; omega))
    unfold fdL
    rw [ih]
    exact if_pos e
  | (a, s) :: l, v, k + 1, h, e, hj => by
    have ih := fdL_some l v k (by simp at h; omega) e (fun j h1 h2 => hj (j + 1) (by omega) (by simp; omega))
    unfold fdL
    rw [ih]
    rfl
theorem ch_k {up tu n : Int} {P : List elt} (h : ∀ e ∈ P, 0 ≤ e.1 ∧ e.1 ≤ 3) : ∀ e ∈ chL up tu n P, 0 ≤ e.1 ∧ e.1 ≤ 3 := by
  intro e he
  unfold chL at he
  obtain ⟨x, hx, rfl⟩ := List.mem_map.1 he
  have hx' : x ∈ P := by
    split at hx
    · exact hx
    · exact List.mem_reverse.1 hx
  have := h x hx'
  split
  · exact this
  · unfold turnE
    show 0 ≤ (if x.1 = 1 then (2 : Int) else if x.1 = 2 then 1 else x.1) ∧ (if x.1 = 1 then (2 : Int) else if x.1 = 2 then 1 else x.1) ≤ 3
    split
    · decide
    · split
      · decide
      · exact this
theorem ts_use {F : pM → Prop} (tk : TkT M0 Ts) (hn : 2 ≤ n ∧ n ≤ 7) (t : TSt M0 Ts n M h L tl ip st pts w) (o1 : okH Ts (h + 1)) (e1 : tK Ts (h + 1) = 1) (o2 : okH Ts (h + 2)) (oU : okH Ts (h + 2 + usU Ts h)) (oH : okH Ts (usH Ts h)) (k : ∀ M', TSt M0 Ts n M' (usH Ts h) (usL Ts n h L pts) tl ip st pts (usV Ts h pts w) → F M') : pNv true X mX6_tellUse 2 [pR 241] S M F := by
  have h4 := oH.1
  have hH : usH Ts h = h + 2 + usU Ts h + usT Ts h + 1 := by unfold usH; omega
  obtain ⟨v1, _⟩ := tv_bd tk o1
  have nP8 := t.2.2.1.2.2.2.2.1
  have pl : pts.length ≤ nP ip pts.length ∧ nP ip pts.length ≤ pts.length + 1 := by unfold nP; cases ip <;> simp
  -- the elements
  have g146 : ∀ (P : List elt) (x1 : Nat) (M1 : pM) (L1 : List elt) (w1 : Int × Int), okK P → x1 < pts.length → (ptl pts x1).2 = P → (∀ M', TSt M0 Ts n M' (usH Ts h) (putL L1 (chL (usU Ts h) (usT Ts h) n P)) tl ip st pts w1 → F M') → L1.length ≤ 201 → TSt M0 Ts n M1 (usH Ts h) L1 tl ip st pts w1 → wX6_tellUse_146 X F x1 (usU Ts h) (usT Ts h) P.length 0 S M1 := by
    intro P x1 M1 L1 w1 okP hx1 hP k hL1 t1
    have p201 := okP.1
    have loop : ∀ (d : Nat) (i : Int) (M2 : pM), i + d = P.length → 0 ≤ i → TSt M0 Ts n M2 (usH Ts h) (putL L1 ((chL (usU Ts h) (usT Ts h) n P).take i.toNat)) tl ip st pts w1 → wX6_tellUse_146 X F x1 (usU Ts h) (usT Ts h) P.length i S M2 := by
      intro d
      induction d with
      | zero =>
        intro i M2 q1 q2 t2
        rw [List.take_of_length_le (by rw [chL_len]; omega)] at t2
        exact bX6_tellUse_146 ⟨by constructor <;> omega, by constructor <;> omega, fun _ => k M2 t2, fun y => by omega⟩
      | succ d ih =>
        intro i M2 q1 q2 t2
        have i1 : i < P.length := by omega
        have ec := el_chL (up := (usU Ts h : Int)) (tu := (usT Ts h : Int)) (n := n) q2 i1
        have uB : (usU Ts h : Int) = 0 ∨ (usU Ts h : Int) = 1 := by unfold usU; split <;> simp
        have tB : (usT Ts h : Int) = 0 ∨ (usT Ts h : Int) = 1 := by unfold usT; split <;> simp
        have g174 : ∀ j : Int, j = (if (usU Ts h : Int) = 0 then i else P.length - 1 - i) → wX6_tellUse_174 X F x1 (usU Ts h) (usT Ts h) P.length i (201 * x1) j S M2 := by
          intro j hj
          have j0 : 0 ≤ j ∧ j < P.length := by subst hj; split <;> omega
          rw [← hj] at ec
          obtain ⟨_, _, c3, _⟩ := t2.2.2.1.2.2.1 x1 hx1
          rw [hP] at c3
          obtain ⟨m1, m2, m3, m4⟩ := c3.2 j j0.1 j0.2
          have kb := okP.2 _ (el_mem j0.1 j0.2)
          have x8 : (x1 : Int) < 8 := by omega
          have g239 : ∀ s1 s2, s1 = (el (chL (usU Ts h) (usT Ts h) n P) i).1 → s2 = (el (chL (usU Ts h) (usT Ts h) n P) i).2.1 → wX6_tellUse_239 X F x1 (usU Ts h) (usT Ts h) P.length i (201 * x1 + j) s1 s2 S M2 := by
            intro s1 s2 h1 h2
            subst h1
            subst h2
            refine bX6_tellUse_239 ?_
            rw [m3, m4]
            have e3 : (el P j).2.2.1 = (el (chL (usU Ts h) (usT Ts h) n P) i).2.2.1 ∧ (el P j).2.2.2 = (el (chL (usU Ts h) (usT Ts h) n P) i).2.2.2 := by
              rw [ec]
              split
              · exact ⟨rfl, rfl⟩
              · exact ⟨rfl, rfl⟩
            rw [e3.1, e3.2]
            refine ⟨by omega, by omega, by omega, by omega, ts_put t2 (ch_k okP.2 _ (el_mem q2 (by rw [chL_len]; exact i1))) (fun M3 _ t3 => ih (i + 1) M3 (by omega) (by omega) ?_)⟩
            rw [take_snoc q2 (by rw [chL_len]; exact i1), ← putL_app]
            exact t3
          have g208 : ∀ s1, s1 = (el (chL (usU Ts h) (usT Ts h) n P) i).1 → wX6_tellUse_208 X F x1 (usU Ts h) (usT Ts h) P.length i (201 * x1 + j) s1 S M2 := by
            intro s1 h1
            refine bX6_tellUse_208 ?_
            rw [m2, t2.2.1.2.2.2.2.1]
            refine ⟨by constructor <;> omega, fun z => ⟨by omega, by omega, g239 _ _ h1 ?_⟩, fun z => ⟨by omega, by omega, g239 _ _ h1 ?_⟩⟩
            · rw [ec, if_pos z]
            · rw [ec, if_neg z]; rfl
          refine bX6_tellUse_174 ?_
          rw [m1]
          refine ⟨by omega, by omega, by constructor <;> omega, fun z => g208 _ ?_, fun z => ⟨by constructor <;> omega, fun z1 => bX6_tellUse_202 (g208 _ ?_), fun z1 => ⟨by constructor <;> omega, fun z2 => g208 _ ?_, fun z2 => bX6_tellUse_202 (g208 _ ?_)⟩⟩⟩
          · rw [ec, if_pos z]
          · rw [ec, if_neg z]
            unfold turnE
            rw [z1]
            rfl
          · rw [ec, if_neg z]
            unfold turnE
            show _ = (if (el P j).1 = 1 then (2 : Int) else if (el P j).1 = 2 then 1 else (el P j).1)
            rw [if_neg z1, if_neg z2]
          · rw [ec, if_neg z]
            unfold turnE
            rw [z2]
            rfl
        exact bX6_tellUse_146 ⟨by constructor <;> omega, by constructor <;> omega, fun y => by omega, fun _ => ⟨by constructor <;> omega, fun z => g174 _ (by rw [if_pos z]), fun z => g174 _ (by rw [if_neg z])⟩⟩
    exact loop P.length 0 M1 (by omega) (by omega) (by rw [show (0 : Int).toNat = 0 from rfl, List.take_zero, putL_nil hL1]; exact t1)
  have g117 : ∀ (x1 : Int) (M1 : pM), (x1 = -1 ∧ fdL pts (tV Ts (h + 1)) = none ∨ ∃ j : Nat, x1 = j ∧ j < pts.length ∧ fdL pts (tV Ts (h + 1)) = some (ptl pts j).2) → TSt M0 Ts n M1 (h + 2 + usU Ts h + usT Ts h) L tl ip st pts (usV Ts h pts w) → wX6_tellUse_117 X F x1 (usU Ts h) (usT Ts h) S M1 := by
    intro x1 M1 hx t1
    refine bX6_tellUse_117 (fun M2 e2 => ?_)
    have t2 : TSt M0 Ts n M2 (usH Ts h) L tl ip st pts (usV Ts h pts w) := t1.go (by rw [e2, t1.2.1.1, hH]; rfl) oH
    rcases hx with ⟨z, hf⟩ | ⟨j, z, hj, hf⟩
    · subst z
      refine ⟨by constructor <;> decide, fun y => absurd y (by decide), fun _ => bX6_tellUse_141 (bX6_tellUse_146 ⟨by constructor <;> decide, by constructor <;> decide, fun _ => k M2 ?_, fun y => absurd y (by decide)⟩)⟩
      unfold usL
      rw [hf]
      exact t2
    · subst z
      obtain ⟨_, _, c3, c4, _⟩ := t2.2.2.1.2.2.1 j hj
      refine ⟨by constructor <;> omega, fun _ => ⟨by omega, by omega, bX6_tellUse_141 ?_⟩, fun y => by omega⟩
      rw [c3.1]
      refine g146 _ j M2 L _ c4 hj rfl (fun M' t' => k M' ?_) t2.2.2.1.1.2.1 t2
      unfold usL
      rw [hf]
      exact t'
  have wd : ∀ (j : Nat) (c : Int) (M1 : pM) (w1 : Int × Int) (G : Int → pM → Prop), okH Ts j → (0 ≤ c ∧ c ≤ 9) → TSt M0 Ts n M1 j L tl ip st pts w1 → (tK Ts j = 10 + c → G 1 M1) → (tK Ts j ≠ 10 + c → G 0 M1) → pNi true X mX6_isWord 1 [pR 241, pI c] S M1 G := by
    intro j c M1 w1 G oj hc t1 k1 k0
    have tt := ts_tok tk t1.1 oj
    have h4 := oj.1
    have kb := tk.1.2.2.2.2.2.1 j oj.2.1
    have sb := srt_bd (tK Ts j)
    have s2 := srt_3 (k := tK Ts j)
    refine eX6_isWord (bX6_isWord_0 ?_)
    rw [t1.2.1.1, tt.1]
    refine ⟨by omega, by omega, by constructor <;> omega, fun y => k0 (by omega), fun y => ?_⟩
    have e := s2.1 y
    rw [tt.2.2.1 (by omega) (by omega) (by omega), wht_w e]
    exact ⟨by omega, by omega, by constructor <;> omega, by constructor <;> omega, fun z => k0 (by omega), fun z => k1 (by omega)⟩
  have g96 : ∀ (x1 : Int) (M1 : pM), (x1 = -1 ∧ fdL pts (tV Ts (h + 1)) = none ∨ ∃ j : Nat, x1 = j ∧ j < pts.length ∧ fdL pts (tV Ts (h + 1)) = some (ptl pts j).2) → TSt M0 Ts n M1 (h + 2 + usU Ts h) L tl ip st pts (usV Ts h pts w) → wX6_tellUse_96 X F x1 (usU Ts h) S M1 := by
    intro x1 M1 hx t1
    refine bX6_tellUse_96 (wd _ 8 M1 _ _ oU (by decide) t1 (fun y => ⟨by constructor <;> decide, fun z => by omega, fun _ M4 e4 => ?_⟩) (fun y => ⟨by constructor <;> decide, fun _ => ?_, fun z => absurd rfl z⟩))
    · have y : tK Ts (h + 2 + usU Ts h) = 18 := y
      have eT : usT Ts h = 1 := by unfold usT; rw [if_pos y]
      have := g117 x1 M4 hx (by rw [eT]; exact t1.go (by rw [e4, t1.2.1.1]; rfl) (oU.next tk.1 (by omega) (by omega) (by omega)))
      rw [eT] at this
      exact this
    · have y : ¬ tK Ts (h + 2 + usU Ts h) = 18 := y
      have eT : usT Ts h = 0 := by unfold usT; rw [if_neg y]
      have := g117 x1 M1 hx (by rw [eT]; exact t1)
      rw [eT] at this
      exact this
  have g65 : ∀ (x1 : Int) (M1 : pM), (x1 = -1 ∧ fdL pts (tV Ts (h + 1)) = none ∨ ∃ j : Nat, x1 = j ∧ j < pts.length ∧ fdL pts (tV Ts (h + 1)) = some (ptl pts j).2) → TSt M0 Ts n M1 h L tl ip st pts (usV Ts h pts w) → wX6_tellUse_65 X F x1 S M1 := by
    intro x1 M1 hx t1
    refine bX6_tellUse_65 (fun M2 e2 => ?_)
    have t2 : TSt M0 Ts n M2 (h + 2) L tl ip st pts (usV Ts h pts w) := t1.go (by rw [e2, t1.2.1.1]; rfl) o2
    refine wd _ 7 M2 _ _ o2 (by decide) t2 (fun y => ⟨by constructor <;> decide, fun z => by omega, fun _ M4 e4 => ?_⟩) (fun y => ⟨by constructor <;> decide, fun _ => ?_, fun z => absurd rfl z⟩)
    · have y : tK Ts (h + 2) = 17 := y
      have eT : usU Ts h = 1 := by unfold usU; rw [if_pos y]
      have := g96 x1 M4 hx (by rw [eT]; exact t2.go (by rw [e4, t2.2.1.1]; rfl) (by rw [eT] at oU; exact oU))
      rw [eT] at this
      exact this
    · have y : ¬ tK Ts (h + 2) = 17 := y
      have eT : usU Ts h = 0 := by unfold usU; rw [if_neg y]
      have := g96 x1 M2 hx (by rw [eT]; exact t2)
      rw [eT] at this
      exact this
  have nm := (ts_tok tk t.1 o1).2.2.2 e1
  have nm : M 256 ((h : Int) + 1) = tV Ts (h + 1) := nm
  -- the search
  have g4 : ∀ (d i : Nat) (x1 : Int), i + d = nP ip pts.length → (x1 = -1 ∧ (∀ k : Nat, k < i → k < pts.length → (ptl pts k).1 ≠ tV Ts (h + 1)) ∨ ∃ j : Nat, x1 = j ∧ j < pts.length ∧ j < i ∧ (ptl pts j).1 = tV Ts (h + 1) ∧ ∀ k : Nat, j < k → k < i → k < pts.length → (ptl pts k).1 ≠ tV Ts (h + 1)) → wX6_tellUse_4 X F x1 i S M := by
    intro d
    induction d with
    | zero =>
      intro i x1 hi hx
      refine bX6_tellUse_4 ?_
      rw [t.2.1.2.2.1]
      refine ⟨by constructor <;> omega, by constructor <;> omega, fun _ => ?_, fun y => by omega⟩
      rcases hx with ⟨z, hx⟩ | ⟨j, z, hj, hji, hv, hl⟩
      · have hf := fdL_none pts (tV Ts (h + 1)) (fun k hk => hx k (by omega) hk)
        subst z
        rw [t.2.1.1]
        refine ⟨by constructor <;> decide, fun y => absurd y (by decide), fun _ => ts_tells (j := h + 1) tk t (by decide) o1 (fun M' t' => g65 _ M' (Or.inl ⟨rfl, hf⟩) ?_)⟩
        unfold usV
        rw [hf]
        exact t'
      · have hf := fdL_some pts (tV Ts (h + 1)) j hj hv (fun k h1 h2 => hl k h1 (by omega) h2)
        subst z
        refine ⟨by constructor <;> omega, fun _ => g65 _ M (Or.inr ⟨j, rfl, hj, hf⟩) ?_, fun y => by omega⟩
        unfold usV
        rw [hf]
        exact t
    | succ d ih =>
      intro i x1 hi hx
      have nx := fun x1 hx => ih (i + 1) x1 (by omega) hx
      rw [Int.natCast_succ] at nx
      refine bX6_tellUse_4 ?_
      rw [t.2.1.2.2.1, t.2.1.1, nm]
      refine ⟨by constructor <;> omega, by constructor <;> omega, fun y => by omega, fun _ => ?_⟩
      by_cases c : i < pts.length
      · obtain ⟨c1, c2, _, _, c5⟩ := t.2.2.1.2.2.1 i c
        rw [c1, c2]
        refine ⟨by omega, by omega, by constructor <;> decide, fun y => absurd y (by decide), fun _ => ⟨by omega, by omega, by omega, by have := o1.1; omega, ⟨by omega, by omega⟩, ⟨by omega, by omega⟩, fun y => bX6_tellUse_44 (nx x1 ?_), fun y => bX6_tellUse_44 (nx i ?_)⟩⟩
        · rcases hx with ⟨z, hx⟩ | ⟨j, z, hj, hji, hv, hl⟩
          · refine Or.inl ⟨z, fun k h1 h2 => ?_⟩
            by_cases e : k = i
            · subst e; exact y
            · exact hx k (by omega) h2
          · refine Or.inr ⟨j, z, hj, by omega, hv, fun k h1 h2 h3 => ?_⟩
            by_cases e : k = i
            · subst e; exact y
            · exact hl k h1 (by omega) h3
        · exact Or.inr ⟨i, rfl, c, by omega, y, fun k h1 h2 => by omega⟩
      · have ip1 : ip = true := by
          cases hip : ip
          · rw [hip] at hi; unfold nP at hi; simp at hi; omega
          · rfl
        have ei : i = pts.length := by omega
        have z8 := (t.2.2.1.2.1 ip1).2.2
        rw [ei, z8]
        refine ⟨by omega, by omega, by constructor <;> decide, fun _ => bX6_tellUse_44 ?_, fun y => absurd rfl y⟩
        rw [← ei]
        refine nx x1 ?_
        rcases hx with ⟨z, hx⟩ | ⟨j, z, hj, hji, hv, hl⟩
        · exact Or.inl ⟨z, fun k h1 h2 => hx k (by omega) h2⟩
        · exact Or.inr ⟨j, z, hj, by omega, hv, fun k h1 h2 h3 => hl k h1 (by omega) h3⟩
  exact eX6_tellUse (bX6_tellUse_0 (g4 (nP ip pts.length) 0 (-1) (by omega) (Or.inl ⟨rfl, fun k hk => by omega⟩)))
end
