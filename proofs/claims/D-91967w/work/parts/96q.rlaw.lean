/-! ===== both tell the same ===== -/
set_option maxRecDepth 100000
def WR (w w' : Int × Int) : Prop := w = w' ∨ (w.1 = 0 ∧ w'.1 = 0)
theorem wr_st {w : Int × Int} {k p : Int} (h : w.1 ≠ 0) (hp : w.2 < p) : wr w k p = w := by unfold wr; rw [if_pos ⟨h, Or.inl hp⟩]
theorem wrI_st {b : Bool} {w : Int × Int} {k p : Int} (h : w.1 ≠ 0) (hp : w.2 < p) : wrI b w k p = w := by
  unfold wrI
  split
  · exact wr_st h hp
  · rfl
theorem wr_ne {w : Int × Int} {k p : Int} (hk : k ≠ 0) : (wr w k p).1 ≠ 0 := by
  unfold wr
  split
  · rename_i c; exact c.1
  · exact hk
theorem wrI_z {b : Bool} {w : Int × Int} {k p : Int} (hk : k ≠ 0) (h : (wrI b w k p).1 = 0) : b = false ∧ w.1 = 0 := by
  unfold wrI at h
  split at h
  · exact absurd h (wr_ne hk)
  · rename_i c
    exact ⟨by cases b <;> simp_all, h⟩
theorem wrI_zw {b : Bool} {w : Int × Int} {k p : Int} (hk : k ≠ 0) (hb : b = true) : (wrI b w k p).1 ≠ 0 := by
  unfold wrI
  rw [if_pos hb]
  exact wr_ne hk
theorem wr_bd {w : Int × Int} {k p q : Int} (h : w.1 ≠ 0 → w.2 < q) (hp : p < q) : (wr w k p).1 ≠ 0 → (wr w k p).2 < q := by
  unfold wr
  split
  · exact h
  · exact fun _ => hp
theorem wrI_bd {b : Bool} {w : Int × Int} {k p q : Int} (h : w.1 ≠ 0 → w.2 < q) (hp : p < q) : (wrI b w k p).1 ≠ 0 → (wrI b w k p).2 < q := by
  unfold wrI
  split
  · exact wr_bd h hp
  · exact h
theorem WR.wr {w w' : Int × Int} {k p : Int} (h : WR w w') : WR (_root_.wr w k p) (_root_.wr w' k p) := by
  rcases h with h | ⟨h, h'⟩
  · rw [h]; exact Or.inl rfl
  · left
    unfold _root_.wr
    rw [if_neg (by rintro ⟨c, _⟩; exact c h), if_neg (by rintro ⟨c, _⟩; exact c h')]
theorem WR.wrI {b : Bool} {w w' : Int × Int} {k p : Int} (h : WR w w') : WR (_root_.wrI b w k p) (_root_.wrI b w' k p) := by
  unfold _root_.wrI
  split
  · exact h.wr
  · exact h
theorem WR.z {w w' : Int × Int} (h : WR w w') : w.1 = 0 ↔ w'.1 = 0 := by
  rcases h with h | ⟨h, h'⟩
  · rw [h]
  · rw [h, h']
theorem WR.ne {w w' : Int × Int} (h : WR w w') (c : w.1 ≠ 0) : w' = w := by
  rcases h with h | ⟨h, h'⟩
  · exact h.symm
  · exact absurd h c
theorem wr_comm {v : Int × Int} {k p q : Int} (hk : k ≠ 0) (h : p < q) : wr (wr v k p) k q = wr (wr v k q) k p := by
  have e1 : wr (wr v k p) k q = wr v k p := by
    refine wr_st (wr_ne hk) ?_
    unfold wr
    split
    · rename_i c; omega
    · exact h
  rw [e1]
  unfold wr
  by_cases c : v.1 ≠ 0 ∧ (v.2 < q ∨ (q = v.2 ∧ v.1 ≤ k))
  · rw [if_pos c]
  · rw [if_neg c]
    by_cases d : v.1 ≠ 0 ∧ (v.2 < p ∨ (p = v.2 ∧ v.1 ≤ k))
    · exact absurd ⟨d.1, by omega⟩ c
    · rw [if_neg d, if_neg (by rintro ⟨_, g⟩; have g : q < p ∨ (p = q ∧ k ≤ k) := g; omega)]
theorem wrI_comm {b c : Bool} {v : Int × Int} {k p q : Int} (hk : k ≠ 0) (h : p < q) : wrI b (wrI c v k p) k q = wrI c (wrI b v k q) k p := by
  cases b <;> cases c
  · rfl
  · rfl
  · rfl
  · exact wr_comm hk h
/-- the fault that stands before the head stays -/
theorem sem_st {Ts : List tok} {N n : Int} (t : okT Ts N) {w : Int × Int} (hw : w.1 ≠ 0) : ∀ (f h d m : Nat) (cur : sps) (st : List (Int × Nat × sps)) (pts : List (Int × sps)), okH Ts h → prs Ts f h d m = none → d = st.length → 401 ≤ f + h → w.2 < tP Ts h → (∀ x ∈ st, w.2 < tP Ts x.2.1) → sem Ts n f h (cur, st, pts, w) = (w.1, w.2, 0, [])
  | 0, h, d, m, cur, st, pts, o, hp, hd, hf, hh, hs => by
    have := o.1
    omega
  | f + 1, h, d, m, cur, st, pts, o, hp, hd, hf, hh, hs => by
    have up : ∀ j, h < j → okH Ts j → w.2 < tP Ts j := fun j hj oj => by have := t.2.1 h j hj oj.2.1; omega
    have af : ∀ (st : List (Int × Nat × sps)) (a : Nat) (s : sps), w.2 < tP Ts a → aft Ts st a s w = w := fun st a s ha => by
      unfold aft
      split
      · exact wrI_st hw ha
      · rfl
    rcases no_kd hp with e | e | e | e | e | e | e
    · rw [sm_0 e, if_pos hw]
    · obtain ⟨d0, o1, hp⟩ := no_sh t o e hp
      cases st with
      | nil => exact absurd hd d0
      | cons fr st =>
        rw [sm_6 e]
        unfold pop
        have hfr := hs fr List.mem_cons_self
        have hl : d - 1 = st.length := by rw [List.length_cons] at hd; omega
        split
        · rw [wrI_st hw hfr]
          exact sem_st t hw f _ _ _ _ _ _ o1 hp hl (by omega) (up _ (by omega) o1) (fun x hx => hs x (List.mem_cons_of_mem _ hx))
        · rw [af _ _ _ hfr]
          exact sem_st t hw f _ _ _ _ _ _ o1 hp hl (by omega) (up _ (by omega) o1) (fun x hx => hs x (List.mem_cons_of_mem _ hx))
    · obtain ⟨d0, m8, ⟨o1, k1⟩, o3, hp⟩ := no_pt t o e hp
      have u1 := up (h + 1) (by omega) o1
      have ew : ptW Ts h pts w = w := by
        unfold ptW
        split
        · rfl
        · exact wr_st hw u1
      rw [sm_11 e, ew]
      refine sem_st t hw f _ _ _ _ _ _ o3 hp rfl (by omega) (up _ (by omega) o3) (fun x hx => ?_)
      rw [List.mem_singleton.1 hx]
      exact u1
    · obtain ⟨o1, k1, o3, hp⟩ := no_el t o e hp
      have ew : elW Ts n h w = w := wrI_st hw (up (h + 1) (by omega) o1)
      rw [sm_12 e, ew, af _ _ _ hh]
      exact sem_st t hw f _ _ _ _ _ _ o3 hp hd (by omega) (up _ (by omega) o3) hs
    · obtain ⟨⟨o1, k1⟩, ⟨o2, k2⟩, ⟨o3, k3⟩, o5, hp⟩ := no_my t o e hp
      have ew : myW Ts n h w = w := by
        unfold myW elW
        rw [wrI_st hw (up (h + 1) (by omega) o1), wrI_st hw (up (h + 2) (by omega) o2), wrI_st hw (up (h + 3) (by omega) o3)]
      rw [sm_15 e, ew, af _ _ _ hh]
      exact sem_st t hw f _ _ _ _ _ _ o5 hp hd (by omega) (up _ (by omega) o5) hs
    · obtain ⟨⟨o1, k1⟩, o2, o2', oH, hp⟩ := no_us t o e hp
      have ew : usW Ts h pts w = w := by
        unfold usW
        split
        · exact wr_st hw (up (h + 1) (by omega) o1)
        · rfl
      have hH : h + 3 ≤ usH Ts h := by unfold usH; omega
      rw [sm_16 e, ew, af _ _ _ hh]
      exact sem_st t hw f _ _ _ _ _ _ oH hp hd (by omega) (up _ (by omega) oH) hs
    · obtain ⟨d4, ⟨o1, k1⟩, o3, hp⟩ := no_tm t o e hp
      have ew : tmW Ts h w = w := wrI_st hw (up (h + 1) (by omega) o1)
      rw [sm_19 e, ew]
      refine sem_st t hw f _ _ _ _ _ _ o3 hp (by rw [List.length_cons, hd]) (by omega) (up _ (by omega) o3) (fun x hx => ?_)
      rcases List.mem_cons.1 hx with g | g
      · rw [g]; exact hh
      · exact hs x g
theorem ts_0 {Ts : List tok} {h : Nat} (e : tK Ts h = 0) {n : Int} {f a : Nat} {L tl : List elt} {ip : Bool} {st : List (Int × Nat)} {pts : List (Int × List elt)} {w : Int × Int} : tsm Ts n (f + 1) h a (L, tl, ip, st, pts, w) = (if w.1 ≠ 0 then (w.1, w.2, 0, []) else (0, -1, n, L)) := by rw [tsm, if_pos e]
theorem ts_6 {Ts : List tok} {h : Nat} (e : tK Ts h = 6) {n : Int} {f a : Nat} {s : tst} : tsm Ts n (f + 1) h a s = tsm Ts n f (h + 1) (fsT h a s.2.2.2.1) (shT Ts (fsT h a s.2.2.2.1) s) := by
  rw [tsm, if_neg (by omega), if_pos e]
theorem ts_11 {Ts : List tok} {h : Nat} (e : tK Ts h = 11) {n : Int} {f a : Nat} {L tl : List elt} {ip : Bool} {st : List (Int × Nat)} {pts : List (Int × List elt)} {w : Int × Int} : tsm Ts n (f + 1) h a (L, tl, ip, st, pts, w) = tsm Ts n f (h + 3) (fsT h a st) ([], L, true, [(-1, h + 1)], pts, ptV Ts h pts w) := by
  rw [tsm, if_neg (by omega), if_neg (by omega), if_pos e]
theorem ts_12 {Ts : List tok} {h : Nat} (e : tK Ts h = 12 ∨ tK Ts h = 13 ∨ tK Ts h = 14) {n : Int} {f a : Nat} {L tl : List elt} {ip : Bool} {st : List (Int × Nat)} {pts : List (Int × List elt)} {w : Int × Int} : tsm Ts n (f + 1) h a (L, tl, ip, st, pts, w) = tsm Ts n f (h + 3) (fsT h a st) (putL L [elR Ts h], tl, ip, st, pts, chk Ts ip st (fsT h a st) (putL L [elR Ts h]) (elW Ts n h w)) := by
  rw [tsm, if_neg (by omega), if_neg (by omega), if_neg (by omega), if_pos e]
theorem ts_15 {Ts : List tok} {h : Nat} (e : tK Ts h = 15) {n : Int} {f a : Nat} {L tl : List elt} {ip : Bool} {st : List (Int × Nat)} {pts : List (Int × List elt)} {w : Int × Int} : tsm Ts n (f + 1) h a (L, tl, ip, st, pts, w) = tsm Ts n f (h + 5) (fsT h a st) (putL L [myR Ts h], tl, ip, st, pts, chk Ts ip st (fsT h a st) (putL L [myR Ts h]) (myV Ts n h w)) := by
  rw [tsm, if_neg (by omega), if_neg (by omega), if_neg (by omega), if_neg (by omega), if_pos e]
theorem ts_16 {Ts : List tok} {h : Nat} (e : tK Ts h = 16) {n : Int} {f a : Nat} {L tl : List elt} {ip : Bool} {st : List (Int × Nat)} {pts : List (Int × List elt)} {w : Int × Int} : tsm Ts n (f + 1) h a (L, tl, ip, st, pts, w) = tsm Ts n f (usH Ts h) (fsT h a st) (usL Ts n h L pts, tl, ip, st, pts, chk Ts ip st (fsT h a st) (usL Ts n h L pts) (usV Ts h pts w)) := by
  rw [tsm, if_neg (by omega), if_neg (by omega), if_neg (by omega), if_neg (by omega), if_neg (by omega), if_pos e]
theorem ts_19 {Ts : List tok} {h : Nat} (e : tK Ts h = 19) {n : Int} {f a : Nat} {L tl : List elt} {ip : Bool} {st : List (Int × Nat)} {pts : List (Int × List elt)} {w : Int × Int} : tsm Ts n (f + 1) h a (L, tl, ip, st, pts, w) = tsm Ts n f (h + 3) (fsT h a st) (L, tl, ip, (tV Ts (h + 1), L.length) :: st, pts, tmW Ts h w) := by
  rw [tsm, if_neg (by omega), if_neg (by omega), if_neg (by omega), if_neg (by omega), if_neg (by omega), if_neg (by omega), if_pos e]
theorem tsm_st {Ts : List tok} {N n : Int} (t : okT Ts N) {w : Int × Int} (hw : w.1 ≠ 0) : ∀ (f h d m a : Nat) (L tl : List elt) (ip : Bool) (st : List (Int × Nat)) (pts : List (Int × List elt)), okH Ts h → prs Ts f h d m = none → d = st.length → 401 ≤ f + h → w.2 < tP Ts h → (st ≠ [] → w.2 < tP Ts a) → (∀ x ∈ st, x.1 = -1 → w.2 < tP Ts x.2) → tsm Ts n f h a (L, tl, ip, st, pts, w) = (w.1, w.2, 0, [])
  | 0, h, d, m, a, L, tl, ip, st, pts, o, hp, hd, hf, hh, ha, hs => by
    have := o.1
    omega
  | f + 1, h, d, m, a, L, tl, ip, st, pts, o, hp, hd, hf, hh, ha, hs => by
    have up : ∀ j, h < j → okH Ts j → w.2 < tP Ts j := fun j hj oj => by have := t.2.1 h j hj oj.2.1; omega
    have ck : ∀ (ip : Bool) (st : List (Int × Nat)) (a : Nat) (L : List elt), w.2 < tP Ts a → chk Ts ip st a L w = w := fun ip st a L ha => by
      unfold chk
      split
      · exact wrI_st hw ha
      · rfl
    have fa : w.2 < tP Ts (fsT h a st) := by
      unfold fsT
      split
      · exact hh
      · rename_i c
        exact ha (fun e => c (by rw [e]; rfl))
    rcases no_kd hp with e | e | e | e | e | e | e
    · rw [ts_0 e, if_pos hw]
    · obtain ⟨d0, o1, hp⟩ := no_sh t o e hp
      cases st with
      | nil => exact absurd hd d0
      | cons fr st =>
        obtain ⟨tm, fr⟩ := fr
        rw [ts_6 e]
        have hl : d - 1 = st.length := by rw [List.length_cons] at hd; omega
        have hs' : ∀ x ∈ st, x.1 = -1 → w.2 < tP Ts x.2 := fun x hx => hs x (List.mem_cons_of_mem _ hx)
        by_cases c : tm = -1
        · have hfr := hs (tm, fr) List.mem_cons_self c
          have es : shT Ts (fsT h a ((tm, fr) :: st)) (L, tl, ip, (tm, fr) :: st, pts, w) = (tl, [], false, st, pts ++ [(tV Ts fr, L.take 200)], w) := by
            show (if tm = -1 then _ else _) = _
            rw [if_pos c]
            show (tl, [], false, st, pts ++ [(tV Ts fr, L.take 200)], chk Ts false st _ tl (wrI (lgT L) w 6 (tP Ts fr))) = _
            rw [wrI_st hw hfr, ck _ _ _ _ fa]
          show tsm Ts n f (h + 1) (fsT h a ((tm, fr) :: st)) (shT Ts (fsT h a ((tm, fr) :: st)) (L, tl, ip, (tm, fr) :: st, pts, w)) = _
          rw [es]
          exact tsm_st t hw f _ _ _ _ _ _ _ _ _ o1 hp hl (by omega) (up _ (by omega) o1) (fun _ => fa) hs'
        · have es : shT Ts (fsT h a ((tm, fr) :: st)) (L, tl, ip, (tm, fr) :: st, pts, w) = (tmL L tm fr, tl, ip, st, pts, w) := by
            show (if tm = -1 then _ else _) = _
            rw [if_neg c]
            show (tmL L tm fr, tl, ip, st, pts, chk Ts ip st _ (tmL L tm fr) w) = _
            rw [ck _ _ _ _ fa]
          show tsm Ts n f (h + 1) (fsT h a ((tm, fr) :: st)) (shT Ts (fsT h a ((tm, fr) :: st)) (L, tl, ip, (tm, fr) :: st, pts, w)) = _
          rw [es]
          exact tsm_st t hw f _ _ _ _ _ _ _ _ _ o1 hp hl (by omega) (up _ (by omega) o1) (fun _ => fa) hs'
    · obtain ⟨d0, m8, ⟨o1, k1⟩, o3, hp⟩ := no_pt t o e hp
      have u1 := up (h + 1) (by omega) o1
      have ew : ptV Ts h pts w = w := by
        unfold ptV
        split
        · rfl
        · exact wr_st hw u1
      rw [ts_11 e, ew]
      refine tsm_st t hw f _ _ _ _ _ _ _ _ _ o3 hp rfl (by omega) (up _ (by omega) o3) (fun _ => fa) (fun x hx _ => ?_)
      rw [List.mem_singleton.1 hx]
      exact u1
    · obtain ⟨o1, k1, o3, hp⟩ := no_el t o e hp
      have ew : elW Ts n h w = w := wrI_st hw (up (h + 1) (by omega) o1)
      rw [ts_12 e, ew, ck _ _ _ _ fa]
      exact tsm_st t hw f _ _ _ _ _ _ _ _ _ o3 hp hd (by omega) (up _ (by omega) o3) (fun _ => fa) hs
    · obtain ⟨⟨o1, k1⟩, ⟨o2, k2⟩, ⟨o3, k3⟩, o5, hp⟩ := no_my t o e hp
      have ew : myV Ts n h w = w := by
        unfold myV elW
        rw [wrI_st hw (up (h + 1) (by omega) o1), wrI_st hw (up (h + 3) (by omega) o3), wrI_st hw (up (h + 2) (by omega) o2)]
      rw [ts_15 e, ew, ck _ _ _ _ fa]
      exact tsm_st t hw f _ _ _ _ _ _ _ _ _ o5 hp hd (by omega) (up _ (by omega) o5) (fun _ => fa) hs
    · obtain ⟨⟨o1, k1⟩, o2, o2', oH, hp⟩ := no_us t o e hp
      have ew : usV Ts h pts w = w := by
        unfold usV
        split
        · exact wr_st hw (up (h + 1) (by omega) o1)
        · rfl
      have hH : h + 3 ≤ usH Ts h := by unfold usH; omega
      rw [ts_16 e, ew, ck _ _ _ _ fa]
      exact tsm_st t hw f _ _ _ _ _ _ _ _ _ oH hp hd (by omega) (up _ (by omega) oH) (fun _ => fa) hs
    · obtain ⟨d4, ⟨o1, k1⟩, o3, hp⟩ := no_tm t o e hp
      have ew : tmW Ts h w = w := wrI_st hw (up (h + 1) (by omega) o1)
      rw [ts_19 e, ew]
      refine tsm_st t hw f _ _ _ _ _ _ _ _ _ o3 hp (by rw [List.length_cons, hd]) (by omega) (up _ (by omega) o3) (fun _ => fa) (fun x hx hx1 => ?_)
      rcases List.mem_cons.1 hx with g | g
      · exfalso
        rw [g] at hx1
        have := (t.2.2.2.2.2.2.1 (h + 1) o1.2.1).1
        have hx1 : tV Ts (h + 1) = -1 := hx1
        omega
      · exact hs x g hx1
