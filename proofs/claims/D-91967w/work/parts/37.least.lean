/-! ===== the component's least ladders ===== -/
set_option maxRecDepth 100000
theorem FF_pos {n : Nat} : ∀ (m : Nat) (v : Int), 0 ≤ v → v < fac n → iv n v = m → n ≤ 7 → 1 ≤ FF n v := by
  intro m
  induction m with
  | zero =>
    intro v h1 h2 h3 _
    have := (iv_zero h1 h2).mp h3
    subst this
    rw [FF_zero]
    decide
  | succ m ih =>
    intro v h1 h2 h3 hn
    have hv : v ≠ 0 := fun e => by have := (iv_zero h1 h2).mpr e; omega
    rw [FF_rec h1 h2 hv]
    obtain ⟨k, k1, k2, k3⟩ := nb_ex h1 h2 hv
    have hb := rn_bd (n := n) (v := v) k1 k2
    have h4 := ih (rn n v k) hb.1 hb.2 (by rw [iv_nb k1 k2 k3]; omega) hn
    have gen : ∀ (c : Nat) (i : Int), 0 ≤ i → i ≤ k → k < i + c → 1 ≤ sm (fun k => if nb n v k then FF n (rn n v k) else 0) i c := by
      intro c
      induction c with
      | zero => intro i _ a b; omega
      | succ c ihc =>
        intro i a b d
        simp only [sm]
        have nn : ∀ j : Int, 0 ≤ (if nb n v j then FF n (rn n v j) else 0) := by
          intro j
          split
          · exact (FF_bd hn _).1
          · exact Int.le_refl _
        by_cases e : i = k
        · subst e
          rw [if_pos k3]
          have := (sm_bd (f := fun k => if nb n v k then FF n (rn n v k) else 0) (c := 21936950640377856) c (i + 1) (fun j _ _ => by
            refine ⟨nn j, ?_⟩
            show (if nb n v j then FF n (rn n v j) else 0) ≤ _
            split
            · exact (FF_bd hn _).2
            · decide)).1
          omega
        · have := ihc (i + 1) (by omega) (by omega) (by omega)
          have := nn i
          omega
    exact gen (n - 1) 0 (by omega) (by omega) (by omega)
/-- the store of least ladders, for n legs -/
def LV (n : Nat) (M : pM) : Prop := M 0 2 = n ∧ M 5 0 = 1 ∧ ∀ v : Int, 0 ≤ v → v < fac n → M 5 v = 0 ∨ M 5 v = FF n v
def LC (M : pM) : Prop := M 0 2 = 0 ∨ ∃ n : Nat, 2 ≤ n ∧ n ≤ 7 ∧ LV n M
/-- only the store and the row in hand have changed -/
def frL (M M' : pM) : Prop := (∀ x, x ≠ 0 → x ≠ 4 → x ≠ 5 → M' x = M x) ∧ (∀ j, j ≠ 2 → M' 0 j = M 0 j)
theorem frL.refl (M : pM) : frL M M := ⟨fun _ _ _ _ => rfl, fun _ _ => rfl⟩
theorem frL.trans {M M1 M2 : pM} (a : frL M M1) (b : frL M1 M2) : frL M M2 := ⟨fun x h1 h2 h3 => (b.1 x h1 h2 h3).trans (a.1 x h1 h2 h3), fun j h => (b.2 j h).trans (a.2 j h)⟩
theorem TabC.row {n : Nat} {M : pM} (t : TabC n M) {v : Int} (h1 : 0 ≤ v) (h2 : v < fac n) : ∀ i : Int, 0 ≤ i → i < n → M 2 (7 * v + i) = dg n v i := fun i a b => t.2.2.1 v i h1 h2 a b
theorem TabC.fr {n : Nat} {M M' : pM} (t : TabC n M) (h1 : M' 1 = M 1) (h2 : M' 2 = M 2) (h3 : M' 3 = M 3) : TabC n M' := by
  unfold TabC
  rw [h1, h2, h3]
  exact t
theorem frL.tab {n : Nat} {M M' : pM} (a : frL M M') (t : TabC n M) : TabC n M' := t.fr (a.1 1 (by decide) (by decide) (by decide)) (a.1 2 (by decide) (by decide) (by decide)) (a.1 3 (by decide) (by decide) (by decide))
theorem frL_of4 {M M' : pM} (h : ∀ x, x ≠ 4 → M' x = M x) : frL M M' := ⟨fun x _ b _ => h x b, fun j _ => by rw [h 0 (by decide)]⟩
section
variable {X : px} {S : List psh}
/-- the questions to the tables, by number -/
theorem c_can {F : Int → pM → Prop} {n : Nat} {v j : Int} {M : pM} (hn : n ≤ 7) (t : TabC n M) (h1 : 0 ≤ v) (h2 : v < fac n) (h3 : 0 ≤ j) (h4 : j + 1 < n) (k1 : nb n v j → F 1 M) (k0 : ¬ nb n v j → F 0 M) : pNi true X mX1_canBegin 2 [pR 1, pI v, pI j] S M F := by
  have hf := fac_le hn
  have a := pl_ok (n := n) (v := v) h3 (show j < n by omega)
  have b := pl_ok (n := n) (v := v) (show 0 ≤ j + 1 by omega) h4
  have hrF : isF n (fun i => M 2 (7 * v + i)) := by
    have : seg (fun i => M 2 (7 * v + i)) 0 n = seg (dg n v) 0 n := seg_congr n 0 (fun i p q => t.row h1 h2 i p (by omega))
    show isP n _
    rw [this]
    exact dg_F
  exact c_canBegin hn h1 (by omega) hrF a.1 a.2.1 (by rw [t.row h1 h2 _ a.1 a.2.1, a.2.2]) b.1 b.2.1 (by rw [t.row h1 h2 _ b.1 b.2.1, b.2.2]) k1 (fun h => k0 (by show ¬ (pl n v (j + 1) < pl n v j); omega))
theorem c_ren {F : Int → pM → Prop} {n : Nat} {v j : Int} {M : pM} (h0 : 2 ≤ n) (hn : n ≤ 7) (t : TabC n M) (h1 : 0 ≤ v) (h2 : v < fac n) (h3 : 0 ≤ j) (h4 : j + 1 < n) (k : ∀ M' : pM, (∀ x, x ≠ 4 → M' x = M x) → F (rn n v j) M') : pNi true X mX1_renamed 2 [pR 1, pI v, pI j] S M F := by
  have hf := fac_le hn
  exact c_renamed h0 hn t.1 h1 (by omega) h3 h4 (t.row h1 h2) k
theorem c_inv {F : Int → pM → Prop} {n : Nat} {v : Int} {M : pM} (hn : n ≤ 7) (t : TabC n M) (h1 : 0 ≤ v) (h2 : v < fac n) (k : F (iv n v) M) : pNi true X mX1_inversions 2 [pR 1, pI v] S M F := by
  have hf := fac_le hn
  exact c_inversions hn t.1 h1 (by omega) (t.row h1 h2) k
theorem c_leastsFrom {n : Nat} (h2 : 2 ≤ n) (hn : n ≤ 7) : ∀ (m : Nat) (v : Int) (dd : Nat) (M : pM) (F : Int → pM → Prop), iv n v = m → m + 3 ≤ dd → 0 ≤ v → v < fac n → TabC n M → LC M → (∀ M' : pM, frL M M' → LV n M' → F (FF n v) M') → pNl true X mX0_leastsFrom dd [pR 0, pI v] S M F := by
  have hf := fac_le hn
  intro m
  induction m using Nat.strongRecOn with
  | _ m ih =>
  intro v dd M0 F hiv hdd hv0 hv1 t0 lc0 k
  obtain ⟨dr, hdr⟩ : ∃ dr, dd = dr + 1 := ⟨dd - 1, by omega⟩
  have hd3 : 3 ≤ dd := by omega
  have hd1 : dr + 1 ≤ dd := by omega
  -- with the store in order
  have main : ∀ M : pM, frL M0 M → LV n M → wX0_leastsFrom_54 dd X F v S M := by
    intro M fr lv
    have t := fr.tab t0
    have hb := FF_bd hn v
    have hc : inL (M 5 v) := by
      rcases lv.2.2 v hv0 hv1 with e | e <;> rw [e] <;> constructor <;> omega
    refine bX0_leastsFrom_54 (dr := dr) hd3 hd1 ?_
    ((repeat' (first | (with_reducible apply And.intro) | (with_reducible intro _ e; subst e) | (with_reducible intro _))) <;> (try (first | omega | (with_reducible assumption))))
    · rename_i hne
      have e := (lv.2.2 v hv0 hv1).resolve_left hne
      refine bX0_leastsFrom_127 (dr := dr) hd3 hd1 ?_
      rw [e]
      ((repeat' (first | (with_reducible apply And.intro) | (with_reducible intro _ e; subst e) | (with_reducible intro _))) <;> (try (first | omega | (with_reducible assumption))))
      exact k M fr lv
    · rename_i hz
      have hvz : v ≠ 0 := fun e => by rw [e, lv.2.1] at hz; omega
      have loop : ∀ (c : Nat) (j x : Int) (M1 : pM), j + c = n - 1 → 0 ≤ j → frL M0 M1 → LV n M1 → x + sm (fun k => if nb n v k then FF n (rn n v k) else 0) j c = FF n v → wX0_leastsFrom_70 dd X F v x j S M1 := by
        intro c
        induction c with
        | zero =>
          intro j x M1 q1 q2 fr1 lv1 hx
          have t1 := fr1.tab t0
          refine bX0_leastsFrom_70 (dr := dr) hd3 hd1 ?_
          rw [t1.1]
          ((repeat' (first | (with_reducible apply And.intro) | (with_reducible intro _ e; subst e) | (with_reducible intro _))) <;> (try (first | omega | (with_reducible assumption))))
          refine bX0_leastsFrom_127 (dr := dr) hd3 hd1 ?_
          simp only [sm, Int.add_zero] at hx
          rw [hx, up_same]
          ((repeat' (first | (with_reducible apply And.intro) | (with_reducible intro _ e; subst e) | (with_reducible intro _))) <;> (try (first | omega | (with_reducible assumption))))
          refine k _ ⟨fun x a b c => by rw [up_ne c]; exact fr1.1 x a b c, fun j a => by rw [up_ne (by decide)]; exact fr1.2 j a⟩ ⟨by rw [up_ne (by decide)]; exact lv1.1, by rw [up_oi (by omega)]; exact lv1.2.1, fun u a b => ?_⟩
          by_cases e : u = v
          · subst e
            exact Or.inr up_same
          · rw [up_oi e]
            exact lv1.2.2 u a b
        | succ c ihc =>
          intro j x M1 q1 q2 fr1 lv1 hx
          have t1 := fr1.tab t0
          simp only [sm] at hx
          refine bX0_leastsFrom_70 (dr := dr) hd3 hd1 ?_
          rw [t1.1]
          ((repeat' (first | (with_reducible apply And.intro) | (with_reducible intro _ e; subst e) | (with_reducible intro _))) <;> (try (first | omega | (with_reducible assumption))))
          refine c_can hn t1 hv0 hv1 q2 (by omega) (fun hnb => ?_) (fun hnb => ?_)
          · rw [if_pos hnb] at hx
            have hb := rn_bd (n := n) (v := v) q2 (show j + 1 < n by omega)
            have hi := iv_nb (n := n) (v := v) q2 (show j + 1 < n by omega) hnb
            ((repeat' (first | (with_reducible apply And.intro) | (with_reducible intro _ e; subst e) | (with_reducible intro _))) <;> (try (first | omega | (with_reducible assumption))))
            refine c_ren h2 hn t1 hv0 hv1 q2 (by omega) (fun M2 a2 => ?_)
            have f2 := fr1.trans (frL_of4 a2)
            refine ih (m - 1) (by have := iv_nonneg (n := n) (v := rn n v j); omega) (rn n v j) dr M2 _ (by have := iv_nonneg (n := n) (v := rn n v j); omega) (by have := iv_nonneg (n := n) (v := rn n v j); omega) hb.1 hb.2 (f2.tab t0) (Or.inr ⟨n, h2, hn, ?_⟩) (fun M3 a3 l3 => ?_)
            · exact ⟨by rw [a2 0 (by decide)]; exact lv1.1, by rw [a2 5 (by decide)]; exact lv1.2.1, by rw [a2 5 (by decide)]; exact lv1.2.2⟩
            · exact bX0_leastsFrom_114 (dr := dr) hd3 hd1 (ihc (j + 1) _ M3 (by omega) (by omega) (f2.trans a3) l3 (by omega))
          · rw [if_neg hnb] at hx
            ((repeat' (first | (with_reducible apply And.intro) | (with_reducible intro _ e; subst e) | (with_reducible intro _))) <;> (try (first | omega | (with_reducible assumption))))
            exact bX0_leastsFrom_114 (dr := dr) hd3 hd1 (ihc (j + 1) _ M1 (by omega) (by omega) fr1 lv1 (by omega))
      refine loop (n - 1) 0 0 M (by omega) (by omega) fr lv ?_
      rw [FF_rec hv0 hv1 hvz]
      omega
  have h02 : inR (M0 0 2) := by
    rcases lc0 with e | ⟨n', a, b, l⟩
    · rw [e]; constructor <;> decide
    · rw [l.1]; constructor <;> omega
  have h10 : M0 1 0 = n := t0.1
  refine eX0_leastsFrom (bX0_leastsFrom_0 (dr := dr) hd3 hd1 ?_)
  rw [h10]
  ((repeat' (first | (with_reducible apply And.intro) | (with_reducible intro _ e; subst e) | (with_reducible intro _))) <;> (try (first | omega | (with_reducible assumption))))
  · rename_i e
    rcases lc0 with z | ⟨n', a, b, l⟩
    · omega
    · have : n' = n := by have := l.1; omega
      subst this
      exact main M0 (frL.refl _) l
  · have clr : ∀ (c : Nat) (i : Int), i + c = 5040 → 0 ≤ i → wX0_leastsFrom_27 dd X F v i S (ovr (pu_up M0 0 2 n) 5 0 i (fun _ => 0)) := by
      intro c
      induction c with
      | zero =>
        intro i q1 q2
        have e : i = 5040 := by omega
        subst e
        refine bX0_leastsFrom_27 (dr := dr) hd3 hd1 ?_
        ((repeat' (first | (with_reducible apply And.intro) | (with_reducible intro _ e; subst e) | (with_reducible intro _))) <;> (try (first | omega | (with_reducible assumption))))
        refine main _ ⟨fun x a b c => by rw [up_ne c, ovr_ne c, up_ne a], fun j a => by rw [up_ne (by decide), ovr_ne (by decide), up_oi a]⟩ ⟨by rw [up_ne (by decide), ovr_ne (by decide), up_same], up_same, fun u a b => ?_⟩
        by_cases e : u = 0
        · subst e
          rw [up_same, FF_zero]
          exact Or.inr rfl
        · rw [up_oi e, ovr_in a (by omega)]
          exact Or.inl rfl
      | succ c ihc =>
        intro i q1 q2
        refine bX0_leastsFrom_27 (dr := dr) hd3 hd1 ?_
        ((repeat' (first | (with_reducible apply And.intro) | (with_reducible intro _ e; subst e) | (with_reducible intro _))) <;> (try (first | omega | (with_reducible assumption))))
        rw [ovr_step (by omega) rfl]
        exact ihc (i + 1) (by omega) (by omega)
    have := clr 5040 0 (by omega) (by omega)
    rwa [ovr_nil (by omega)] at this
end
