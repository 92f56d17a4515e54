/-! ===== slides and turns ===== -/
set_option maxRecDepth 100000
def slf (f : Int → Int) (i x : Int) : Int := if x = i then f (i + 1) else if x = i + 1 then f i else f x
def tnf (f : Int → Int) (i x : Int) : Int := if x = i then f (i + 1) else if x = i + 1 then f i else if x = i + 2 then f (i + 1) else f x
def slW (w : List Int) (i : Int) : List Int := seg (slf (at0 w) i) 0 w.length
def tnW (w : List Int) (i : Int) : List Int := seg (tnf (at0 w) i) 0 w.length
theorem seg_split2 {f : Int → Int} {n : Nat} {i : Int} (h1 : 0 ≤ i) (h2 : i + 1 < n) : seg f 0 n = seg f 0 i.toNat ++ f i :: f (i + 1) :: seg f (i + 2) (n - i.toNat - 2) := by
  rw [seg_split (f := f) (s := 0) (i := i) h1 (by omega), show (i - 0).toNat = i.toNat by omega]
  congr 2
  rw [show n - i.toNat - 1 = (n - i.toNat - 2) + 1 by omega, seg, show i + 1 + 1 = i + 2 by omega]
theorem seg_split3 {f : Int → Int} {n : Nat} {i : Int} (h1 : 0 ≤ i) (h2 : i + 2 < n) : seg f 0 n = seg f 0 i.toNat ++ f i :: f (i + 1) :: f (i + 2) :: seg f (i + 3) (n - i.toNat - 3) := by
  rw [seg_split2 h1 (by omega)]
  congr 3
  rw [show n - i.toNat - 2 = (n - i.toNat - 3) + 1 by omega, seg, show i + 2 + 1 = i + 3 by omega]
def apt (a b : Int) : Int := if a < b then b - a else a - b
theorem slW_vld {n : Nat} {o i : Int} {w : List Int} (h : vld n o w) (h1 : 0 ≤ i) (h2 : i + 1 < w.length) (ha : 2 ≤ apt (at0 w i) (at0 w (i + 1))) : vld n o (slW w i) := by
  have e := seg_at0 w
  rw [seg_split2 h1 (by omega)] at e
  rw [← e] at h
  have := slide_vld h (by unfold apt at ha; split at ha <;> omega)
  unfold slW
  rw [seg_split2 (f := slf (at0 w) i) h1 (by omega)]
  have g1 : slf (at0 w) i i = at0 w (i + 1) := by unfold slf; rw [if_pos rfl]
  have g2 : slf (at0 w) i (i + 1) = at0 w i := by unfold slf; rw [if_neg (by omega), if_pos rfl]
  rw [g1, g2, seg_congr (f := slf (at0 w) i) (g := at0 w) _ 0 (fun x a b => by unfold slf; rw [if_neg (by omega), if_neg (by omega)]), seg_congr (f := slf (at0 w) i) (g := at0 w) _ (i + 2) (fun x a b => by unfold slf; rw [if_neg (by omega), if_neg (by omega)])]
  exact this
theorem tnW_vld {n : Nat} {o i : Int} {w : List Int} (h : vld n o w) (h1 : 0 ≤ i) (h2 : i + 2 < w.length) (he : at0 w i = at0 w (i + 2)) (ha : apt (at0 w i) (at0 w (i + 1)) = 1) : vld n o (tnW w i) := by
  have e := seg_at0 w
  rw [seg_split3 h1 (by omega)] at e
  rw [← he] at e
  rw [← e] at h
  have := turn_vld h (by unfold apt at ha; split at ha <;> omega)
  unfold tnW
  rw [seg_split3 (f := tnf (at0 w) i) h1 (by omega)]
  have g1 : tnf (at0 w) i i = at0 w (i + 1) := by unfold tnf; rw [if_pos rfl]
  have g2 : tnf (at0 w) i (i + 1) = at0 w i := by unfold tnf; rw [if_neg (by omega), if_pos rfl]
  have g3 : tnf (at0 w) i (i + 2) = at0 w (i + 1) := by unfold tnf; rw [if_neg (by omega), if_neg (by omega), if_pos rfl]
  rw [g1, g2, g3, seg_congr (f := tnf (at0 w) i) (g := at0 w) _ 0 (fun x a b => by unfold tnf; rw [if_neg (by omega), if_neg (by omega), if_neg (by omega)]), seg_congr (f := tnf (at0 w) i) (g := at0 w) _ (i + 3) (fun x a b => by unfold tnf; rw [if_neg (by omega), if_neg (by omega), if_neg (by omega)])]
  exact this
theorem at0_slW {w : List Int} {i x : Int} (h1 : 0 ≤ x) (h2 : x < w.length) : at0 (slW w i) x = slf (at0 w) i x := by
  unfold slW
  rw [at0_seg h1 h2, Int.zero_add]
theorem at0_tnW {w : List Int} {i x : Int} (h1 : 0 ≤ x) (h2 : x < w.length) : at0 (tnW w i) x = tnf (at0 w) i x := by
  unfold tnW
  rw [at0_seg h1 h2, Int.zero_add]
/-- where a slide at i leads a rank; -1: it can't be -/
noncomputable def sld (n : Nat) (o r i : Int) : Int := if i + 1 < iv n o ∧ 2 ≤ apt (at0 (wd n o r) i) (at0 (wd n o r) (i + 1)) then rnk n o (slW (wd n o r) i) else -1
noncomputable def trn (n : Nat) (o r i : Int) : Int := if i + 2 < iv n o ∧ at0 (wd n o r) i = at0 (wd n o r) (i + 2) ∧ apt (at0 (wd n o r) i) (at0 (wd n o r) (i + 1)) = 1 then rnk n o (tnW (wd n o r) i) else -1
theorem sld_bd {n : Nat} {o r i : Int} (a : 0 ≤ o) (b : o < fac n) (h1 : 0 ≤ r) (h2 : r < FF n o) (hi : 0 ≤ i) : -1 ≤ sld n o r i ∧ sld n o r i < FF n o := by
  have hw := wd_ok a b h1 h2
  have hl := vld_len hw.1
  unfold sld
  split
  · rename_i h
    have := rnk_bd a b (slW_vld hw.1 hi (by omega) h.2)
    omega
  · omega
theorem trn_bd {n : Nat} {o r i : Int} (a : 0 ≤ o) (b : o < fac n) (h1 : 0 ≤ r) (h2 : r < FF n o) (hi : 0 ≤ i) : -1 ≤ trn n o r i ∧ trn n o r i < FF n o := by
  have hw := wd_ok a b h1 h2
  have hl := vld_len hw.1
  unfold trn
  split
  · rename_i h
    have := rnk_bd a b (tnW_vld hw.1 hi (by omega) h.2.1 h.2.2)
    omega
  · omega
/-- the words stand, rank by rank -/
def WO (n : Nat) (o : Int) (M : pM) : Prop := ∀ r : Int, 0 ≤ r → r < FF n o → ∀ i : Int, 0 ≤ i → i < 21 → (-128 ≤ M 7 (21 * r + i) ∧ M 7 (21 * r + i) < 128) ∧ (i < iv n o → M 7 (21 * r + i) = at0 (wd n o r) i)
theorem WO.fr {n : Nat} {o : Int} {M M' : pM} (h : WO n o M) (e : M' 7 = M 7) : WO n o M' := by unfold WO; rw [e]; exact h
theorem cpy_ne {M : pM} {a s b d l x : Int} (h : x ≠ b) : pu_cpy M a s b d l x = M x := by
  funext j
  unfold pu_cpy
  rw [if_neg (fun z => h z.1)]
theorem cpy_in {M : pM} {a s b d l j : Int} (h1 : d ≤ j) (h2 : j < d + l) : pu_cpy M a s b d l b j = M a (s + (j - d)) := by
  unfold pu_cpy
  rw [if_pos ⟨rfl, h1, h2⟩]
theorem cpy_out {M : pM} {a s b d l j : Int} (h : j < d ∨ d + l ≤ j) : pu_cpy M a s b d l b j = M b j := by
  unfold pu_cpy
  rw [if_neg (by omega)]
