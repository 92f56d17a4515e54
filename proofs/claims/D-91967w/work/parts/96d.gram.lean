/-! ===== the grammar, and what is told: one run over the tokens ===== -/
set_option maxRecDepth 100000
abbrev sps : Type := List elt × Int × Int
abbrev cst : Type := sps × List (Int × Nat × sps) × List (Int × sps) × Int × Int
abbrev Ot : Type := Int × Int × Int × List elt
def tK (Ts : List tok) (h : Nat) : Int := (tkd Ts h).1
def tP (Ts : List tok) (h : Nat) : Int := (tkd Ts h).2.1
def tV (Ts : List tok) (h : Nat) : Int := (tkd Ts h).2.2
def gO (Ts : List tok) (h : Nat) (k : Option (Int × Int)) : Option (Int × Int) := if h = 400 then some (2, tP Ts h) else k
def mU (Ts : List tok) (h : Nat) (kd : Int) (k : Option (Int × Int)) : Option (Int × Int) := if tK Ts h = kd then gO Ts h k else some (1, tP Ts h)
def oP (Ts : List tok) (h d : Nat) (k : Option (Int × Int)) : Option (Int × Int) := if tK Ts h = 5 then (if d = 4 then some (2, tP Ts h) else gO Ts h k) else some (1, tP Ts h)
/-- one or none of such a word -/
def oW (Ts : List tok) (h : Nat) (kd : Int) (k : Nat → Option (Int × Int)) : Option (Int × Int) := if tK Ts h = kd then gO Ts h (k (h + 1)) else k h
def prs (Ts : List tok) : Nat → Nat → Nat → Nat → Option (Int × Int)
  | 0, _, _, _ => none
  | f + 1, h, d, m =>
    if tK Ts h = 0 then (if d = 0 then none else some (1, tP Ts h))
    else if tK Ts h = 6 then (if d = 0 then some (1, tP Ts h) else gO Ts h (prs Ts f (h + 1) (d - 1) m))
    else if tK Ts h = 11 then (if d ≠ 0 then some (1, tP Ts h) else if m = 8 then some (2, tP Ts h) else gO Ts h (mU Ts (h + 1) 1 (oP Ts (h + 2) 0 (prs Ts f (h + 3) 1 (m + 1)))))
    else if tK Ts h = 12 ∨ tK Ts h = 13 ∨ tK Ts h = 14 then gO Ts h (mU Ts (h + 1) 2 (mU Ts (h + 2) 4 (prs Ts f (h + 3) d m)))
    else if tK Ts h = 15 then gO Ts h (mU Ts (h + 1) 2 (mU Ts (h + 2) 2 (mU Ts (h + 3) 2 (mU Ts (h + 4) 4 (prs Ts f (h + 5) d m)))))
    else if tK Ts h = 16 then gO Ts h (mU Ts (h + 1) 1 (oW Ts (h + 2) 17 (fun i => oW Ts i 18 (fun j => mU Ts j 4 (prs Ts f (j + 1) d m)))))
    else if tK Ts h = 19 then gO Ts h (mU Ts (h + 1) 2 (oP Ts (h + 2) d (prs Ts f (h + 3) (d + 1) m)))
    else some (1, tP Ts h)
/-- a fault that is told: the first by its place, then the least -/
def wr (w : Int × Int) (k p : Int) : Int × Int := if w.1 ≠ 0 ∧ (w.2 < p ∨ (p = w.2 ∧ w.1 ≤ k)) then w else (k, p)
def wrI (b : Bool) (w : Int × Int) (k p : Int) : Int × Int := if b = true then wr w k p else w
def addS (s : sps) (e : elt) : sps := (if s.1.length < 200 then s.1 ++ [e] else s.1, cap5 (s.2.1 + 1), if e.1 = 3 then cap5 (s.2.2 + 1) else s.2.2)
def adAS (s o : sps) (t : Int) : sps := ((s.1 ++ rep o.1 t.toNat).take 200, cap5 (s.2.1 + o.2.1 * t), cap5 (s.2.2 + o.2.2 * t))
def emS : sps := ([], 0, 0)
def lgB (s : sps) : Bool := decide (200 < s.2.1 ∨ 20 < s.2.2)
def aft (Ts : List tok) (st : List (Int × Nat × sps)) (a : Nat) (s : sps) (w : Int × Int) : Int × Int := match st with
  | [] => wrI (lgB s) w 6 (tP Ts a)
  | _ :: _ => w
def fdP : List (Int × sps) → Int → Option sps
  | [], _ => none
  | (x, s) :: l, v => if x = v then some s else fdP l v
def chS (up tu n : Int) (s : sps) : sps := (chL up tu n s.1, s.2.1, s.2.2)
def elE (Ts : List tok) (n : Int) (h : Nat) : elt := (tK Ts h - 12, min (tV Ts (h + 1)) (n - 2), 0, 1)
def elW (Ts : List tok) (n : Int) (h : Nat) (w : Int × Int) : Int × Int := wrI (decide (n - 2 < tV Ts (h + 1))) w 5 (tP Ts (h + 1))
def myE (Ts : List tok) (n : Int) (h : Nat) : elt := (3, min (tV Ts (h + 1)) (n - 2), tV Ts (h + 2), tV Ts (h + 3))
def myW (Ts : List tok) (n : Int) (h : Nat) (w : Int × Int) : Int × Int := wrI (decide (tV Ts (h + 3) < 1 ∨ 4 < tV Ts (h + 3))) (wrI (decide (tV Ts (h + 3) < tV Ts (h + 2))) (elW Ts n h w) 5 (tP Ts (h + 2))) 5 (tP Ts (h + 3))
def usU (Ts : List tok) (h : Nat) : Nat := if tK Ts (h + 2) = 17 then 1 else 0
def usT (Ts : List tok) (h : Nat) : Nat := if tK Ts (h + 2 + usU Ts h) = 18 then 1 else 0
def usH (Ts : List tok) (h : Nat) : Nat := h + 3 + usU Ts h + usT Ts h
def usS (Ts : List tok) (n : Int) (h : Nat) (cur : sps) (pts : List (Int × sps)) : sps := match fdP pts (tV Ts (h + 1)) with
  | none => cur
  | some o => adAS cur (chS (usU Ts h) (usT Ts h) n o) 1
def usW (Ts : List tok) (h : Nat) (pts : List (Int × sps)) (w : Int × Int) : Int × Int := match fdP pts (tV Ts (h + 1)) with
  | none => wr w 4 (tP Ts (h + 1))
  | some _ => w
def ptW (Ts : List tok) (h : Nat) (pts : List (Int × sps)) (w : Int × Int) : Int × Int := match fdP pts (tV Ts (h + 1)) with
  | none => w
  | some _ => wr w 3 (tP Ts (h + 1))
def tmW (Ts : List tok) (h : Nat) (w : Int × Int) : Int × Int := wrI (decide (20 < tV Ts (h + 1))) w 5 (tP Ts (h + 1))
/-- a bracket is shut -/
def pop (Ts : List tok) (fr : Int × Nat × sps) (st : List (Int × Nat × sps)) (pts : List (Int × sps)) (cur : sps) (w : Int × Int) : cst :=
  if fr.1 = -1 then (fr.2.2, st, pts ++ [(tV Ts fr.2.1, cur)], wrI (lgB cur) w 6 (tP Ts fr.2.1))
  else (adAS fr.2.2 cur fr.1, st, pts, aft Ts st fr.2.1 (adAS fr.2.2 cur fr.1) w)
def shS (Ts : List tok) (c : cst) : cst := match c.2.1 with
  | [] => c
  | fr :: st' => pop Ts fr st' c.2.2.1 c.1 c.2.2.2
def sem (Ts : List tok) (n : Int) : Nat → Nat → cst → Ot
  | 0, _, _ => (0, 0, 0, [])
  | f + 1, h, c =>
    if tK Ts h = 0 then (if c.2.2.2.1 ≠ 0 then (c.2.2.2.1, c.2.2.2.2, 0, []) else (0, -1, n, c.1.1))
    else if tK Ts h = 6 then sem Ts n f (h + 1) (shS Ts c)
    else if tK Ts h = 11 then sem Ts n f (h + 3) (emS, [(-1, h + 1, c.1)], c.2.2.1, ptW Ts h c.2.2.1 c.2.2.2)
    else if tK Ts h = 12 ∨ tK Ts h = 13 ∨ tK Ts h = 14 then sem Ts n f (h + 3) (addS c.1 (elE Ts n h), c.2.1, c.2.2.1, aft Ts c.2.1 h (addS c.1 (elE Ts n h)) (elW Ts n h c.2.2.2))
    else if tK Ts h = 15 then sem Ts n f (h + 5) (addS c.1 (myE Ts n h), c.2.1, c.2.2.1, aft Ts c.2.1 h (addS c.1 (myE Ts n h)) (myW Ts n h c.2.2.2))
    else if tK Ts h = 16 then sem Ts n f (usH Ts h) (usS Ts n h c.1 c.2.2.1, c.2.1, c.2.2.1, aft Ts c.2.1 h (usS Ts n h c.1 c.2.2.1) (usW Ts h c.2.2.1 c.2.2.2))
    else if tK Ts h = 19 then sem Ts n f (h + 3) (emS, (tV Ts (h + 1), h, c.1) :: c.2.1, c.2.2.1, tmW Ts h c.2.2.2)
    else (0, 0, 0, [])
/-- a fault of the grammar comes first -/
def cmb (p : Option (Int × Int)) (s : Ot) : Ot := match p with
  | some q => (q.1, q.2, 0, [])
  | none => s
def lgN (Ts : List tok) : Int := if 2 ≤ tV Ts 1 ∧ tV Ts 1 ≤ 7 then tV Ts 1 else 7
def lgW0 (Ts : List tok) : Int × Int := if 2 ≤ tV Ts 1 ∧ tV Ts 1 ≤ 7 then (0, 0) else (5, tP Ts 1)
def rdO (Ts : List tok) : Ot := cmb (mU Ts 0 10 (mU Ts 1 2 (mU Ts 2 4 (prs Ts 401 3 0 0)))) (sem Ts (lgN Ts) 401 3 (emS, [], [], lgW0 Ts))
theorem cmb_gO {Ts : List tok} {h : Nat} {p : Option (Int × Int)} {s : Ot} : cmb (gO Ts h p) s = if h = 400 then (2, tP Ts h, 0, []) else cmb p s := by
  unfold gO
  by_cases c : h = 400
  · rw [if_pos c, if_pos c]; rfl
  · rw [if_neg c, if_neg c]
theorem cmb_mU {Ts : List tok} {h : Nat} {kd : Int} {p : Option (Int × Int)} {s : Ot} : cmb (mU Ts h kd p) s = if tK Ts h = kd then cmb (gO Ts h p) s else (1, tP Ts h, 0, []) := by
  unfold mU
  by_cases c : tK Ts h = kd
  · rw [if_pos c, if_pos c]
  · rw [if_neg c, if_neg c]; rfl
/-- which of the kinds -/
theorem kd_0 {Ts : List tok} {h : Nat} (e : tK Ts h = 0) {f d m : Nat} : prs Ts (f + 1) h d m = (if d = 0 then none else some (1, tP Ts h)) := by rw [prs, if_pos e]
theorem kd_6 {Ts : List tok} {h : Nat} (e : tK Ts h = 6) {f d m : Nat} : prs Ts (f + 1) h d m = (if d = 0 then some (1, tP Ts h) else gO Ts h (prs Ts f (h + 1) (d - 1) m)) := by
  rw [prs, if_neg (by omega), if_pos e]
theorem kd_11 {Ts : List tok} {h : Nat} (e : tK Ts h = 11) {f d m : Nat} : prs Ts (f + 1) h d m = (if d ≠ 0 then some (1, tP Ts h) else if m = 8 then some (2, tP Ts h) else gO Ts h (mU Ts (h + 1) 1 (oP Ts (h + 2) 0 (prs Ts f (h + 3) 1 (m + 1))))) := by
  rw [prs, if_neg (by omega), if_neg (by omega), if_pos e]
theorem kd_12 {Ts : List tok} {h : Nat} (e : tK Ts h = 12 ∨ tK Ts h = 13 ∨ tK Ts h = 14) {f d m : Nat} : prs Ts (f + 1) h d m = gO Ts h (mU Ts (h + 1) 2 (mU Ts (h + 2) 4 (prs Ts f (h + 3) d m))) := by
  rw [prs, if_neg (by omega), if_neg (by omega), if_neg (by omega), if_pos e]
theorem kd_15 {Ts : List tok} {h : Nat} (e : tK Ts h = 15) {f d m : Nat} : prs Ts (f + 1) h d m = gO Ts h (mU Ts (h + 1) 2 (mU Ts (h + 2) 2 (mU Ts (h + 3) 2 (mU Ts (h + 4) 4 (prs Ts f (h + 5) d m))))) := by
  rw [prs, if_neg (by omega), if_neg (by omega), if_neg (by omega), if_neg (by omega), if_pos e]
theorem kd_16 {Ts : List tok} {h : Nat} (e : tK Ts h = 16) {f d m : Nat} : prs Ts (f + 1) h d m = gO Ts h (mU Ts (h + 1) 1 (oW Ts (h + 2) 17 (fun i => oW Ts i 18 (fun j => mU Ts j 4 (prs Ts f (j + 1) d m))))) := by
  rw [prs, if_neg (by omega), if_neg (by omega), if_neg (by omega), if_neg (by omega), if_neg (by omega), if_pos e]
theorem kd_19 {Ts : List tok} {h : Nat} (e : tK Ts h = 19) {f d m : Nat} : prs Ts (f + 1) h d m = gO Ts h (mU Ts (h + 1) 2 (oP Ts (h + 2) d (prs Ts f (h + 3) (d + 1) m))) := by
  rw [prs, if_neg (by omega), if_neg (by omega), if_neg (by omega), if_neg (by omega), if_neg (by omega), if_neg (by omega), if_pos e]
theorem kd_x {Ts : List tok} {h : Nat} (e : tK Ts h ≠ 0 ∧ tK Ts h ≠ 6 ∧ tK Ts h ≠ 11 ∧ tK Ts h ≠ 12 ∧ tK Ts h ≠ 13 ∧ tK Ts h ≠ 14 ∧ tK Ts h ≠ 15 ∧ tK Ts h ≠ 16 ∧ tK Ts h ≠ 19) {f d m : Nat} : prs Ts (f + 1) h d m = some (1, tP Ts h) := by
  rw [prs, if_neg (by omega), if_neg (by omega), if_neg (by omega), if_neg (by omega), if_neg (by omega), if_neg (by omega), if_neg (by omega)]
theorem sm_0 {Ts : List tok} {h : Nat} (e : tK Ts h = 0) {n : Int} {f : Nat} {cur : sps} {st : List (Int × Nat × sps)} {pts : List (Int × sps)} {w : Int × Int} : sem Ts n (f + 1) h (cur, st, pts, w) = (if w.1 ≠ 0 then (w.1, w.2, 0, []) else (0, -1, n, cur.1)) := by rw [sem, if_pos e]
theorem sm_6 {Ts : List tok} {h : Nat} (e : tK Ts h = 6) {n : Int} {f : Nat} {cur : sps} {fr : Int × Nat × sps} {st : List (Int × Nat × sps)} {pts : List (Int × sps)} {w : Int × Int} : sem Ts n (f + 1) h (cur, fr :: st, pts, w) = sem Ts n f (h + 1) (pop Ts fr st pts cur w) := by
  rw [sem, if_neg (by omega), if_pos e]
  rfl
theorem sm_11 {Ts : List tok} {h : Nat} (e : tK Ts h = 11) {n : Int} {f : Nat} {cur : sps} {st : List (Int × Nat × sps)} {pts : List (Int × sps)} {w : Int × Int} : sem Ts n (f + 1) h (cur, st, pts, w) = sem Ts n f (h + 3) (emS, [(-1, h + 1, cur)], pts, ptW Ts h pts w) := by
  rw [sem, if_neg (by omega), if_neg (by omega), if_pos e]
theorem sm_12 {Ts : List tok} {h : Nat} (e : tK Ts h = 12 ∨ tK Ts h = 13 ∨ tK Ts h = 14) {n : Int} {f : Nat} {cur : sps} {st : List (Int × Nat × sps)} {pts : List (Int × sps)} {w : Int × Int} : sem Ts n (f + 1) h (cur, st, pts, w) = sem Ts n f (h + 3) (addS cur (elE Ts n h), st, pts, aft Ts st h (addS cur (elE Ts n h)) (elW Ts n h w)) := by
  rw [sem, if_neg (by omega), if_neg (by omega), if_neg (by omega), if_pos e]
theorem sm_15 {Ts : List tok} {h : Nat} (e : tK Ts h = 15) {n : Int} {f : Nat} {cur : sps} {st : List (Int × Nat × sps)} {pts : List (Int × sps)} {w : Int × Int} : sem Ts n (f + 1) h (cur, st, pts, w) = sem Ts n f (h + 5) (addS cur (myE Ts n h), st, pts, aft Ts st h (addS cur (myE Ts n h)) (myW Ts n h w)) := by
  rw [sem, if_neg (by omega), if_neg (by omega), if_neg (by omega), if_neg (by omega), if_pos e]
theorem sm_16 {Ts : List tok} {h : Nat} (e : tK Ts h = 16) {n : Int} {f : Nat} {cur : sps} {st : List (Int × Nat × sps)} {pts : List (Int × sps)} {w : Int × Int} : sem Ts n (f + 1) h (cur, st, pts, w) = sem Ts n f (usH Ts h) (usS Ts n h cur pts, st, pts, aft Ts st h (usS Ts n h cur pts) (usW Ts h pts w)) := by
  rw [sem, if_neg (by omega), if_neg (by omega), if_neg (by omega), if_neg (by omega), if_neg (by omega), if_pos e]
theorem sm_19 {Ts : List tok} {h : Nat} (e : tK Ts h = 19) {n : Int} {f : Nat} {cur : sps} {st : List (Int × Nat × sps)} {pts : List (Int × sps)} {w : Int × Int} : sem Ts n (f + 1) h (cur, st, pts, w) = sem Ts n f (h + 3) (emS, (tV Ts (h + 1), h, cur) :: st, pts, tmW Ts h w) := by
  rw [sem, if_neg (by omega), if_neg (by omega), if_neg (by omega), if_neg (by omega), if_neg (by omega), if_neg (by omega), if_pos e]
/-- what is known of tokens -/
def okT (Ts : List tok) (N : Int) : Prop := (∀ j : Nat, j < Ts.length → (j : Int) ≤ tP Ts j ∧ tP Ts j ≤ N) ∧ (∀ i j : Nat, i < j → j < Ts.length → tP Ts i < tP Ts j) ∧ (∀ j : Nat, j + 1 < Ts.length → tK Ts j ≠ 0) ∧ 1 ≤ Ts.length ∧ tK Ts (Ts.length - 1) = 0 ∧ (∀ j : Nat, j < Ts.length → 0 ≤ tK Ts j ∧ tK Ts j ≤ 19) ∧ (∀ j : Nat, j < Ts.length → 0 ≤ tV Ts j ∧ tV Ts j < 282429536481) ∧ (∀ j : Nat, j < Ts.length → tK Ts j = 2 → tV Ts j ≤ 9999)
theorem tk1_bd (c : Int) (t : List Int) : (0 ≤ (tk1 c t).1 ∧ (tk1 c t).1 ≤ 19) ∧ (0 ≤ (tk1 c t).2.1 ∧ (tk1 c t).2.1 < 282429536481) ∧ ((tk1 c t).1 = 2 → (tk1 c t).2.1 ≤ 9999) := by
  have c8 := cod_8 (w := (c :: t).takeWhile isL) (fun x hx => isL_iff.1 (tw_all _ x hx))
  have n4 := nmb_4 (w := (c :: t).takeWhile isD) (fun x hx => isD_iff.1 (tw_all _ x hx))
  have wb : -1 ≤ wkO (cod ((c :: t).takeWhile isL)) ∧ wkO (cod ((c :: t).takeWhile isL)) ≤ 9 := by
    rcases wkO_cases (cod ((c :: t).takeWhile isL)) with ⟨z, _⟩ | ⟨i, z1, _, z2⟩ <;> omega
  unfold tk1
  by_cases a : isL c = true
  · rw [if_pos a]
    refine ⟨?_, c8, fun z => ?_⟩
    · show 0 ≤ (if _ then (3 : Int) else if _ then 10 + wkO (cod ((c :: t).takeWhile isL)) else 1) ∧ (if _ then (3 : Int) else if _ then 10 + wkO (cod ((c :: t).takeWhile isL)) else 1) ≤ 19
      generalize wkO (cod ((c :: t).takeWhile isL)) = v at wb
      split
      · decide
      · split
        · exact ⟨show (0 : Int) ≤ 10 + v by omega, show (10 : Int) + v ≤ 19 by omega⟩
        · decide
    · exfalso
      have z : (if 8 < ((c :: t).takeWhile isL).length then (3 : Int) else if 0 ≤ wkO (cod ((c :: t).takeWhile isL)) then 10 + wkO (cod ((c :: t).takeWhile isL)) else 1) = 2 := z
      generalize wkO (cod ((c :: t).takeWhile isL)) = v at wb z
      split at z
      · exact absurd z (by decide)
      · split at z
        · have z2 : (10 : Int) + v = 2 := z
          omega
        · exact absurd z (by decide)
  · rw [if_neg a]
    by_cases b : isD c = true
    · rw [if_pos b]
      refine ⟨?_, ⟨n4.1, by show nmb _ < _; omega⟩, fun _ => n4.2⟩
      show 0 ≤ (if _ then (3 : Int) else 2) ∧ (if _ then (3 : Int) else 2) ≤ 19
      split <;> decide
    · rw [if_neg b]
      refine ⟨?_, ⟨Int.le_refl _, show (0 : Int) < 282429536481 by decide⟩, fun _ => show (0 : Int) ≤ 9999 by decide⟩
      show 0 ≤ (if c = 59 then (4 : Int) else if c = 123 then 5 else if c = 125 then 6 else 3) ∧ (if c = 59 then (4 : Int) else if c = 123 then 5 else if c = 125 then 6 else 3) ≤ 19
      split
      · decide
      · split
        · decide
        · split <;> decide
theorem tks_all {N : Int} (hN : 0 ≤ N) : ∀ (f : Nat) (l : List Int), ∀ x ∈ tks N f l, (0 ≤ x.1 ∧ x.1 ≤ 19) ∧ (0 ≤ x.2.2 ∧ x.2.2 < 282429536481) ∧ (x.1 = 2 → x.2.2 ≤ 9999)
  | 0, l, x, h => by
    rw [tks] at h
    rw [List.mem_singleton.1 h]
    exact ⟨⟨Int.le_refl _, show (0 : Int) ≤ 19 by decide⟩, ⟨Int.le_refl _, show (0 : Int) < 282429536481 by decide⟩, fun _ => show (0 : Int) ≤ 9999 by decide⟩
  | f + 1, l, x, h => by
    rw [tks] at h
    cases e : l.dropWhile isB with
    | nil =>
      rw [e] at h
      rw [List.mem_singleton.1 h]
      exact ⟨⟨Int.le_refl _, show (0 : Int) ≤ 19 by decide⟩, ⟨Int.le_refl _, show (0 : Int) < 282429536481 by decide⟩, fun _ => show (0 : Int) ≤ 9999 by decide⟩
    | cons c t =>
      rw [e] at h
      rcases List.mem_cons.1 h with w | w
      · rw [w]; exact tk1_bd c t
      · exact tks_all hN f _ x w
theorem tkL_ok (tp : List Int) : okT (tkL tp) tp.length := by
  obtain ⟨p1, p2, p3, p4, p5⟩ := tkA_ok tp
  have pa : ∀ j : Nat, j < (tkL tp).length → tkd (tkL tp) j ∈ tkL tp := fun j hj => by
    unfold tkd
    rw [List.getD_eq_getElem?_getD, List.getElem?_eq_getElem hj, Option.getD_some]
    exact List.getElem_mem _
  have al := fun j hj => tks_all (N := tp.length) (by omega) (tp.length + 1) tp _ (pa j hj)
  refine ⟨p1, p2, p3, p4, ?_, fun j hj => (al j hj).1, fun j hj => (al j hj).2.1, fun j hj => (al j hj).2.2⟩
  show (tkd (tkL tp) ((tkL tp).length - 1)).1 = 0
  have : tkd (tkL tp) ((tkL tp).length - 1) = (0, (tp.length : Int), 0) := p5
  rw [this]
/-- where the head can stand -/
def okH (Ts : List tok) (h : Nat) : Prop := h ≤ 400 ∧ h < Ts.length ∧ ∀ j, j < h → tK Ts j ≠ 3
theorem okH.next {Ts : List tok} {N : Int} {h : Nat} (o : okH Ts h) (t : okT Ts N) (h4 : h ≠ 400) (h0 : tK Ts h ≠ 0) (h3 : tK Ts h ≠ 3) : okH Ts (h + 1) := by
  obtain ⟨a, b, c⟩ := o
  refine ⟨by omega, ?_, fun j hj => ?_⟩
  · rcases Nat.lt_or_ge (h + 1) Ts.length with w | w
    · exact w
    · exfalso
      have := t.2.2.2.2.1
      rw [show Ts.length - 1 = h by omega] at this
      exact h0 this
  · by_cases e : j = h
    · subst e; exact h3
    · exact c j (by omega)
