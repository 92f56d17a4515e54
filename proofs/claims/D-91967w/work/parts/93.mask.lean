/-! ===== gates that mend: words of gates as numbers ===== -/
set_option maxRecDepth 100000
def gt (g : Nat) : elt := (1, (g : Int), 0, 1)
theorem gt_ok {n g : Nat} (h : g + 1 < n) : okE n (gt g) := ⟨by show (0 : Int) ≤ g; omega, by show (g : Int) + 2 ≤ n; omega, Or.inl ⟨Or.inr (Or.inl rfl), rfl, rfl⟩⟩
def fld (f : Nat → Nat) (x : Int) : Nat → Int
  | 0 => 0
  | m + 1 => if tb x m = true then iorr (fld f x m) (ishl 1 (f m : Int)) else fld f x m
theorem fld_in {f : Nat → Nat} {x : Int} : ∀ m : Nat, inR (fld f x m)
  | 0 => by rw [fld]; constructor <;> decide
  | m + 1 => by
    rw [fld]
    split
    · exact i32_bd _
    · exact fld_in m
theorem fld_tb {f : Nat → Nat} {x : Int} {c : Nat} (hc : c < 32) : ∀ m : Nat, m ≤ 32 → (∀ b, b < m → f b < 32) → (tb (fld f x m) c = true ↔ ∃ b, b < m ∧ tb x b = true ∧ f b = c)
  | 0, _, _ => by
    rw [fld, tb_zero]
    constructor
    · intro h; cases h
    · rintro ⟨b, h, _⟩; omega
  | m + 1, h, hf => by
    have ih := fld_tb (f := f) (x := x) hc m (by omega) (fun b hb => hf b (by omega))
    rw [fld]
    by_cases t : tb x m = true
    · rw [if_pos t, tb_or, tb_one (f m) (hf m (by omega)) c hc, Bool.or_eq_true, ih, decide_eq_true_eq]
      constructor
      · rintro (⟨b, h1, h2, h3⟩ | h1)
        · exact ⟨b, by omega, h2, h3⟩
        · exact ⟨m, by omega, t, h1.symm⟩
      · rintro ⟨b, h1, h2, h3⟩
        by_cases d : b = m
        · subst d; exact Or.inr h3.symm
        · exact Or.inl ⟨b, by omega, h2, h3⟩
    · rw [if_neg t, ih]
      constructor
      · rintro ⟨b, h1, h2, h3⟩
        exact ⟨b, by omega, h2, h3⟩
      · rintro ⟨b, h1, h2, h3⟩
        by_cases d : b = m
        · subst d; exact absurd h2 t
        · exact ⟨b, by omega, h2, h3⟩
def gd (n g : Nat) (x : Int) : Int := fld (bsp (gt g)) x (2 ^ n)
/-- the set behind the word with number N -/
def aN (n : Nat) (x : Int) : Nat → Int
  | 0 => x
  | N + 1 => gd n (N % 4) (aN n x (N / 4))
termination_by N => N
decreasing_by omega
def vN (n : Nat) : Nat → Prop
  | 0 => True
  | N + 1 => N % 4 + 1 < n ∧ vN n (N / 4)
termination_by N => N
decreasing_by omega
def rN : Nat → Nat → Nat
  | 0, b => b
  | N + 1, b => bsp (gt (N % 4)) (rN (N / 4) b)
termination_by N => N
decreasing_by omega
def lnN : Nat → Nat
  | 0 => 0
  | N + 1 => lnN (N / 4) + 1
termination_by N => N
decreasing_by omega
theorem aN_ch {n g P : Nat} {x : Int} (h : g < 4) : aN n x (4 * P + g + 1) = gd n g (aN n x P) := by
  rw [aN, show (4 * P + g) % 4 = g by omega, show (4 * P + g) / 4 = P by omega]
theorem vN_ch {n g P : Nat} (h : g < 4) : vN n (4 * P + g + 1) ↔ g + 1 < n ∧ vN n P := by
  rw [vN, show (4 * P + g) % 4 = g by omega, show (4 * P + g) / 4 = P by omega]
theorem rN_ch {g P b : Nat} (h : g < 4) : rN (4 * P + g + 1) b = bsp (gt g) (rN P b) := by
  rw [rN, show (4 * P + g) % 4 = g by omega, show (4 * P + g) / 4 = P by omega]
theorem lnN_ch {g P : Nat} (h : g < 4) : lnN (4 * P + g + 1) = lnN P + 1 := by
  rw [lnN, show (4 * P + g) / 4 = P by omega]
theorem lnN_mono : ∀ (N N' : Nat), N ≤ N' → lnN N ≤ lnN N'
  | 0, N', _ => by rw [lnN]; omega
  | N + 1, 0, h => by omega
  | N + 1, N' + 1, h => by
    rw [lnN, lnN]
    have := lnN_mono (N / 4) (N' / 4) (by omega)
    omega
termination_by N => N
decreasing_by omega
theorem N_cases (N : Nat) : N = 0 ∨ ∃ P g, g < 4 ∧ P < N ∧ N = 4 * P + g + 1 := by
  cases N with
  | zero => exact Or.inl rfl
  | succ N => exact Or.inr ⟨N / 4, N % 4, by omega, by omega, by omega⟩
theorem rN_bd {n : Nat} (hn : n ≤ 7) : ∀ (N b : Nat), vN n N → b < 2 ^ n → rN N b < 2 ^ n
  | 0, b, _, h => by rw [rN]; exact h
  | N + 1, b, v, h => by
    rw [vN] at v
    rw [rN]
    exact bsp_bd hn (gt_ok v.1) (rN_bd hn (N / 4) b v.2 h)
termination_by N => N
decreasing_by omega
theorem pow_32 {n : Nat} (h : n ≤ 5) : 2 ^ n ≤ 32 := Nat.pow_le_pow_right (by decide) h
theorem aN_tb {n : Nat} {x : Int} {c : Nat} (hn : n ≤ 5) (hc : c < 32) (hx : ∀ c, c < 32 → tb x c = true → c < 2 ^ n) : ∀ N : Nat, vN n N → (tb (aN n x N) c = true ↔ ∃ b, b < 2 ^ n ∧ tb x b = true ∧ rN N b = c)
  | 0, _ => by
    rw [aN]
    constructor
    · intro h; exact ⟨c, hx c hc h, h, by rw [rN]⟩
    · rintro ⟨b, h1, h2, h3⟩; rw [rN] at h3; subst h3; exact h2
  | N + 1, v => by
    have p := pow_32 hn
    rw [vN] at v
    rw [aN]
    unfold gd
    rw [fld_tb hc _ p (fun b hb => by have := bsp_bd (n := n) (by omega) (gt_ok v.1) hb; omega)]
    constructor
    · rintro ⟨b, h1, h2, h3⟩
      obtain ⟨d, d1, d2, d3⟩ := (aN_tb (c := b) hn (by omega) hx (N / 4) v.2).1 h2
      exact ⟨d, d1, d2, by rw [rN, d3, h3]⟩
    · rintro ⟨d, d1, d2, d3⟩
      rw [rN] at d3
      have bd := rN_bd (n := n) (by omega) (N / 4) d v.2 d1
      exact ⟨_, bd, (aN_tb (c := rN (N / 4) d) hn (by omega) hx (N / 4) v.2).2 ⟨d, d1, d2, rfl⟩, d3⟩
termination_by N => N
decreasing_by all_goals omega
theorem aN_in {n : Nat} {x : Int} (hx : inR x) : ∀ N : Nat, inR (aN n x N)
  | 0 => by rw [aN]; exact hx
  | N + 1 => by rw [aN]; exact fld_in _
def srM (n : Nat) (x : Int) : Prop := ∀ b, b < 2 ^ n → tb x b = true → srtB n b = true
def gdN (n : Nat) (x : Int) (N : Nat) : Prop := vN n N ∧ srM n (aN n x N)
noncomputable def mN (n : Nat) (x : Int) : Nat := Classical.epsilon (fun N => gdN n x N ∧ ∀ N', N' < N → ¬ gdN n x N')
theorem mN_eq {n N : Nat} {x : Int} (h1 : gdN n x N) (h2 : ∀ N', N' < N → ¬ gdN n x N') : mN n x = N := by
  obtain ⟨k1, k2⟩ : gdN n x (mN n x) ∧ ∀ N', N' < mN n x → ¬ gdN n x N' := Classical.epsilon_spec (p := fun N => gdN n x N ∧ ∀ N', N' < N → ¬ gdN n x N') ⟨N, h1, h2⟩
  rcases Nat.lt_trichotomy (mN n x) N with a | a | a
  · exact absurd k1 (h2 _ a)
  · exact a
  · exact absurd h1 (k2 _ a)
/-- a word that sorts -/
def nmW (N : Nat) (w : List Nat) : Nat := w.foldl (fun N g => 4 * N + g + 1) N
theorem rN_nm {b : Nat} : ∀ (w : List Nat) (N : Nat), (∀ g ∈ w, g < 4) → rN (nmW N w) b = w.foldl (fun b g => bsp (gt g) b) (rN N b)
  | [], _, _ => rfl
  | g :: w, N, h => by
    show rN (nmW (4 * N + g + 1) w) b = _
    rw [rN_nm w _ (fun a ha => h a (List.mem_cons_of_mem _ ha)), rN_ch (h g List.mem_cons_self)]
    rfl
theorem vN_nm {n : Nat} : ∀ (w : List Nat) (N : Nat), (∀ g ∈ w, g < 4 ∧ g + 1 < n) → vN n N → vN n (nmW N w)
  | [], _, _, h => h
  | g :: w, N, h, v => vN_nm w _ (fun a ha => h a (List.mem_cons_of_mem _ ha)) ((vN_ch (h g List.mem_cons_self).1).2 ⟨(h g List.mem_cons_self).2, v⟩)
theorem ln_nm : ∀ (w : List Nat) (N : Nat), (∀ g ∈ w, g < 4) → lnN (nmW N w) = lnN N + w.length
  | [], _, _ => rfl
  | g :: w, N, h => by
    show lnN (nmW (4 * N + g + 1) w) = _
    rw [ln_nm w _ (fun a ha => h a (List.mem_cons_of_mem _ ha)), lnN_ch (h g List.mem_cons_self), List.length_cons]
    omega
def bub : Nat → List Nat
  | 2 => [0]
  | 3 => [0, 1, 0]
  | 4 => [0, 1, 2, 0, 1, 0]
  | _ => [0, 1, 2, 3, 0, 1, 2, 0, 1, 0]
theorem bub_ok : ∀ n : Nat, n < 6 → 2 ≤ n → ((∀ g ∈ bub n, g < 4 ∧ g + 1 < n) ∧ (bub n).length ≤ 10 ∧ ∀ b, b < 2 ^ n → srtB n ((bub n).foldl (fun b g => bsp (gt g) b) b) = true) := by decide
theorem ex_good {n : Nat} {x : Int} (h2 : 2 ≤ n) (hn : n ≤ 5) (hx : ∀ c, c < 32 → tb x c = true → c < 2 ^ n) : ∃ N, gdN n x N ∧ lnN N ≤ 10 := by
  obtain ⟨b1, b2, b3⟩ := bub_ok n (by omega) h2
  have v : vN n (nmW 0 (bub n)) := vN_nm _ _ b1 (by rw [vN]; trivial)
  refine ⟨nmW 0 (bub n), ⟨v, fun c hc t => ?_⟩, ?_⟩
  · have p := pow_32 hn
    obtain ⟨b, d1, d2, d3⟩ := (aN_tb hn (by omega) hx _ v).1 t
    rw [rN_nm _ _ (fun g hg => (b1 g hg).1), rN] at d3
    rw [← d3]
    exact b3 b d1
  · rw [ln_nm _ _ (fun g hg => (b1 g hg).1), lnN]
    omega
/-- pigeons -/
theorem pgn : ∀ (L : List Nat) (k : Nat) (h : Nat → Nat), (∀ i, i < k → h i ∈ L) → (∀ i j, i < j → j < k → h i ≠ h j) → k ≤ L.length
  | [], k, h, a, _ => by
    cases k with
    | zero => exact Nat.le_refl _
    | succ k => have := a 0 (by omega); cases this
  | x :: L, k, h, a, b => by
    rw [List.length_cons]
    by_cases e : ∃ i, i < k ∧ h i = x
    · obtain ⟨i, hi, ei⟩ := e
      have := pgn L (k - 1) (fun j => if j < i then h j else h (j + 1)) (fun j hj => by
        show (if j < i then h j else h (j + 1)) ∈ L
        by_cases c : j < i
        · rw [if_pos c]
          rcases List.mem_cons.1 (a j (by omega)) with w | w
          · exact absurd (w.trans ei.symm) (b j i c hi)
          · exact w
        · rw [if_neg c]
          rcases List.mem_cons.1 (a (j + 1) (by omega)) with w | w
          · exact absurd (ei.trans w.symm) (b i (j + 1) (by omega) (by omega))
          · exact w) (fun j1 j2 h1 h2 => by
        show (if j1 < i then h j1 else h (j1 + 1)) ≠ (if j2 < i then h j2 else h (j2 + 1))
        by_cases c1 : j1 < i
        · by_cases c2 : j2 < i
          · rw [if_pos c1, if_pos c2]; exact b _ _ h1 (by omega)
          · rw [if_pos c1, if_neg c2]; exact b _ _ (by omega) (by omega)
        · rw [if_neg c1, if_neg (by omega)]
          exact b _ _ (by omega) (by omega))
      omega
    · have := pgn L k h (fun j hj => by
        rcases List.mem_cons.1 (a j hj) with w | w
        · exact absurd ⟨j, hj, w⟩ e
        · exact w) b
      omega
def GC : Nat → Nat
  | 0 => 1460025425505530526162769655694546954800345483328
  | 1 => 1459980913807142995695969780282423562312446283808
  | 2 => 1459980823972769641612722262796640296874004285472
  | _ => 1459980823972598128486511695339474467247712471072
def FLc : List Nat := [1459980823972598128486511383358617792788444579872, 1460025425505530526162769655694546954800345483328, 1459980913807142995695969780282423562312446283808, 1459980823972769641612722262796640296874004285472, 1459980823972598128486511695339474467247712471072, 1460025515425145985102540039736651782818214613120, 1460025425505702039288980535132569458885905188928, 1460025425505530526162769967675403629259613374528, 1460025558896218359291965457187470673184469225536, 1459980913807314508985588744906116262684690522144, 1459980913807142995695970092263280236771714175008, 1459980913807400181720346484376316819658305081376, 1459980823972769641612722574777496971617016842272, 1459980823972769641612722730767776544639668029472, 1460025558981288951022277444305769731678336651392, 1460025515425317498392313746865255155724821242112, 1460025515425145985102540351717508457277482504320, 1460025515425403252256555158437226735953145663616, 1460025425505702039288980847113426133628917745728, 1460025425505702039288981003103705706651568932928, 1460025558896389872581584421811163373556713463872, 1460025558896218359291965769168327347643737116736, 1459980913807400181883754569561987015944989614112, 1459980913807314508985589056886972937427703349280, 1459980913807314508985589212877401129238057492512, 1460025558896517083691210439902392174535321522240, 1459980913807400181720346796357173494401317638176, 1459980823972769641612722730767776544923412695072, 1459980913807400181720347030266500034773114851360, 1460025558981460464312051151434373104584943280384, 1460025558981288951022277756286626406137604542592, 1460025515425403252420117986127807604774192587008, 1460025515425317498392314058846111830467834069504, 1460025515425317498392314214836540163015676567808, 1460025558981587756551160841627372928818261201024, 1460025515425403252256555470418083410696158220416, 1460025425505702039288981003103705706935313598528, 1460025515425403252256555704401196927362793640064, 1460025558981546218418928810706279218693496250496, 1460025558896389872581584733792020048299726291008, 1460025558896389872581584889782448240110080434240, 1460025558896517083854618525088062370822006054976, 1459980913807400181883754881542843690688002441248, 1459980913807314508985589212877401129521802428448, 1459980913807400181883755115452318849847502610464, 1460025558896517083691210751883248849278334079040, 1459980913807400181883755037533271882923835170848, 1459980913807400181720347030266500035056859516960, 1460025558896517083691211023571507252607293001792, 1460025558981546218419083553211189891227858641152, 1460025558981460464312051463415229779327956107776, 1460025558981460464312051619405658111875798606080, 1460025558981587756714723669317953797639308124416, 1460025515425403252420118298108664279517205414400, 1460025515425317498392314214836540163299421504000, 1460025515425403252420118532091926555709032145152, 1460025558981587756551161153608229603561273757824, 1460025515425403252420118454099092612490660716800, 1460025515425403252256555704401196927646538305664, 1460025558981587756551161425370274983185070887040, 1460025558981587756793797089327307462698489749632, 1460025558981546218418929122687135893436509077632, 1460025558896389872581584889782448240393825370176, 1460025558981546218418929356670470086484885381248, 1460025558896517083854618837068919045565018882112, 1459980913807400181883755037533271882923835441184, 1459980913807400181883755115452318850131247546400, 1460025558896517083854619108757326067681680760896, 1460025558896517083854618993059347237800851611712, 1459980913807400181883755115452318850272981196832, 1460025558896517083691211023571507252891037667392, 1460025558981587756793951831832218135232852140288, 1460025558981546218419083865192046565970871468544, 1460025558981460464312051619405658112159543542272, 1460025558981546218419084099175380899756736127232, 1460025558981587756714723981298810472382320951808, 1460025515425403252420118454099092612490660987392, 1460025515425403252420118532091926555992777081344, 1460025558981587756714724253061004611531309392128, 1460025558981587756714724137289238805355776254208, 1460025515425403252420118532091926556134644949248, 1460025558981587756551161425370274983468815552640, 1460025558981587756793797401308164137441502576768, 1460025558981546218419084021182474898944327172352, 1460025558981546218418929356670470086768630317184, 1460025558981587756793797673070430193447040589952, 1460025558896517083854618993059347237800851882048, 1459980913807400181883755115452318850272981467168, 1460025558896517083854619108757326067965425696832, 1460025558981587756793797635291498330984076943488, 1460025558896517083854619108757326068107159347264, 1460025558981587756793952143813074809975864967680, 1460025558981546218419084021182474898944327172608, 1460025558981546218419084099175380900040481063424, 1460025558981587756793952415575341006718891335936, 1460025558981587756714724137289238805355776524800, 1460025515425403252420118532091926556134645219840, 1460025558981587756714724253061004611815054328320, 1460025558981587756793952377796409144256061907200, 1460025558981587756714724253061004611956922196224, 1460025558981587756793952299803503142949320671488, 1460025558981546218419084099175380900182349332736, 1460025558981587756793797673070430193730785525888, 1460025558981587756793797635291498330984077213824, 1460025558896517083854619108757326068107159617600, 1460025558981587756793797673070430193941238653056, 1460025558981587756793952299803503142949320671744, 1460025558981546218419084099175380900182349332992, 1460025558981587756793952415575341007002636272128, 1460025558981587756793952377796409144256062177792, 1460025558981587756714724253061004611956922466816, 1460025558981587756793952415575341007213223616768, 1460025558981587756793952377796409144256062308608, 1460025558981587756793952415575341007144504541440, 1460025558981587756793797673070430193941238923392, 1460025558981587756793952377796409144256062308864, 1460025558981587756793952415575341007144504541696, 1460025558981587756793952415575341007213223887360, 1460025558981587756793952415575341007213224018176, 1460025558981587756793952415575341007213224018432]
def dgt (c b : Nat) : Nat := (c >>> (5 * b)) &&& 31
theorem GC_ok : ∀ g : Nat, g < 4 → ∀ b : Nat, b < 32 → dgt (GC g) b = bsp (gt g) b := by decide
def stc (g c : Nat) : Nat := (List.range 32).foldl (fun acc b => acc + (dgt (GC g) (dgt c b)) <<< (5 * b)) 0
theorem FL_ok : FLc.all (fun c => (List.range 4).all (fun g => FLc.contains (stc g c) && (List.range 32).all (fun b => Nat.beq (dgt (stc g c) b) (dgt (GC g) (dgt c b))))) = true := by decide +kernel
theorem FL_one : FLc.contains 1459980823972598128486511383358617792788444579872 = true := by decide +kernel
theorem FL_id : ∀ b : Nat, b < 32 → dgt 1459980823972598128486511383358617792788444579872 b = b := by decide
theorem FL_in : ∀ N : Nat, vN 5 N → ∃ c, c ∈ FLc ∧ ∀ b, b < 32 → dgt c b = rN N b
  | 0, _ => ⟨1459980823972598128486511383358617792788444579872, by have := FL_one; rwa [List.contains_iff_mem] at this, fun b hb => by rw [rN]; exact FL_id b hb⟩
  | N + 1, v => by
    rw [vN] at v
    obtain ⟨c, c1, c2⟩ := FL_in (N / 4) v.2
    have h := List.all_eq_true.1 (List.all_eq_true.1 FL_ok c c1) (N % 4) (List.mem_range.2 (by omega))
    rw [Bool.and_eq_true] at h
    refine ⟨stc (N % 4) c, by have := h.1; rwa [List.contains_iff_mem] at this, fun b hb => ?_⟩
    have e := Nat.eq_of_beq_eq_true (List.all_eq_true.1 h.2 b (List.mem_range.2 hb))
    have rb := rN_bd (n := 5) (by omega) (N / 4) b v.2 (by omega)
    rw [e, c2 b hb, GC_ok _ (by omega) _ (by omega), rN]
termination_by N => N
decreasing_by omega
theorem vN_5 {n : Nat} (hn : n ≤ 5) : ∀ N : Nat, vN n N → vN 5 N
  | 0, _ => by rw [vN]; trivial
  | N + 1, v => by
    rw [vN] at v ⊢
    exact ⟨by omega, vN_5 hn (N / 4) v.2⟩
termination_by N => N
decreasing_by omega
theorem FL_len : FLc.length = 120 := by decide
/-- the sets that differ are few -/
theorem few {n : Nat} {x : Int} (hn : n ≤ 5) (hx : ∀ c, c < 32 → tb x c = true → c < 2 ^ n) (ix : inR x) (k : Nat) (w : Nat → Nat) (hv : ∀ i, i < k → vN n (w i)) (hd : ∀ i j, i < j → j < k → aN n x (w i) ≠ aN n x (w j)) : k ≤ 120 := by
  have p := pow_32 hn
  have ex : ∀ i, ∃ c, i < k → c ∈ FLc ∧ ∀ b, b < 32 → dgt c b = rN (w i) b := fun i => by
    by_cases h : i < k
    · obtain ⟨c, c1, c2⟩ := FL_in (w i) (vN_5 hn _ (hv i h))
      exact ⟨c, fun _ => ⟨c1, c2⟩⟩
    · exact ⟨0, fun q => absurd q h⟩
  have hc := fun i => Classical.choose_spec (ex i)
  rw [← FL_len]
  refine pgn FLc k (fun i => Classical.choose (ex i)) (fun i hi => (hc i hi).1) (fun i j h1 h2 e => hd i j h1 h2 (tb_ext (aN_in ix _) (aN_in ix _) (fun c c32 => ?_)))
  have e : Classical.choose (ex i) = Classical.choose (ex j) := e
  have r : ∀ b, b < 32 → rN (w i) b = rN (w j) b := fun b hb => by
    rw [← (hc i (by omega)).2 b hb, ← (hc j h2).2 b hb, e]
  have s : tb (aN n x (w i)) c = true ↔ tb (aN n x (w j)) c = true := by
    rw [aN_tb hn c32 hx _ (hv i (by omega)), aN_tb hn c32 hx _ (hv j h2)]
    constructor
    · rintro ⟨b, b1, b2, b3⟩
      exact ⟨b, b1, b2, by rw [← r b (by omega)]; exact b3⟩
    · rintro ⟨b, b1, b2, b3⟩
      exact ⟨b, b1, b2, by rw [r b (by omega)]; exact b3⟩
  cases h1 : tb (aN n x (w i)) c with
  | true => exact (s.1 h1).symm
  | false =>
    cases h2 : tb (aN n x (w j)) c with
    | true => rw [s.2 h2] at h1; cases h1
    | false => rfl
