/-! FILLS: the rows that a menu with open places lets be -/
theorem lg_eq (x y : Int64) : lg_cmp x y = 0 ↔ x = y := by
  have h1 := lg_lt x y
  have h2 := lg_gt x y
  constructor
  · intro h
    rw [h] at h1 h2
    have a : ¬ x < y := fun z => absurd (h1.mpr z) (by decide)
    have b : ¬ y < x := fun z => absurd (h2.mpr z) (by decide)
    rw [Int64.lt_iff_toInt_lt] at a b
    exact Int64.toInt_inj.mp (by omega)
  · intro h
    subst h
    have a : ¬ lg_cmp x x < 0 := fun z => absurd (h1.mp z) (by rw [Int64.lt_iff_toInt_lt]; omega)
    have b : ¬ 0 < lg_cmp x x := fun z => absurd (h2.mp z) (by rw [Int64.lt_iff_toInt_lt]; omega)
    rw [Int32.lt_iff_toInt_lt] at a b
    exact Int32.toInt_inj.mp (by omega)
theorem np_s (M : Nat → Nat → Nat → Bool) (n k s l : Nat) : np M n (k + 1) s l = sumN (fun d => if M s l d = true then np M n k (s ||| 2 ^ d) d else 0) n := rfl
theorem sumN_leB {f : Nat → Nat} {b : Nat} : ∀ n, (∀ k, k < n → f k ≤ b) → sumN f n ≤ n * b := by
  intro n
  induction n with
  | zero => intro _; exact Nat.zero_le _
  | succ n ih =>
    intro h
    have h1 := ih fun k hk => h k (by omega)
    have h2 := h n (by omega)
    show sumN f n + f n ≤ _
    rw [Nat.add_mul, Nat.one_mul]; omega
theorem np_le {M : Nat → Nat → Nat → Bool} {n : Nat} (hn : n ≤ 10) : ∀ k s l, np M n k s l ≤ 10 ^ k := by
  intro k
  induction k with
  | zero => intro s l; exact Nat.le_refl _
  | succ k ih =>
    intro s l
    rw [np_s]
    have h1 := sumN_leB (f := fun d => if M s l d = true then np M n k (s ||| 2 ^ d) d else 0) (b := 10 ^ k) n fun d _ => by
      show (if M s l d = true then np M n k (s ||| 2 ^ d) d else 0) ≤ 10 ^ k
      split
      · exact ih _ _
      · exact Nat.zero_le _
    have h2 : n * 10 ^ k ≤ 10 * 10 ^ k := Nat.mul_le_mul_right _ hn
    rw [Nat.pow_succ, Nat.mul_comm (10 ^ k) 10]; omega
theorem np_lt {M : Nat → Nat → Nat → Bool} {n k : Nat} (hn : n ≤ 10) (hk : k ≤ 10) (s l : Nat) : np M n k s l < 2 ^ 63 := by
  have h1 := np_le (M := M) hn k s l
  have h2 : 10 ^ k ≤ 10 ^ 10 := Nat.pow_le_pow_right (by decide) hk
  omega
theorem np_pos {M : Nat → Nat → Nat → Bool} {n k s l : Nat} : 0 < np M n (k + 1) s l ↔ ∃ d, d < n ∧ M s l d = true ∧ 0 < np M n k (s ||| 2 ^ d) d := by
  rw [np_s, sumN_pos]
  constructor
  · rintro ⟨d, hd, h⟩
    by_cases q : M s l d = true
    · rw [if_pos q] at h; exact ⟨d, hd, q, h⟩
    · rw [if_neg q] at h; omega
  · rintro ⟨d, hd, q, h⟩
    exact ⟨d, hd, by rw [if_pos q]; exact h⟩
def fitL (mn : List Nat) (k d : Nat) : Bool := decide (mn.getD k 0 = 99) || decide (mn.getD k 0 = d)
def mfL (V : VV) (mn : List Nat) (s l d : Nat) : Bool := mv V (allA V) s l d && fitL mn (pc s) d
theorem mfL_new (V : VV) (mn : List Nat) : newM (vn V) (mfL V mn) := fun _ _ _ _ h => mv_new (Bool.and_eq_true _ _ ▸ h).1
theorem ox_fits {σ : St} {V : VV} {i k d : Nat} {P : Int32 → St → Prop} (hI : IX σ V) (hi : i < 3) (hk : k < (vme V i).length) (hd : d < vn V) (h : P (j01 (fitL (vme V i) k d)) σ) : wx_fits σ (nI i) (nI k) (nI d) P := by
  have hn := hI.2.n
  have hme := me_lt hI.2 hk
  refine ⟨V, i, k, hI, rfl, rfl, hi, hk, ?_⟩
  dsimp only
  unfold wx_fits_j21 wx_fits_j26
  unfold fitL at h
  rw [show (99 : Int32) = nI 99 from rfl]
  simp only [nI_eq (show (vme V i).getD k 0 < 2 ^ 31 by omega) (show 99 < 2 ^ 31 by omega)]
  by_cases q : (vme V i).getD k 0 = 99
  · rw [if_pos q]; rw [decide_eq_true q, Bool.true_or] at h; exact ⟨rfl, h⟩
  · rw [if_neg q]; rw [decide_eq_false q, Bool.false_or] at h
    refine ⟨V, i, k, hI, rfl, rfl, hi, hk, ?_⟩
    dsimp only
    simp only [nI_eq (show (vme V i).getD k 0 < 2 ^ 31 by omega) (show d < 2 ^ 31 by omega)]
    by_cases q2 : (vme V i).getD k 0 = d
    · rw [if_pos q2]; rw [decide_eq_true q2] at h; exact ⟨rfl, h⟩
    · rw [if_neg q2]; rw [decide_eq_false q2] at h; exact ⟨rfl, h⟩
/-- the sum up to d of what follows -/
def npS (M : Nat → Nat → Nat → Bool) (n k s l d : Nat) : Nat := sumN (fun d => if M s l d = true then np M n k (s ||| 2 ^ d) d else 0) d
theorem npS_s (M : Nat → Nat → Nat → Bool) (n k s l d : Nat) : npS M n k s l (d + 1) = npS M n k s l d + if M s l d = true then np M n k (s ||| 2 ^ d) d else 0 := rfl
def fnX (σ : St) (V : VV) (mn : List Nat) (s l : Nat) : Prop := pc s ≤ mn.length → gL σ 34 (11 * s + l) = nL (np (mfL V mn) (vn V) (mn.length - pc s) s l)
theorem filX_d {V : VV} {i s l : Nat} {P : St → Prop} {K : Int32 → Int32 → Int32 → Int32 → Int32 → Int64 → St → Prop} {σ : St} (hG : GX σ V (allA V)) (hi : i < 3) (hok : okS (vn V) s l) (hp : pc s < (vme V i).length) (hA : ∀ d, d < vn V → s.testBit d = false → fnX σ V (vme V i) (s ||| 2 ^ d) d)
    (h : K (nI i) (nI (vme V i).length) (nI s) (nI (pc s)) (lI l) (nL (np (mfL V (vme V i)) (vn V) ((vme V i).length - pc s) s l)) σ) :
    ∀ m d : Nat, d + m = vn V → wx_countsFills_l77 P K (m + 1) (nI i) (nI (vme V i).length) (nI s) (nI (pc s)) (lI l) (nL (npS (mfL V (vme V i)) (vn V) ((vme V i).length - pc s - 1) s l d)) (nI d) σ := by
  have hI := hG.1
  have hn := hI.2.n
  have hml := (hI.2.me i).1
  have hb := okS_le hn hok
  have hp2 := pow_le_1024 hn
  intro m
  induction m with
  | zero =>
    intro d hd
    rw [wx_countsFills_l77_s, show xI_dishes σ = _ from hI.n, if_pos (by rw [show d = vn V by omega]; exact Int32.le_refl _), show d = vn V by omega]
    rw [show (vme V i).length - pc s = (vme V i).length - pc s - 1 + 1 by omega, np_s] at h
    exact h
  | succ m ih =>
    intro d hd
    have ih1 := ih (d + 1) (by omega)
    have hor := or2_lt hok.1 (show d < vn V by omega)
    rw [npS_s] at ih1
    rw [wx_countsFills_l77_s, show xI_dishes σ = _ from hI.n, if_neg (nI_ge (by omega) (by omega)), if_neg (nI_ge hp (by omega))]
    refine ox_fits hI hi hp (by omega) ?_
    unfold wx_countsFills_j137
    rw [nI_1]
    unfold mfL at ih1
    cases qf : fitL (vme V i) (pc s) d with
    | false => rw [jf0]; rw [qf, Bool.and_false, if_neg (by decide), Nat.add_zero] at ih1; exact ih1
    | true =>
      rw [jt0]; rw [qf, Bool.and_true] at ih1
      refine ox_goesOn hG hok.1 (by rcases hok.2 with q | q <;> omega) (by omega) ?_
      cases q : mv V (allA V) s l d with
      | false => rw [jf0]; rw [q, if_neg (by decide), Nat.add_zero] at ih1; exact ih1
      | true =>
        rw [jt0]; rw [q, if_pos rfl] at ih1
        have hpc := pc_or2 (mv_new q) (show d < 11 by omega)
        have ha := hA d (by omega) (mv_new q) (by omega)
        rw [nI_shl1 _ (by omega), nI_or]
        refine ⟨s ||| 2 ^ d, d, rfl, (lI_l (by omega)).symm, by omega, by omega, bV (by omega), ?_⟩
        rw [cl (by omega), show xA_many σ (11 * (s ||| 2 ^ d) + d) = _ from ha, nL_add, show (vme V i).length - pc (s ||| 2 ^ d) = (vme V i).length - pc s - 1 by omega]
        exact ih1
theorem filX_l {V : VV} {i s : Nat} {P : St → Prop} {K : Int32 → Int32 → Int32 → St → Prop} (hw : WV V) (hi : i < 3) (hs : s < 2 ^ vn V)
    (h : ∀ σ', GX σ' V (allA V) → At (vn V) s (vn V + 1) (fnX σ' V (vme V i)) → K (nI i) (nI (vme V i).length) (nI s) σ') :
    ∀ m j : Nat, j + m = vn V + 1 → ∀ σ, GX σ V (allA V) → At (vn V) s j (fnX σ V (vme V i)) → wx_countsFills_l33 P K (m + 1) (nI i) (nI (vme V i).length) (nI s) (nI (pc s)) (nI j - 1) σ := by
  have hn := hw.n
  have hp := pow_le_1024 hn
  have hml := (hw.me i).1
  have hpc := pc_le s
  intro m
  induction m with
  | zero =>
    intro j hj σ hG hD
    rw [wx_countsFills_l33_s, show xI_dishes σ = _ from hG.1.n, if_pos ((nIm_lt (by omega) (by omega)).mpr (by omega))]
    rw [show j = vn V + 1 by omega] at hD
    exact h σ hG hD
  | succ m ih =>
    intro j hj σ hG hD
    rw [wx_countsFills_l33_s, show xI_dishes σ = _ from hG.1.n, if_neg (fun z => by have := (nIm_lt (by omega) (by omega)).mp z; omega)]
    by_cases q0 : (vme V i).length < pc s
    · rw [if_pos (nI_lt q0 (by omega))]
      refine h σ hG fun s' l' hok' hle => ?_
      rcases hle with z | ⟨z, _⟩
      · exact hD s' l' hok' (Or.inl z)
      · intro y; rw [z] at y; omega
    · rw [if_neg (nI_nlt (by omega) (by omega))]
      have hl := lOf_n (j := j) hn (by omega)
      refine ⟨s, lOf j, rfl, (lOf_lI (by omega)).symm, by omega, by omega, ?_⟩
      dsimp only
      unfold wx_countsFills_j156
      rw [nIm_s]
      cases q : stateB s (lOf j) with
      | false => rw [jf0]; exact ih (j + 1) (by omega) σ hG (hD.skip hn (by omega) hs q)
      | true =>
        rw [jt0]
        have hok := (okS_B hn hs hl).mp q
        have hb := okS_le hn hok
        have fin : wx_countsFills_j143 P (wx_countsFills_l33 P K (m + 1)) (nI i) (nI (vme V i).length) (nI s) (nI (pc s)) (lI (lOf j)) (nL (np (mfL V (vme V i)) (vn V) ((vme V i).length - pc s) s (lOf j))) σ := by
          refine ⟨s, lOf j, rfl, rfl, by omega, by omega, bV (by omega), ?_⟩
          unfold wx_countsFills_j156 xU_many uL
          rw [cl (by omega), lOf_lI (by omega), nIm_s]
          refine ih (j + 1) (by omega) _ (hG.qL _ _) (hD.step hn (fun s' l' hok' hne hp' => ?_) fun _ => ?_)
          · have hb' := okS_le hn hok'
            intro y
            rw [gL_sLk, updL_n (fun z => hne ⟨by omega, by omega⟩)]; exact hp' y
          · intro _
            rw [gL_sLk, updL_s]
        simp only [nI_eq (show pc s < 2 ^ 31 by omega) (show (vme V i).length < 2 ^ 31 by omega)]
        unfold wx_countsFills_j72
        rw [← lOf_lI (by omega)]
        by_cases q1 : pc s = (vme V i).length
        · rw [if_pos q1]
          refine ⟨1, ?_⟩
          rw [wx_countsFills_l77_s]
          have hf := fin
          rw [show (vme V i).length - pc s = 0 by omega] at hf
          split
          · exact hf
          · rw [if_pos (by rw [q1]; exact Int32.le_refl _)]; exact hf
        · rw [if_neg q1]
          exact ⟨vn V + 1, filX_d hG hi hok (by omega) (fun d hd hbt => hD.nx hok hd hbt) fin (vn V) 0 (by omega)⟩
theorem filX_s {V : VV} {i : Nat} {P : St → Prop} (hw : WV V) (hi : i < 3) (h : ∀ σ', GX σ' V (allA V) → (∀ s l, okS (vn V) s l → fnX σ' V (vme V i) s l) → P σ') :
    ∀ m : Nat, m ≤ 2 ^ vn V → ∀ σ, GX σ V (allA V) → (0 < m → At (vn V) (m - 1) 0 (fnX σ V (vme V i))) → (m = 0 → ∀ s l, okS (vn V) s l → fnX σ V (vme V i) s l) →
      wx_countsFills_l20 P (m + 1) (nI i) (nI (vme V i).length) (nI m - 1) σ := by
  have hn := hw.n
  have hp := pow_le_1024 hn
  intro m
  induction m with
  | zero =>
    intro hm σ hG _ hF
    rw [wx_countsFills_l20_s, if_pos (by decide)]
    exact h σ hG (hF rfl)
  | succ m ih =>
    intro hm σ hG hD _
    rw [wx_countsFills_l20_s, nI_pred, if_neg (nI_lt0 (by omega)), bitC_nI (by omega)]
    refine ⟨vn V + 2, filX_l hw hi (show m < 2 ^ vn V by omega) (fun σ' hG' hD' => ?_) (vn V + 1) 0 (by omega) σ hG (hD (by omega))⟩
    unfold wx_countsFills_j162
    rw [show nI m + (-1) = nI m - 1 from (Int32.sub_eq_add_neg _ _).symm]
    refine ih (by omega) σ' hG' (fun hpos => ?_) (fun h0 => ?_)
    · rw [show m = m - 1 + 1 by omega] at hD'
      exact hD'.next hn
    · rw [h0] at hD'; exact hD'.fix hn
theorem ox_countsFills {σ : St} {V : VV} {i : Nat} {P : St → Prop} (hI : IX σ V) (hi : i < 3) (h : ∀ σ', GX σ' V (allA V) → (∀ s l, okS (vn V) s l → fnX σ' V (vme V i) s l) → P σ') : wx_countsFills σ (nI i) P := by
  have hn := hI.2.n
  have h1 := Nat.one_le_two_pow (n := vn V)
  refine ox_laysOut hI fun σ1 hG => ⟨vp_in_nI hi (by omega), 2 ^ vn V + 1, ?_⟩
  rw [cl (by omega), show xA_menuMany σ1 i = _ from hG.1.ml hi, show xI_dishes σ1 = _ from hG.1.n, nI_shl1 _ (by omega)]
  exact filX_s hI.2 hi h (2 ^ vn V) (Nat.le_refl _) σ1 hG (fun _ => At.start _ _) (fun z => by omega)
/-! the row -/
def gP (V : VV) (mn : List Nat) (k s l : Nat) : Bool := decide (0 < np (mfL V mn) (vn V) k s l)
theorem fpX_d {V : VV} {i s l D k : Nat} {x2 : Int64} {P : Int64 → St → Prop} {K : Int32 → Int64 → Int32 → Int32 → Int32 → St → Prop} {σ : St} (hG : GX σ V (allA V)) (hi : i < 3) (hok : okS (vn V) s l) (hpl : pc s + (k + 1) = (vme V i).length) (hA : ∀ s l, okS (vn V) s l → fnX σ V (vme V i) s l)
    (hD : D < vn V) (hm : mfL V (vme V i) s l D = true) (hT : 0 < np (mfL V (vme V i)) (vn V) k (s ||| 2 ^ D) D)
    (hno : ∀ d, d < D → mfL V (vme V i) s l d = true → ¬ 0 < np (mfL V (vme V i)) (vn V) k (s ||| 2 ^ d) d) (hr : (vrow V).length < 12)
    (h : ∀ σ', GX σ' (vSRow V (vrow V ++ [nI D])) (allA V) → gL σ' 34 = gL σ 34 → K (nI i) x2 (nI (s ||| 2 ^ D)) (nI D) (nI (pc s + 1)) σ') :
    ∀ m d : Nat, d + m = D → wx_fills_l62 P K (m + 1) (nI i) x2 (nI s) (lI l) (nI (pc s)) (nI d) σ := by
  have hI := hG.1
  have hn := hI.2.n
  have hb := okS_le hn hok
  have hp := pow_le_1024 hn
  have hml := (hI.2.me i).1
  have val : ∀ d, d < vn V → mv V (allA V) s l d = true → xA_many σ (11 * (s ||| 2 ^ d) + d) = nL (np (mfL V (vme V i)) (vn V) k (s ||| 2 ^ d) d) := fun d hd hm => by
    have hpc := pc_or2 (mv_new hm) (show d < 11 by omega)
    have := hA _ _ (okS_step hok hd) (by omega)
    rw [show (vme V i).length - pc (s ||| 2 ^ d) = k by omega] at this
    exact this
  have zer : ∀ d, lg_cmp (nL (np (mfL V (vme V i)) (vn V) k (s ||| 2 ^ d) d)) 0 = 0 ↔ ¬ 0 < np (mfL V (vme V i)) (vn V) k (s ||| 2 ^ d) d := fun d => by
    have hlt := np_lt (M := mfL V (vme V i)) hn (show k ≤ 10 by omega) (s ||| 2 ^ d) d
    rw [lg_eq]
    constructor
    · intro z
      have := congrArg Int64.toInt z
      rw [nL_toInt hlt, show (0 : Int64).toInt = 0 from by decide] at this
      omega
    · intro z
      rw [show np (mfL V (vme V i)) (vn V) k (s ||| 2 ^ d) d = 0 by omega]; rfl
  intro m
  induction m with
  | zero =>
    intro d hd
    have e : d = D := by omega
    subst e
    have hor := or2_lt hok.1 hD
    unfold mfL at hm
    rw [Bool.and_eq_true] at hm
    rw [wx_fills_l62_s]
    refine ox_fits hI hi (by omega) hD ?_
    rw [hm.2, jt0]
    refine ox_goesOn hG hok.1 (by rcases hok.2 with q | q <;> omega) hD ?_
    rw [hm.1, jt0, nI_shl1 _ (by omega), nI_or]
    refine ⟨s ||| 2 ^ d, d, rfl, (lI_l (by omega)).symm, by omega, by omega, bV (by omega), ?_⟩
    rw [cl (by omega), val d hD hm.1, if_neg (fun z => (zer d).mp z hT), nI_1]
    exact ⟨V, hI, hr, fun σ' h' kp kl => h σ' (hG.row h' (kp.1 35 (by decide)) (kp.2.1 30 (by decide))) (kl 34)⟩
  | succ m ih =>
    intro d hd
    have ih1 := ih (d + 1) (by omega)
    have hor := or2_lt hok.1 (show d < vn V by omega)
    have hno1 := hno d (by omega)
    rw [wx_fills_l62_s]
    refine ox_fits hI hi (by omega) (by omega) ?_
    unfold wx_fills_j109
    rw [nI_1]
    unfold mfL at hno1
    cases qf : fitL (vme V i) (pc s) d with
    | false => rw [jf0]; exact ih1
    | true =>
      rw [jt0]; rw [qf, Bool.and_true] at hno1
      refine ox_goesOn hG hok.1 (by rcases hok.2 with q | q <;> omega) (by omega) ?_
      cases q : mv V (allA V) s l d with
      | false => rw [jf0]; exact ih1
      | true =>
        rw [jt0, nI_shl1 _ (by omega), nI_or]
        refine ⟨s ||| 2 ^ d, d, rfl, (lI_l (by omega)).symm, by omega, by omega, bV (by omega), ?_⟩
        rw [cl (by omega), val d (by omega) q, if_pos ((zer d).mpr (hno1 q))]
        exact ih1
theorem fpX_k {V : VV} {i : Nat} {N : Nat} {P : Int64 → St → Prop} {T : Nat → Int64} (hn : vn V ≤ 10) (hi : i < 3) (hml : (vme V i).length ≤ 10) (hN : 0 < N) (hN2 : N < 2 ^ 63) (hT : ∀ s l, okS (vn V) s l → pc s ≤ (vme V i).length → T (11 * s + l) = nL (np (mfL V (vme V i)) (vn V) ((vme V i).length - pc s) s l)) :
    ∀ k s l, ∀ W, (∃ r, W = vSRow V r) → okS (vn V) s l → pc s + k = (vme V i).length → 0 < np (mfL V (vme V i)) (vn V) k s l → (vrow W).length + k ≤ 12 → ∀ σ, GX σ W (allA V) → gL σ 34 = T → (∀ σ', IX σ' (rowG W (way (mfL V (vme V i)) (vn V) (gP V (vme V i)) k s l)) → P (nL N) σ') →
      wx_fills_l42 P (wx_fills_j140 P) (k + 1) (nI i) (nL N) (nI s) (lI l) (nI (pc s)) σ := by
  intro k
  induction k with
  | zero =>
    intro s l W eW hok hk hlt hr σ hG hg h
    obtain ⟨r, rfl⟩ := eW
    rw [wx_fills_l42_s]
    refine ⟨vp_in_nI hi (by omega), ?_⟩
    rw [cl (by omega), show xA_menuMany σ i = nI (vme V i).length from hG.1.ml hi, if_pos (by rw [show pc s = (vme V i).length by omega]; exact Int32.le_refl _)]
    refine h σ ?_
    show IX σ (rowG (vSRow V r) [])
    rw [rowG_nil]; exact hG.1
  | succ k ih =>
    intro s l W eW hok hk hlt hr σ hG hg h
    obtain ⟨r, rfl⟩ := eW
    rw [wx_fills_l42_s]
    refine ⟨vp_in_nI hi (by omega), ?_⟩
    rw [cl (by omega), show xA_menuMany σ i = nI (vme V i).length from hG.1.ml hi, if_neg (nI_ge (by omega) (by omega))]
    simp only [lg_le0, nL_pos hN2]
    rw [if_neg (fun z => z hN)]
    obtain ⟨d0, hd0, h1, h2⟩ := np_pos.mp hlt
    obtain ⟨a, b, c⟩ := lst_ex (p := fun d => mfL V (vme V i) s l d && gP V (vme V i) k (s ||| 2 ^ d) d) hd0 (by show (mfL V (vme V i) s l d0 && decide _) = true; rw [h1, decide_eq_true h2]; rfl)
    have b1 := (Bool.and_eq_true _ _ ▸ b).1
    have b2 := of_decide_eq_true ((Bool.and_eq_true _ _ ▸ b).2)
    unfold way at h
    generalize lst (fun d => mfL V (vme V i) s l d && gP V (vme V i) k (s ||| 2 ^ d) d) (vn V) = D at a b b1 b2 c h
    have hlen : r.length + (k + 1) ≤ 12 := hr
    have hpcD := pc_or2 (mfL_new V (vme V i) s l D a b1) (show D < 11 by omega)
    refine ⟨D + 1, fpX_d (V := vSRow V r) (k := k) hG hi hok (show pc s + (k + 1) = (vme V i).length by omega) (fun s l hok' y => by rw [hg]; exact hT s l hok' y) a b1 b2 (fun d hd hm e => ?_) (by show r.length < 12; omega) (fun σ' hG' hg' => ?_) D 0 (by omega)⟩
    · have := c d hd
      rw [show mfL V (vme V i) s l d = true from hm, show gP V (vme V i) k (s ||| 2 ^ d) d = true from decide_eq_true e] at this
      exact absurd this (by decide)
    · have h9 := ih (s ||| 2 ^ D) D (vSRow V (r ++ [nI D])) ⟨_, rfl⟩ (okS_step hok a) (by omega) b2 (by show (r ++ [nI D]).length + k ≤ 12; rw [List.length_append]; show r.length + 1 + k ≤ 12; omega) σ' hG' (by rw [hg', hg]) (fun σ'' hG'' => h σ'' (by rw [← rowG_two]; exact hG''))
      rw [lI_l (by omega), hpcD] at h9
      exact h9
def nFil (V : VV) (i : Nat) : Nat := np (mfL V (vme V i)) (vn V) (vme V i).length 0 10
def R_fills (V : VV) (v : Int32) : Int64 := if laidV V v = true then nL (nFil V v.toNatClampNeg) else -3
def S_fills (V : VV) (v : Int32) : VV := if laidV V v = true then rowG (vSRow V []) (if 0 < nFil V v.toNatClampNeg then way (mfL V (vme V v.toNatClampNeg)) (vn V) (gP V (vme V v.toNatClampNeg)) (vme V v.toNatClampNeg).length 0 10 else []) else V
theorem ox_fills {σ : St} {V : VV} {P : Int64 → St → Prop} (hI : IX σ V) (v : Int32) (h : ∀ σ', IX σ' (S_fills V v) → P (R_fills V v) σ') : wx_fills σ v P := by
  unfold R_fills S_fills at h
  refine ⟨V, hI, ?_⟩
  dsimp only
  cases q : laidV V v with
  | false => rw [jf0]; rw [q, if_neg (by decide), if_neg (by decide)] at h; exact h σ hI
  | true =>
    rw [jt0]; rw [q, if_pos rfl, if_pos rfl] at h
    obtain ⟨i, hi, rfl, hl⟩ := laidV_of q
    rw [cl (by omega)] at h
    have hn := hI.2.n
    have hml := (hI.2.me i).1
    refine ox_countsFills hI hi fun σ1 hG hA => ⟨0, 10, rfl, rfl, by omega, by omega, bV (by omega), ?_⟩
    have h0 := hA 0 10 (okE _) (by rw [pc_0]; omega)
    rw [pc_0, Nat.sub_zero] at h0
    rw [cl (by omega), show xA_many σ1 (11 * 0 + 10) = nL (nFil V i) from h0]
    have hr := hG.row0
    have hlt : nFil V i < 2 ^ 63 := np_lt hn (by omega) 0 10
    by_cases z : 0 < nFil V i
    · rw [if_pos z] at h
      refine ⟨(vme V i).length + 1, ?_⟩
      have h9 := fpX_k (V := V) (i := i) (N := nFil V i) (P := P) (T := gL σ1 34) hn hi hml z hlt (fun s l hok y => hA s l hok y) (vme V i).length 0 10 (vSRow V []) ⟨[], rfl⟩ (okE _) (by rw [pc_0]; omega) z (by show 0 + (vme V i).length ≤ 12; omega) _ hr rfl h
      rw [pc_0] at h9
      exact h9
    · rw [if_neg z] at h
      refine ⟨1, ?_⟩
      rw [wx_fills_l42_s]
      refine ⟨vp_in_nI hi (by omega), ?_⟩
      rw [cl (by omega), show xA_menuMany (xS_rowMany σ1 0) i = nI (vme V i).length from hr.1.ml hi, if_neg (by rw [show (0 : Int32) = nI 0 from rfl]; exact nI_ge (by omega) (by omega))]
      simp only [lg_le0, nL_pos hlt]
      rw [if_pos z]
      exact h _ (by rw [rowG_nil]; exact hr.1)
