/-! component: bestSet's loops -/
def worX (σ : St) (n : Nat) (w : Nat → Int32) : Prop := ∀ s, s < 2 ^ n → gA σ 36 s = w s
theorem besX_1 {V : VV} {A k : Nat} {t x3 : Int32} {w : Nat → Int32} {L : Nat → Nat} {P : Int32 → St → Prop} {K : Int32 → Int32 → Int32 → Int32 → Int32 → St → Prop} {σ : St} (hG : GX σ V A) (hk : k ≤ 10) (hl : lasX σ (vn V) L) (hlt : ∀ k, L k < 2 ^ 11)
    (hL : ∀ s l, s < 2 ^ vn V → l ≤ 10 → ((L s).testBit l = true ↔ rchB (mv V A) (vn V) (s0V V) (l0V V) s l)) (hW : worX σ (vn V) w)
    (h1 : bestW V A ((vsv V).length + k) w (2 ^ vn V) = -1000000 → P (-1000000) σ) (h2 : bestW V A ((vsv V).length + k) w (2 ^ vn V) ≠ -1000000 → K (nI k) t x3 (bestW V A ((vsv V).length + k) w (2 ^ vn V)) (nI (2 ^ vn V) - 1) σ) :
    ∀ m s : Nat, s + m = 2 ^ vn V → wx_bestSet_l22 P K (m + 1) (nI k) t x3 (bestW V A ((vsv V).length + k) w s) (nI s) σ := by
  have hI := hG.1
  have hn := hI.2.n
  have hsl := hI.2.svl
  have hp := pow_le_1024 hn
  have h1p := Nat.one_le_two_pow (n := vn V)
  intro m
  induction m with
  | zero =>
    intro s hs
    rw [wx_bestSet_l22_s, show xI_dishes σ = _ from hI.n, nI_shl1 _ (by omega), if_pos (by rw [show s = 2 ^ vn V by omega]; exact Int32.le_refl _), show s = 2 ^ vn V by omega]
    by_cases q : bestW V A ((vsv V).length + k) w (2 ^ vn V) = -1000000
    · rw [if_pos q]; exact h1 q
    · rw [if_neg q]; exact h2 q
  | succ m ih =>
    intro s hs
    have ih1 := ih (s + 1) (by omega)
    rw [bestW_s] at ih1
    have hLs := hlt s
    have hpc := pc_le s
    have hr := rchT_iff (V := V) hn (A := A) (show s < 2 ^ vn V by omega)
    rw [wx_bestSet_l22_s, show xI_dishes σ = _ from hI.n, nI_shl1 _ (by omega), if_neg (nI_ge (by omega) (by omega)), cl (by omega), show xA_lasts σ s = _ from hl s (by omega), bitC_nI (by omega), show xI_servedMany σ = _ from hI.sm, nI_add]
    refine ⟨vp_in_nI (by omega) (by omega), ?_⟩
    unfold wx_bestSet_j71
    rw [nI_1]
    simp only [nI_eq0 (show L s < 2 ^ 31 by omega), nI_eq (show pc s < 2 ^ 31 by omega) (show (vsv V).length + k < 2 ^ 31 by omega)]
    unfold candV at ih1
    by_cases q : L s = 0
    · rw [if_pos q]
      have hr0 : rchT V A s = false := Bool.eq_false_iff.mpr fun z => by
        obtain ⟨l, hl10, hrb⟩ := hr.mp z
        have := (hL s l (by omega) hl10).mpr hrb
        rw [q, Nat.zero_testBit] at this
        exact absurd this (by decide)
      rw [hr0, Bool.false_and, if_neg (by decide)] at ih1
      exact ih1
    · rw [if_neg q]
      have hr1 : rchT V A s = true := hr.mpr (by
        obtain ⟨l, hl1⟩ := Nat.exists_testBit_of_ne_zero q
        have h11 : l < 11 := Decidable.byContradiction fun y => by rw [tb_lt hLs (by omega)] at hl1; exact absurd hl1 (by decide)
        exact ⟨l, by omega, (hL s l (by omega) (by omega)).mp hl1⟩)
      rw [hr1, Bool.true_and] at ih1
      by_cases q2 : pc s = (vsv V).length + k
      · rw [if_pos q2]; rw [decide_eq_true q2, if_pos rfl] at ih1
        refine ⟨vp_in_nI (by omega) (by omega), ?_⟩
        rw [show xA_worth σ s = _ from hW s (by omega)]
        exact ih1
      · rw [if_neg q2]; rw [decide_eq_false q2, if_neg (by decide)] at ih1; exact ih1
/-- what stays of the worths and of the state while the values are filled -/
def GW (σ : St) (V : VV) (A : Nat) (w : Nat → Int32) : Prop := GX σ V A ∧ worX σ (vn V) w
theorem besX_d {V : VV} {A s l : Nat} {x1 x2 x3 x4 : Int32} {w : Nat → Int32} {P : Int32 → St → Prop} {K : Int32 → Int32 → Int32 → Int32 → Int32 → Int32 → Int32 → St → Prop} {σ : St} (hG : GX σ V A) (hok : okS (vn V) s l)
    (h : K x1 x2 x3 x4 (nI s) (lI l) (foldN (fun d acc => if mv V A s l d = true then acc ||| gA σ 32 (11 * (s ||| 2 ^ d) + d) else acc) 0 (vn V)) σ) :
    ∀ m d : Nat, d + m = vn V → wx_bestSet_l178 P K (m + 1) x1 x2 x3 x4 (nI s) (lI l) 0 (foldN (fun d acc => if mv V A s l d = true then acc ||| gA σ 32 (11 * (s ||| 2 ^ d) + d) else acc) 0 d) (nI d) σ := by
  have hI := hG.1
  have hn := hI.2.n
  have hb := okS_le hn hok
  intro m
  induction m with
  | zero =>
    intro d hd
    rw [wx_bestSet_l178_s, show xI_dishes σ = _ from hI.n, if_pos (by rw [show d = vn V by omega]; exact Int32.le_refl _), show d = vn V by omega]
    exact h
  | succ m ih =>
    intro d hd
    have ih1 := ih (d + 1) (by omega)
    have hor := or2_lt hok.1 (show d < vn V by omega)
    have hp := pow_le_1024 hn
    rw [show foldN (fun d acc => if mv V A s l d = true then acc ||| gA σ 32 (11 * (s ||| 2 ^ d) + d) else acc) 0 (d + 1) = if mv V A s l d = true then foldN (fun d acc => if mv V A s l d = true then acc ||| gA σ 32 (11 * (s ||| 2 ^ d) + d) else acc) 0 d ||| gA σ 32 (11 * (s ||| 2 ^ d) + d) else foldN (fun d acc => if mv V A s l d = true then acc ||| gA σ 32 (11 * (s ||| 2 ^ d) + d) else acc) 0 d from rfl] at ih1
    rw [wx_bestSet_l178_s, show xI_dishes σ = _ from hI.n, if_neg (nI_ge (by omega) (by omega)), if_pos (show (0 : Int32) = 0 from rfl)]
    refine ox_goesOn hG hok.1 (by rcases hok.2 with q | q <;> omega) (by omega) ?_
    unfold wx_bestSet_j227
    rw [nI_1]
    cases q : mv V A s l d with
    | false => rw [jf0]; rw [q, if_neg (by decide)] at ih1; exact ih1
    | true =>
      rw [jt0]; rw [q, if_pos rfl] at ih1
      rw [nI_shl1 _ (by omega), nI_or]
      refine ⟨s ||| 2 ^ d, d, rfl, (lI_l (by omega)).symm, by omega, by omega, vp_in_nI (by omega) (by omega), ?_⟩
      rw [cl (by omega)]
      exact ih1
