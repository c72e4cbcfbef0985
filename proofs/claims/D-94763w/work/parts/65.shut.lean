/-! SHUT -/
def rchS (V : VV) (s : Nat) : Bool := anB (fun o => stateB s (lOf o) && decide (0 < cpT (mv V (allA V)) (vn V) 0 10 s (lOf o))) (vn V + 1)
def shB (V : VV) (k : Nat) : Nat → Nat := orN (fun s => if rchS V s = true ∧ k < pc s then s else 0)
def R_shut (V : VV) (v : Int32) : Int32 := if rngB v 10 = true then nI (bitsOf (fun d => !((shB V v.toNatClampNeg (2 ^ vn V)).testBit d)) (vn V)) else -1
theorem rchS_iff {V : VV} (hn : vn V ≤ 10) {s : Nat} (hs : s < 2 ^ vn V) : rchS V s = true ↔ ∃ l, l ≤ 10 ∧ rchB (mv V (allA V)) (vn V) 0 10 s l := by
  unfold rchS
  rw [anB_iff]
  constructor
  · rintro ⟨o, ho, h⟩
    have hl := lOf_n hn ho
    exact ⟨lOf o, by omega, (okS_B hn hs hl).mp (Bool.and_eq_true _ _ ▸ h).1, of_decide_eq_true (Bool.and_eq_true _ _ ▸ h).2⟩
  · rintro ⟨l, hl, hok, hr⟩
    refine ⟨ordL l, ordL_lt hn hok, ?_⟩
    rw [lOf_ord hl, (okS_B hn hs (by rcases hok.2 with q | q <;> omega)).mpr hok, decide_eq_true hr]; rfl
theorem ok0 (n : Nat) : okS n 0 10 := ⟨Nat.two_pow_pos n, Or.inr ⟨rfl, rfl⟩⟩
theorem shB_lt {V : VV} (k : Nat) : ∀ c, c ≤ 2 ^ vn V → shB V k c < 2 ^ vn V := fun c hc => orN_lt c fun s hs => by
  show (if rchS V s = true ∧ k < pc s then s else 0) < _
  split
  · omega
  · exact Nat.two_pow_pos _
theorem bits_not {n b : Nat} (hn : n ≤ 10) (hb : b < 2 ^ n) : (nI (2 ^ n - 1)) &&& (nI b ^^^ (-1)) = nI (bitsOf (fun d => !(b.testBit d)) n) := by
  apply nI_inj32
  rw [Int32.toBitVec_and, Int32.toBitVec_xor, nI_bv, nI_bv, nI_bv]
  apply BitVec.eq_of_getLsbD_eq
  intro j hj
  rw [BitVec.getLsbD_and, BitVec.getLsbD_xor, BitVec.getLsbD_ofNat, BitVec.getLsbD_ofNat, BitVec.getLsbD_ofNat, show (-1 : Int32).toBitVec = BitVec.allOnes 32 from by decide, BitVec.getLsbD_allOnes, Nat.testBit_two_pow_sub_one, bitsOf_tb]
  simp only [hj, decide_true, Bool.true_and]
  cases b.testBit j <;> simp
theorem shX_loop {V : VV} {k : Nat} {L : Nat → Nat} {P : Int32 → St → Prop} {σ : St} (hG : GX σ V (allA V)) (hk : k ≤ 9) (hl : lasX σ (vn V) L) (hL : ∀ s l, s < 2 ^ vn V → l ≤ 10 → ((L s).testBit l = true ↔ rchB (mv V (allA V)) (vn V) 0 10 s l)) (hlt : ∀ k, L k < 2 ^ 11)
    (h : P (nI (bitsOf (fun d => !((shB V k (2 ^ vn V)).testBit d)) (vn V))) σ) : ∀ m s : Nat, s + m = 2 ^ vn V → wx_shut_l28 P (m + 1) (nI k) (nI (shB V k s)) (nI s) σ := by
  have hn := hG.1.2.n
  have hp := pow_le_1024 hn
  have h1p := Nat.one_le_two_pow (n := vn V)
  intro m
  induction m with
  | zero =>
    intro s hs
    rw [wx_shut_l28_s, show xI_dishes σ = _ from hG.1.n, nI_shl1 _ (by omega), if_pos (by rw [show s = 2 ^ vn V by omega]; exact Int32.le_refl _), show s = 2 ^ vn V by omega, show nI (2 ^ vn V) - (1 : Int32) = nI (2 ^ vn V - 1) from by rw [nI_lit1, pk_sub h1p], bits_not hn (shB_lt k _ (Nat.le_refl _))]
    exact h
  | succ m ih =>
    intro s hs
    have ih1 := ih (s + 1) (by omega)
    rw [show shB V k (s + 1) = shB V k s ||| (if rchS V s = true ∧ k < pc s then s else 0) from rfl] at ih1
    have hLs := hlt s
    have hpc := pc_le s
    rw [wx_shut_l28_s, show xI_dishes σ = _ from hG.1.n, nI_shl1 _ (by omega), if_neg (nI_ge (by omega) (by omega)), cl (by omega), show xA_lasts σ s = _ from hl s (by omega), bitC_nI (by omega)]
    refine ⟨vp_in_nI (by omega) (by omega), ?_⟩
    unfold wx_shut_j60 wx_shut_j61
    rw [nI_1, nI_or, show nI (shB V k s) ||| (0 : Int32) = nI (shB V k s) from by rw [lit0', nI_or, Nat.or_zero]]
    simp only [nI_eq0 (show L s < 2 ^ 31 by omega), nI_leI (show pc s < 2 ^ 31 by omega) (show k < 2 ^ 31 by omega)]
    have hr := rchS_iff hn (show s < 2 ^ vn V by omega)
    by_cases q : L s = 0
    · rw [if_pos q]
      rw [if_neg (fun z => by
        obtain ⟨l, hl10, hrb⟩ := hr.mp z.1
        have := (hL s l (by omega) hl10).mpr hrb
        rw [q, Nat.zero_testBit] at this
        exact absurd this (by decide)), Nat.or_zero] at ih1
      exact ih1
    · rw [if_neg q]
      have hr1 : rchS V s = true := hr.mpr (by
        obtain ⟨l, hl1⟩ := Nat.exists_testBit_of_ne_zero q
        have h11 : l < 11 := Decidable.byContradiction fun y => by rw [tb_lt hLs (by omega)] at hl1; exact absurd hl1 (by decide)
        exact ⟨l, by omega, (hL s l (by omega) (by omega)).mp hl1⟩)
      by_cases q2 : pc s ≤ k
      · rw [if_pos q2]; rw [if_neg (fun z => by omega), Nat.or_zero] at ih1; exact ih1
      · rw [if_neg q2]; rw [if_pos ⟨hr1, by omega⟩] at ih1; exact ih1
theorem ox_shut {σ : St} {V : VV} {P : Int32 → St → Prop} (hI : IX σ V) (v : Int32) (h : ∀ σ', IX σ' V → P (R_shut V v) σ') : wx_shut σ v P := by
  unfold wx_shut sx_in
  rw [inB_lit (v := v) (x := 0) (y := 9) (by decide) (by decide), rngB_lt (v := v) (y := 9) (n := 10) (by decide)]
  dsimp only
  unfold R_shut at h
  cases q : rngB v 10 with
  | false => rw [jf0]; rw [q, if_neg (by decide)] at h; exact h σ hI
  | true =>
    rw [jt0]; rw [q, if_pos rfl] at h
    obtain ⟨k, hk, rfl⟩ := rngB_of (by omega) q
    rw [cl (by omega)] at h
    exact ox_laysOut hI fun σ1 hG => ox_reaches hG (ok0 _) fun σ2 L hG2 hl hL hlt => ⟨_, shX_loop hG2 (by omega) hl hL hlt (h _ hG2.1) (2 ^ vn V) 0 (by omega)⟩
/-- what the model takes off: of the sets so far, and of one set by the last ones so far -/
def shM (V : VV) (k s j : Nat) : Nat := shB V k s ||| (if anB (fun l => s.testBit l && decide (0 < cpT (mv V (allA V)) (vn V) 0 10 s l)) j = true ∧ k < pc s then s else 0)
theorem shM_n {V : VV} (hn : vn V ≤ 10) {k s : Nat} (hs : s < 2 ^ vn V) : shM V k s (vn V) = shB V k (s + 1) := by
  show shB V k s ||| _ = shB V k s ||| (if rchS V s = true ∧ k < pc s then s else 0)
  congr 1
  by_cases e : s = 0
  · rw [e]; split <;> split <;> rfl
  · have : anB (fun l => s.testBit l && decide (0 < cpT (mv V (allA V)) (vn V) 0 10 s l)) (vn V) = rchS V s := by
      rw [Bool.eq_iff_iff, anB_iff, rchS_iff hn hs]
      constructor
      · rintro ⟨l, hl, h⟩
        exact ⟨l, by omega, ⟨hs, Or.inl ⟨hl, (Bool.and_eq_true _ _ ▸ h).1⟩⟩, of_decide_eq_true (Bool.and_eq_true _ _ ▸ h).2⟩
      · rintro ⟨l, _, hok, hr⟩
        rcases hok.2 with y | y
        · exact ⟨l, y.1, by rw [y.2, decide_eq_true hr]; rfl⟩
        · exact absurd y.2 e
    rw [this]
theorem and_not {n a s : Nat} (hn : n ≤ 10) (hs : s < 2 ^ n) : nI (bitsOf (fun d => !(a.testBit d)) n) &&& (nI s ^^^ (-1)) = nI (bitsOf (fun d => !((a ||| s).testBit d)) n) := by
  apply nI_inj32
  rw [Int32.toBitVec_and, Int32.toBitVec_xor, nI_bv, nI_bv, nI_bv]
  apply BitVec.eq_of_getLsbD_eq
  intro j hj
  rw [BitVec.getLsbD_and, BitVec.getLsbD_xor, BitVec.getLsbD_ofNat, BitVec.getLsbD_ofNat, BitVec.getLsbD_ofNat, show (-1 : Int32).toBitVec = BitVec.allOnes 32 from by decide, BitVec.getLsbD_allOnes, bitsOf_tb, bitsOf_tb, Nat.testBit_or]
  simp only [hj, decide_true, Bool.true_and]
  cases a.testBit j <;> cases s.testBit j <;> simp
theorem shM_l {V : VV} {k s : Nat} {R : Nat → Int64} {P : Int32 → St → Prop} {K : Int32 → Int32 → Int32 → St → Prop} {σ : St} (hI : IM σ V) (hk : k ≤ 9) (hs : s < 2 ^ vn V) (hR : ∀ s l, okS (vn V) s l → R (11 * s + l) = nL (cpT (mv V (allA V)) (vn V) 0 10 s l)) (hg : gL σ 37 = R)
    (h : K (nI k) (nI (bitsOf (fun d => !((shB V k (s + 1)).testBit d)) (vn V))) (nI (s + 1)) σ) : ∀ m l : Nat, l + m = vn V → wm_shut_l45 P K (m + 1) (nI k) (nI (bitsOf (fun d => !((shM V k s l).testBit d)) (vn V))) (nI s) (nI l) σ := by
  have hn := hI.2.n
  have hp := pow_le_1024 hn
  have hpc := pc_le s
  intro m
  induction m with
  | zero =>
    intro l hl
    rw [wm_shut_l45_s, show mI_dishes σ = _ from hI.n, if_pos (by rw [show l = vn V by omega]; exact Int32.le_refl _), nI_1, show l = vn V by omega, shM_n hn hs]
    exact h
  | succ m ih =>
    intro l hl
    have ih1 := ih (l + 1) (by omega)
    rw [wm_shut_l45_s, show mI_dishes σ = _ from hI.n, if_neg (nI_ge (by omega) (by omega))]
    unfold sm_has wm_shut_j93
    dsimp only
    rw [hasB_nI (by omega) (by omega), nI_1, bitC_nI (by omega)]
    have keep : (anB (fun l => s.testBit l && decide (0 < cpT (mv V (allA V)) (vn V) 0 10 s l)) (l + 1) = anB (fun l => s.testBit l && decide (0 < cpT (mv V (allA V)) (vn V) 0 10 s l)) l ∨ ¬ k < pc s) → shM V k s (l + 1) = shM V k s l := fun z => by
      unfold shM
      rcases z with z | z
      · rw [z]
      · rw [if_neg (fun y => z y.2), if_neg (fun y => z y.2)]
    cases q : s.testBit l with
    | false =>
      rw [jf0]
      rw [keep (Or.inl (by rw [anB_s, q, Bool.false_and, Bool.or_false]))] at ih1
      exact ih1
    | true =>
      rw [jt0]
      have hok : okS (vn V) s l := ⟨hs, Or.inl ⟨by omega, q⟩⟩
      refine ⟨s, l, rfl, lI_n (by omega), by omega, by omega, vp_in_nI (by omega) (by omega), ?_⟩
      rw [cl (by omega), show mA_rows σ = R from hg, hR s l hok]
      simp only [lg_le0, nL_pos (cpT_lt (M := mv V (allA V)) (s0 := 0) (l0 := 10) (s := s) (l := l) hn), nI_leI (show pc s < 2 ^ 31 by omega) (show k < 2 ^ 31 by omega)]
      by_cases q2 : 0 < cpT (mv V (allA V)) (vn V) 0 10 s l
      · rw [if_neg (fun z => z q2)]
        by_cases q3 : pc s ≤ k
        · rw [if_pos q3]; rw [keep (Or.inr (by omega))] at ih1; exact ih1
        · rw [if_neg q3, and_not hn hs]
          have e : shM V k s l ||| s = shM V k s (l + 1) := by
            unfold shM
            rw [anB_s, q, decide_eq_true q2, Bool.and_self, Bool.or_true, if_pos (show true = true ∧ k < pc s from ⟨rfl, by omega⟩)]
            split
            · rw [Nat.or_assoc, Nat.or_self]
            · rw [Nat.or_zero]
          rw [e]
          exact ih1
      · rw [if_pos q2]
        rw [keep (Or.inl (by rw [anB_s, decide_eq_false q2, Bool.and_false, Bool.or_false]))] at ih1
        exact ih1
theorem shM_s {V : VV} {k : Nat} {R : Nat → Int64} {P : Int32 → St → Prop} {σ : St} (hI : IM σ V) (hk : k ≤ 9) (hR : ∀ s l, okS (vn V) s l → R (11 * s + l) = nL (cpT (mv V (allA V)) (vn V) 0 10 s l)) (hg : gL σ 37 = R)
    (h : P (nI (bitsOf (fun d => !((shB V k (2 ^ vn V)).testBit d)) (vn V))) σ) : ∀ m s : Nat, s + m = 2 ^ vn V → wm_shut_l34 P (m + 1) (nI k) (nI (bitsOf (fun d => !((shB V k s).testBit d)) (vn V))) (nI s) σ := by
  have hn := hI.2.n
  have hp := pow_le_1024 hn
  have h1p := Nat.one_le_two_pow (n := vn V)
  intro m
  induction m with
  | zero =>
    intro s hs
    rw [wm_shut_l34_s]
    refine ⟨V, hI, ?_⟩
    dsimp only
    rw [if_pos (nI_lt (by omega) (by omega)), show s = 2 ^ vn V by omega]
    exact h
  | succ m ih =>
    intro s hs
    rw [wm_shut_l34_s]
    refine ⟨V, hI, ?_⟩
    dsimp only
    rw [if_neg (nI_nlt (by omega) (by omega))]
    have h9 := shM_l (P := P) (K := wm_shut_l34 P (m + 1)) hI hk (show s < 2 ^ vn V by omega) hR hg (ih (s + 1) (by omega)) (vn V) 0 (by omega)
    have e : shM V k s 0 = shB V k s := by unfold shM; rw [if_neg (fun z => absurd z.1 (by show ¬ false = true; decide)), Nat.or_zero]
    rw [e] at h9
    exact ⟨_, h9⟩
theorem om_shut {σ : St} {V : VV} {P : Int32 → St → Prop} (hI : IM σ V) (v : Int32) (h : ∀ σ', IM σ' V → P (R_shut V v) σ') : wm_shut σ v P := by
  have hI := hI.th 0
  have hn := hI.2.n
  unfold wm_shut sm_in
  rw [inM_lit (v := v) (x := 0) (y := 9) (by decide) (by decide), rngB_lt (v := v) (y := 9) (n := 10) (by decide)]
  dsimp only
  unfold R_shut at h
  cases q : rngB v 10 with
  | false => rw [jf0]; rw [q, if_neg (by decide)] at h; exact h _ hI
  | true =>
    rw [jt0]; rw [q, if_pos rfl] at h
    obtain ⟨k, hk, rfl⟩ := rngB_of (by omega) q
    rw [cl (by omega)] at h
    refine ⟨V, hI, ?_⟩
    refine om_findRows (s := 0) (l := 10) hI (allA_lt V) (ok0 _) fun R hR => ?_
    have hI2 : IM (sL (mS_thrown σ 0) 37 R) V := hI.qL 37 R
    refine ⟨V, hI2, ?_⟩
    have h9 := shM_s (P := P) (k := k) (R := R) hI2 (by omega) (fun s l hok => rows_eq hn (mv_newM V _) (ok0 _) hR (s + 1) s l (by omega) hok) (gL_sLk _ _ _) (h _ hI2) (2 ^ vn V) 0 (by omega)
    have e : nI (bitsOf (fun d => !((shB V k 0).testBit d)) (vn V)) = nI (2 ^ vn V - 1) := by
      congr 1
      refine tb_ext fun j => ?_
      rw [bitsOf_tb, Nat.testBit_two_pow_sub_one, show shB V k 0 = 0 from rfl, Nat.zero_testBit, Bool.not_false, Bool.and_true]
    rw [e] at h9
    exact ⟨_, h9⟩
