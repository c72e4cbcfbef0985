/-! sheet -/
def shV (f step : Int32) : Nat → Int32
  | 0 => f
  | d + 1 => shV f step d + step
def shI (kind v : Int32) : Int32 := if kind = 0 then v.toInt8.toInt32 else if kind = 1 then v.toInt16.toInt32 else v
def clampC (v : Int32) : Nat := (jmax (0 : Int32) (jmin (99 : Int32) v)).toNatClampNeg
def shC (kind n f step : Int32) (d : Nat) : Nat := if kind = 3 then 0 else if nI d < n then clampC (shI kind (shV f step d)) else 0
theorem clampC_eq (v : Int32) : jmax (0 : Int32) (jmin (99 : Int32) v) = nI (clampC v) ∧ clampC v ≤ 99 := by
  have key : ∃ k, k ≤ 99 ∧ jmax (0 : Int32) (jmin (99 : Int32) v) = nI k := by
    show ∃ k, k ≤ 99 ∧ (if (0 : Int32) < jmin (99 : Int32) v then jmin (99 : Int32) v else 0) = nI k
    by_cases q : (0 : Int32) < jmin (99 : Int32) v
    · rw [if_pos q]
      revert q
      show (0 : Int32) < (if v < 99 then v else 99) → ∃ k, k ≤ 99 ∧ (if v < 99 then v else 99) = nI k
      by_cases q2 : v < 99
      · rw [if_pos q2]
        intro q
        rw [Int32.lt_iff_toInt_lt] at q q2
        have e0 : (0 : Int32).toInt = 0 := rfl
        have e9 : (99 : Int32).toInt = 99 := by decide
        rw [e0] at q; rw [e9] at q2
        exact ⟨v.toInt.toNat, by omega, Int32.toInt_inj.mp (by rw [nI_toInt (by omega)]; omega)⟩
      · rw [if_neg q2]; intro _; exact ⟨99, by omega, rfl⟩
    · rw [if_neg q]; exact ⟨0, by omega, rfl⟩
  obtain ⟨k, hk, e⟩ := key
  unfold clampC
  rw [e, cl (by omega)]
  exact ⟨rfl, hk⟩
theorem shC_le (kind n f step : Int32) (d : Nat) : shC kind n f step d ≤ 99 := by
  unfold shC
  split
  · omega
  · split
    · exact (clampC_eq _).2
    · omega
def shS (V : VV) (kind n f step : Int32) (i : Nat) : VV := vSCo V (fun d => if d < i then shC kind n f step d else vco V d)
def R_sheet (V : VV) (kind n f step : Int32) : Int32 := if rngB kind 4 = true ∧ n ≤ 10 then (if kind = 3 then -3 else if 0 ≤ n then nI (sumN (shC kind n f step) (vn V)) else -2) else -1
def S_sheet (V : VV) (kind n f step : Int32) : VV := if (rngB kind 4 = true ∧ n ≤ 10) ∧ (kind = 3 ∨ 0 ≤ n) then shS V kind n f step (vn V) else V
theorem WV.co' {V : VV} (h : WV V) {l : Nat → Nat} (hl : ∀ d, d < vn V → l d ≤ 99) : WV (vSCo V l) := by
  obtain ⟨h1, h2, h3, h4, h5, h6, h7, h8, h9, h10, h11, h12⟩ := h
  exact ⟨h1, h2, h3, fun d hd => ⟨(h4 d hd).1, (h4 d hd).2.1, hl d hd, (h4 d hd).2.2.2⟩, h5, h6, h7, h8, h9, h10, h11, h12⟩
theorem WV.sh {V : VV} (h : WV V) (kind n f step : Int32) (i : Nat) : WV (shS V kind n f step i) := h.co' fun d hd => by
  have h1 := (h.d hd).2.2.1
  have h2 := shC_le kind n f step d
  show (if d < i then shC kind n f step d else vco V d) ≤ 99
  split <;> omega
theorem IX.shs {σ : St} {V : VV} {kind n f step : Int32} {i : Nat} (hI : IX σ (shS V kind n f step i)) (hw : WV V) : IX (sA σ 1 (upd (gA σ 1) i (nI (shC kind n f step i)))) (shS V kind n f step (i + 1)) := by
  obtain ⟨⟨a1, a2, a3, a4, a5, a6⟩, h2, h3, h4, h5, h6, h7, h8, h9, h10, h11⟩ := hI.1
  refine ⟨⟨⟨a1, a2, a3, a4, a5, a6⟩, fun d hd => ⟨(h2 d hd).1, ?_, (h2 d hd).2.2⟩, h3, h4, h5, h6, h7, h8, h9, fun i hi => keptX.kp rfl rfl (h10 i hi), ruleX.kp rfl rfl h11⟩, hw.sh kind n f step (i + 1)⟩
  show upd (gA σ 1) i (nI (shC kind n f step i)) d = nI (if d < i + 1 then shC kind n f step d else vco V d)
  by_cases q : d = i
  · rw [q, upd_s, if_pos (by omega)]
  · rw [upd_n q, (h2 d hd).2.1]
    show nI (if d < i then shC kind n f step d else vco V d) = _
    by_cases q2 : d < i
    · rw [if_pos q2, if_pos (by omega)]
    · rw [if_neg q2, if_neg (by omega)]
theorem IM.shs {σ : St} {V : VV} {kind n f step : Int32} {i : Nat} (hI : IM σ (shS V kind n f step i)) (hw : WV V) : IM (sA σ 3 (upd (gA σ 3) i (nI (shC kind n f step i)))) (shS V kind n f step (i + 1)) := by
  obtain ⟨⟨a1, a2, a3, a4, a5, a6, a7, a8⟩, h2, h3, h4, h5, h6, h7, h8, h9, h10, h11⟩ := hI.1
  refine ⟨⟨⟨a1, a2, a3, a4, a5, a6, a7, a8⟩, fun d hd => ⟨(h2 d hd).1, ?_, (h2 d hd).2.2⟩, h3, h4, h5, h6, h7, h8, h9, fun i hi => keptM.kp rfl rfl rfl rfl (h10 i hi), ruleM.kp rfl rfl h11⟩, hw.sh kind n f step (i + 1)⟩
  show upd (gA σ 3) i (nI (shC kind n f step i)) d = nI (if d < i + 1 then shC kind n f step d else vco V d)
  by_cases q : d = i
  · rw [q, upd_s, if_pos (by omega)]
  · rw [upd_n q, (h2 d hd).2.1]
    show nI (if d < i then shC kind n f step d else vco V d) = _
    by_cases q2 : d < i
    · rw [if_pos q2, if_pos (by omega)]
    · rw [if_neg q2, if_neg (by omega)]
theorem sheetX_loop {V : VV} {kind n f step : Int32} {P : Int32 → St → Prop} {K : Int32 → St → Prop} (hw : WV V) (h : ∀ σ', IX σ' (shS V kind n f step (vn V)) → K (if kind = 3 then -3 else nI (sumN (shC kind n f step) (vn V))) σ') :
    ∀ m i : Nat, i + m = vn V → ∀ σ, IX σ (shS V kind n f step i) → wx_sheet_l41 P K (m + 1) kind n step (nI (sumN (shC kind n f step) i)) (shV f step i) (nI i) σ := by
  have hn := hw.n
  intro m
  induction m with
  | zero =>
    intro i hi σ hI
    rw [wx_sheet_l41_s, show xI_dishes σ = nI (vn V) from hI.n, if_pos (by rw [show i = vn V by omega]; exact Int32.le_refl _)]
    rw [show i = vn V by omega] at hI ⊢
    have h1 := h σ hI
    by_cases q : kind = 3
    · rw [if_pos q] at h1 ⊢; exact h1
    · rw [if_neg q] at h1 ⊢; exact h1
  | succ m ih =>
    intro i hi σ hI
    have h1 := ih (i + 1) (by omega) _ (hI.shs hw)
    rw [show sumN (shC kind n f step) (i + 1) = sumN (shC kind n f step) i + shC kind n f step i from rfl, show shV f step (i + 1) = shV f step i + step from rfl] at h1
    rw [wx_sheet_l41_s, show xI_dishes σ = nI (vn V) from hI.n, if_neg (nI_ge (by omega) (by omega))]
    have fin : ∀ x, x = nI (shC kind n f step i) → wx_sheet_j107 P (wx_sheet_l41 P K (m + 1)) kind n step (nI (sumN (shC kind n f step) i)) (shV f step i) (nI i) (nI i) x σ := by
      intro x ex
      unfold wx_sheet_j107
      refine ⟨vp_in_nI (by omega) (by omega), vp_in_nI (by omega) (by omega), ?_⟩
      unfold xU_cost uA
      rw [cl (by omega), nI_1, show xA_cost (sA σ 1 (upd (gA σ 1) i x)) i = x from upd_s, ex, nI_add]
      exact h1
    have mid : wx_sheet_j73 P (wx_sheet_l41 P K (m + 1)) kind n step (nI (sumN (shC kind n f step) i)) (shV f step i) (nI i) (shI kind (shV f step i)) σ := by
      unfold wx_sheet_j73 wx_sheet_j92
      by_cases q : kind = 3
      · rw [if_pos q]; exact fin 0 (by unfold shC; rw [if_pos q]; rfl)
      · rw [if_neg q]
        by_cases q2 : nI i < n
        · rw [if_pos q2]; exact fin _ (by unfold shC; rw [if_neg q, if_pos q2]; exact (clampC_eq _).1)
        · rw [if_neg q2]; exact fin 0 (by unfold shC; rw [if_neg q, if_neg q2]; rfl)
    unfold shI at mid
    by_cases q0 : kind = 0
    · rw [if_pos q0]; rw [if_pos q0] at mid; exact mid
    · rw [if_neg q0]; rw [if_neg q0] at mid
      by_cases q1 : kind = 1
      · rw [if_pos q1]; rw [if_pos q1] at mid; exact mid
      · rw [if_neg q1]; rw [if_neg q1] at mid; exact mid
theorem sheetM_loop {V : VV} {kind n f step : Int32} {P : Int32 → St → Prop} {K : Int32 → St → Prop} (hw : WV V) (h : ∀ σ', IM σ' (shS V kind n f step (vn V)) → K (if kind = 3 then -3 else nI (sumN (shC kind n f step) (vn V))) σ') :
    ∀ m i : Nat, i + m = vn V → ∀ σ, IM σ (shS V kind n f step i) → wm_sheet_l43 P K (m + 1) kind n step (nI (sumN (shC kind n f step) i)) (shV f step i) (nI i) σ := by
  have hn := hw.n
  intro m
  induction m with
  | zero =>
    intro i hi σ hI
    rw [wm_sheet_l43_s, show mI_dishes σ = nI (vn V) from hI.n, if_pos (by rw [show i = vn V by omega]; exact Int32.le_refl _)]
    rw [show i = vn V by omega] at hI ⊢
    have h1 := h σ hI
    by_cases q : kind = 3
    · rw [if_pos q] at h1 ⊢; exact h1
    · rw [if_neg q] at h1 ⊢; exact h1
  | succ m ih =>
    intro i hi σ hI
    have h1 := ih (i + 1) (by omega) _ (hI.shs hw)
    rw [show sumN (shC kind n f step) (i + 1) = sumN (shC kind n f step) i + shC kind n f step i from rfl, show shV f step (i + 1) = shV f step i + step from rfl] at h1
    rw [wm_sheet_l43_s, show mI_dishes σ = nI (vn V) from hI.n, if_neg (nI_ge (by omega) (by omega))]
    have fin : ∀ x, x = nI (shC kind n f step i) → wm_sheet_j109 P (wm_sheet_l43 P K (m + 1)) kind n step (nI (sumN (shC kind n f step) i)) (shV f step i) (nI i) (nI i) x σ := by
      intro x ex
      unfold wm_sheet_j109
      refine ⟨vp_in_nI (by omega) (by omega), vp_in_nI (by omega) (by omega), ?_⟩
      unfold mU_cost uA
      rw [cl (by omega), nI_1, show mA_cost (sA σ 3 (upd (gA σ 3) i x)) i = x from upd_s, ex, nI_add]
      exact h1
    have mid : wm_sheet_j75 P (wm_sheet_l43 P K (m + 1)) kind n step (nI (sumN (shC kind n f step) i)) (shV f step i) (nI i) (shI kind (shV f step i)) σ := by
      unfold wm_sheet_j75 wm_sheet_j94
      by_cases q : kind = 3
      · rw [if_pos q]; exact fin 0 (by unfold shC; rw [if_pos q]; rfl)
      · rw [if_neg q]
        by_cases q2 : nI i < n
        · rw [if_pos q2]; exact fin _ (by unfold shC; rw [if_neg q, if_pos q2]; exact (clampC_eq _).1)
        · rw [if_neg q2]; exact fin 0 (by unfold shC; rw [if_neg q, if_neg q2]; rfl)
    unfold shI at mid
    by_cases q0 : kind = 0
    · rw [if_pos q0]; rw [if_pos q0] at mid; exact mid
    · rw [if_neg q0]; rw [if_neg q0] at mid
      by_cases q1 : kind = 1
      · rw [if_pos q1]; rw [if_pos q1] at mid; exact mid
      · rw [if_neg q1]; rw [if_neg q1] at mid; exact mid
theorem shS_0 (V : VV) (kind n f step : Int32) : shS V kind n f step 0 = V := by
  unfold shS
  have : (fun d => if d < 0 then shC kind n f step d else vco V d) = vco V := funext fun j => if_neg (by omega)
  rw [this]; rfl
theorem ox_sheet {σ : St} {V : VV} {P : Int32 → St → Prop} (hI : IX σ V) (kind n f step : Int32) (h : ∀ σ', IX σ' (S_sheet V kind n f step) → P (R_sheet V kind n f step) σ') : wx_sheet σ kind n f step P := by
  unfold wx_sheet sx_in
  rw [inB_lit (v := kind) (x := 0) (y := 3) (by decide) (by decide), rngB_lt (v := kind) (y := 3) (n := 4) (by decide)]
  dsimp only
  unfold R_sheet S_sheet at h
  cases q : rngB kind 4 with
  | false => rw [jf0]; simp only [q, Bool.false_eq_true, false_and, if_false] at h; exact h σ hI
  | true =>
    rw [jt0]
    by_cases q1 : n ≤ 10
    · rw [if_pos q1]
      simp only [q, q1, true_and, if_true] at h
      have go : (kind = 3 ∨ 0 ≤ n) → wx_sheet_j32 P kind n f step σ := by
        intro q2
        simp only [q2, if_true] at h
        unfold wx_sheet_j32
        refine ⟨_, sheetX_loop hI.2 (fun σ' h' => ?_) (vn V) 0 (by omega) σ (by rw [shS_0]; exact hI)⟩
        unfold wx_sheet_j145
        have h1 := h σ' h'
        by_cases q3 : kind = 3
        · rw [if_pos q3] at h1 ⊢; exact h1
        · rw [if_neg q3] at h1 ⊢; rw [if_pos (q2.resolve_left q3)] at h1; exact h1
      by_cases q3 : kind = 3
      · rw [if_pos q3]; exact go (Or.inl q3)
      · rw [if_neg q3]
        by_cases q4 : 0 ≤ n
        · rw [if_pos q4]; exact go (Or.inr q4)
        · rw [if_neg q4]
          simp only [q3, q4, or_self, if_false] at h
          exact h σ hI
    · rw [if_neg q1]
      simp only [q1, and_false, false_and, if_false] at h
      exact h σ hI
theorem om_sheet {σ : St} {V : VV} {P : Int32 → St → Prop} (hI : IM σ V) (kind n f step : Int32) (h : ∀ σ', IM σ' (S_sheet V kind n f step) → P (R_sheet V kind n f step) σ') : wm_sheet σ kind n f step P := by
  have hI := hI.th 0
  unfold wm_sheet sm_in
  rw [inM_lit (v := kind) (x := 0) (y := 3) (by decide) (by decide), rngB_lt (v := kind) (y := 3) (n := 4) (by decide)]
  dsimp only
  unfold R_sheet S_sheet at h
  cases q : rngB kind 4 with
  | false => rw [jf0]; simp only [q, Bool.false_eq_true, false_and, if_false] at h; exact h _ hI
  | true =>
    rw [jt0]
    by_cases q1 : n ≤ 10
    · rw [if_pos q1]
      simp only [q, q1, true_and, if_true] at h
      have go : (kind = 3 ∨ 0 ≤ n) → wm_sheet_j34 P kind n f step (mS_thrown σ 0) := by
        intro q2
        simp only [q2, if_true] at h
        unfold wm_sheet_j34
        refine ⟨_, sheetM_loop hI.2 (fun σ' h' => ?_) (vn V) 0 (by omega) _ (by rw [shS_0]; exact hI)⟩
        unfold wm_sheet_j147
        have h1 := h σ' h'
        by_cases q3 : kind = 3
        · rw [if_pos q3] at h1 ⊢; exact h1
        · rw [if_neg q3] at h1 ⊢; rw [if_pos (q2.resolve_left q3)] at h1; exact h1
      obtain ⟨k, hk, ek⟩ := rngB_of (by omega) q
      have e3 : (3 : Int32) ≤ kind ↔ kind = 3 := by
        rw [ek, show (3 : Int32) = nI 3 from rfl, nI_leI (by omega) (by omega), nI_eq (by omega) (by omega)]; omega
      simp only [e3]
      by_cases q3 : kind = 3
      · rw [if_pos q3]; exact go (Or.inl q3)
      · rw [if_neg q3]
        by_cases q4 : 0 ≤ n
        · rw [if_pos q4]; exact go (Or.inr q4)
        · rw [if_neg q4]
          simp only [q3, q4, or_self, if_false] at h
          exact h _ hI
    · rw [if_neg q1]
      simp only [q1, and_false, false_and, if_false] at h
      exact h _ hI
