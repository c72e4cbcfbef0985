/-! the component's tables -/
def fineV (V : VV) (s : Nat) : Bool := timesV V s && storeV V s
theorem timesV_iff (V : VV) (s : Nat) : timesV V s = true ↔ maxN (manyV V s) 8 ≤ vla V 1 := by
  unfold timesV
  rw [alB_iff, maxN_iff]
  exact ⟨fun h k hk => of_decide_eq_true (h k hk), fun h k hk => decide_eq_true (h k hk)⟩
theorem mayV_eq (V : VV) (s l d : Nat) : mayV V s l d = (!(s.testBit d) && ((decide (l = 10) || (pairV V l d && warmV V s l d)) && fineV V (s ||| 2 ^ d))) := by
  unfold mayV whyV fineV
  cases s.testBit d
  · by_cases q : l = 10
    · simp only [q, ne_eq, not_true_eq_false, false_and, if_false, Bool.false_eq_true, decide_true, Bool.true_or, Bool.true_and, Bool.not_false]
      cases timesV V (s ||| 2 ^ d) <;> cases storeV V (s ||| 2 ^ d) <;> decide
    · simp only [q, ne_eq, not_false_eq_true, true_and, if_false, Bool.false_eq_true, decide_false, Bool.false_or, Bool.true_and, Bool.not_false]
      cases pairV V l d <;> cases warmV V s l d <;> cases timesV V (s ||| 2 ^ d) <;> cases storeV V (s ||| 2 ^ d) <;> decide
  · simp
def GX (σ : St) (V : VV) (A : Nat) : Prop := IX σ V ∧ gI σ 35 = nI A ∧ A < 2 ^ vn V ∧ ∀ s, s < 2 ^ vn V → gA σ 30 s = j01 (fineV V s)
theorem GX.kp {σ σ' : St} {V : VV} {A : Nat} (h : GX σ V A) (k : Kp (35 :: XI) (30 :: XA) σ σ') : GX σ' V A :=
  ⟨h.1.kp (k.sub (by decide) (by decide)), by rw [k.1 35 (by decide)]; exact h.2.1, h.2.2.1, by rw [k.2.1 30 (by decide)]; exact h.2.2.2⟩
theorem GX.qA {σ : St} {V : VV} {A : Nat} (h : GX σ V A) {k : Nat} (hk : k ∉ 30 :: XA) (v : Nat → Int32) : GX (sA σ k v) V A := h.kp (Kp.sA hk σ v)
theorem GX.qL {σ : St} {V : VV} {A : Nat} (h : GX σ V A) (k : Nat) (v : Nat → Int64) : GX (sL σ k v) V A := h.kp (Kp.sL k σ v)
theorem GX.row0 {σ : St} {V : VV} {A : Nat} (h : GX σ V A) : GX (sI σ 44 0) (vSRow V []) A := ⟨h.1.row0, h.2⟩
theorem laysX_loop {V : VV} {P : St → Prop} (hw : WV V) (h : ∀ σ', GX σ' V (2 ^ vn V - 1) → P σ') : ∀ m s : Nat, s + m = 2 ^ vn V → ∀ σ, IX σ V → (∀ j, j < s → gA σ 30 j = j01 (fineV V j)) → wx_laysOut_l2 P (m + 1) (nI s) σ := by
  have hn := hw.n
  have hp := pow_le_1024 hn
  intro m
  induction m with
  | zero =>
    intro s hs σ hI hf
    rw [wx_laysOut_l2_s, show xI_dishes σ = _ from hI.n, nI_shl1 _ (by omega), if_pos (by rw [show s = 2 ^ vn V by omega]; exact Int32.le_refl _), nI_lit1, pk_sub (Nat.one_le_two_pow)]
    have h1 := Nat.one_le_two_pow (n := vn V)
    exact h _ ⟨hI.qI (by decide) _, rfl, by omega, fun j hj => hf j (by omega)⟩
  | succ m ih =>
    intro s hs σ hI hf
    have hla := hw.la
    rw [wx_laysOut_l2_s, show xI_dishes σ = _ from hI.n, nI_shl1 _ (by omega), if_neg (nI_ge (by omega) (by omega))]
    refine ⟨V, s, hI, rfl, by omega, vp_lit rfl, ?_⟩
    have e1 : xA_law σ (1 : Int32).toNatClampNeg = nI (vla V 1) := hI.la (d := 1) (by omega)
    have hmx := maxN_le (f := manyV V s) (b := vn V) 8 fun k _ => many_le V s k
    rw [e1]
    simp only [nI_ltI (show vla V 1 < 2 ^ 31 by have := hla.2.2.2.1; omega) (show maxN (manyV V s) 8 < 2 ^ 31 by omega)]
    have fin : ∀ b, b = fineV V s → ∀ x, x = j01 b → wx_laysOut_j44 P (wx_laysOut_l2 P (m + 1)) (nI s) (nI s) x σ := by
      intro b eb x ex
      refine ⟨vp_in_nI (by omega) (by omega), ?_⟩
      rw [nI_1]
      unfold xU_fine uA
      rw [cl (by omega)]
      refine ih (s + 1) (by omega) _ (hI.qA (by decide) _) fun j hj => ?_
      show upd (gA σ 30) s x j = _
      by_cases q : j = s
      · rw [q, upd_s, ex, eb]
      · rw [upd_n q]; exact hf j (by omega)
    have ht := timesV_iff V s
    by_cases q : vla V 1 < maxN (manyV V s) 8
    · rw [if_pos q]
      have ht3 : timesV V s = false := Bool.eq_false_iff.mpr (fun z => by have := ht.mp z; omega)
      exact fin false (by unfold fineV; rw [ht3, Bool.false_and]) _ rfl
    · rw [if_neg q]
      have ht2 : timesV V s = true := ht.mpr (by omega)
      refine ⟨V, s, hI, rfl, by omega, ?_⟩
      dsimp only
      cases q2 : storeV V s with
      | false => rw [jf0]; exact fin false (by unfold fineV; rw [ht2, q2]; rfl) _ rfl
      | true => rw [jt0]; exact fin true (by unfold fineV; rw [ht2, q2]; rfl) _ rfl
theorem ox_laysOut {σ : St} {V : VV} {P : St → Prop} (hI : IX σ V) (h : ∀ σ', GX σ' V (2 ^ vn V - 1) → P σ') : wx_laysOut σ P := ⟨_, laysX_loop hI.2 h (2 ^ vn V) 0 (by omega) σ hI fun j hj => absurd hj (by omega)⟩
theorem ox_goesOn {σ : St} {V : VV} {A s l d : Nat} {P : Int32 → St → Prop} (hG : GX σ V A) (hs : s < 2 ^ vn V) (hl : l < vn V ∨ l = 10) (hd : d < vn V) (h : P (j01 (mv V A s l d)) σ) : wx_goesOn σ (nI s) (lI l) (nI d) P := by
  have hI := hG.1
  have hn := hI.2.n
  have hp := pow_le_1024 hn
  have hA := hG.2.2.1
  have hor := or2_lt hs hd
  unfold mv at h
  rw [mayV_eq] at h
  unfold wx_goesOn sx_has
  dsimp only
  rw [hasB_nI (by omega) (by omega), show xI_allowed σ = _ from hG.2.1, hasB_nI (by omega) (by omega), nI_shl1 _ (by omega), nI_or, cl (by omega), show xA_fine σ (s ||| 2 ^ d) = _ from hG.2.2.2 _ hor]
  unfold wx_goesOn_j57 wx_goesOn_j61 wx_goesOn_j62
  cases q1 : s.testBit d with
  | true => rw [jt0]; rw [q1] at h; exact h
  | false =>
    rw [jf0]; rw [q1] at h
    cases q2 : A.testBit d with
    | false => rw [jf0]; rw [q2, Bool.and_false] at h; exact h
    | true =>
      rw [jt0]; rw [q2, Bool.and_true] at h
      refine ⟨vp_in_nI (by omega) (by omega), ?_⟩
      cases q3 : fineV V (s ||| 2 ^ d) with
      | false => rw [jf0]; rw [q3, Bool.and_false, Bool.and_false] at h; exact h
      | true =>
        rw [jt0]; rw [q3, Bool.and_true, Bool.not_false, Bool.true_and] at h
        simp only [lI_neg (show l ≤ 10 by omega)]
        by_cases q4 : l = 10
        · rw [if_pos q4]; rw [decide_eq_true q4, Bool.true_or] at h; exact ⟨rfl, h⟩
        · rw [if_neg q4]; rw [decide_eq_false q4, Bool.false_or] at h
          have hl2 : l < vn V := hl.resolve_right q4
          refine ⟨V, l, d, hI, lI_l q4, rfl, hl2, hd, ?_⟩
          dsimp only
          cases q5 : pairV V l d with
          | false => rw [jf0]; rw [q5, Bool.false_and] at h; exact ⟨rfl, h⟩
          | true =>
            rw [jt0]; rw [q5, Bool.true_and] at h
            refine ⟨V, s, l, d, hI, rfl, lI_l q4, rfl, by omega, by omega, by omega, ?_⟩
            dsimp only
            cases q6 : warmV V s l d with
            | false => rw [jf0]; rw [q6] at h; exact ⟨rfl, h⟩
            | true => rw [jt0]; rw [q6] at h; exact ⟨rfl, h⟩
theorem mv_newM (V : VV) (A : Nat) : newM (vn V) (mv V A) := fun _ _ _ _ h => mv_new h
/-! measures -/
def endX (e : Int32) (le s l : Nat) : Bool := decide (e < 0) || (!(decide (l = 10)) && (hasB e (nI l) && decide (le ≤ pc s)))
theorem meaX_d {V : VV} {A s l le : Nat} {e : Int32} {ini : Int32} {P : St → Prop} {K : Int32 → Int32 → Int32 → Int32 → St → Prop} {σ : St} (hG : GX σ V A) (hok : okS (vn V) s l)
    (h : K e (nI le) (nI s) (lI l) (sA σ 32 (upd (gA σ 32) (11 * s + l) (foldN (fun d acc => if mv V A s l d = true then jmax acc (1 + gA σ 32 (11 * (s ||| 2 ^ d) + d)) else acc) ini (vn V))))) :
    ∀ m d : Nat, d + m = vn V → wx_measures_l88 P K (m + 1) e (nI le) (nI s) (lI l) (foldN (fun d acc => if mv V A s l d = true then jmax acc (1 + gA σ 32 (11 * (s ||| 2 ^ d) + d)) else acc) ini d) (nI d) σ := by
  have hI := hG.1
  have hn := hI.2.n
  have hb := okS_le hn hok
  intro m
  induction m with
  | zero =>
    intro d hd
    rw [wx_measures_l88_s, show xI_dishes σ = _ from hI.n, if_pos (by rw [show d = vn V by omega]; exact Int32.le_refl _), show d = vn V by omega]
    refine ⟨s, l, rfl, rfl, by omega, by omega, vp_in_nI (by omega) (by omega), ?_⟩
    unfold xU_value uA
    rw [cl (by omega)]
    exact h
  | succ m ih =>
    intro d hd
    have ih1 := ih (d + 1) (by omega)
    have hor := or2_lt hok.1 (show d < vn V by omega)
    have hp := pow_le_1024 hn
    rw [show foldN (fun d acc => if mv V A s l d = true then jmax acc (1 + gA σ 32 (11 * (s ||| 2 ^ d) + d)) else acc) ini (d + 1) = if mv V A s l d = true then jmax (foldN (fun d acc => if mv V A s l d = true then jmax acc (1 + gA σ 32 (11 * (s ||| 2 ^ d) + d)) else acc) ini d) (1 + gA σ 32 (11 * (s ||| 2 ^ d) + d)) else foldN (fun d acc => if mv V A s l d = true then jmax acc (1 + gA σ 32 (11 * (s ||| 2 ^ d) + d)) else acc) ini d from rfl] at ih1
    rw [wx_measures_l88_s, show xI_dishes σ = _ from hI.n, if_neg (nI_ge (by omega) (by omega))]
    refine ox_goesOn hG hok.1 (by rcases hok.2 with q | q <;> omega) (by omega) ?_
    unfold wx_measures_j134
    rw [nI_1]
    cases q : mv V A s l d with
    | false => rw [jf0]; rw [q, if_neg (by decide)] at ih1; exact ih1
    | true =>
      rw [jt0]; rw [q, if_pos rfl] at ih1
      rw [nI_shl1 _ (by omega), nI_or]
      refine ⟨s ||| 2 ^ d, d, rfl, (lI_l (by omega)).symm, by omega, by omega, vp_in_nI (by omega) (by omega), ?_⟩
      rw [cl (by omega)]
      exact ih1
theorem meaX_l {V : VV} {A s le : Nat} {e : Int32} {P : St → Prop} {K : Int32 → Int32 → Int32 → St → Prop} (hw : WV V) (hs : s < 2 ^ vn V)
    (h : ∀ σ', GX σ' V A → Done (vn V) (gA σ' 32) (stM (mv V A) (endX e le) (vn V)) s (vn V + 1) → K e (nI le) (nI s + (-1)) σ') (hle : le < 2 ^ 31) :
    ∀ m j : Nat, j + m = vn V + 1 → ∀ σ, GX σ V A → Done (vn V) (gA σ 32) (stM (mv V A) (endX e le) (vn V)) s j → wx_measures_l16 P K (m + 1) e (nI le) (nI s) (nI j - 1) σ := by
  have hn := hw.n
  intro m
  induction m with
  | zero =>
    intro j hj σ hG hD
    rw [wx_measures_l16_s, show xI_dishes σ = _ from hG.1.n, if_pos ((nIm_lt (by omega) (by omega)).mpr (by omega))]
    rw [show j = vn V + 1 by omega] at hD
    exact h σ hG hD
  | succ m ih =>
    intro j hj σ hG hD
    have hp := pow_le_1024 hn
    rw [wx_measures_l16_s, show xI_dishes σ = _ from hG.1.n, if_neg (fun z => by have := (nIm_lt (by omega) (by omega)).mp z; omega)]
    have hl := lOf_n (j := j) hn (by omega)
    refine ⟨s, lOf j, rfl, (lOf_lI (by omega)).symm, by omega, by omega, ?_⟩
    dsimp only
    cases q : stateB s (lOf j) with
    | false =>
      rw [jf0]
      unfold wx_measures_j153
      rw [nIm_s]
      exact ih (j + 1) (by omega) σ hG (hD.skip hn (by omega) hs q)
    | true =>
      rw [jt0]
      have hok := (okS_B hn hs hl).mp q
      have fin : ∀ ini, ini = (if endX e le s (lOf j) = true then 0 else -1000000) → wx_measures_j83 P (wx_measures_l16 P K (m + 1)) e (nI le) (nI s) (nI j - 1) ini σ := by
        intro ini ei
        unfold wx_measures_j83
        rw [← lOf_lI (by omega)]
        refine ⟨_, meaX_d hG hok ?_ (vn V) 0 (by omega)⟩
        unfold wx_measures_j153
        rw [lOf_lI (by omega), nIm_s]
        refine ih (j + 1) (by omega) _ (hG.qA (by decide) _) (hD.write hn (stM_c (mv_newM V A)) (by omega) hs q (fun k hk => ?_) ?_)
        · show upd (gA σ 32) (11 * s + lOf j) _ k = _
          rw [upd_n hk]
        · show upd (gA σ 32) (11 * s + lOf j) _ (11 * s + lOf j) = _
          rw [upd_s, ei]; rfl
      have t1 : endX e le s (lOf j) = true → wx_measures_j64 P (wx_measures_l16 P K (m + 1)) e (nI le) (nI s) (nI j - 1) σ := fun z => by
        unfold wx_measures_j64 wx_measures_j69
        rw [if_neg (by decide)]
        exact fin 0 (by rw [z, if_pos rfl])
      have t0 : endX e le s (lOf j) = false → wx_measures_j68 P (wx_measures_l16 P K (m + 1)) e (nI le) (nI s) (nI j - 1) σ := fun z => by
        unfold wx_measures_j68 wx_measures_j69
        rw [if_pos rfl]
        exact fin (-1000000) (by rw [z, if_neg (by decide)])
      unfold endX at t1 t0
      by_cases q1 : e < 0
      · rw [if_pos q1]; exact t1 (by rw [decide_eq_true q1, Bool.true_or])
      · rw [if_neg q1]; rw [decide_eq_false q1, Bool.false_or] at t1 t0
        simp only [nIm_neg (show j < 2 ^ 31 by omega)]
        by_cases q2 : j = 0
        · rw [if_pos q2]; exact t0 (by rw [q2]; rfl)
        · rw [if_neg q2]
          have hlo : lOf j = j - 1 := if_neg q2
          have hlI : nI j - 1 = nI (lOf j) := by rw [← lOf_lI (by omega)]; exact lI_l (by omega)
          rw [decide_eq_false (show ¬ lOf j = 10 by omega), Bool.not_false, Bool.true_and] at t1 t0
          unfold sx_has
          have hpc := pc_le s
          simp only [bitC_nI (show s < 2048 by omega), nI_ltI (show pc s < 2 ^ 31 by omega) hle]
          rw [show hasB e (nI j - 1) = hasB e (nI (lOf j)) from by rw [hlI]]
          cases q3 : hasB e (nI (lOf j)) with
          | false => rw [jf0]; exact t0 (by rw [q3, Bool.false_and])
          | true =>
            rw [jt0]; rw [q3, Bool.true_and] at t1 t0
            by_cases q4 : pc s < le
            · rw [if_pos q4]; exact t0 (decide_eq_false (by omega))
            · rw [if_neg q4]; exact t1 (decide_eq_true (by omega))
theorem meaX_s {V : VV} {A le : Nat} {e : Int32} {P : St → Prop} (hw : WV V) (hle : le < 2 ^ 31) (h : ∀ σ', GX σ' V A → FixT (vn V) (gA σ' 32) (stM (mv V A) (endX e le) (vn V)) → P σ') :
    ∀ m : Nat, m ≤ 2 ^ vn V → ∀ σ, GX σ V A → (0 < m → Done (vn V) (gA σ 32) (stM (mv V A) (endX e le) (vn V)) (m - 1) 0) → (m = 0 → FixT (vn V) (gA σ 32) (stM (mv V A) (endX e le) (vn V))) → wx_measures_l9 P (m + 1) e (nI le) (nI m - 1) σ := by
  have hn := hw.n
  have hp := pow_le_1024 hn
  intro m
  induction m with
  | zero =>
    intro hm σ hG _ hF
    rw [wx_measures_l9_s, if_pos (by decide)]
    exact h σ hG (hF rfl)
  | succ m ih =>
    intro hm σ hG hD _
    rw [wx_measures_l9_s, nI_pred, if_neg (nI_lt0 (by omega))]
    refine ⟨vn V + 2, ?_⟩
    have h9 := meaX_l (P := P) (K := wx_measures_l9 P (m + 1)) (e := e) (le := le) hw (show m < 2 ^ vn V by omega) (fun σ' hG' hD' => ?_) hle (vn V + 1) 0 (by omega) σ hG (hD (by omega))
    · exact h9
    · rw [show nI m + (-1) = nI m - 1 from (Int32.sub_eq_add_neg _ _).symm]
      refine ih (by omega) σ' hG' (fun hpos => ?_) (fun h0 => ?_)
      · rw [show m = m - 1 + 1 by omega] at hD'
        exact hD'.next hn
      · rw [h0] at hD'; exact hD'.fix hn
theorem ox_measures {σ : St} {V : VV} {A le : Nat} {e : Int32} {P : St → Prop} (hG : GX σ V A) (hle : le < 2 ^ 31) (h : ∀ σ', GX σ' V A → FixT (vn V) (gA σ' 32) (stM (mv V A) (endX e le) (vn V)) → P σ') : wx_measures σ e (nI le) P := by
  unfold wx_measures
  have hn := hG.1.2.n
  have h1 := Nat.one_le_two_pow (n := vn V)
  rw [show xI_dishes σ = _ from hG.1.n, nI_shl1 _ (by omega)]
  exact ⟨_, meaX_s hG.1.2 hle h (2 ^ vn V) (by omega) σ hG (fun _ => Done.start _ _) (fun z => by omega)⟩
/-! tellsMost -/
theorem GX.row {σ : St} {V : VV} {A : Nat} (h : GX σ V A) {r : List Int32} {σ' : St} (h' : IX σ' (vSRow V r)) (k : gI σ' 35 = gI σ 35) (k2 : gA σ' 30 = gA σ 30) : GX σ' (vSRow V r) A := ⟨h', by rw [k]; exact h.2.1, h.2.2.1, by rw [k2]; exact h.2.2.2⟩
def rowG (V : VV) (r : List Nat) : VV := vSRow V (vrow V ++ r.map nI)
theorem rowG_nil (V : VV) : rowG V [] = V := by unfold rowG; rw [List.map_nil, List.append_nil]; rfl
theorem rowG_two (V : VV) (d : Nat) (r : List Nat) : rowG (vSRow V (vrow V ++ [nI d])) r = rowG V (d :: r) := by
  unfold rowG
  show vSRow (vSRow V _) ((vrow V ++ [nI d]) ++ r.map nI) = _
  rw [List.append_assoc]; rfl
theorem telX_d {V : VV} {A s l D k : Nat} {P : St → Prop} {K : Int32 → Int32 → Int32 → St → Prop} {σ : St} (hG : GX σ V A) (hok : okS (vn V) s l) (hD : D < vn V) (hm : mv V A s l D = true) (hT : gA σ 32 (11 * (s ||| 2 ^ D) + D) = nI k) (hk : k < 2 ^ 20)
    (hno : ∀ d, d < D → mv V A s l d = true → gA σ 32 (11 * (s ||| 2 ^ d) + d) ≠ nI k) (hr : (vrow V).length < 12)
    (h : ∀ σ', GX σ' (vSRow V (vrow V ++ [nI D])) A → gA σ' 32 = gA σ 32 → K (nI (s ||| 2 ^ D)) (nI D) (nI k) σ') :
    ∀ m d : Nat, d + m = D → wx_tellsMost_l28 P K (m + 1) (nI s) (lI l) (nI (k + 1)) (nI d) σ := by
  have hI := hG.1
  have hn := hI.2.n
  have hb := okS_le hn hok
  have hp := pow_le_1024 hn
  intro m
  induction m with
  | zero =>
    intro d hd
    have e : d = D := by omega
    subst e
    have hor := or2_lt hok.1 hD
    rw [wx_tellsMost_l28_s]
    refine ox_goesOn hG hok.1 (by rcases hok.2 with q | q <;> omega) hD ?_
    rw [hm, jt0, nI_shl1 _ (by omega), nI_or]
    refine ⟨s ||| 2 ^ d, d, rfl, (lI_l (by omega)).symm, by omega, by omega, vp_in_nI (by omega) (by omega), ?_⟩
    rw [cl (by omega), show xA_value σ (11 * (s ||| 2 ^ d) + d) = _ from hT, nI_pred, if_pos rfl]
    refine ⟨V, hI, hr, fun σ' h' kp _ => ?_⟩
    rw [nI_m1 (by omega), Nat.add_sub_cancel]
    exact h σ' (hG.row h' (kp.1 35 (by decide)) (kp.2.1 30 (by decide))) (kp.2.1 32 (by decide))
  | succ m ih =>
    intro d hd
    have ih1 := ih (d + 1) (by omega)
    have hor := or2_lt hok.1 (show d < vn V by omega)
    rw [wx_tellsMost_l28_s]
    refine ox_goesOn hG hok.1 (by rcases hok.2 with q | q <;> omega) (by omega) ?_
    unfold wx_tellsMost_j65
    rw [nI_1]
    cases q : mv V A s l d with
    | false => rw [jf0]; exact ih1
    | true =>
      rw [jt0, nI_shl1 _ (by omega), nI_or]
      refine ⟨s ||| 2 ^ d, d, rfl, (lI_l (by omega)).symm, by omega, by omega, vp_in_nI (by omega) (by omega), ?_⟩
      rw [cl (by omega), nI_pred, if_neg (hno d (by omega) q)]
      exact ih1
def gT (T : Nat → Int32) (k s l : Nat) : Bool := decide (T (11 * s + l) = nI k)
theorem telX_k {V : VV} {A : Nat} {P : St → Prop} (T : Nat → Int32) (hx : ∀ k s l, k < 12 → okS (vn V) s l → T (11 * s + l) = nI (k + 1) → ∃ d, d < vn V ∧ mv V A s l d = true ∧ T (11 * (s ||| 2 ^ d) + d) = nI k) :
    ∀ k s l, ∀ W, (∃ r, W = vSRow V r) → okS (vn V) s l → T (11 * s + l) = nI k → (vrow W).length + k ≤ 12 → ∀ σ, GX σ W A → gA σ 32 = T → (∀ σ', GX σ' (rowG W (way (mv V A) (vn V) (gT T) k s l)) A → gA σ' 32 = T → P σ') → wx_tellsMost_l20 P (k + 1) (nI s) (lI l) (nI k) σ := by
  intro k
  induction k with
  | zero =>
    intro s l W eW hok hT hr σ hG hg h
    rw [wx_tellsMost_l20_s, if_pos (by decide)]
    refine h σ ?_ hg
    show GX σ (rowG W []) A
    rw [rowG_nil]; exact hG
  | succ k ih =>
    intro s l W eW hok hT hr σ hG hg h
    obtain ⟨r, rfl⟩ := eW
    rw [wx_tellsMost_l20_s, if_neg (fun z => by have := (nI_le0 (by omega)).mp z; omega)]
    obtain ⟨d0, hd0, hm0, hT0⟩ := hx k s l (by have : r.length + (k + 1) ≤ 12 := hr; omega) hok hT
    obtain ⟨a, b, c⟩ := lst_ex (p := fun d => mv V A s l d && gT T k (s ||| 2 ^ d) d) hd0 (by show (mv V A s l d0 && gT T k (s ||| 2 ^ d0) d0) = true; rw [hm0]; exact decide_eq_true hT0)
    have b1 := (Bool.and_eq_true _ _ ▸ b).1
    have b2 := of_decide_eq_true ((Bool.and_eq_true _ _ ▸ b).2)
    unfold way at h
    generalize lst (fun d => mv V A s l d && gT T k (s ||| 2 ^ d) d) (vn V) = D at a b b1 b2 c h
    refine ⟨_, telX_d (V := vSRow V r) hG hok a b1 (by rw [hg]; exact b2) (by omega) (fun d hd hm => ?_) (by show r.length < 12; have : r.length + (k + 1) ≤ 12 := hr; omega) (fun σ' hG' hg' => ?_) D 0 (by omega)⟩
    · have := c d hd
      rw [show mv V A s l d = true from hm, Bool.true_and] at this
      rw [hg]
      exact of_decide_eq_false this
    · have hokD := okS_step hok a
      have h9 := ih (s ||| 2 ^ D) D (vSRow V (r ++ [nI D])) ⟨_, rfl⟩ hokD b2 (by show (r ++ [nI D]).length + k ≤ 12; rw [List.length_append]; have : r.length + (k + 1) ≤ 12 := hr; show r.length + 1 + k ≤ 12; omega) σ' hG' (by rw [hg', hg]) (fun σ'' hG'' hg'' => h σ'' (by rw [← rowG_two]; exact hG'') hg'')
      have hn : vn V ≤ 10 := hG.1.2.n
      rw [lI_l (by omega)] at h9
      exact h9
theorem ox_tellsMost {σ : St} {V : VV} {A s l k : Nat} {P : St → Prop} (hG : GX σ V A) (hok : okS (vn V) s l) (hT : gA σ 32 (11 * s + l) = nI k) (hx : ∀ k s l, k < 12 → okS (vn V) s l → gA σ 32 (11 * s + l) = nI (k + 1) → ∃ d, d < vn V ∧ mv V A s l d = true ∧ gA σ 32 (11 * (s ||| 2 ^ d) + d) = nI k) (hr : (vrow V).length + k ≤ 12)
    (h : ∀ σ', GX σ' (rowG V (way (mv V A) (vn V) (gT (gA σ 32)) k s l)) A → gA σ' 32 = gA σ 32 → P σ') : wx_tellsMost σ (nI s) (lI l) P := by
  have hb := okS_le hG.1.2.n hok
  refine ⟨s, l, rfl, rfl, by omega, by omega, vp_in_nI (by omega) (by omega), ?_⟩
  rw [cl (by omega), show xA_value σ (11 * s + l) = _ from hT]
  exact ⟨_, telX_k (V := V) (A := A) (gA σ 32) hx k s l V ⟨vrow V, rfl⟩ hok hT hr σ hG rfl h⟩
theorem telX_k' {V : VV} {A : Nat} {P : St → Prop} (T : Nat → Int32) (hx : ∀ k s l, k < 12 → okS (vn V) s l → T (11 * s + l) = nI (k + 1) → l ≠ 10 → ∃ d, d < vn V ∧ mv V A s l d = true ∧ T (11 * (s ||| 2 ^ d) + d) = nI k) :
    ∀ k s l, ∀ W, (∃ r, W = vSRow V r) → okS (vn V) s l → l ≠ 10 → T (11 * s + l) = nI k → (vrow W).length + k ≤ 12 → ∀ σ, GX σ W A → gA σ 32 = T → (∀ σ', GX σ' (rowG W (way (mv V A) (vn V) (gT T) k s l)) A → gA σ' 32 = T → P σ') → wx_tellsMost_l20 P (k + 1) (nI s) (lI l) (nI k) σ := by
  intro k
  induction k with
  | zero =>
    intro s l W eW hok h10 hT hr σ hG hg h
    rw [wx_tellsMost_l20_s, if_pos (by decide)]
    refine h σ ?_ hg
    show GX σ (rowG W []) A
    rw [rowG_nil]; exact hG
  | succ k ih =>
    intro s l W eW hok h10 hT hr σ hG hg h
    obtain ⟨r, rfl⟩ := eW
    rw [wx_tellsMost_l20_s, if_neg (fun z => by have := (nI_le0 (by omega)).mp z; omega)]
    obtain ⟨d0, hd0, hm0, hT0⟩ := hx k s l (by have : r.length + (k + 1) ≤ 12 := hr; omega) hok hT h10
    obtain ⟨a, b, c⟩ := lst_ex (p := fun d => mv V A s l d && gT T k (s ||| 2 ^ d) d) hd0 (by show (mv V A s l d0 && gT T k (s ||| 2 ^ d0) d0) = true; rw [hm0]; exact decide_eq_true hT0)
    have b1 := (Bool.and_eq_true _ _ ▸ b).1
    have b2 := of_decide_eq_true ((Bool.and_eq_true _ _ ▸ b).2)
    unfold way at h
    generalize lst (fun d => mv V A s l d && gT T k (s ||| 2 ^ d) d) (vn V) = D at a b b1 b2 c h
    refine ⟨_, telX_d (V := vSRow V r) hG hok a b1 (by rw [hg]; exact b2) (by omega) (fun d hd hm => ?_) (by show r.length < 12; have : r.length + (k + 1) ≤ 12 := hr; omega) (fun σ' hG' hg' => ?_) D 0 (by omega)⟩
    · have := c d hd
      rw [show mv V A s l d = true from hm, Bool.true_and] at this
      rw [hg]
      exact of_decide_eq_false this
    · have hokD := okS_step hok a
      have h9 := ih (s ||| 2 ^ D) D (vSRow V (r ++ [nI D])) ⟨_, rfl⟩ hokD (by have hn : vn V ≤ 10 := hG.1.2.n; omega) b2 (by show (r ++ [nI D]).length + k ≤ 12; rw [List.length_append]; have : r.length + (k + 1) ≤ 12 := hr; show r.length + 1 + k ≤ 12; omega) σ' hG' (by rw [hg', hg]) (fun σ'' hG'' hg'' => h σ'' (by rw [← rowG_two]; exact hG'') hg'')
      have hn : vn V ≤ 10 := hG.1.2.n
      rw [lI_l (by omega)] at h9
      exact h9
theorem ox_tellsMost' {σ : St} {V : VV} {A s l k : Nat} {P : St → Prop} (hG : GX σ V A) (hok : okS (vn V) s l) (h10 : l ≠ 10) (hT : gA σ 32 (11 * s + l) = nI k) (hx : ∀ k s l, k < 12 → okS (vn V) s l → gA σ 32 (11 * s + l) = nI (k + 1) → l ≠ 10 → ∃ d, d < vn V ∧ mv V A s l d = true ∧ gA σ 32 (11 * (s ||| 2 ^ d) + d) = nI k) (hr : (vrow V).length + k ≤ 12)
    (h : ∀ σ', GX σ' (rowG V (way (mv V A) (vn V) (gT (gA σ 32)) k s l)) A → gA σ' 32 = gA σ 32 → P σ') : wx_tellsMost σ (nI s) (lI l) P := by
  have hb := okS_le hG.1.2.n hok
  refine ⟨s, l, rfl, rfl, by omega, by omega, vp_in_nI (by omega) (by omega), ?_⟩
  rw [cl (by omega), show xA_value σ (11 * s + l) = _ from hT]
  exact ⟨_, telX_k' (V := V) (A := A) (gA σ 32) hx k s l V ⟨vrow V, rfl⟩ hok h10 hT hr σ hG rfl h⟩
