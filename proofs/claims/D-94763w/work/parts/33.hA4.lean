theorem sx_pairsOf_ok {σ : St} {v1 : Int32} {P : Int32 → St → Prop} (h : sx_pairsOf σ v1 P) : wx_pairsOf σ v1 P := by
  obtain ⟨V, d, hI, rfl, hd, h⟩ := h
  exact ⟨_, pairs_loop hI hd h (vn V) 0 (by omega)⟩
theorem bes_loop {σ : St} {V : VV} {d : Nat} {P : Int32 → St → Prop} (hI : IM σ V) (hd : d < vn V) (h : P (nI (besV V d)) σ) : ∀ m i : Nat, i + m = vn V → wm_besides_l4 P (m + 1) (nI d) (nI (bitsOf (fun o => decide (o ≠ d) && pairV V d o) i)) (nI i) σ := by
  have hn := hI.2.n
  have hl := hI.2.la.2.1
  intro m
  induction m with
  | zero =>
    intro i hi
    rw [wm_besides_l4_s, show mI_dishes σ = _ from hI.n, if_pos (by rw [show i = vn V by omega]; exact Int32.le_refl _), show i = vn V by omega]
    exact h
  | succ m ih =>
    intro i hi
    have ih1 := ih (i + 1) (by omega)
    rw [besV_s] at ih1
    rw [wm_besides_l4_s, show mI_dishes σ = _ from hI.n, if_neg (nI_ge (by omega) (by omega))]
    simp only [nI_eq (show i < 2 ^ 31 by omega) (show d < 2 ^ 31 by omega)]
    unfold wm_besides_j37 wm_besides_j38
    rw [nI_1, show (0 : Int32) = nI 0 from rfl, nI_or, Nat.or_zero, nI_shl1 i (by omega), nI_or]
    by_cases q : i = d
    · rw [if_pos q]; rw [decide_eq_false (fun z => z q), Bool.false_and, if_neg (by decide), Nat.or_zero] at ih1; exact ih1
    · rw [if_neg q]; rw [decide_eq_true q, Bool.true_and] at ih1
      refine sharedV hI hd (show i < vn V by omega) ?_
      have hp := pc_le (vst V d &&& vst V i)
      rw [show mI_share σ = _ from hI.l0]
      unfold pairV at ih1
      by_cases q2 : vla V 0 ≤ pc (vst V d &&& vst V i)
      · rw [if_neg (nI_nlt q2 (by omega))]; rw [decide_eq_true q2, if_pos rfl] at ih1; exact ih1
      · rw [if_pos (nI_lt (by omega) (by omega))]; rw [decide_eq_false q2, if_neg (by decide), Nat.or_zero] at ih1; exact ih1
theorem sm_besides_ok {σ : St} {v1 : Int32} {P : Int32 → St → Prop} (h : sm_besides σ v1 P) : wm_besides σ v1 P := by
  obtain ⟨V, d, hI, rfl, hd, h⟩ := h
  exact ⟨_, bes_loop hI hd h (vn V) 0 (by omega)⟩
theorem nI_le0 {a : Nat} (h : a < 2 ^ 31) : nI a ≤ 0 ↔ a = 0 := by rw [lit0', nI_leI h (by omega)]; exact Nat.le_zero
theorem laidV_f {V : VV} {v : Int32} (h : rngB v 3 = false) : laidV V v = false := by unfold laidV; rw [h, Bool.false_and]
theorem laidV_nI {V : VV} {i : Nat} (hi : i < 3) : laidV V (nI i) = decide (0 < (vme V i).length) := by
  unfold laidV; rw [rngB_nI (by omega), decide_eq_true hi, Bool.true_and, cl (by omega)]
theorem sx_isLaid_ok {σ : St} {v1 : Int32} {P : Int32 → St → Prop} (h : sx_isLaid σ v1 P) : wx_isLaid σ v1 P := by
  obtain ⟨V, hI, h⟩ := h
  unfold wx_isLaid sx_isMenu wx_isLaid_j20 wx_isLaid_j21
  cases q : rngB v1 3 with
  | false => rw [jf0]; rw [laidV_f q] at h; exact ⟨rfl, h⟩
  | true =>
    rw [jt0]
    obtain ⟨i, hi, rfl⟩ := rngB_of (by omega) q
    have hm := (hI.2.me i).1
    refine ⟨vp_in_nI hi (by omega), ?_⟩
    rw [cl (by omega), show xA_menuMany σ i = _ from hI.ml hi]
    rw [laidV_nI hi] at h
    simp only [nI_le0 (show (vme V i).length < 2 ^ 31 by omega)]
    by_cases q2 : (vme V i).length = 0
    · rw [if_pos q2]; rw [decide_eq_false (by omega)] at h; exact ⟨rfl, h⟩
    · rw [if_neg q2]; rw [decide_eq_true (by omega)] at h; exact ⟨rfl, h⟩
theorem sm_isMenu_ok {σ : St} {v1 : Int32} {P : Int32 → St → Prop} (h : sm_isMenu σ v1 P) : wm_isMenu σ v1 P := by
  obtain ⟨V, hI, h⟩ := h
  unfold wm_isMenu sm_in wm_isMenu_j22 wm_isMenu_j23
  rw [inM_lit (x := 0) (y := 2) (by decide) (by decide), rngB_lt (n := 3) (by decide)]
  dsimp only
  cases q : rngB v1 3 with
  | false => rw [jf0]; rw [laidV_f q] at h; exact ⟨rfl, h⟩
  | true =>
    rw [jt0]
    obtain ⟨i, hi, rfl⟩ := rngB_of (by omega) q
    have hm := (hI.2.me i).1
    refine ⟨vp_in_nI hi (by omega), ?_⟩
    rw [cl (by omega), show mA_menuLong σ i = _ from hI.ml hi]
    rw [laidV_nI hi] at h
    simp only [nI_le0 (show (vme V i).length < 2 ^ 31 by omega)]
    by_cases q2 : (vme V i).length = 0
    · rw [if_pos q2]; rw [decide_eq_false (by omega)] at h; exact ⟨rfl, h⟩
    · rw [if_neg q2]; rw [decide_eq_true (by omega)] at h; exact ⟨rfl, h⟩
theorem sx_dishAt_ok {σ : St} {v1 v2 : Int32} {P : Int32 → St → Prop} (h : sx_dishAt σ v1 v2 P) : wx_dishAt σ v1 v2 P := by
  obtain ⟨V, i, k, hI, rfl, rfl, hi, hk, h⟩ := h
  have hm := (hI.2.me i).1
  unfold wx_dishAt
  rw [mul10, nI_add]
  refine ⟨vp_in_nI (by omega) (by omega), ?_⟩
  rw [cl (by omega), show xA_menu σ (10 * i + k) = _ from hI.me hi hk]
  exact h
theorem me_lt {V : VV} (h : WV V) {i k : Nat} (hk : k < (vme V i).length) : (vme V i).getD k 0 < vn V ∨ (vme V i).getD k 0 = 99 := (h.me i).2 _ (getD_mem hk)
theorem mem_getD {l : List Nat} {x : Nat} (h : x ∈ l) : ∃ k, k < l.length ∧ l.getD k 0 = x := by
  obtain ⟨k, hk, e⟩ := List.getElem_of_mem h
  exact ⟨k, hk, by rw [getD_get hk]; exact e⟩
theorem wholeV_nI {V : VV} {i : Nat} (hi : i < 3) (hl : laidV V (nI i) = true) : wholeV V (nI i) = decide (99 ∉ vme V i) := by
  unfold wholeV; rw [hl, Bool.true_and, cl (by omega)]
theorem whole_loop {σ : St} {V : VV} {i : Nat} {P : Int32 → St → Prop} (hI : IX σ V) (hi : i < 3) (h : P (j01 (decide (99 ∉ vme V i))) σ) : ∀ m k : Nat, k + m = (vme V i).length → (∀ j, j < k → (vme V i).getD j 0 ≠ 99) → wx_isWhole_l12 P (m + 1) (nI i) (nI k) σ := by
  have hn := hI.2.n
  have hm := (hI.2.me i).1
  intro m
  induction m with
  | zero =>
    intro k hk hj
    rw [wx_isWhole_l12_s]
    refine ⟨vp_in_nI hi (by omega), ?_⟩
    rw [cl (by omega), show xA_menuMany σ i = _ from hI.ml hi, if_pos (by rw [show k = (vme V i).length by omega]; exact Int32.le_refl _)]
    have q : 99 ∉ vme V i := fun z => by
      obtain ⟨j, hj1, hj2⟩ := mem_getD z
      exact hj j (by omega) hj2
    rw [decide_eq_true q] at h
    exact h
  | succ m ih =>
    intro k hk hj
    rw [wx_isWhole_l12_s]
    refine ⟨vp_in_nI hi (by omega), ?_⟩
    rw [cl (by omega), show xA_menuMany σ i = _ from hI.ml hi, if_neg (nI_ge (by omega) (by omega))]
    refine ⟨V, i, k, hI, rfl, rfl, hi, by omega, ?_⟩
    dsimp only
    have hb := me_lt hI.2 (i := i) (k := k) (by omega)
    rw [show (99 : Int32) = nI 99 from rfl]
    simp only [nI_eq (show (vme V i).getD k 0 < 2 ^ 31 by omega) (show 99 < 2 ^ 31 by omega)]
    by_cases q : (vme V i).getD k 0 = 99
    · rw [if_pos q]
      have q2 : ¬ 99 ∉ vme V i := fun z => z (by rw [← q]; exact getD_mem (by omega))
      rw [decide_eq_false q2] at h
      exact h
    · rw [if_neg q, nI_1]
      exact ih (k + 1) (by omega) fun j hj2 => by
        rcases Nat.lt_or_ge j k with q3 | q3
        · exact hj j q3
        · rw [show j = k by omega]; exact q
theorem sx_isWhole_ok {σ : St} {v1 : Int32} {P : Int32 → St → Prop} (h : sx_isWhole σ v1 P) : wx_isWhole σ v1 P := by
  obtain ⟨V, hI, h⟩ := h
  refine ⟨V, hI, ?_⟩
  dsimp only
  cases q : laidV V v1 with
  | false => rw [jf0]; unfold wholeV at h; rw [q, Bool.false_and] at h; exact h
  | true =>
    rw [jt0]
    have q2 := q
    unfold laidV at q2
    rw [Bool.and_eq_true] at q2
    obtain ⟨i, hi, rfl⟩ := rngB_of (by omega) q2.1
    rw [wholeV_nI hi q] at h
    exact ⟨_, whole_loop hI hi h (vme V i).length 0 (by omega) fun j hj => absurd hj (by omega)⟩
theorem wholeM_loop {σ : St} {V : VV} {i : Nat} {P : Int32 → St → Prop} (hI : IM σ V) (hi : i < 3) (h : P (j01 (decide (99 ∉ vme V i))) σ) : ∀ m k : Nat, k + m = (vme V i).length → (∀ j, j < k → (vme V i).getD j 0 ≠ 99) → wm_isWhole_l12 P (m + 1) (nI i) (nI k) σ := by
  have hn := hI.2.n
  have hm := (hI.2.me i).1
  intro m
  induction m with
  | zero =>
    intro k hk hj
    rw [wm_isWhole_l12_s]
    refine ⟨vp_in_nI hi (by omega), ?_⟩
    rw [cl (by omega), show mA_menuLong σ i = _ from hI.ml hi, if_pos (by rw [show k = (vme V i).length by omega]; exact Int32.le_refl _)]
    have q : 99 ∉ vme V i := fun z => by
      obtain ⟨j, hj1, hj2⟩ := mem_getD z
      exact hj j (by omega) hj2
    rw [decide_eq_true q] at h
    exact h
  | succ m ih =>
    intro k hk hj
    rw [wm_isWhole_l12_s]
    refine ⟨vp_in_nI hi (by omega), ?_⟩
    rw [cl (by omega), show mA_menuLong σ i = _ from hI.ml hi, if_neg (nI_ge (by omega) (by omega)), mul10, nI_add]
    refine ⟨vp_in_nI (by omega) (by omega), ?_⟩
    have hb := me_lt hI.2 (i := i) (k := k) (by omega)
    rw [cl (by omega), show mA_menus σ (10 * i + k) = _ from hI.me hi (by omega), show (99 : Int32) = nI 99 from rfl]
    simp only [nI_eq (show (vme V i).getD k 0 < 2 ^ 31 by omega) (show 99 < 2 ^ 31 by omega)]
    by_cases q : (vme V i).getD k 0 = 99
    · rw [if_pos q]
      have q2 : ¬ 99 ∉ vme V i := fun z => z (by rw [← q]; exact getD_mem (by omega))
      rw [decide_eq_false q2] at h
      exact h
    · rw [if_neg q, nI_1]
      exact ih (k + 1) (by omega) fun j hj2 => by
        rcases Nat.lt_or_ge j k with q3 | q3
        · exact hj j q3
        · rw [show j = k by omega]; exact q
theorem sm_isWhole_ok {σ : St} {v1 : Int32} {P : Int32 → St → Prop} (h : sm_isWhole σ v1 P) : wm_isWhole σ v1 P := by
  obtain ⟨V, hI, h⟩ := h
  refine ⟨V, hI, ?_⟩
  dsimp only
  cases q : laidV V v1 with
  | false => rw [jf0]; unfold wholeV at h; rw [q, Bool.false_and] at h; exact h
  | true =>
    rw [jt0]
    have q2 := q
    unfold laidV at q2
    rw [Bool.and_eq_true] at q2
    obtain ⟨i, hi, rfl⟩ := rngB_of (by omega) q2.1
    rw [wholeV_nI hi q] at h
    exact ⟨_, wholeM_loop hI hi h (vme V i).length 0 (by omega) fun j hj => absurd hj (by omega)⟩
/-! the model's refusal -/
theorem hot_loop {σ : St} {V : VV} {s : Nat} {P : Int32 → St → Prop} (hI : IM σ V) (hs : s < 2 ^ vn V) (h : P (j01 (decide (s &&& vh V ≠ 0))) σ) : ∀ m i : Nat, i + m = vn V + 1 → (∀ j, j < i → (s &&& vh V).testBit j = false) → wm_hasHot_l2 P (m + 1) (nI s) (nI i) σ := by
  have hn := hI.2.n
  have hp := pow_le_1024 hn
  intro m
  induction m with
  | zero =>
    intro i hi hj
    rw [wm_hasHot_l2_s, show mI_dishes σ = _ from hI.n, if_pos (nI_lt (by omega) (by omega))]
    have q : ¬ s &&& vh V ≠ 0 := fun z => z (tb_ext fun j => by
      rw [Nat.zero_testBit]
      rcases Nat.lt_or_ge j i with q | q
      · exact hj j q
      · exact tb_lt (n := vn V) (Nat.lt_of_le_of_lt Nat.and_le_left hs) (by omega))
    rw [decide_eq_false q] at h
    exact h
  | succ m ih =>
    intro i hi hj
    rw [wm_hasHot_l2_s, show mI_dishes σ = _ from hI.n, if_neg (nI_nlt (by omega) (by omega))]
    unfold sm_has wm_hasHot_j29
    rw [hasB_nI (by omega) (by omega)]
    dsimp only
    rw [nI_1]
    have go : (s &&& vh V).testBit i = false → wm_hasHot_l2 P (m + 1) (nI s) (nI (i + 1)) σ := fun z => ih (i + 1) (by omega) fun j hj2 => by
      rcases Nat.lt_or_ge j i with q | q
      · exact hj j q
      · rw [show j = i by omega]; exact z
    cases q : s.testBit i with
    | false => rw [jf0]; exact go (by rw [Nat.testBit_and, q, Bool.false_and])
    | true =>
      rw [jt0]
      have hin : i < vn V := by
        rcases Nat.lt_or_ge i (vn V) with q2 | q2
        · exact q2
        · rw [tb_lt hs q2] at q; exact absurd q (by decide)
      refine ⟨vp_in_nI (by omega) (by omega), ?_⟩
      rw [cl (by omega), show mA_isHot σ i = _ from hI.hot hin]
      unfold hotV
      cases q2 : (vh V).testBit i with
      | false => rw [jf0]; exact go (by rw [Nat.testBit_and, q2, Bool.and_false])
      | true =>
        rw [jt0]
        have q3 : s &&& vh V ≠ 0 := fun z => by
          have := congrArg (fun x => x.testBit i) z
          simp only [Nat.testBit_and, q, q2, Nat.zero_testBit] at this
          exact absurd this (by decide)
        rw [decide_eq_true q3] at h
        exact h
theorem sm_hasHot_ok {σ : St} {v1 : Int32} {P : Int32 → St → Prop} (h : sm_hasHot σ v1 P) : wm_hasHot σ v1 P := by
  obtain ⟨V, s, hI, rfl, hs, h⟩ := h
  exact ⟨_, hot_loop hI hs h (vn V + 1) 0 (by omega) fun j hj => absurd hj (by omega)⟩
/-- a dish more counts once -/
theorem many_or {V : VV} {s d : Nat} (k : Nat) (h : s.testBit d = false) (hd : d < vn V) : manyV V (s ||| 2 ^ d) k = manyV V s k + (if (vst V d).testBit k = true then 1 else 0) := by
  unfold manyV
  have key : ∀ n, cnt (fun o => (s ||| 2 ^ d).testBit o && (vst V o).testBit k) n = cnt (fun o => s.testBit o && (vst V o).testBit k) n + (if d < n ∧ (vst V d).testBit k = true then 1 else 0) := by
    intro n
    induction n with
    | zero => rfl
    | succ n ih =>
      unfold cnt
      rw [ih, tb_or2]
      by_cases e : n = d
      · subst e
        simp [h]
      · have e2 : (d < n + 1 ∧ (vst V d).testBit k = true) ↔ (d < n ∧ (vst V d).testBit k = true) := ⟨fun z => ⟨by omega, z.2⟩, fun z => ⟨by omega, z.2⟩⟩
        simp only [decide_eq_false e, Bool.or_false, e2]
        omega
  rw [key (vn V)]
  by_cases q : (vst V d).testBit k = true
  · rw [if_pos q, if_pos ⟨hd, q⟩]
  · rw [if_neg q, if_neg (fun z => q z.2)]
theorem fits_inner {σ : St} {V : VV} {s d k a : Nat} {v3 : Int32} {P : Int32 → St → Prop} {K : Int32 → Int32 → Int32 → Int32 → Int32 → Int32 → St → Prop} (hI : IM σ V) (hs : s < 2 ^ vn V) (hk : k < 8) (ha : a ≤ 1) (hv : v3 = 0 ∨ v3 = 1)
    (h : K (nI s) (nI d) v3 (nI k) (nI (a + manyV V s k)) (if v3 = 0 then nI (vla V 1) else nI (vsto V k)) σ) : ∀ m i : Nat, i + m = vn V + 1 → wm_fits_l34 P K (m + 1) (nI s) (nI d) v3 (nI k) (nI (a + cnt (fun o => s.testBit o && (vst V o).testBit k) (min i (vn V)))) (nI i) σ := by
  have hn := hI.2.n
  have hp := pow_le_1024 hn
  intro m
  induction m with
  | zero =>
    intro i hi
    rw [wm_fits_l34_s, show mI_dishes σ = _ from hI.n, if_pos (nI_lt (by omega) (by omega)), Nat.min_eq_right (by omega), show mI_times σ = _ from hI.l1]
    rcases hv with rfl | rfl
    · rw [if_pos rfl]; rw [if_pos rfl] at h; exact h
    · rw [if_neg (by decide)]; rw [if_neg (by decide)] at h
      refine ⟨vp_in_nI hk (by omega), ?_⟩
      rw [cl (by omega), show mA_store σ k = _ from hI.sto hk]
      exact h
  | succ m ih =>
    intro i hi
    have ih1 := ih (i + 1) (by omega)
    rw [wm_fits_l34_s, show mI_dishes σ = _ from hI.n, if_neg (nI_nlt (by omega) (by omega))]
    unfold sm_has wm_fits_j73 wm_fits_j74
    rw [hasB_nI (by omega) (by omega)]
    dsimp only
    rw [nI_1, lit0', nI_add, nI_1, ← lit0']
    rcases Nat.lt_or_ge i (vn V) with hin | hin
    · rw [Nat.min_eq_left (show i + 1 ≤ vn V by omega), show cnt (fun o => s.testBit o && (vst V o).testBit k) (i + 1) = cnt (fun o => s.testBit o && (vst V o).testBit k) i + (if (s.testBit i && (vst V i).testBit k) = true then 1 else 0) from rfl] at ih1
      rw [Nat.min_eq_left (show i ≤ vn V by omega)]
      have hd := hI.2.d hin
      cases q : s.testBit i with
      | false => rw [jf0]; rw [q, Bool.false_and, if_neg (by decide)] at ih1; exact ih1
      | true =>
        rw [jt0]; rw [q, Bool.true_and] at ih1
        refine ⟨vp_in_nI (by omega) (by omega), ?_⟩
        rw [cl (by omega), show mA_stuffs σ i = _ from hI.st hin, hasB_nI (by omega) (by omega)]
        cases q2 : (vst V i).testBit k with
        | false => rw [jf0]; rw [q2, if_neg (by decide)] at ih1; exact ih1
        | true => rw [jt0]; rw [q2, if_pos rfl] at ih1; rw [← Nat.add_assoc] at ih1; exact ih1
    · rw [Nat.min_eq_right (show vn V ≤ i + 1 by omega)] at ih1
      rw [Nat.min_eq_right hin, tb_lt hs hin, jf0]
      exact ih1
theorem fits_loop {σ : St} {V : VV} {s d : Nat} {v3 : Int32} {P : Int32 → St → Prop} (hI : IM σ V) (hs : s < 2 ^ vn V) (hd : d < vn V) (hb : s.testBit d = false) (hv : v3 = 0 ∨ v3 = 1)
    (h : P (j01 (alB (fun k => decide (manyV V (s ||| 2 ^ d) k ≤ if v3 = 0 then vla V 1 else vsto V k)) 8)) σ) : ∀ m k : Nat, k + m = 8 → (∀ j, j < k → manyV V (s ||| 2 ^ d) j ≤ if v3 = 0 then vla V 1 else vsto V j) → wm_fits_l3 P (m + 1) (nI s) (nI d) v3 (nI k) σ := by
  have hn := hI.2.n
  have hl := hI.2.la.2.2.2.1
  have h1 := hI.2.d hd
  intro m
  induction m with
  | zero =>
    intro k hk hj
    rw [wm_fits_l3_s, show k = 8 by omega, if_pos (by decide)]
    rw [alB_iff.mpr fun j hj2 => decide_eq_true (hj j (by omega))] at h
    exact h
  | succ m ih =>
    intro k hk hj
    have b1 := many_or (V := V) k hb hd
    have b2 := many_le V s k
    have b3 := hI.2.sto (s := k) (by omega)
    rw [wm_fits_l3_s, k8, if_neg (nI_ge (by omega) (by omega))]
    refine ⟨vp_in_nI (by omega) (by omega), ?_⟩
    rw [cl (by omega), show mA_stuffs σ d = _ from hI.st hd]
    unfold sm_has
    rw [hasB_nI (by omega) (by omega)]
    dsimp only
    have go : ∀ a, a ≤ 1 → a + manyV V s k = manyV V (s ||| 2 ^ d) k → wm_fits_j29 P (wm_fits_l3 P (m + 1)) (nI s) (nI d) v3 (nI k) (nI a) σ := by
      intro a ha ea
      refine ⟨_, fits_inner (a := a) hI hs (by omega) ha hv ?_ (vn V + 1) 0 (by omega)⟩
      rw [ea]
      unfold wm_fits_j103
      have e3 : (if v3 = 0 then nI (vla V 1) else nI (vsto V k)) = nI (if v3 = 0 then vla V 1 else vsto V k) := by split <;> rfl
      rw [e3, nI_1]
      have b4 : (if v3 = 0 then vla V 1 else vsto V k) < 2 ^ 31 := by split <;> omega
      by_cases q : manyV V (s ||| 2 ^ d) k ≤ if v3 = 0 then vla V 1 else vsto V k
      · rw [if_pos (nI_le q b4)]
        exact ih (k + 1) (by omega) fun j hj2 => by
          rcases Nat.lt_or_ge j k with q3 | q3
          · exact hj j q3
          · rw [show j = k by omega]; exact q
      · rw [if_neg (nI_ge (Nat.lt_of_not_le q) (by omega))]
        have e : alB (fun k => decide (manyV V (s ||| 2 ^ d) k ≤ if v3 = 0 then vla V 1 else vsto V k)) 8 = false := by
          cases q3 : alB (fun k => decide (manyV V (s ||| 2 ^ d) k ≤ if v3 = 0 then vla V 1 else vsto V k)) 8 with
          | false => rfl
          | true => exact absurd (of_decide_eq_true (alB_iff.mp q3 k (by omega))) q
        rw [e] at h
        exact h
    cases q : (vst V d).testBit k with
    | false => rw [jf0]; rw [q, if_neg (by decide)] at b1; exact go 0 (by omega) (by omega)
    | true => rw [jt0]; rw [q, if_pos rfl] at b1; exact go 1 (by omega) (by omega)
theorem sm_fits_ok {σ : St} {v1 v2 v3 : Int32} {P : Int32 → St → Prop} (h : sm_fits σ v1 v2 v3 P) : wm_fits σ v1 v2 v3 P := by
  obtain ⟨V, s, d, hI, rfl, rfl, hs, hd, hb, h⟩ := h
  rcases h with ⟨rfl, h⟩ | ⟨rfl, h⟩
  · exact ⟨_, fits_loop hI hs hd hb (Or.inl rfl) (by simp only [if_pos (show (0 : Int32) = 0 from rfl)]; exact h) 8 0 (by omega) fun j hj => absurd hj (by omega)⟩
  · exact ⟨_, fits_loop hI hs hd hb (Or.inr rfl) (by simp only [show ¬ (1 : Int32) = 0 by decide, if_false]; exact h) 8 0 (by omega) fun j hj => absurd hj (by omega)⟩
def xhot (σ : St) (V : VV) : Prop := ∀ e, e < vn V → gA σ 4 e = j01 (hotV V e)
theorem sm_refusal_ok {σ : St} {v1 v2 v3 : Int32} {P : Int32 → St → Prop} (h : sm_refusal σ v1 v2 v3 P) : wm_refusal σ v1 v2 v3 P := by
  obtain ⟨V, s, l, d, hI, rfl, rfl, rfl, hs, hl, hd, h⟩ := h
  have hn := hI.2.n
  have hp := pow_le_1024 hn
  have hl10 : l ≤ 10 := by omega
  have b2 : vla V 2 ≤ 2 := hI.2.la.2.2.2.2
  have b0 : vla V 0 ≤ 8 := hI.2.la.2.1
  unfold wm_refusal sm_has
  rw [hasB_nI (by omega) (by omega)]
  dsimp only
  unfold whyV at h
  cases hb : s.testBit d with
  | true => rw [jt0]; rw [if_pos hb] at h; exact h
  | false =>
    rw [jf0]; rw [if_neg (by rw [hb]; decide)] at h
    have step3 : (¬ (timesV V (s ||| 2 ^ d) = false) → storeV V (s ||| 2 ^ d) = true → P 0 σ) → (¬ (timesV V (s ||| 2 ^ d) = false) → ¬ storeV V (s ||| 2 ^ d) = true → P (-6) σ) → (timesV V (s ||| 2 ^ d) = false → P (-5) σ) → wm_refusal_j91 P (nI s) (nI d) σ := by
      intro a1 a2 a3
      unfold wm_refusal_j91 wm_refusal_j120
      refine ⟨V, s, d, hI, rfl, rfl, hs, hd, hb, Or.inl ⟨rfl, ?_⟩⟩
      cases q : timesV V (s ||| 2 ^ d) with
      | false => rw [jf0]; exact a3 q
      | true =>
        rw [jt0]
        refine ⟨V, s, d, hI, rfl, rfl, hs, hd, hb, Or.inr ⟨rfl, ?_⟩⟩
        cases q2 : storeV V (s ||| 2 ^ d) with
        | false => rw [jf0]; exact a2 (by rw [q]; decide) (by rw [q2]; decide)
        | true => rw [jt0]; exact a1 (by rw [q]; decide) q2
    have h0 : xhot σ V → (l ≠ 10 ∧ warmV V s l d = false → P (-4) σ) → (¬ (l ≠ 10 ∧ warmV V s l d = false) → wm_refusal_j91 P (nI s) (nI d) σ) → wm_refusal_j32 P (nI s) (lI l) (nI d) σ := by
      intro hx a1 a2
      unfold wm_refusal_j32 wm_refusal_j60
      rw [show mI_heat σ = _ from hI.l2, show (2 : Int32) = nI 2 from rfl]
      simp only [nI_eq1 (show vla V 2 < 2 ^ 31 by omega), nI_eq (show vla V 2 < 2 ^ 31 by omega) (show 2 < 2 ^ 31 by omega), lI_m1 hl10]
      unfold warmV at a1 a2
      by_cases q : vla V 2 = 1
      · rw [if_pos q]
        simp only [if_pos q] at a1 a2
        refine ⟨vp_in_nI (by omega) (by omega), ?_⟩
        rw [cl (by omega), show mA_isHot σ d = _ from hx d hd]
        have n2 : ¬ vla V 2 = 2 := by omega
        cases q2 : hotV V d with
        | true =>
          rw [jt0, if_neg n2]
          exact a2 (by rw [q2, Bool.true_or]; exact fun z => absurd z.2 (by decide))
        | false =>
          rw [jf0]
          refine ⟨V, s, hI, rfl, hs, ?_⟩
          dsimp only
          rw [show mI_heat σ = _ from hI.l2]
          simp only [nI_eq (show vla V 2 < 2 ^ 31 by omega) (show 2 < 2 ^ 31 by omega)]
          simp only [q2, Bool.false_or] at a1 a2
          by_cases q3 : s &&& vh V = 0
          · rw [decide_eq_false (fun z => z q3), jf0, if_neg n2]
            exact a2 (by rw [decide_eq_true q3]; exact fun z => absurd z.2 (by decide))
          · rw [decide_eq_true q3, jt0]
            refine a1 ⟨?_, decide_eq_false q3⟩
            intro z
            rcases hl with z2 | ⟨_, z2⟩
            · omega
            · exact q3 (by rw [z2, Nat.zero_and])
      · rw [if_neg q]
        simp only [if_neg q] at a1 a2
        by_cases q2 : vla V 2 = 2
        · rw [if_pos q2]
          rw [decide_eq_false (show ¬ vla V 2 = 0 by omega), Bool.false_or] at a1 a2
          by_cases q3 : l = 10
          · rw [if_pos q3]; exact a2 fun z => z.1 q3
          · rw [if_neg q3, lI_l q3]
            have hln : l < vn V := by omega
            refine ⟨vp_in_nI (by omega) (by omega), vp_in_nI (by omega) (by omega), ?_⟩
            rw [cl (by omega), cl (by omega), show mA_isHot σ l = _ from hx l hln, show mA_isHot σ d = _ from hx d hd]
            simp only [j01_inj]
            by_cases q4 : hotV V l = hotV V d
            · rw [if_pos q4]; exact a1 ⟨q3, by rw [q4]; simp⟩
            · rw [if_neg q4]
              refine a2 fun z => ?_
              have := z.2
              simp at this
              exact q4 this
        · rw [if_neg q2]
          refine a2 fun z => ?_
          have z2 := z.2
          rw [decide_eq_true (show vla V 2 = 0 by omega), Bool.true_or] at z2
          exact absurd z2 (by decide)
    have hx : xhot σ V := fun e he => hI.hot he
    simp only [lI_m1 hl10]
    by_cases q : l = 10
    · rw [if_pos q]
      have n1 : ¬ (l ≠ 10 ∧ pairV V l d = false) := fun z => z.1 q
      have n2 : ¬ (l ≠ 10 ∧ warmV V s l d = false) := fun z => z.1 q
      rw [if_neg n1, if_neg n2] at h
      refine h0 hx (fun z => absurd z n2) fun _ => step3 (fun a b => ?_) (fun a b => ?_) (fun a => ?_)
      · rw [if_neg a, if_pos b] at h; exact h
      · rw [if_neg a, if_neg b] at h; exact h
      · rw [if_pos a] at h; exact h
    · rw [if_neg q, lI_l q]
      have hln : l < vn V := by omega
      refine sharedV hI hln hd ?_
      have hpc := pc_le (vst V l &&& vst V d)
      rw [show mI_share σ = _ from hI.l0, ← lI_l q]
      by_cases hp1 : vla V 0 ≤ pc (vst V l &&& vst V d)
      · rw [if_pos (nI_le hp1 (by omega))]
        have e1 : pairV V l d = true := decide_eq_true hp1
        rw [if_neg (fun z => by rw [e1] at z; exact absurd z.2 (by decide))] at h
        refine h0 hx (fun z => ?_) fun z => step3 (fun a b => ?_) (fun a b => ?_) (fun a => ?_)
        · rw [if_pos z] at h; exact h
        · rw [if_neg z, if_neg a, if_pos b] at h; exact h
        · rw [if_neg z, if_neg a, if_neg b] at h; exact h
        · rw [if_neg z, if_pos a] at h; exact h
      · rw [if_neg (nI_ge (by omega) (by omega))]
        rw [if_pos ⟨q, decide_eq_false hp1⟩] at h
        exact h
theorem whyV_0 (V : VV) (s l d : Nat) : mayV V s l d = true ↔ whyV V s l d = 0 := by unfold mayV; exact decide_eq_true_iff
theorem sm_may_ok {σ : St} {v1 v2 v3 : Int32} {P : Int32 → St → Prop} (h : sm_may σ v1 v2 v3 P) : wm_may σ v1 v2 v3 P := by
  obtain ⟨V, s, l, d, hI, h1, h2, h3, hs, hl, hd, h⟩ := h
  refine ⟨V, s, l, d, hI, h1, h2, h3, hs, hl, hd, ?_⟩
  dsimp only
  unfold wm_may_j15
  unfold mayV at h
  by_cases q : whyV V s l d = 0
  · rw [if_pos q]; rw [decide_eq_true q] at h; exact ⟨rfl, h⟩
  · rw [if_neg q]; rw [decide_eq_false q] at h; exact ⟨rfl, h⟩
