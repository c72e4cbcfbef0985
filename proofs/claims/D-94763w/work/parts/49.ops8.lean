/-! hearths -/
theorem whole_lt {V : VV} (h : WV V) {i : Nat} (h99 : ∀ k, k < (vme V i).length → (vme V i).getD k 0 ≠ 99) {k : Nat} (hk : k < (vme V i).length) : (vme V i).getD k 0 < vn V := (me_lt h hk).resolve_right (h99 k hk)
def hoA (V : VV) (i k : Nat) : Nat := vho V ((vme V i).getD k 0)
def heC (V : VV) (i hour k : Nat) : Bool := decide (10 + k - hoA V i k ≤ hour) && decide (hour < 10 + k)
def heN (V : VV) (i hour : Nat) : Nat := cnt (heC V i hour) (vme V i).length
def heR (V : VV) (i k : Nat) : List Int32 := (List.range k).map fun j => nI (10 + j - hoA V i j)
def R_hearths (V : VV) (v : Int32) : Int32 := if wholeV V v = true then nI (maxN (heN V v.toNatClampNeg) 20) else -3
def S_hearths (V : VV) (v : Int32) : VV := if wholeV V v = true then vSRow V (heR V v.toNatClampNeg (vme V v.toNatClampNeg).length) else V
theorem heR_s (V : VV) (i k : Nat) : heR V i (k + 1) = heR V i k ++ [nI (10 + k - hoA V i k)] := by
  unfold heR; rw [List.range_succ, List.map_append]; rfl
theorem heR_len (V : VV) (i k : Nat) : (heR V i k).length = k := by unfold heR; rw [List.length_map, List.length_range]
theorem cnt_s (p : Nat → Bool) (k : Nat) : cnt p (k + 1) = cnt p k + (if p k = true then 1 else 0) := rfl
theorem maxN_s (f : Nat → Nat) (k : Nat) : maxN f (k + 1) = max (maxN f k) (f k) := rfl
theorem heN_le {V : VV} (h : WV V) (i hour : Nat) : heN V i hour ≤ 10 := Nat.le_trans (cnt_le _ _) (h.me i).1
theorem heX_in {V : VV} {i t : Nat} {mo : Int32} {P : Int32 → St → Prop} {K : Int32 → Int32 → Int32 → St → Prop} {σ : St} (hI : IX σ V) (hi : i < 3) (h99 : ∀ k, k < (vme V i).length → (vme V i).getD k 0 ≠ 99) (ht : t < 20)
    (h : K (nI i) (jmax mo (nI (heN V i t))) (nI (t + 1)) σ) : ∀ m k : Nat, k + m = (vme V i).length → wx_hearths_l27 P K (m + 1) (nI i) mo (nI t) (nI (cnt (heC V i t) k)) (nI k) σ := by
  have hn := hI.2.n
  have hm := (hI.2.me i).1
  intro m
  induction m with
  | zero =>
    intro k hk
    rw [wx_hearths_l27_s]
    refine ⟨vp_in_nI hi (by omega), ?_⟩
    rw [cl (by omega), show xA_menuMany σ i = _ from hI.ml hi, if_pos (by rw [show k = (vme V i).length by omega]; exact Int32.le_refl _), nI_1, show k = (vme V i).length by omega]
    exact h
  | succ m ih =>
    intro k hk
    have ih1 := ih (k + 1) (by omega)
    rw [cnt_s] at ih1
    have hlt := whole_lt hI.2 h99 (k := k) (by omega)
    have hho := hI.2.d hlt
    rw [wx_hearths_l27_s]
    refine ⟨vp_in_nI hi (by omega), ?_⟩
    rw [cl (by omega), show xA_menuMany σ i = _ from hI.ml hi, if_neg (nI_ge (by omega) (by omega))]
    refine ⟨V, i, k, hI, rfl, rfl, hi, by omega, ?_⟩
    dsimp only
    refine ⟨vp_in_nI (by omega) (by omega), ?_⟩
    unfold wx_hearths_j75 wx_hearths_j76
    rw [cl (by omega), show xA_hours σ ((vme V i).getD k 0) = nI (hoA V i k) from hI.ho hlt, show (10 : Int32) = nI 10 from rfl, nI_add, pk_sub (show hoA V i k ≤ 10 + k by unfold hoA; omega), lit0', nI_add, Nat.add_zero, nI_1, nI_1]
    simp only [nI_ltI (show t < 2 ^ 31 by omega) (show 10 + k - hoA V i k < 2 ^ 31 by omega), nI_leI (show 10 + k < 2 ^ 31 by omega) (show t < 2 ^ 31 by omega)]
    unfold heC at ih1 ⊢
    by_cases q : t < 10 + k - hoA V i k
    · rw [if_pos q]; rw [decide_eq_false (show ¬ 10 + k - hoA V i k ≤ t by omega), Bool.false_and, if_neg (by decide), Nat.add_zero] at ih1; exact ih1
    · rw [if_neg q]; rw [decide_eq_true (show 10 + k - hoA V i k ≤ t by omega), Bool.true_and] at ih1
      by_cases q2 : 10 + k ≤ t
      · rw [if_pos q2]; rw [decide_eq_false (show ¬ t < 10 + k by omega), if_neg (by decide), Nat.add_zero] at ih1; exact ih1
      · rw [if_neg q2]; rw [decide_eq_true (show t < 10 + k by omega), if_pos rfl] at ih1; exact ih1
theorem heX_row {V : VV} {i : Nat} {r : Int32} {P : Int32 → St → Prop} (hw : WV V) (hi : i < 3) (h99 : ∀ k, k < (vme V i).length → (vme V i).getD k 0 ≠ 99) (h : ∀ σ', IX σ' (vSRow V (heR V i (vme V i).length)) → P r σ') :
    ∀ m k : Nat, k + m = (vme V i).length → ∀ σ, IX σ (vSRow V (heR V i k)) → wx_hearths_l105 P (m + 1) (nI i) r (nI k) σ := by
  have hn := hw.n
  have hm := (hw.me i).1
  intro m
  induction m with
  | zero =>
    intro k hk σ hI
    rw [wx_hearths_l105_s]
    refine ⟨vp_in_nI hi (by omega), ?_⟩
    rw [cl (by omega), show xA_menuMany σ i = nI (vme V i).length from hI.ml hi, if_pos (by rw [show k = (vme V i).length by omega]; exact Int32.le_refl _)]
    rw [show k = (vme V i).length by omega] at hI
    exact h σ hI
  | succ m ih =>
    intro k hk σ hI
    have ih1 := ih (k + 1) (by omega)
    rw [heR_s] at ih1
    have hlt := whole_lt hw h99 (k := k) (by omega)
    have hho := hw.d hlt
    rw [wx_hearths_l105_s]
    refine ⟨vp_in_nI hi (by omega), ?_⟩
    rw [cl (by omega), show xA_menuMany σ i = nI (vme V i).length from hI.ml hi, if_neg (nI_ge (by omega) (by omega))]
    refine ⟨_, i, k, hI, rfl, rfl, hi, by show k < (vme V i).length; omega, ?_⟩
    dsimp only
    refine ⟨vp_in_nI (by show (vme V i).getD k 0 < 10; omega) (by omega), ?_⟩
    rw [show xA_hours σ (nI ((vme (vSRow V (heR V i k)) i).getD k 0)).toNatClampNeg = nI (hoA V i k) from by rw [cl (by show (vme V i).getD k 0 < _; omega)]; exact hI.ho hlt, show (10 : Int32) = nI 10 from rfl, nI_add, pk_sub (show hoA V i k ≤ 10 + k by unfold hoA; omega)]
    refine ⟨_, hI, by show (heR V i k).length < 12; rw [heR_len]; omega, fun σ' h' _ _ => ?_⟩
    rw [nI_1]
    exact ih1 σ' h'
theorem heX_loop {V : VV} {i : Nat} {P : Int32 → St → Prop} {K : Int32 → Int32 → Int32 → St → Prop} {σ : St} (hI : IX σ V) (hi : i < 3) (h99 : ∀ k, k < (vme V i).length → (vme V i).getD k 0 ≠ 99)
    (h : K (nI i) (nI (maxN (heN V i) 20)) 0 (xS_rowMany σ 0)) : ∀ m t : Nat, t + m = 20 → wx_hearths_l15 P K (m + 1) (nI i) (nI (maxN (heN V i) t)) (nI t) σ := by
  intro m
  induction m with
  | zero => intro t ht; rw [wx_hearths_l15_s, show t = 20 by omega, if_pos (by decide)]; exact h
  | succ m ih =>
    intro t ht
    have ih1 := ih (t + 1) (by omega)
    rw [maxN_s] at ih1
    rw [wx_hearths_l15_s, show (20 : Int32) = nI 20 from rfl, if_neg (nI_ge (by omega) (by omega))]
    refine ⟨_, heX_in hI hi h99 (by omega) ?_ (vme V i).length 0 (by omega)⟩
    have b1 := maxN_le (f := heN V i) (b := 10) t fun k _ => heN_le hI.2 i k
    have b2 := heN_le hI.2 i t
    rw [jmax_nI (by omega) (by omega)]
    exact ih1
theorem ox_hearths {σ : St} {V : VV} {P : Int32 → St → Prop} (hI : IX σ V) (v : Int32) (h : ∀ σ', IX σ' (S_hearths V v) → P (R_hearths V v) σ') : wx_hearths σ v P := by
  refine ⟨V, hI, ?_⟩
  dsimp only
  unfold R_hearths S_hearths at h
  cases q : wholeV V v with
  | false => rw [jf0]; rw [q, if_neg (by decide), if_neg (by decide)] at h; exact h σ hI
  | true =>
    rw [jt0]; rw [q, if_pos rfl, if_pos rfl] at h
    obtain ⟨i, hi, rfl, hl, h99⟩ := wholeV_of q
    rw [cl (by omega)] at h
    exact ⟨_, heX_loop hI hi h99 ⟨_, heX_row hI.2 hi h99 h (vme V i).length 0 (by omega) _ hI.row0⟩ 20 0 (by omega)⟩
theorem heM_in {V : VV} {i t : Nat} {mo : Int32} {P : Int32 → St → Prop} {K : Int32 → Int32 → Int32 → St → Prop} {σ : St} (hI : IM σ V) (hi : i < 3) (h99 : ∀ k, k < (vme V i).length → (vme V i).getD k 0 ≠ 99) (ht : t < 20)
    (h : K (nI i) (jmax mo (nI (heN V i t))) (nI (t + 1)) σ) : ∀ m k : Nat, k + m = (vme V i).length → wm_hearths_l32 P K (m + 1) (nI i) mo (nI t) (nI (cnt (heC V i t) k)) (nI k) σ := by
  have hn := hI.2.n
  have hm := (hI.2.me i).1
  intro m
  induction m with
  | zero =>
    intro k hk
    rw [wm_hearths_l32_s]
    refine ⟨vp_in_nI hi (by omega), ?_⟩
    rw [cl (by omega), show mA_menuLong σ i = _ from hI.ml hi, if_pos (by rw [show k = (vme V i).length by omega]; exact Int32.le_refl _), nI_1, show k = (vme V i).length by omega]
    exact h
  | succ m ih =>
    intro k hk
    have ih1 := ih (k + 1) (by omega)
    rw [cnt_s] at ih1
    have hlt := whole_lt hI.2 h99 (k := k) (by omega)
    have hho := hI.2.d hlt
    rw [wm_hearths_l32_s]
    refine ⟨vp_in_nI hi (by omega), ?_⟩
    unfold wm_hearths_j85 wm_hearths_j86
    rw [cl (by omega), show mA_menuLong σ i = _ from hI.ml hi, if_neg (nI_ge (by omega) (by omega)), mul10, nI_add, cl (by omega), show mA_menus σ (10 * i + k) = _ from hI.me hi (by omega), cl (by omega), show mA_hours σ ((vme V i).getD k 0) = nI (hoA V i k) from hI.ho hlt, show (10 : Int32) = nI 10 from rfl, nI_add, pk_sub (show hoA V i k ≤ 10 + k by unfold hoA; omega), lit0', nI_add, Nat.add_zero, nI_1, nI_1]
    simp only [nI_ltI (show t < 2 ^ 31 by omega) (show 10 + k - hoA V i k < 2 ^ 31 by omega), nI_leI (show 10 + k < 2 ^ 31 by omega) (show t < 2 ^ 31 by omega)]
    unfold heC at ih1 ⊢
    by_cases q2 : 10 + k ≤ t
    · rw [if_pos q2]; rw [decide_eq_false (show ¬ t < 10 + k by omega), Bool.and_false, if_neg (by decide), Nat.add_zero] at ih1; exact ih1
    · rw [if_neg q2]; rw [decide_eq_true (show t < 10 + k by omega), Bool.and_true] at ih1
      refine ⟨vp_in_nI (by omega) (by omega), vp_in_nI (by omega) (by omega), ?_⟩
      by_cases q : t < 10 + k - hoA V i k
      · rw [if_pos q]; rw [decide_eq_false (show ¬ 10 + k - hoA V i k ≤ t by omega), if_neg (by decide), Nat.add_zero] at ih1; exact ih1
      · rw [if_neg q]; rw [decide_eq_true (show 10 + k - hoA V i k ≤ t by omega), if_pos rfl] at ih1; exact ih1
theorem heM_row {V : VV} {i : Nat} {r : Int32} {P : Int32 → St → Prop} (hw : WV V) (hi : i < 3) (h99 : ∀ k, k < (vme V i).length → (vme V i).getD k 0 ≠ 99) (h : ∀ σ', IM σ' (vSRow V (heR V i (vme V i).length)) → P r σ') :
    ∀ m k : Nat, k + m = (vme V i).length → ∀ σ, IM σ (vSRow V (heR V i k)) → wm_hearths_l115 P (m + 1) (nI i) r (nI k) σ := by
  have hn := hw.n
  have hm := (hw.me i).1
  intro m
  induction m with
  | zero =>
    intro k hk σ hI
    rw [wm_hearths_l115_s]
    refine ⟨vp_in_nI hi (by omega), ?_⟩
    rw [cl (by omega), show mA_menuLong σ i = nI (vme V i).length from hI.ml hi, if_pos (by rw [show k = (vme V i).length by omega]; exact Int32.le_refl _)]
    rw [show k = (vme V i).length by omega] at hI
    exact h σ hI
  | succ m ih =>
    intro k hk σ hI
    have ih1 := ih (k + 1) (by omega)
    rw [heR_s] at ih1
    have hlt := whole_lt hw h99 (k := k) (by omega)
    have hho := hw.d hlt
    rw [wm_hearths_l115_s]
    refine ⟨vp_in_nI hi (by omega), ?_⟩
    rw [cl (by omega), show mA_menuLong σ i = nI (vme V i).length from hI.ml hi, if_neg (nI_ge (by omega) (by omega)), mul10, nI_add, cl (by omega), show mA_menus σ (10 * i + k) = nI ((vme V i).getD k 0) from hI.me hi (by show k < (vme V i).length; omega), cl (by omega), show mA_hours σ ((vme V i).getD k 0) = nI (hoA V i k) from hI.ho hlt, show (10 : Int32) = nI 10 from rfl, nI_add, pk_sub (show hoA V i k ≤ 10 + k by unfold hoA; omega)]
    refine ⟨vp_in_nI (by omega) (by omega), vp_in_nI (by omega) (by omega), _, hI, by show (heR V i k).length < 12; rw [heR_len]; omega, fun σ' h' _ _ => ?_⟩
    rw [nI_1]
    exact ih1 σ' h'
theorem heM_loop {V : VV} {i : Nat} {P : Int32 → St → Prop} {K : Int32 → Int32 → Int32 → St → Prop} {σ : St} (hI : IM σ V) (hi : i < 3) (h99 : ∀ k, k < (vme V i).length → (vme V i).getD k 0 ≠ 99)
    (h : K (nI i) (nI (maxN (heN V i) 20)) 0 (mS_rowMany σ 0)) : ∀ m t : Nat, t + m = 20 → wm_hearths_l20 P K (m + 1) (nI i) (nI (maxN (heN V i) t)) (nI t) σ := by
  intro m
  induction m with
  | zero => intro t ht; rw [wm_hearths_l20_s, show t = 20 by omega, if_pos (by decide)]; exact h
  | succ m ih =>
    intro t ht
    have ih1 := ih (t + 1) (by omega)
    rw [maxN_s] at ih1
    rw [wm_hearths_l20_s, show (20 : Int32) = nI 20 from rfl, if_neg (nI_ge (by omega) (by omega))]
    refine ⟨_, heM_in hI hi h99 (by omega) ?_ (vme V i).length 0 (by omega)⟩
    have b1 := maxN_le (f := heN V i) (b := 10) t fun k _ => heN_le hI.2 i k
    have b2 := heN_le hI.2 i t
    rw [jmax_nI (by omega) (by omega)]
    exact ih1
theorem om_hearths {σ : St} {V : VV} {P : Int32 → St → Prop} (hI : IM σ V) (v : Int32) (h : ∀ σ', IM σ' (S_hearths V v) → P (R_hearths V v) σ') : wm_hearths σ v P := by
  have hI := hI.th 0
  refine ⟨V, hI, ?_⟩
  dsimp only
  unfold R_hearths S_hearths at h
  cases q : wholeV V v with
  | false => rw [jf0]; rw [q, if_neg (by decide), if_neg (by decide)] at h; exact h _ hI
  | true =>
    rw [jt0]; rw [q, if_pos rfl, if_pos rfl] at h
    obtain ⟨i, hi, rfl, hl, h99⟩ := wholeV_of q
    rw [cl (by omega)] at h
    exact ⟨_, heM_loop hI hi h99 ⟨_, heM_row hI.2 hi h99 h (vme V i).length 0 (by omega) _ hI.row0⟩ 20 0 (by omega)⟩
/-! late -/
def frB (f : Nat → Int32) : Nat → Nat
  | 0 => 0
  | 1 => 0
  | o + 2 => if f (frB f (o + 1)) ≤ f (o + 1) then frB f (o + 1) else o + 1
theorem frB_lt (f : Nat → Int32) : ∀ o, frB f (o + 1) < o + 1 := by
  intro o
  induction o with
  | zero => exact Nat.zero_lt_one
  | succ o ih => unfold frB; split <;> omega
def laS (V : VV) (i h : Nat) : Nat → (Nat → Int32) × Int32 × List Int32
  | 0 => (fun _ => 0, 0, [])
  | k + 1 =>
    let b := frB (laS V i h k).1 h
    let x := (laS V i h k).1 b + nI (hoA V i k)
    (upd (laS V i h k).1 b x, jmax (laS V i h k).2.1 (x - 10 - nI k), (laS V i h k).2.2 ++ [x])
theorem laS_len (V : VV) (i h : Nat) : ∀ k, (laS V i h k).2.2.length = k := by
  intro k
  induction k with
  | zero => rfl
  | succ k ih => show ((laS V i h k).2.2 ++ [_]).length = k + 1; rw [List.length_append, ih]; rfl
def oneNine (v : Int32) : Bool := decide (1 ≤ v.toInt) && decide (v.toInt ≤ 9)
theorem oneNine_of {v : Int32} (h : oneNine v = true) : ∃ k, 1 ≤ k ∧ k ≤ 9 ∧ v = nI k := by
  unfold oneNine at h
  rw [Bool.and_eq_true, decide_eq_true_eq, decide_eq_true_eq] at h
  refine ⟨v.toInt.toNat, by omega, by omega, Int32.toInt_inj.mp ?_⟩
  rw [nI_toInt (by omega)]; omega
def R_late (V : VV) (v w : Int32) : Int32 := if oneNine w = true then (if wholeV V v = true then (laS V v.toNatClampNeg w.toNatClampNeg (vme V v.toNatClampNeg).length).2.1 else -3) else -1
def S_late (V : VV) (v w : Int32) : VV := if oneNine w = true ∧ wholeV V v = true then vSRow V (laS V v.toNatClampNeg w.toNatClampNeg (vme V v.toNatClampNeg).length).2.2 else V
theorem laX_zero {V : VV} {i h : Nat} {P : Int32 → St → Prop} {K : Int32 → Int32 → Int32 → Int32 → St → Prop} (hh : h ≤ 9) (kk : ∀ σ', IX σ' V → (∀ j, j < h → gA σ' 39 j = 0) → K (nI i) (nI h) 0 0 (xS_rowMany σ' 0)) :
    ∀ m k : Nat, k + m = h → ∀ σ, IX σ V → (∀ j, j < k → gA σ 39 j = 0) → wx_late_l27 P K (m + 1) (nI i) (nI h) (nI k) σ := by
  intro m
  induction m with
  | zero =>
    intro k hk σ hI h0
    rw [wx_late_l27_s, if_pos (by rw [show k = h by omega]; exact Int32.le_refl _)]
    exact kk σ hI (by rw [← show k = h by omega]; exact h0)
  | succ m ih =>
    intro k hk σ hI h0
    rw [wx_late_l27_s, if_neg (nI_ge (by omega) (by omega)), nI_1]
    refine ⟨vp_in_nI (by omega) (by omega), ih (k + 1) (by omega) _ (hI.qA (by decide) _) fun j hj => ?_⟩
    show upd (gA σ 39) (nI k).toNatClampNeg 0 j = 0
    rw [cl (by omega)]
    by_cases q : j = k
    · rw [q, upd_s]
    · rw [upd_n q]; exact h0 j (by omega)
theorem laX_in {V : VV} {i h k : Nat} {la : Int32} {f : Nat → Int32} {P : Int32 → St → Prop} {K : Int32 → Int32 → Int32 → Int32 → St → Prop} {σ : St} {W : VV} (hI : IX σ W) (eW : W = vSRow V (vrow W)) (hw : WV V) (hi : i < 3) (hk : k < (vme V i).length) (h99 : ∀ k, k < (vme V i).length → (vme V i).getD k 0 ≠ 99) (h1 : 1 ≤ h) (hh : h ≤ 9) (hf : ∀ j, j < h → gA σ 39 j = f j) (hrow : (vrow W).length < 12)
    (kk : ∀ σ', IX σ' (vSRow V (vrow W ++ [f (frB f h) + nI (hoA V i k)])) → (∀ j, j < h → gA σ' 39 j = upd f (frB f h) (f (frB f h) + nI (hoA V i k)) j) → K (nI i) (nI h) (jmax la (f (frB f h) + nI (hoA V i k) - 10 - nI k)) (nI (k + 1)) σ') :
    ∀ m o : Nat, o + 1 + m = h → wx_late_l72 P K (m + 1) (nI i) (nI h) la (nI k) (nI (frB f (o + 1))) (nI (o + 1)) σ := by
  have hn := hw.n
  have hm := (hw.me i).1
  intro m
  induction m with
  | zero =>
    intro o ho
    have hb := frB_lt f o
    have hlt := whole_lt hw h99 hk
    have hho := hw.d hlt
    rw [wx_late_l72_s, if_pos (by rw [show o + 1 = h by omega]; exact Int32.le_refl _), show o + 1 = h by omega]
    rw [show o + 1 = h by omega] at hb
    have hnW : vn W = vn V := by rw [eW]; rfl
    have hmW : vme W = vme V := by rw [eW]; rfl
    refine ⟨vp_in_nI (by omega) (by omega), W, i, k, hI, rfl, rfl, hi, by rw [hmW]; exact hk, ?_⟩
    dsimp only
    rw [hmW]
    refine ⟨vp_in_nI (by omega) (by omega), vp_in_nI (by omega) (by omega), vp_in_nI (by omega) (by omega), ?_⟩
    unfold xU_freeAt uA
    have e1 : xA_freeAt σ (frB f h) = f (frB f h) := hf _ hb
    have e2 : xA_hours σ ((vme V i).getD k 0) = nI (hoA V i k) := by
      have := hI.ho (d := (vme V i).getD k 0) (by rw [hnW]; exact hlt)
      rw [show vho W = vho V from by rw [eW]; rfl] at this
      exact this
    rw [cl (show frB f h < 2 ^ 31 by omega), cl (show (vme V i).getD k 0 < 2 ^ 31 by omega), e1, e2]
    refine ⟨W, hI.qA (by decide) _, hrow, fun σ' h' kp _ => ⟨vp_in_nI (by omega) (by omega), ?_⟩⟩
    have e3 : gA σ' 39 = upd (gA σ 39) (frB f h) (f (frB f h) + nI (hoA V i k)) := kp.2.1 39 (by decide)
    have e4 : xA_freeAt (sA σ 39 (upd (gA σ 39) (frB f h) (f (frB f h) + nI (hoA V i k)))) (frB f h) = f (frB f h) + nI (hoA V i k) := upd_s
    rw [e4] at h'
    rw [show xA_freeAt σ' (frB f h) = f (frB f h) + nI (hoA V i k) from by show gA σ' 39 _ = _; rw [e3, upd_s], nI_1]
    refine kk σ' (by rw [eW] at h'; exact h') fun j hj => ?_
    rw [e3]
    by_cases q : j = frB f h
    · rw [q, upd_s, upd_s]
    · rw [upd_n q, upd_n q]; exact hf j hj
  | succ m ih =>
    intro o ho
    have hb := frB_lt f o
    have ih1 := ih (o + 1) (by omega)
    rw [show frB f (o + 1 + 1) = if f (frB f (o + 1)) ≤ f (o + 1) then frB f (o + 1) else o + 1 from rfl] at ih1
    rw [wx_late_l72_s, if_neg (nI_ge (by omega) (by omega))]
    refine ⟨vp_in_nI (by omega) (by omega), vp_in_nI (by omega) (by omega), ?_⟩
    unfold wx_late_j102
    rw [cl (by omega), cl (by omega), show xA_freeAt σ (frB f (o + 1)) = _ from hf _ (by omega), show xA_freeAt σ (o + 1) = _ from hf _ (by omega), nI_1]
    by_cases q : f (frB f (o + 1)) ≤ f (o + 1)
    · rw [if_pos q]; rw [if_pos q] at ih1; exact ih1
    · rw [if_neg q]; rw [if_neg q] at ih1; exact ih1
theorem laX_loop {V : VV} {i h : Nat} {P : Int32 → St → Prop} (hw : WV V) (hi : i < 3) (h99 : ∀ k, k < (vme V i).length → (vme V i).getD k 0 ≠ 99) (h1 : 1 ≤ h) (hh : h ≤ 9)
    (fin : ∀ σ', IX σ' (vSRow V (laS V i h (vme V i).length).2.2) → P (laS V i h (vme V i).length).2.1 σ') :
    ∀ m k : Nat, k + m = (vme V i).length → ∀ σ, IX σ (vSRow V (laS V i h k).2.2) → (∀ j, j < h → gA σ 39 j = (laS V i h k).1 j) → wx_late_l55 P (m + 1) (nI i) (nI h) (laS V i h k).2.1 (nI k) σ := by
  have hm := (hw.me i).1
  intro m
  induction m with
  | zero =>
    intro k hk σ hI hf
    rw [wx_late_l55_s]
    refine ⟨vp_in_nI hi (by omega), ?_⟩
    rw [cl (by omega), show xA_menuMany σ i = nI (vme V i).length from hI.ml hi, if_pos (by rw [show k = (vme V i).length by omega]; exact Int32.le_refl _)]
    rw [show k = (vme V i).length by omega] at hI ⊢
    exact fin σ hI
  | succ m ih =>
    intro k hk σ hI hf
    rw [wx_late_l55_s]
    refine ⟨vp_in_nI hi (by omega), ?_⟩
    rw [cl (by omega), show xA_menuMany σ i = nI (vme V i).length from hI.ml hi, if_neg (nI_ge (by omega) (by omega))]
    have h9 := laX_in (V := V) (P := P) (K := wx_late_l55 P (m + 1)) (la := (laS V i h k).2.1) (f := (laS V i h k).1) hI rfl hw hi (show k < (vme V i).length by omega) h99 h1 hh hf (by show (laS V i h k).2.2.length < 12; rw [laS_len]; omega) (fun σ' hI' hf' => ih (k + 1) (by omega) σ' hI' hf') (h - 1) 0 (by omega)
    exact ⟨_, h9⟩
theorem ox_late {σ : St} {V : VV} {P : Int32 → St → Prop} (hI : IX σ V) (v w : Int32) (h : ∀ σ', IX σ' (S_late V v w) → P (R_late V v w) σ') : wx_late σ v w P := by
  unfold wx_late sx_in
  rw [inB_lit (v := w) (x := 1) (y := 9) (by decide) (by decide)]
  dsimp only
  unfold R_late S_late at h
  change if j01 (oneNine w) = 0 then _ else _
  cases q0 : oneNine w with
  | false => rw [jf0]; simp only [q0, Bool.false_eq_true, false_and, if_false] at h; exact h σ hI
  | true =>
    rw [jt0]
    refine ⟨V, hI, ?_⟩
    dsimp only
    cases q : wholeV V v with
    | false => rw [jf0]; simp only [q0, q, Bool.false_eq_true, and_false, if_false, if_true] at h; exact h σ hI
    | true =>
      rw [jt0]; simp only [q0, q, and_self, if_true] at h
      obtain ⟨i, hi, rfl, hl, h99⟩ := wholeV_of q
      obtain ⟨n, h1, h9, rfl⟩ := oneNine_of q0
      rw [cl (by omega), cl (by omega)] at h
      exact ⟨_, laX_zero h9 (fun σ' hI' h0 => ⟨_, laX_loop hI.2 hi h99 h1 h9 h (vme V i).length 0 (by omega) _ hI'.row0 h0⟩) n 0 (by omega) σ hI fun j hj => absurd hj (by omega)⟩
theorem laM_zero {V : VV} {i h : Nat} {P : Int32 → St → Prop} {K : Int32 → Int32 → Int32 → Int32 → St → Prop} (hh : h ≤ 9) (kk : ∀ σ', IM σ' V → (∀ j, j < h → gA σ' 47 j = 0) → K (nI i) (nI h) 0 0 (mS_rowMany σ' 0)) :
    ∀ m k : Nat, k + m = h → ∀ σ, IM σ V → (∀ j, j < k → gA σ 47 j = 0) → wm_late_l30 P K (m + 1) (nI i) (nI h) (nI k) σ := by
  intro m
  induction m with
  | zero =>
    intro k hk σ hI h0
    rw [wm_late_l30_s, if_pos (by rw [show k = h by omega]; exact Int32.le_refl _)]
    exact kk σ hI (by rw [← show k = h by omega]; exact h0)
  | succ m ih =>
    intro k hk σ hI h0
    rw [wm_late_l30_s, if_neg (nI_ge (by omega) (by omega)), nI_1]
    refine ⟨vp_in_nI (by omega) (by omega), ih (k + 1) (by omega) _ (hI.qA (by decide) _) fun j hj => ?_⟩
    show upd (gA σ 47) (nI k).toNatClampNeg 0 j = 0
    rw [cl (by omega)]
    by_cases q : j = k
    · rw [q, upd_s]
    · rw [upd_n q]; exact h0 j (by omega)
theorem laM_in {V : VV} {i h k : Nat} {la : Int32} {f : Nat → Int32} {P : Int32 → St → Prop} {K : Int32 → Int32 → Int32 → Int32 → St → Prop} {σ : St} {W : VV} (hI : IM σ W) (eW : W = vSRow V (vrow W)) (hw : WV V) (hi : i < 3) (hk : k < (vme V i).length) (h99 : ∀ k, k < (vme V i).length → (vme V i).getD k 0 ≠ 99) (h1 : 1 ≤ h) (hh : h ≤ 9) (hf : ∀ j, j < h → gA σ 47 j = f j) (hrow : (vrow W).length < 12)
    (kk : ∀ σ', IM σ' (vSRow V (vrow W ++ [f (frB f h) + nI (hoA V i k)])) → (∀ j, j < h → gA σ' 47 j = upd f (frB f h) (f (frB f h) + nI (hoA V i k)) j) → K (nI i) (nI h) (jmax la (f (frB f h) + nI (hoA V i k) - 10 - nI k)) (nI (k + 1)) σ') :
    ∀ m o : Nat, o + 1 + m = h → wm_late_l75 P K (m + 1) (nI i) (nI h) la (nI k) (nI (frB f (o + 1))) (nI (o + 1)) σ := by
  have hn := hw.n
  have hm := (hw.me i).1
  intro m
  induction m with
  | zero =>
    intro o ho
    have hb := frB_lt f o
    have hlt := whole_lt hw h99 hk
    have hho := hw.d hlt
    rw [wm_late_l75_s, if_pos (by rw [show o + 1 = h by omega]; exact Int32.le_refl _), show o + 1 = h by omega]
    rw [show o + 1 = h by omega] at hb
    have hnW : vn W = vn V := by rw [eW]; rfl
    have hmW : vme W = vme V := by rw [eW]; rfl
    have e0 : mA_menus σ (10 * i + k) = nI ((vme V i).getD k 0) := by
      have := hI.me hi (k := k) (by rw [hmW]; exact hk); rw [hmW] at this; exact this
    have e1 : mA_freeAt σ (frB f h) = f (frB f h) := hf _ hb
    have e2 : mA_hours σ ((vme V i).getD k 0) = nI (hoA V i k) := by
      have := hI.ho (d := (vme V i).getD k 0) (by rw [hnW]; exact hlt)
      rw [show vho W = vho V from by rw [eW]; rfl] at this
      exact this
    unfold mU_freeAt uA
    rw [mul10, nI_add, cl (show 10 * i + k < 2 ^ 31 by omega), e0, cl (show frB f h < 2 ^ 31 by omega), cl (show (vme V i).getD k 0 < 2 ^ 31 by omega), e1, e2]
    refine ⟨vp_in_nI (by omega) (by omega), vp_in_nI (by omega) (by omega), vp_in_nI (by omega) (by omega), vp_in_nI (by omega) (by omega), vp_in_nI (by omega) (by omega), ?_⟩
    refine ⟨W, hI.qA (by decide) _, hrow, fun σ' h' kp _ => ⟨vp_in_nI (by omega) (by omega), ?_⟩⟩
    have e3 : gA σ' 47 = upd (gA σ 47) (frB f h) (f (frB f h) + nI (hoA V i k)) := kp.2.1 47 (by decide)
    have e4 : mA_freeAt (sA σ 47 (upd (gA σ 47) (frB f h) (f (frB f h) + nI (hoA V i k)))) (frB f h) = f (frB f h) + nI (hoA V i k) := upd_s
    rw [e4] at h'
    rw [show mA_freeAt σ' (frB f h) = f (frB f h) + nI (hoA V i k) from by show gA σ' 47 _ = _; rw [e3, upd_s], nI_1]
    refine kk σ' (by rw [eW] at h'; exact h') fun j hj => ?_
    rw [e3]
    by_cases q : j = frB f h
    · rw [q, upd_s, upd_s]
    · rw [upd_n q, upd_n q]; exact hf j hj
  | succ m ih =>
    intro o ho
    have hb := frB_lt f o
    have ih1 := ih (o + 1) (by omega)
    rw [show frB f (o + 1 + 1) = if f (frB f (o + 1)) ≤ f (o + 1) then frB f (o + 1) else o + 1 from rfl] at ih1
    rw [wm_late_l75_s, if_neg (nI_ge (by omega) (by omega))]
    refine ⟨vp_in_nI (by omega) (by omega), vp_in_nI (by omega) (by omega), ?_⟩
    unfold wm_late_j102
    rw [cl (by omega), cl (by omega), show mA_freeAt σ (frB f (o + 1)) = _ from hf _ (by omega), show mA_freeAt σ (o + 1) = _ from hf _ (by omega), nI_1]
    by_cases q : f (frB f (o + 1)) ≤ f (o + 1)
    · rw [if_pos q]; rw [if_pos q] at ih1; exact ih1
    · rw [if_neg q]; rw [if_neg q] at ih1; exact ih1
theorem laM_loop {V : VV} {i h : Nat} {P : Int32 → St → Prop} (hw : WV V) (hi : i < 3) (h99 : ∀ k, k < (vme V i).length → (vme V i).getD k 0 ≠ 99) (h1 : 1 ≤ h) (hh : h ≤ 9)
    (fin : ∀ σ', IM σ' (vSRow V (laS V i h (vme V i).length).2.2) → P (laS V i h (vme V i).length).2.1 σ') :
    ∀ m k : Nat, k + m = (vme V i).length → ∀ σ, IM σ (vSRow V (laS V i h k).2.2) → (∀ j, j < h → gA σ 47 j = (laS V i h k).1 j) → wm_late_l58 P (m + 1) (nI i) (nI h) (laS V i h k).2.1 (nI k) σ := by
  have hm := (hw.me i).1
  intro m
  induction m with
  | zero =>
    intro k hk σ hI hf
    rw [wm_late_l58_s]
    refine ⟨vp_in_nI hi (by omega), ?_⟩
    rw [cl (by omega), show mA_menuLong σ i = nI (vme V i).length from hI.ml hi, if_pos (by rw [show k = (vme V i).length by omega]; exact Int32.le_refl _)]
    rw [show k = (vme V i).length by omega] at hI ⊢
    exact fin σ hI
  | succ m ih =>
    intro k hk σ hI hf
    rw [wm_late_l58_s]
    refine ⟨vp_in_nI hi (by omega), ?_⟩
    rw [cl (by omega), show mA_menuLong σ i = nI (vme V i).length from hI.ml hi, if_neg (nI_ge (by omega) (by omega))]
    have h9 := laM_in (V := V) (P := P) (K := wm_late_l58 P (m + 1)) (la := (laS V i h k).2.1) (f := (laS V i h k).1) hI rfl hw hi (show k < (vme V i).length by omega) h99 h1 hh hf (by show (laS V i h k).2.2.length < 12; rw [laS_len]; omega) (fun σ' hI' hf' => ih (k + 1) (by omega) σ' hI' hf') (h - 1) 0 (by omega)
    exact ⟨_, h9⟩
theorem om_late {σ : St} {V : VV} {P : Int32 → St → Prop} (hI : IM σ V) (v w : Int32) (h : ∀ σ', IM σ' (S_late V v w) → P (R_late V v w) σ') : wm_late σ v w P := by
  have hI := hI.th 0
  unfold wm_late sm_in
  rw [inM_lit (v := w) (x := 1) (y := 9) (by decide) (by decide)]
  dsimp only
  unfold R_late S_late at h
  change if j01 (oneNine w) = 0 then _ else _
  cases q0 : oneNine w with
  | false => rw [jf0]; simp only [q0, Bool.false_eq_true, false_and, if_false] at h; exact h _ hI
  | true =>
    rw [jt0]
    refine ⟨V, hI, ?_⟩
    dsimp only
    cases q : wholeV V v with
    | false => rw [jf0]; simp only [q0, q, Bool.false_eq_true, and_false, if_false, if_true] at h; exact h _ hI
    | true =>
      rw [jt0]; simp only [q0, q, and_self, if_true] at h
      obtain ⟨i, hi, rfl, hl, h99⟩ := wholeV_of q
      obtain ⟨n, h1, h9, rfl⟩ := oneNine_of q0
      rw [cl (by omega), cl (by omega)] at h
      exact ⟨_, laM_zero h9 (fun σ' hI' h0 => ⟨_, laM_loop hI.2 hi h99 h1 h9 h (vme V i).length 0 (by omega) _ hI'.row0 h0⟩) n 0 (by omega) _ hI fun j hj => absurd hj (by omega)⟩
