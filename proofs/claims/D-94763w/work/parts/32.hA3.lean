theorem upd_s {f : Nat → Int32} {k : Nat} {x : Int32} : upd f k x k = x := by simp [upd]
theorem upd_n {f : Nat → Int32} {k j : Nat} {x : Int32} (h : j ≠ k) : upd f k x j = f j := by simp [upd, h]
theorem lit0' : (0 : Int32) = nI 0 := rfl
theorem keptX.kp {σ σ' : St} {i : Nat} (h1 : gA σ' 42 = gA σ 42) (h2 : gA σ' 41 = gA σ 41) : ∀ {o}, keptX σ i o → keptX σ' i o := by
  intro o h
  cases o with
  | none => unfold keptX at h ⊢; rw [h1]; exact h
  | some q => obtain ⟨s, l, sv, n⟩ := q; unfold keptX at h ⊢; rw [h1, h2]; exact h
theorem ruleX.kp {σ σ' : St} (h1 : gR σ' 25 = gR σ 25) (h2 : gN σ' = gN σ) : ∀ {o}, ruleX σ o → ruleX σ' o := by
  intro o h
  cases o with
  | none => unfold ruleX at h ⊢; rw [h1]; exact h
  | some D => unfold ruleX at h ⊢; rw [h1, h2]; exact h
theorem keptM.kp {σ σ' : St} {i n : Nat} (h1 : gA σ' 50 = gA σ 50) (h2 : gA σ' 51 = gA σ 51) (h3 : gA σ' 52 = gA σ 52) (h4 : gI σ' 49 = gI σ 49) : ∀ {o}, keptM σ i n o → keptM σ' i n o := by
  intro o h
  cases o with
  | none => unfold keptM at h ⊢; rw [h2]; exact h
  | some q => obtain ⟨s, l, sv, m⟩ := q; unfold keptM at h ⊢; rw [h1, h2, h3, h4]; exact h
theorem ruleM.kp {σ σ' : St} (h1 : gI σ' 27 = gI σ 27) (h2 : gA σ' 26 = gA σ 26) : ∀ {o}, ruleM σ o → ruleM σ' o := by
  intro o h
  cases o with
  | none => unfold ruleM at h ⊢; rw [h1]; exact h
  | some D => unfold ruleM at h ⊢; rw [h1, h2]; exact h
theorem getD_app_lt {α : Type} {l : List α} {v d : α} {k : Nat} (h : k < l.length) : (l ++ [v]).getD k d = l.getD k d := by
  rw [List.getD_eq_getElem?_getD, List.getD_eq_getElem?_getD, List.getElem?_append_left h]
theorem getD_app_eq {α : Type} {l : List α} {v d : α} : (l ++ [v]).getD l.length d = v := by
  rw [List.getD_eq_getElem?_getD, List.getElem?_append_right (Nat.le_refl _), Nat.sub_self]; rfl
theorem rowpush {f : Nat → Int32} {l : List Int32} {v : Int32} (h : ∀ k, k < l.length → f k = l.getD k 0) : ∀ k, k < (l ++ [v]).length → upd f l.length v k = (l ++ [v]).getD k 0 := by
  intro k hk
  rw [List.length_append] at hk
  simp only [List.length_cons, List.length_nil] at hk
  by_cases q : k = l.length
  · subst q; rw [upd_s, getD_app_eq]
  · rw [upd_n q, getD_app_lt (by omega)]; exact h k (by omega)
theorem WV.row' {V : VV} (h : WV V) {r : List Int32} (hr : r.length ≤ 12) : WV (vSRow V r) := by
  obtain ⟨h1, h2, h3, h4, h5, h6, h7, h8, h9, h10, _, h12⟩ := h
  exact ⟨h1, h2, h3, h4, h5, h6, h7, h8, h9, h10, hr, h12⟩
theorem sx_tells_ok {σ : St} {v1 : Int32} {P : St → Prop} (h : sx_tells σ v1 P) : wx_tells σ v1 P := by
  obtain ⟨V, hI, hl, h⟩ := h
  unfold wx_tells
  have e : xI_rowMany σ = nI (vrow V).length := hI.rm
  have e2 : xI_rowMany (xU_row σ (xI_rowMany σ) v1) = nI (vrow V).length := hI.rm
  rw [e2, e]
  refine ⟨vp_in_nI (by omega) (by omega), ?_⟩
  unfold xU_row uA
  rw [cl (by omega), nI_1]
  obtain ⟨⟨a1, a2, a3, a4, a5, a6⟩, h2, h3, h4, h5, h6, h7, h8, h9, h10, h11⟩ := hI.1
  refine h _ ⟨⟨⟨a1, a2, a3, a4, a5, ?_⟩, h2, h3, h4, h5, h6, h7, h8, ?_, fun i hi => keptX.kp rfl rfl (h10 i hi), ruleX.kp rfl rfl h11⟩, hI.2.row' ?_⟩ ?_ (fun k => rfl)
  · show nI ((vrow V).length + 1) = nI (vrow V ++ [v1]).length
    rw [List.length_append]; rfl
  · exact rowpush h9
  · rw [List.length_append]; show (vrow V).length + 1 ≤ 12; omega
  · exact (Kp.sA (by decide) _ _).tr (Kp.sI (by decide) _ _)
theorem sm_tell_ok {σ : St} {v1 : Int32} {P : St → Prop} (h : sm_tell σ v1 P) : wm_tell σ v1 P := by
  obtain ⟨V, hI, hl, h⟩ := h
  unfold wm_tell
  have e : mI_rowMany σ = nI (vrow V).length := hI.rm
  have e2 : mI_rowMany (mU_row σ (mI_rowMany σ) v1) = nI (vrow V).length := hI.rm
  rw [e2, e]
  refine ⟨vp_in_nI (by omega) (by omega), ?_⟩
  unfold mU_row uA
  rw [cl (by omega), nI_1]
  obtain ⟨⟨a1, a2, a3, a4, a5, a6, a7, a8⟩, h2, h3, h4, h5, h6, h7, h8, h9, h10, h11⟩ := hI.1
  refine h _ ⟨⟨⟨a1, a2, a3, a4, a5, a6, a7, ?_⟩, h2, h3, h4, h5, h6, h7, rowpush h8, h9, fun i hi => keptM.kp rfl rfl rfl rfl (h10 i hi), ruleM.kp rfl rfl h11⟩, hI.2.row' ?_⟩ ?_ (fun k => rfl)
  · show nI ((vrow V).length + 1) = nI (vrow V ++ [v1]).length
    rw [List.length_append]; rfl
  · rw [List.length_append]; show (vrow V).length + 1 ≤ 12; omega
  · exact (Kp.sA (by decide) _ _).tr (Kp.sI (by decide) _ _)
theorem hungry_loop {σ : St} {V : VV} {d : Nat} {P : Int32 → St → Prop} (hI : IX σ V) (hd : d < vn V) (h : P (nI (bitsOf (fun g => hungV V g d) (vg V))) σ) : ∀ m i : Nat, i + m = vg V → wx_hungryAt_l4 P (m + 1) (nI d) (nI (bitsOf (fun g => hungV V g d) i)) (nI i) σ := by
  have hn := hI.2.n
  have hg := hI.2.g
  have h1 := hI.2.d hd
  intro m
  induction m with
  | zero =>
    intro i hi
    rw [wx_hungryAt_l4_s, show xI_guests σ = _ from hI.g, if_pos (by rw [show i = vg V by omega]; exact Int32.le_refl _), show i = vg V by omega]
    exact h
  | succ m ih =>
    intro i hi
    have h2 := hI.2.gs (g := i) (by omega)
    have ih1 := ih (i + 1) (by omega)
    rw [show bitsOf (fun g => hungV V g d) (i + 1) = bitsOf (fun g => hungV V g d) i ||| (if hungV V i d = true then 2 ^ i else 0) from rfl] at ih1
    rw [wx_hungryAt_l4_s, show xI_guests σ = _ from hI.g, if_neg (nI_ge (by omega) (by omega))]
    refine ⟨vp_in_nI (by omega) (by omega), vp_in_nI (by omega) (by omega), ?_⟩
    rw [cl (by omega), cl (by omega), show xA_bars σ i = _ from hI.ba (by omega), show xA_stuffs σ d = _ from hI.st hd, nI_and, nI_shl1 i (by omega)]
    have h3 : vba V i &&& vst V d < 2 ^ 31 := Nat.lt_of_lt_of_le (and_lt h2.2) (by omega)
    simp only [nI_eq0 h3]
    unfold wx_hungryAt_j36
    rw [nI_1]
    unfold hungV at ih1
    by_cases q : vba V i &&& vst V d = 0
    · rw [if_pos q, show (0 : Int32) = nI 0 from rfl, nI_or, Nat.or_zero]
      rw [if_neg (by rw [decide_eq_true_eq]; rw [Nat.and_comm]; exact fun z => z q), Nat.or_zero] at ih1
      exact ih1
    · rw [if_neg q, nI_or]
      rw [if_pos (by rw [decide_eq_true_eq]; rw [Nat.and_comm]; exact q)] at ih1
      exact ih1
theorem sx_hungryAt_ok {σ : St} {v1 : Int32} {P : Int32 → St → Prop} (h : sx_hungryAt σ v1 P) : wx_hungryAt σ v1 P := by
  obtain ⟨V, d, hI, rfl, hd, h⟩ := h
  exact ⟨_, hungry_loop hI hd h (vg V) 0 (by omega)⟩
theorem sm_isHungry_ok {σ : St} {v1 v2 : Int32} {P : Int32 → St → Prop} (h : sm_isHungry σ v1 v2 P) : wm_isHungry σ v1 v2 P := by
  obtain ⟨V, g, d, hI, rfl, rfl, hg, hd, h⟩ := h
  have hn := hI.2.n
  have hg6 := hI.2.g
  have h1 := hI.2.d hd
  have h3 : vst V d &&& vba V g < 2 ^ 31 := Nat.lt_of_lt_of_le (and_lt h1.2.1) (by omega)
  refine ⟨vp_in_nI (by omega) (by omega), vp_in_nI (by omega) (by omega), ?_⟩
  rw [cl (by omega), cl (by omega), show mA_bars σ g = _ from hI.ba hg, show mA_stuffs σ d = _ from hI.st hd, nI_and]
  simp only [nI_eq0 h3]
  unfold hungV at h
  by_cases q : vst V d &&& vba V g = 0
  · rw [if_pos q]; rw [decide_eq_false (fun z => z q)] at h; exact ⟨rfl, h⟩
  · rw [if_neg q]; rw [decide_eq_true q] at h; exact ⟨rfl, h⟩
theorem sumN_le {f : Nat → Nat} {b : Nat} : ∀ n, (∀ k, k < n → f k ≤ b) → sumN f n ≤ n * b := by
  intro n
  induction n with
  | zero => intro _; exact Nat.zero_le _
  | succ n ih =>
    intro h
    have h1 := ih fun k hk => h k (by omega)
    have h2 := h n (by omega)
    show sumN f n + f n ≤ (n + 1) * b
    rw [Nat.add_mul, Nat.one_mul]
    omega
theorem cost_loop {σ : St} {V : VV} {s : Nat} {P : Int32 → St → Prop} (hI : IX σ V) (hs : s < 2 ^ vn V) (h : P (nI (costV V s)) σ) : ∀ m i : Nat, i + m = vn V → wx_costOf_l4 P (m + 1) (nI s) (nI (sumN (fun d => if s.testBit d = true then vco V d else 0) i)) (nI i) σ := by
  have hn := hI.2.n
  have hp := pow_le_1024 hn
  intro m
  induction m with
  | zero =>
    intro i hi
    rw [wx_costOf_l4_s, show xI_dishes σ = _ from hI.n, if_pos (by rw [show i = vn V by omega]; exact Int32.le_refl _), show i = vn V by omega]
    exact h
  | succ m ih =>
    intro i hi
    have h2 := hI.2.d (d := i) (by omega)
    have ih1 := ih (i + 1) (by omega)
    rw [show sumN (fun d => if s.testBit d = true then vco V d else 0) (i + 1) = sumN (fun d => if s.testBit d = true then vco V d else 0) i + (if s.testBit i = true then vco V i else 0) from rfl] at ih1
    rw [wx_costOf_l4_s, show xI_dishes σ = _ from hI.n, if_neg (nI_ge (by omega) (by omega))]
    unfold sx_has wx_costOf_j31
    rw [hasB_nI (by omega) (by omega), nI_1]
    cases q : s.testBit i with
    | false => rw [jf0, show (0 : Int32) = nI 0 from rfl, nI_add]; rw [q, if_neg (by decide)] at ih1; exact ih1
    | true =>
      rw [jt0]; rw [q, if_pos rfl] at ih1
      refine ⟨vp_in_nI (by omega) (by omega), ?_⟩
      rw [cl (by omega), show xA_cost σ i = _ from hI.co (by omega), nI_add]
      exact ih1
theorem sx_costOf_ok {σ : St} {v1 : Int32} {P : Int32 → St → Prop} (h : sx_costOf σ v1 P) : wx_costOf σ v1 P := by
  obtain ⟨V, s, hI, rfl, hs, h⟩ := h
  exact ⟨_, cost_loop hI hs h (vn V) 0 (by omega)⟩
theorem costM_loop {σ : St} {V : VV} {s : Nat} {P : Int32 → St → Prop} (hI : IM σ V) (hs : s < 2 ^ vn V) (h : P (nI (costV V s)) σ) : ∀ m i : Nat, i + m = vn V → wm_costIn_l4 P (m + 1) (nI s) (nI (sumN (fun d => if s.testBit d = true then vco V d else 0) i)) (nI i) σ := by
  have hn := hI.2.n
  have hp := pow_le_1024 hn
  intro m
  induction m with
  | zero =>
    intro i hi
    rw [wm_costIn_l4_s, show mI_dishes σ = _ from hI.n, if_pos (by rw [show i = vn V by omega]; exact Int32.le_refl _), show i = vn V by omega]
    exact h
  | succ m ih =>
    intro i hi
    have h2 := hI.2.d (d := i) (by omega)
    have ih1 := ih (i + 1) (by omega)
    rw [show sumN (fun d => if s.testBit d = true then vco V d else 0) (i + 1) = sumN (fun d => if s.testBit d = true then vco V d else 0) i + (if s.testBit i = true then vco V i else 0) from rfl] at ih1
    rw [wm_costIn_l4_s, show mI_dishes σ = _ from hI.n, if_neg (nI_ge (by omega) (by omega))]
    unfold sm_has wm_costIn_j31
    rw [hasB_nI (by omega) (by omega), nI_1]
    cases q : s.testBit i with
    | false => rw [jf0, show (0 : Int32) = nI 0 from rfl, nI_add]; rw [q, if_neg (by decide)] at ih1; exact ih1
    | true =>
      rw [jt0]; rw [q, if_pos rfl] at ih1
      refine ⟨vp_in_nI (by omega) (by omega), ?_⟩
      rw [cl (by omega), show mA_cost σ i = _ from hI.co (by omega), nI_add]
      exact ih1
theorem sm_costIn_ok {σ : St} {v1 : Int32} {P : Int32 → St → Prop} (h : sm_costIn σ v1 P) : wm_costIn σ v1 P := by
  obtain ⟨V, s, hI, rfl, hs, h⟩ := h
  exact ⟨_, costM_loop hI hs h (vn V) 0 (by omega)⟩
theorem besV_s (V : VV) (d i : Nat) : bitsOf (fun o => decide (o ≠ d) && pairV V d o) (i + 1) = bitsOf (fun o => decide (o ≠ d) && pairV V d o) i ||| (if (decide (i ≠ d) && pairV V d i) = true then 2 ^ i else 0) := rfl
theorem pairs_loop {σ : St} {V : VV} {d : Nat} {P : Int32 → St → Prop} (hI : IX σ V) (hd : d < vn V) (h : P (nI (besV V d)) σ) : ∀ m i : Nat, i + m = vn V → wx_pairsOf_l4 P (m + 1) (nI d) (nI (bitsOf (fun o => decide (o ≠ d) && pairV V d o) i)) (nI i) σ := by
  have hn := hI.2.n
  intro m
  induction m with
  | zero =>
    intro i hi
    rw [wx_pairsOf_l4_s, show xI_dishes σ = _ from hI.n, if_pos (by rw [show i = vn V by omega]; exact Int32.le_refl _), show i = vn V by omega]
    exact h
  | succ m ih =>
    intro i hi
    have ih1 := ih (i + 1) (by omega)
    rw [besV_s] at ih1
    rw [wx_pairsOf_l4_s, show xI_dishes σ = _ from hI.n, if_neg (nI_ge (by omega) (by omega))]
    simp only [nI_eq (show i < 2 ^ 31 by omega) (show d < 2 ^ 31 by omega)]
    unfold wx_pairsOf_j33 wx_pairsOf_j34
    rw [nI_1, show (0 : Int32) = nI 0 from rfl, nI_or, Nat.or_zero, nI_shl1 i (by omega), nI_or]
    by_cases q : i = d
    · rw [if_pos q]; rw [decide_eq_false (fun z => z q), Bool.false_and, if_neg (by decide), Nat.or_zero] at ih1; exact ih1
    · rw [if_neg q]; rw [decide_eq_true q, Bool.true_and] at ih1
      refine ⟨V, d, i, hI, rfl, rfl, hd, by omega, ?_⟩
      dsimp only
      cases q2 : pairV V d i with
      | false => rw [← lit0', jf0]; rw [q2, if_neg (by decide), Nat.or_zero] at ih1; exact ih1
      | true => rw [← lit0', jt0]; rw [q2, if_pos rfl] at ih1; exact ih1
