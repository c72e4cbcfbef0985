/-! count -/
theorem sumN_one {f g : Nat → Nat} {a x : Nat} (ha : f a = g a + x) (hn : ∀ k, k ≠ a → f k = g k) : ∀ n, sumN f n = sumN g n + (if a < n then x else 0) := by
  intro n
  induction n with
  | zero => rfl
  | succ n ih =>
    show sumN f n + f n = sumN g n + g n + _
    rw [ih]
    by_cases e : n = a
    · subst e; rw [ha, if_neg (by omega), if_pos (by omega)]; omega
    · rw [hn n e]
      by_cases q : a < n
      · rw [if_pos q, if_pos (by omega)]; omega
      · rw [if_neg q, if_neg (by omega)]; omega
theorem setU_lt {l : List Nat} {n : Nat} (h : ∀ d ∈ l, d < n) : ∀ k, k ≤ l.length → setU l k < 2 ^ n := by
  intro k
  induction k with
  | zero => intro _; exact Nat.two_pow_pos n
  | succ k ih => intro hk; exact or2_lt (ih (by omega)) (h _ (getD_mem (by omega)))
theorem nodup_getD {l : List Nat} (h : l.Nodup) {i j : Nat} (hi : i < l.length) (hj : j < l.length) (e : l.getD i 0 = l.getD j 0) : i = j := by
  rw [getD_get hi, getD_get hj] at e
  exact (List.getElem_inj (h₀ := hi) (h₁ := hj) h).mp e
theorem setU_bit {l : List Nat} {k j : Nat} (hk : k ≤ l.length) : (setU l k).testBit j = true ↔ ∃ i, i < k ∧ l.getD i 0 = j := by
  induction k with
  | zero => exact ⟨fun h => absurd h (by unfold setU; rw [Nat.zero_testBit]; decide), fun ⟨i, hi, _⟩ => absurd hi (by omega)⟩
  | succ k ih =>
    unfold setU
    rw [tb_or2, Bool.or_eq_true, ih (by omega), decide_eq_true_eq]
    refine ⟨fun h => ?_, fun ⟨i, hi, e⟩ => ?_⟩
    · rcases h with ⟨i, hi, e⟩ | h
      · exact ⟨i, by omega, e⟩
      · exact ⟨k, by omega, h.symm⟩
    · rcases Nat.lt_or_ge i k with q | q
      · exact Or.inl ⟨i, q, e⟩
      · rw [show i = k by omega] at e; exact Or.inr e.symm
theorem setU_new {l : List Nat} (h : l.Nodup) {k : Nat} (hk : k < l.length) : (setU l k).testBit (l.getD k 0) = false := by
  cases q : (setU l k).testBit (l.getD k 0) with
  | false => rfl
  | true =>
    obtain ⟨i, hi, e⟩ := (setU_bit (by omega)).mp q
    exact absurd (nodup_getD h (by omega) hk e) (by omega)
theorem setU_all (l : List Nat) : setU l l.length = setL l := by rw [setU_eq _ _ (Nat.le_refl _), List.take_length]
theorem cost_or {V : VV} {s d : Nat} (h : s.testBit d = false) (hd : d < vn V) : costV V (s ||| 2 ^ d) = costV V s + vco V d := by
  unfold costV
  rw [sumN_one (f := fun x => if (s ||| 2 ^ d).testBit x = true then vco V x else 0) (g := fun x => if s.testBit x = true then vco V x else 0) (a := d) (x := vco V d) ?_ ?_ (vn V), if_pos hd]
  · show (if (s ||| 2 ^ d).testBit d = true then vco V d else 0) = (if s.testBit d = true then vco V d else 0) + vco V d
    rw [tb_or2, decide_eq_true rfl, Bool.or_true, if_pos rfl, h, if_neg (by decide)]; omega
  · intro k hk
    show (if (s ||| 2 ^ d).testBit k = true then vco V k else 0) = (if s.testBit k = true then vco V k else 0)
    rw [tb_or2, decide_eq_false hk, Bool.or_false]
theorem cost_0 (V : VV) : costV V 0 = 0 := by
  unfold costV
  have : ∀ n, sumN (fun d => if (0 : Nat).testBit d = true then vco V d else 0) n = 0 := by
    intro n
    induction n with
    | zero => rfl
    | succ n ih =>
      show sumN _ n + (if (0 : Nat).testBit n = true then vco V n else 0) = 0
      rw [ih, Nat.zero_testBit, if_neg (by decide)]
  exact this _
theorem costV_le {V : VV} (h : WV V) (s : Nat) : costV V s ≤ 990 := by
  have h1 := sumN_le (f := fun d => if s.testBit d = true then vco V d else 0) (b := 99) (vn V) (fun k hk => by
    have := (h.d hk).2.2.1
    show (if s.testBit k = true then vco V k else 0) ≤ 99
    split <;> omega)
  have h2 := h.n
  have h3 : vn V * 99 ≤ 10 * 99 := Nat.mul_le_mul_right 99 h2
  unfold costV
  omega
def R_count (V : VV) (v : Int32) : Int32 := if v = 0 then nI (vn V) else if v = 1 then nI (vg V) else if v = 2 then nI (vsv V).length else if v = 3 then lI (lastL (vsv V)) else if v = 4 then nI (costV V (setL (vsv V))) else if v = 5 then nI (vrow V).length else if v = 6 then nI (vtx V).length else if v = 7 then nI (bitsOf (fun i => decide (0 < (vme V i).length)) 3) else -1
theorem laid_loop {σ : St} {V : VV} {P : Int32 → St → Prop} (hI : IX σ V) (h : P (nI (bitsOf (fun i => decide (0 < (vme V i).length)) 3)) σ) : ∀ m i : Nat, i + m = 3 → wx_laid_l4 P (m + 1) (nI (bitsOf (fun i => decide (0 < (vme V i).length)) i)) (nI i) σ := by
  intro m
  induction m with
  | zero => intro i hi; rw [wx_laid_l4_s, show i = 3 by omega, if_pos (by decide)]; exact h
  | succ m ih =>
    intro i hi
    have ih1 := ih (i + 1) (by omega)
    have hm := (hI.2.me i).1
    rw [bitsOf_s] at ih1
    rw [wx_laid_l4_s, show (3 : Int32) = nI 3 from rfl, if_neg (nI_ge (by omega) (by omega))]
    refine ⟨vp_in_nI (by omega) (by omega), ?_⟩
    rw [cl (by omega), show xA_menuMany σ i = _ from hI.ml (by omega)]
    simp only [nI_le0 (show (vme V i).length < 2 ^ 31 by omega)]
    unfold wx_laid_j26
    rw [nI_shl1 i (by omega), nI_1, nI_or]
    by_cases q : (vme V i).length = 0
    · rw [if_pos q, lit0', nI_or]; rw [if_neg (by rw [decide_eq_false (by omega)]; decide)] at ih1; exact ih1
    · rw [if_neg q]; rw [if_pos (decide_eq_true (by omega))] at ih1; exact ih1
theorem ox_count {σ : St} {V : VV} {P : Int32 → St → Prop} (hI : IX σ V) (v : Int32) (h : P (R_count V v) σ) : wx_count σ v P := by
  unfold wx_count
  unfold R_count at h
  by_cases q0 : v = 0
  · rw [if_pos q0]; rw [if_pos q0] at h; rw [show xI_dishes σ = _ from hI.n]; exact h
  rw [if_neg q0]; rw [if_neg q0] at h
  by_cases q1 : v = 1
  · rw [if_pos q1]; rw [if_pos q1] at h; rw [show xI_guests σ = _ from hI.g]; exact h
  rw [if_neg q1]; rw [if_neg q1] at h
  by_cases q2 : v = 2
  · rw [if_pos q2]; rw [if_pos q2] at h; rw [show xI_servedMany σ = _ from hI.sm]; exact h
  rw [if_neg q2]; rw [if_neg q2] at h
  by_cases q3 : v = 3
  · rw [if_pos q3]; rw [if_pos q3] at h; exact ⟨V, hI, h⟩
  rw [if_neg q3]; rw [if_neg q3] at h
  by_cases q4 : v = 4
  · rw [if_pos q4]; rw [if_pos q4] at h; exact ⟨V, hI, V, _, hI, rfl, setL_lt hI.2.sv.2, h⟩
  rw [if_neg q4]; rw [if_neg q4] at h
  by_cases q5 : v = 5
  · rw [if_pos q5]; rw [if_pos q5] at h; rw [show xI_rowMany σ = _ from hI.rm]; exact h
  rw [if_neg q5]; rw [if_neg q5] at h
  by_cases q6 : v = 6
  · rw [if_pos q6]; rw [if_pos q6] at h; rw [show xI_signMany σ = _ from hI.tm]; exact h
  rw [if_neg q6]; rw [if_neg q6] at h
  by_cases q7 : v = 7
  · rw [if_pos q7]; rw [if_pos q7] at h; exact ⟨_, laid_loop hI h 3 0 (by omega)⟩
  rw [if_neg q7]; rw [if_neg q7] at h
  exact h
theorem countM4 {σ : St} {V : VV} {P : Int32 → St → Prop} (hI : IM σ V) (h : P (nI (costV V (setL (vsv V)))) σ) : ∀ m i : Nat, i + m = (vsv V).length → wm_count_l78 P (m + 1) (nI (costV V (setU (vsv V) i))) (nI i) σ := by
  have hn := hI.2.n
  have hl := hI.2.svl
  intro m
  induction m with
  | zero =>
    intro i hi
    rw [wm_count_l78_s, show mI_servedMany σ = _ from hI.sm, if_pos (by rw [show i = (vsv V).length by omega]; exact Int32.le_refl _), show i = (vsv V).length by omega, setU_all]
    exact h
  | succ m ih =>
    intro i hi
    have hd := hI.2.sv.2 _ (getD_mem (l := vsv V) (k := i) (by omega))
    have ih1 := ih (i + 1) (by omega)
    rw [show setU (vsv V) (i + 1) = setU (vsv V) i ||| 2 ^ ((vsv V).getD i 0) from rfl, cost_or (setU_new hI.2.sv.1 (by omega)) hd] at ih1
    rw [wm_count_l78_s, show mI_servedMany σ = _ from hI.sm, if_neg (nI_ge (by omega) (by omega))]
    rw [cl (by omega), show mA_served σ i = _ from hI.sv (by omega), cl (by omega)]
    refine ⟨vp_in_nI (by omega) (by omega), vp_in_nI (by omega) (by omega), ?_⟩
    rw [show mA_cost σ ((vsv V).getD i 0) = _ from hI.co hd, nI_add, nI_1]
    exact ih1
theorem laidM_loop {σ : St} {V : VV} {P : Int32 → St → Prop} (hI : IM σ V) (h : P (nI (bitsOf (fun i => decide (0 < (vme V i).length)) 3)) σ) : ∀ m i : Nat, i + m = 3 → wm_count_l120 P (m + 1) (nI (bitsOf (fun i => decide (0 < (vme V i).length)) i)) (nI i) σ := by
  intro m
  induction m with
  | zero => intro i hi; rw [wm_count_l120_s, show i = 3 by omega, if_pos (by decide)]; exact h
  | succ m ih =>
    intro i hi
    have ih1 := ih (i + 1) (by omega)
    have hm := (hI.2.me i).1
    rw [bitsOf_s] at ih1
    rw [wm_count_l120_s, show (3 : Int32) = nI 3 from rfl, if_neg (nI_ge (by omega) (by omega))]
    refine ⟨vp_in_nI (by omega) (by omega), ?_⟩
    rw [cl (by omega), show mA_menuLong σ i = _ from hI.ml (by omega)]
    simp only [nI_le0 (show (vme V i).length < 2 ^ 31 by omega)]
    unfold wm_count_j142
    rw [nI_shl1 i (by omega), nI_1, nI_or]
    by_cases q : (vme V i).length = 0
    · rw [if_pos q, lit0', nI_or]; rw [if_neg (by rw [decide_eq_false (by omega)]; decide)] at ih1; exact ih1
    · rw [if_neg q]; rw [if_pos (decide_eq_true (by omega))] at ih1; exact ih1
theorem om_count {σ : St} {V : VV} {P : Int32 → St → Prop} (hI : IM σ V) (v : Int32) (h : ∀ σ', IM σ' V → P (R_count V v) σ') : wm_count σ v P := by
  have hI := hI.th 0
  have h := h _ hI
  revert hI h
  unfold wm_count
  generalize mS_thrown σ 0 = σ
  intro hI h
  unfold R_count at h
  by_cases q0 : v = 0
  · rw [if_pos q0]; rw [if_pos q0] at h; rw [show mI_dishes σ = _ from hI.n]; exact h
  rw [if_neg q0]; rw [if_neg q0] at h
  by_cases q1 : v = 1
  · rw [if_pos q1]; rw [if_pos q1] at h; rw [show mI_guests σ = _ from hI.g]; exact h
  rw [if_neg q1]; rw [if_neg q1] at h
  by_cases q2 : v = 2
  · rw [if_pos q2]; rw [if_pos q2] at h; rw [show mI_servedMany σ = _ from hI.sm]; exact h
  rw [if_neg q2]; rw [if_neg q2] at h
  by_cases q3 : v = 3
  · rw [if_pos q3]; rw [if_pos q3] at h; exact ⟨V, hI, h⟩
  rw [if_neg q3]; rw [if_neg q3] at h
  by_cases q4 : v = 4
  · rw [if_pos q4]; rw [if_pos q4] at h
    have h1 := countM4 hI h (vsv V).length 0 (by omega)
    rw [show setU (vsv V) 0 = 0 from rfl, cost_0] at h1
    exact ⟨_, h1⟩
  rw [if_neg q4]; rw [if_neg q4] at h
  by_cases q5 : v = 5
  · rw [if_pos q5]; rw [if_pos q5] at h; rw [show mI_rowMany σ = _ from hI.rm]; exact h
  rw [if_neg q5]; rw [if_neg q5] at h
  by_cases q6 : v = 6
  · rw [if_pos q6]; rw [if_pos q6] at h; rw [show mI_typed σ = _ from hI.tm]; exact h
  rw [if_neg q6]; rw [if_neg q6] at h
  by_cases q7 : v = 7
  · rw [if_pos q7]; rw [if_pos q7] at h; exact ⟨_, laidM_loop hI h 3 0 (by omega)⟩
  rw [if_neg q7]; rw [if_neg q7] at h
  exact h
/-! over -/
def oSto (V : VV) (i : Nat) : VV := vSSto V (fun j => if j < i then vsto V j - manyV V (setL (vsv V)) j else vsto V j)
def S_over (V : VV) : VV := vSSv (oSto V 8) []
theorem jmax0 {a b : Nat} (ha : a < 2 ^ 30) (hb : b < 2 ^ 30) : jmax (0 : Int32) (nI a - nI b) = nI (a - b) := by
  show (if (0 : Int32) < nI a - nI b then nI a - nI b else 0) = _
  rcases Nat.lt_or_ge b a with q | q
  · rw [pk_sub (by omega), if_pos (by rw [lit0']; exact nI_lt (by omega) (by omega))]
  · rw [show a - b = 0 by omega]
    rcases Nat.lt_or_ge a b with q2 | q2
    · rw [if_neg (by
        have := pk_sneg hb q2
        intro z
        exact absurd (Int32.lt_trans this z) (by rw [Int32.lt_iff_toInt_lt]; omega))]
      rfl
    · rw [show a = b by omega, pk_sub (Nat.le_refl _), Nat.sub_self, if_neg (by decide)]; rfl
theorem WV.oSto {V : VV} (h : WV V) (i : Nat) : WV (oSto V i) := h.sto' fun s hs => by
  have := h.sto hs
  show (if s < i then vsto V s - manyV V (setL (vsv V)) s else vsto V s) ≤ 99
  split <;> omega
theorem overX_loop {V : VV} {P : Int32 → St → Prop} (h : ∀ σ', IX σ' (S_over V) → P (nI (vsv V).length) σ') : ∀ m i : Nat, i + m = 8 → ∀ σ, IX σ (oSto V i) → wx_over_l7 P (m + 1) (nI (vsv V).length) (nI i) σ := by
  intro m
  induction m with
  | zero =>
    intro i hi σ hI
    rw [wx_over_l7_s, show i = 8 by omega, if_pos (by decide)]
    rw [show i = 8 by omega] at hI
    obtain ⟨⟨a1, a2, a3, a4, a5, a6⟩, h2, h3, h4, h5, h6, h7, h8, h9, h10, h11⟩ := hI.1
    exact h _ ⟨⟨⟨a1, a2, a3, rfl, a5, a6⟩, h2, h3, h4, h5, fun k hk => absurd hk (by show ¬ k < 0; omega), h7, h8, h9, fun i hi => keptX.kp rfl rfl (h10 i hi), ruleX.kp rfl rfl h11⟩, hI.2.sv' ⟨List.nodup_nil, fun d hd => by cases hd⟩⟩
  | succ m ih =>
    intro i hi σ hI
    have hn := hI.2.n
    have b1 := many_le (oSto V i) (setL (vsv V)) i
    have b2 := hI.2.sto (s := i) (by omega)
    have e2 : vsto (oSto V i) i = vsto V i := if_neg (by omega)
    rw [wx_over_l7_s, k8, if_neg (nI_ge (by omega) (by omega))]
    have hp := pow_le_1024 hn
    refine ⟨vp_in_nI (by omega) (by omega), oSto V i, hI, oSto V i, setL (vsv V), i, hI, rfl, rfl, Nat.lt_of_lt_of_le (setL_lt hI.2.sv.2) (by omega), by omega, vp_in_nI (by omega) (by omega), ?_⟩
    unfold xU_stores uA
    rw [cl (by omega), show xA_stores σ i = _ from hI.sto (d := i) (by omega), jmax0 (by omega) (by omega), nI_1]
    refine ih (i + 1) (by omega) _ ?_
    obtain ⟨⟨a1, a2, a3, a4, a5, a6⟩, h2, h3, h4, h5, h6, h7, h8, h9, h10, h11⟩ := hI.1
    have hw : WV V → True := fun _ => trivial
    refine ⟨⟨⟨a1, a2, a3, a4, a5, a6⟩, h2, h3, ?_, h5, h6, h7, h8, h9, fun i hi => keptX.kp rfl rfl (h10 i hi), ruleX.kp rfl rfl h11⟩, ?_⟩
    · intro j hj
      show upd (gA σ 5) i (nI (vsto (oSto V i) i - manyV (oSto V i) (setL (vsv V)) i)) j = nI (if j < i + 1 then vsto V j - manyV V (setL (vsv V)) j else vsto V j)
      by_cases q : j = i
      · rw [q, upd_s, if_pos (by omega), e2]; rfl
      · rw [upd_n q, h4 j hj]
        show nI (if j < i then vsto V j - manyV V (setL (vsv V)) j else vsto V j) = _
        by_cases q2 : j < i
        · rw [if_pos q2, if_pos (by omega)]
        · rw [if_neg q2, if_neg (by omega)]
    · obtain ⟨w1, w2, w3, w4, w5, w6, w7, w8, w9, w10, w11, w12⟩ := hI.2
      refine ⟨w1, w2, w3, w4, w5, fun s hs => ?_, w7, w8, w9, w10, w11, w12⟩
      have z := w6 s hs
      have z2 : (if s < i then vsto V s - manyV V (setL (vsv V)) s else vsto V s) ≤ 99 := z
      show (if s < i + 1 then vsto V s - manyV V (setL (vsv V)) s else vsto V s) ≤ 99
      by_cases q : s < i
      · rw [if_pos q] at z2; rw [if_pos (by omega)]; exact z2
      · rw [if_neg q] at z2; split <;> omega
theorem oSto_0 (V : VV) : oSto V 0 = V := by
  unfold oSto
  have : (fun j => if j < 0 then vsto V j - manyV V (setL (vsv V)) j else vsto V j) = vsto V := funext fun j => if_neg (by omega)
  rw [this]; rfl
theorem ox_over {σ : St} {V : VV} {P : Int32 → St → Prop} (hI : IX σ V) (h : ∀ σ', IX σ' (S_over V) → P (nI (vsv V).length) σ') : wx_over σ P := by
  unfold wx_over
  rw [show xI_servedMany σ = _ from hI.sm]
  exact ⟨_, overX_loop h 8 0 (by omega) σ (by rw [oSto_0]; exact hI)⟩
/-- the model takes them dish by dish -/
def oSt2 (V : VV) (k i : Nat) : VV := vSSto V (fun j => vsto V j - (manyV V (setU (vsv V) k) j + (if j < i ∧ (vst V ((vsv V).getD k 0)).testBit j = true then 1 else 0)))
theorem om_over_in {V : VV} {K : Int32 → St → Prop} {P : Int32 → St → Prop} {k : Nat} (hk : k < (vsv V).length) (h : ∀ σ', IM σ' (oSt2 V k 8) → K (nI (k + 1)) σ') : ∀ m i : Nat, i + m = 8 → ∀ σ, IM σ (oSt2 V k i) → wm_over_l17 P K (m + 1) (nI k) (nI i) σ := by
  intro m
  induction m with
  | zero =>
    intro i hi σ hI
    rw [wm_over_l17_s, show i = 8 by omega, if_pos (by decide), nI_1]
    exact h σ (by rw [show i = 8 by omega] at hI; exact hI)
  | succ m ih =>
    intro i hi σ hI
    have hn : vn V ≤ 10 := hI.2.n
    have hl : (vsv V).length ≤ vn V := hI.2.svl
    have hd : (vsv V).getD k 0 < vn V := hI.2.sv.2 _ (getD_mem (l := vsv V) hk)
    have hst : vst V ((vsv V).getD k 0) < 256 := (hI.2.d (d := (vsv V).getD k 0) hd).2.1
    have b2 := hI.2.sto (s := i) (by omega)
    have e2 : vsto (oSt2 V k i) i = vsto V i - manyV V (setU (vsv V) k) i := by
      show vsto V i - (manyV V (setU (vsv V) k) i + (if i < i ∧ _ then 1 else 0)) = _
      rw [if_neg (fun z => absurd z.1 (by omega))]; omega
    rw [wm_over_l17_s, k8, if_neg (nI_ge (by omega) (by omega))]
    rw [cl (by omega), cl (by omega), show mA_served σ k = nI ((vsv V).getD k 0) from hI.sv (d := k) hk]
    refine ⟨vp_in_nI (by omega) (by omega), vp_in_nI (by omega) (by omega), vp_in_nI (show (vsv V).getD k 0 < 11 by omega) (by omega), ?_⟩
    rw [cl (show (vsv V).getD k 0 < 2 ^ 31 by omega), show mA_stuffs σ ((vsv V).getD k 0) = nI (vst V ((vsv V).getD k 0)) from hI.st hd]
    unfold sm_has
    rw [hasB_nI (by omega) (by omega)]
    dsimp only
    have go : ∀ x, x ≤ 1 → x = (if (vst V ((vsv V).getD k 0)).testBit i = true then 1 else 0) → wm_over_j58 P (wm_over_l17 P K (m + 1)) (nI k) (nI i) (nI i) 0 (mA_store σ i) (nI x) σ := by
      intro x hx ex
      unfold wm_over_j58
      refine ⟨vp_in_nI (by omega) (by omega), ?_⟩
      unfold mU_store uA
      rw [cl (by omega), show mA_store σ i = _ from hI.sto (d := i) (by omega), jmax0 (by omega) (by omega), nI_1]
      refine ih (i + 1) (by omega) _ ?_
      obtain ⟨⟨a1, a2, a3, a4, a5, a6, a7, a8⟩, h2, h3, h4, h5, h6, h7, h8, h9, h10, h11⟩ := hI.1
      refine ⟨⟨⟨a1, a2, a3, a4, a5, a6, a7, a8⟩, h2, h3, ?_, h5, h6, h7, h8, h9, fun i hi => keptM.kp rfl rfl rfl rfl (h10 i hi), ruleM.kp rfl rfl h11⟩, ?_⟩
      · intro j hj
        show upd (gA σ 0) i (nI (vsto (oSt2 V k i) i - x)) j = nI (vsto V j - (manyV V (setU (vsv V) k) j + (if j < i + 1 ∧ (vst V ((vsv V).getD k 0)).testBit j = true then 1 else 0)))
        by_cases q : j = i
        · rw [q, upd_s, e2, ex]
          have e3 : (i < i + 1 ∧ (vst V ((vsv V).getD k 0)).testBit i = true) ↔ (vst V ((vsv V).getD k 0)).testBit i = true := ⟨fun z => z.2, fun z => ⟨by omega, z⟩⟩
          simp only [e3]
          rw [Nat.sub_sub]
        · rw [upd_n q, h4 j hj]
          show nI (vsto V j - (manyV V (setU (vsv V) k) j + (if j < i ∧ (vst V ((vsv V).getD k 0)).testBit j = true then 1 else 0))) = _
          have e3 : (j < i + 1 ∧ (vst V ((vsv V).getD k 0)).testBit j = true) ↔ (j < i ∧ (vst V ((vsv V).getD k 0)).testBit j = true) := ⟨fun z => ⟨by omega, z.2⟩, fun z => ⟨by omega, z.2⟩⟩
          simp only [e3]
      · obtain ⟨w1, w2, w3, w4, w5, w6, w7, w8, w9, w10, w11, w12⟩ := hI.2
        refine ⟨w1, w2, w3, w4, w5, fun s hs => ?_, w7, w8, w9, w10, w11, w12⟩
        have z := w6 s hs
        have z2 : vsto V s - (manyV V (setU (vsv V) k) s + (if s < i ∧ (vst V ((vsv V).getD k 0)).testBit s = true then 1 else 0)) ≤ 99 := z
        show vsto V s - (manyV V (setU (vsv V) k) s + (if s < i + 1 ∧ (vst V ((vsv V).getD k 0)).testBit s = true then 1 else 0)) ≤ 99
        have e4 : (if s < i ∧ (vst V ((vsv V).getD k 0)).testBit s = true then 1 else 0) ≤ (if s < i + 1 ∧ (vst V ((vsv V).getD k 0)).testBit s = true then 1 else 0) := by
          by_cases q : s < i ∧ (vst V ((vsv V).getD k 0)).testBit s = true
          · rw [if_pos q, if_pos ⟨by omega, q.2⟩]; exact Nat.le_refl _
          · rw [if_neg q]; exact Nat.zero_le _
        omega
    cases q : (vst V ((vsv V).getD k 0)).testBit i with
    | false => rw [jf0]; exact go 0 (by omega) (by rw [q]; rfl)
    | true => rw [jt0]; exact go 1 (by omega) (by rw [q]; rfl)
theorem many_0 (V : VV) (k : Nat) : manyV V 0 k = 0 := by
  unfold manyV
  have : ∀ n, cnt (fun d => (0 : Nat).testBit d && (vst V d).testBit k) n = 0 := by
    intro n
    induction n with
    | zero => rfl
    | succ n ih =>
      show cnt _ n + (if ((0 : Nat).testBit n && (vst V n).testBit k) = true then 1 else 0) = 0
      rw [ih, Nat.zero_testBit, Bool.false_and, if_neg (by decide)]
  exact this _
def oSt3 (V : VV) (k : Nat) : VV := vSSto V (fun j => vsto V j - manyV V (setU (vsv V) k) j)
theorem oSt3_n {V : VV} {k : Nat} (hw : WV V) (hk : k < (vsv V).length) : ∀ j, j < 8 → vsto (oSt2 V k 8) j = vsto (oSt3 V (k + 1)) j := by
  intro j hj
  show vsto V j - (manyV V (setU (vsv V) k) j + (if j < 8 ∧ (vst V ((vsv V).getD k 0)).testBit j = true then 1 else 0)) = vsto V j - manyV V (setU (vsv V) k ||| 2 ^ ((vsv V).getD k 0)) j
  rw [many_or j (setU_new hw.sv.1 hk) (hw.sv.2 _ (getD_mem hk))]
  have e3 : (j < 8 ∧ (vst V ((vsv V).getD k 0)).testBit j = true) ↔ (vst V ((vsv V).getD k 0)).testBit j = true := ⟨fun z => z.2, fun z => ⟨hj, z⟩⟩
  simp only [e3]
theorem IM.stoC {σ : St} {V : VV} {f g : Nat → Nat} (h : IM σ (vSSto V f)) (e : ∀ j, j < 8 → f j = g j) : IM σ (vSSto V g) := by
  obtain ⟨⟨h1, h2, h3, h4, h5⟩, w1, w2, w3, w4, w5, w6, w7⟩ := h
  exact ⟨⟨h1, h2, h3, fun s hs => by rw [show vsto (vSSto V g) s = f s from (e s hs).symm]; exact h4 s hs, h5⟩, w1, w2, w3, w4, w5, fun s hs => by rw [show vsto (vSSto V g) s = f s from (e s hs).symm]; exact w6 s hs, w7⟩
theorem overM_loop {V : VV} {P : Int32 → St → Prop} (hw : WV V) (h : ∀ σ', IM σ' (S_over V) → P (nI (vsv V).length) σ') : ∀ m k : Nat, k + m = (vsv V).length → ∀ σ, IM σ (oSt3 V k) → wm_over_l7 P (m + 1) (nI k) σ := by
  have hl := hw.svl
  have hn := hw.n
  intro m
  induction m with
  | zero =>
    intro k hk σ hI
    rw [wm_over_l7_s, show mI_servedMany σ = nI (vsv V).length from hI.sm, if_pos (by rw [show k = (vsv V).length by omega]; exact Int32.le_refl _)]
    rw [show k = (vsv V).length by omega] at hI
    have hI2 : IM σ (oSto V 8) := hI.stoC fun j hj => by
      show vsto V j - manyV V (setU (vsv V) (vsv V).length) j = (if j < 8 then vsto V j - manyV V (setL (vsv V)) j else vsto V j)
      rw [if_pos hj, setU_all]
    obtain ⟨⟨a1, a2, a3, a4, a5, a6, a7, a8⟩, h2, h3, h4, h5, h6, h7, h8, h9, h10, h11⟩ := hI2.1
    exact h _ ⟨⟨⟨a1, a2, a3, a4, a5, rfl, a7, a8⟩, h2, h3, h4, fun k hk => absurd hk (by show ¬ k < 0; omega), h6, h7, h8, h9, fun i hi => keptM.kp rfl rfl rfl rfl (h10 i hi), ruleM.kp rfl rfl h11⟩, hI2.2.sv' ⟨List.nodup_nil, fun d hd => by cases hd⟩⟩
  | succ m ih =>
    intro k hk σ hI
    rw [wm_over_l7_s, show mI_servedMany σ = nI (vsv V).length from hI.sm, if_neg (nI_ge (by omega) (by omega))]
    have hk2 : k < (vsv V).length := by omega
    refine ⟨_, om_over_in hk2 (fun σ' h' => ih (k + 1) (by omega) σ' (h'.stoC fun j hj => oSt3_n hw hk2 j hj)) 8 0 (by omega) σ (hI.stoC fun j hj => ?_)⟩
    show vsto V j - manyV V (setU (vsv V) k) j = vsto V j - (manyV V (setU (vsv V) k) j + (if j < 0 ∧ _ then 1 else 0))
    rw [if_neg (fun z => absurd z.1 (by omega)), Nat.add_zero]
theorem om_over {σ : St} {V : VV} {P : Int32 → St → Prop} (hI : IM σ V) (h : ∀ σ', IM σ' (S_over V) → P (nI (vsv V).length) σ') : wm_over σ P := by
  refine ⟨_, overM_loop hI.2 h (vsv V).length 0 (by omega) _ ?_⟩
  have h1 : IM (mS_thrown σ 0) (vSSto V (vsto V)) := hI.th 0
  exact h1.stoC fun j hj => by
    show vsto V j = vsto V j - manyV V 0 j
    rw [many_0]; rfl
