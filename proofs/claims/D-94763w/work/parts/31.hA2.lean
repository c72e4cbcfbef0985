theorem many_le (V : VV) (s k : Nat) : manyV V s k ≤ vn V := cnt_le _ _
theorem maxN_le {f : Nat → Nat} {b : Nat} : ∀ n, (∀ k, k < n → f k ≤ b) → maxN f n ≤ b := by
  intro n
  induction n with
  | zero => intro _; exact Nat.zero_le _
  | succ n ih => intro h; exact Nat.max_le.mpr ⟨ih fun k hk => h k (by omega), h n (by omega)⟩
theorem maxN_iff {f : Nat → Nat} {b : Nat} : ∀ n, maxN f n ≤ b ↔ ∀ k, k < n → f k ≤ b := by
  intro n
  induction n with
  | zero => exact ⟨fun _ k hk => absurd hk (by omega), fun _ => Nat.zero_le _⟩
  | succ n ih =>
    show max (maxN f n) (f n) ≤ b ↔ _
    rw [Nat.max_le, ih]
    refine ⟨fun h k hk => ?_, fun h => ⟨fun k hk => h k (by omega), h n (by omega)⟩⟩
    rcases Nat.lt_or_ge k n with q | q
    · exact h.1 k q
    · rw [show k = n by omega]; exact h.2
theorem jmax_nI {a b : Nat} (ha : a < 2 ^ 31) (hb : b < 2 ^ 31) : jmax (nI a) (nI b) = nI (max a b) := by
  show (if nI a < nI b then nI b else nI a) = _
  by_cases h : a < b
  · rw [if_pos (nI_lt h hb), Nat.max_eq_right (by omega)]
  · rw [if_neg (nI_nlt (by omega) ha), Nat.max_eq_left (by omega)]
theorem jmin_nI {a b : Nat} (ha : a < 2 ^ 31) (hb : b < 2 ^ 31) : jmin (nI a) (nI b) = nI (min a b) := by
  show (if nI b < nI a then nI b else nI a) = _
  by_cases h : b < a
  · rw [if_pos (nI_lt h ha), Nat.min_eq_right (by omega)]
  · rw [if_neg (nI_nlt (by omega) hb), Nat.min_eq_left (by omega)]
theorem k8 : (8 : Int32) = nI 8 := rfl
theorem most_loop {σ : St} {V : VV} {s : Nat} {P : Int32 → St → Prop} (hI : IX σ V) (hs : s < 2048) (h : P (nI (maxN (manyV V s) 8)) σ) : ∀ m i : Nat, i + m = 8 → wx_mostOf_l4 P (m + 1) (nI s) (nI (maxN (manyV V s) i)) (nI i) σ := by
  have hn := hI.2.n
  intro m
  induction m with
  | zero =>
    intro i hi
    rw [wx_mostOf_l4_s, show i = 8 by omega, if_pos (by decide)]
    exact h
  | succ m ih =>
    intro i hi
    rw [wx_mostOf_l4_s, k8, if_neg (nI_ge (by omega) (by omega))]
    refine ⟨V, s, i, hI, rfl, rfl, hs, by omega, ?_⟩
    dsimp only
    have h1 := many_le V s i
    have h2 := maxN_le (b := vn V) i (fun k _ => many_le V s k)
    rw [jmax_nI (by omega) (by omega), nI_1]
    exact ih (i + 1) (by omega)
theorem sx_mostOf_ok {σ : St} {v1 : Int32} {P : Int32 → St → Prop} (h : sx_mostOf σ v1 P) : wx_mostOf σ v1 P := by
  obtain ⟨V, s, hI, rfl, hs, h⟩ := h
  exact ⟨_, most_loop hI hs h 8 0 (by omega)⟩
theorem stored_loop {σ : St} {V : VV} {s : Nat} {P : Int32 → St → Prop} (hI : IX σ V) (hs : s < 2048) (h : P (j01 (storeV V s)) σ) : ∀ m i : Nat, i + m = 8 → (∀ k, k < i → manyV V s k ≤ vsto V k) → wx_isStored_l2 P (m + 1) (nI s) (nI i) σ := by
  have hn := hI.2.n
  intro m
  induction m with
  | zero =>
    intro i hi hk
    rw [wx_isStored_l2_s, show i = 8 by omega, if_pos (by decide)]
    have e : storeV V s = true := alB_iff.mpr fun k h8 => decide_eq_true (hk k (by omega))
    rw [e] at h
    exact h
  | succ m ih =>
    intro i hi hk
    have h1 := many_le V s i
    have h2 := hI.2.sto (s := i) (by omega)
    rw [wx_isStored_l2_s, k8, if_neg (nI_ge (by omega) (by omega))]
    refine ⟨V, s, i, hI, rfl, rfl, hs, by omega, vp_in_nI (by omega) (by omega), ?_⟩
    rw [cl (by omega), show xA_stores σ i = _ from hI.sto (d := i) (by omega)]
    by_cases q : manyV V s i ≤ vsto V i
    · rw [if_pos (nI_le q (by omega)), nI_1]
      exact ih (i + 1) (by omega) fun k hk2 => by
        rcases Nat.lt_or_ge k i with q2 | q2
        · exact hk k q2
        · rw [show k = i by omega]; exact q
    · rw [if_neg (nI_ge (by omega) (by omega))]
      have e : storeV V s = false := by
        cases q3 : storeV V s with
        | false => rfl
        | true => exact absurd (of_decide_eq_true (alB_iff.mp q3 i (by omega))) q
      rw [e] at h
      exact h
theorem sx_isStored_ok {σ : St} {v1 : Int32} {P : Int32 → St → Prop} (h : sx_isStored σ v1 P) : wx_isStored σ v1 P := by
  obtain ⟨V, s, hI, rfl, hs, h⟩ := h
  exact ⟨_, stored_loop hI hs h 8 0 (by omega) fun k hk => absurd hk (by omega)⟩
theorem sx_whyNot_ok {σ : St} {v1 v2 v3 : Int32} {P : Int32 → St → Prop} (h : sx_whyNot σ v1 v2 v3 P) : wx_whyNot σ v1 v2 v3 P := by
  obtain ⟨V, s, l, d, hI, rfl, rfl, rfl, hs, hl, hd, h⟩ := h
  have hn := hI.2.n
  have hp := pow_le_1024 hn
  have hl10 : l ≤ 10 := by omega
  have hs2 : s ||| 2 ^ d < 2048 := Nat.lt_of_lt_of_le (or2_lt hs hd) (by omega)
  have e1 : nI s ||| ((1 : Int32) <<< (nI d &&& 31)) = nI (s ||| 2 ^ d) := by rw [nI_shl1 d (by omega), nI_or]
  unfold wx_whyNot sx_has
  rw [hasB_nI (by omega) (by omega)]
  dsimp only
  unfold whyV at h
  cases hb : s.testBit d with
  | true => rw [jt0]; rw [if_pos hb] at h; exact h
  | false =>
    rw [jf0]; rw [if_neg (by rw [hb]; decide)] at h
    have step3 : (¬ (timesV V (s ||| 2 ^ d) = false) → storeV V (s ||| 2 ^ d) = true → P 0 σ) → (¬ (timesV V (s ||| 2 ^ d) = false) → ¬ storeV V (s ||| 2 ^ d) = true → P (-6) σ) → (timesV V (s ||| 2 ^ d) = false → P (-5) σ) → wx_whyNot_j44 P (nI s) (nI d) σ := by
      intro a1 a2 a3
      unfold wx_whyNot_j44 wx_whyNot_j86
      rw [e1]
      have b1 := maxN_le (f := manyV V (s ||| 2 ^ d)) (b := vn V) 8 (fun k _ => many_le V (s ||| 2 ^ d) k)
      have b2 : vla V 1 ≤ 9 := hI.2.la.2.2.2.1
      refine ⟨V, _, hI, rfl, hs2, vp_lit rfl, ?_⟩
      rw [show xA_law σ (1 : Int32).toNatClampNeg = _ from hI.la (d := 1) (by omega)]
      by_cases q : maxN (manyV V (s ||| 2 ^ d)) 8 ≤ vla V 1
      · have t1 : ¬ timesV V (s ||| 2 ^ d) = false := by
          have : timesV V (s ||| 2 ^ d) = true := alB_iff.mpr fun k hk => decide_eq_true ((maxN_iff 8).mp q k hk)
          rw [this]; decide
        rw [if_pos (nI_le q (by omega))]
        refine ⟨V, _, hI, rfl, hs2, ?_⟩
        dsimp only
        cases q2 : storeV V (s ||| 2 ^ d) with
        | true => rw [jt0]; exact a1 t1 q2
        | false => rw [jf0]; exact a2 t1 (by rw [q2]; decide)
      · rw [if_neg (nI_ge (by omega) (by omega))]
        refine a3 ?_
        cases q2 : timesV V (s ||| 2 ^ d) with
        | false => rfl
        | true => exact absurd ((maxN_iff 8).mpr fun k hk => of_decide_eq_true (alB_iff.mp q2 k hk)) q
    unfold wx_whyNot_j27
    simp only [lI_neg hl10]
    by_cases q : l = 10
    · subst q
      rw [if_pos rfl, if_pos rfl]
      rw [if_neg (fun z => z.1 rfl), if_neg (fun z => z.1 rfl)] at h
      refine step3 (fun a b => ?_) (fun a b => ?_) (fun a => ?_)
      · rw [if_neg a, if_pos b] at h; exact h
      · rw [if_neg a, if_neg b] at h; exact h
      · rw [if_pos a] at h; exact h
    · rw [if_neg q]
      rw [lI_l q]
      refine ⟨V, l, d, hI, rfl, rfl, by omega, hd, ?_⟩
      dsimp only
      cases hp1 : pairV V l d with
      | false => rw [jf0]; rw [if_pos ⟨q, hp1⟩] at h; exact h
      | true =>
        rw [jt0]; rw [if_neg (fun z => by rw [hp1] at z; exact absurd z.2 (by decide))] at h
        rw [if_neg q]
        refine ⟨V, s, l, d, hI, rfl, rfl, rfl, by omega, by omega, by omega, ?_⟩
        dsimp only
        cases hw : warmV V s l d with
        | false => rw [jf0]; rw [if_pos ⟨q, hw⟩] at h; exact h
        | true =>
          rw [jt0]; rw [if_neg (fun z => by rw [hw] at z; exact absurd z.2 (by decide))] at h
          refine step3 (fun a b => ?_) (fun a b => ?_) (fun a => ?_)
          · rw [if_neg a, if_pos b] at h; exact h
          · rw [if_neg a, if_neg b] at h; exact h
          · rw [if_pos a] at h; exact h
theorem getD_get {l : List Nat} {k : Nat} (h : k < l.length) : l.getD k 0 = l[k] := by rw [List.getD_eq_getElem?_getD, List.getElem?_eq_getElem h]; rfl
/-! the served ones -/
def setU (l : List Nat) : Nat → Nat
  | 0 => 0
  | k + 1 => setU l k ||| 2 ^ (l.getD k 0)
theorem setU_eq (l : List Nat) : ∀ k, k ≤ l.length → setU l k = setL (l.take k) := by
  intro k
  induction k with
  | zero => intro _; rfl
  | succ k ih =>
    intro h
    have h1 : l.take (k + 1) = l.take k ++ [l.getD k 0] := by
      rw [List.take_succ_eq_append_getElem (by omega), getD_get (by omega)]
    rw [h1]
    unfold setU
    rw [ih (by omega)]
    unfold setL
    rw [List.foldl_append]
    rfl
theorem setL_tb (j : Nat) : ∀ (l : List Nat) (a : Nat), (l.foldl (fun a d => a ||| 2 ^ d) a).testBit j = (a.testBit j || decide (j ∈ l)) := by
  intro l
  induction l with
  | nil => intro a; simp
  | cons d l ih =>
    intro a
    rw [List.foldl_cons, ih, tb_or2]
    by_cases h : j = d
    · subst h; simp
    · simp [h]
theorem setL_bit (l : List Nat) (j : Nat) : (setL l).testBit j = decide (j ∈ l) := by
  unfold setL; rw [setL_tb]; simp
theorem setL_lt {l : List Nat} {n : Nat} (h : ∀ d ∈ l, d < n) : setL l < 2 ^ n := by
  have key : ∀ (l : List Nat) (a : Nat), a < 2 ^ n → (∀ d ∈ l, d < n) → l.foldl (fun a d => a ||| 2 ^ d) a < 2 ^ n := by
    intro l
    induction l with
    | nil => intro a ha _; exact ha
    | cons d l ih => intro a ha hl; exact ih _ (or2_lt ha (hl d List.mem_cons_self)) fun x hx => hl x (List.mem_cons_of_mem _ hx)
  exact key l 0 (Nat.two_pow_pos n) h
theorem getD_mem {l : List Nat} {k : Nat} (h : k < l.length) : l.getD k 0 ∈ l := by
  rw [getD_get h]; exact List.getElem_mem h
theorem setNow_loop {σ : St} {V : VV} {P : Int32 → St → Prop} (hI : IX σ V) (h : P (nI (setL (vsv V))) σ) : ∀ m i : Nat, i + m = (vsv V).length → wx_setNow_l4 P (m + 1) (nI (setU (vsv V) i)) (nI i) σ := by
  have hn := hI.2.n
  have hl := hI.2.svl
  intro m
  induction m with
  | zero =>
    intro i hi
    rw [wx_setNow_l4_s, show xI_servedMany σ = _ from hI.sm, if_pos (by rw [show i = (vsv V).length by omega]; exact Int32.le_refl _), setU_eq _ i (by omega), List.take_of_length_le (by omega)]
    exact h
  | succ m ih =>
    intro i hi
    have hd := hI.2.sv.2 _ (getD_mem (l := vsv V) (k := i) (by omega))
    rw [wx_setNow_l4_s, show xI_servedMany σ = _ from hI.sm, if_neg (nI_ge (by omega) (by omega))]
    refine ⟨vp_in_nI (by omega) (by omega), ?_⟩
    rw [cl (by omega), show xA_served σ i = _ from hI.sv (d := i) (by omega), nI_shl1 _ (by omega), nI_or, nI_1]
    exact ih (i + 1) (by omega)
theorem sx_setNow_ok {σ : St} {P : Int32 → St → Prop} (h : sx_setNow σ P) : wx_setNow σ P := by
  obtain ⟨V, hI, h⟩ := h
  exact ⟨_, setNow_loop hI h (vsv V).length 0 (by omega)⟩
theorem servedSet_loop {σ : St} {V : VV} {P : Int32 → St → Prop} (hI : IM σ V) (h : P (nI (setL (vsv V))) σ) : ∀ m i : Nat, i + m = (vsv V).length → wm_servedSet_l4 P (m + 1) (nI (setU (vsv V) i)) (nI i) σ := by
  have hn := hI.2.n
  have hl := hI.2.svl
  intro m
  induction m with
  | zero =>
    intro i hi
    rw [wm_servedSet_l4_s, show mI_servedMany σ = _ from hI.sm, if_pos (by rw [show i = (vsv V).length by omega]; exact Int32.le_refl _), setU_eq _ i (by omega), List.take_of_length_le (by omega)]
    exact h
  | succ m ih =>
    intro i hi
    have hd := hI.2.sv.2 _ (getD_mem (l := vsv V) (k := i) (by omega))
    rw [wm_servedSet_l4_s, show mI_servedMany σ = _ from hI.sm, if_neg (nI_ge (by omega) (by omega))]
    refine ⟨vp_in_nI (by omega) (by omega), ?_⟩
    rw [cl (by omega), show mA_served σ i = _ from hI.sv (d := i) (by omega), nI_shl1 _ (by omega), nI_or, nI_1]
    exact ih (i + 1) (by omega)
theorem sm_servedSet_ok {σ : St} {P : Int32 → St → Prop} (h : sm_servedSet σ P) : wm_servedSet σ P := by
  obtain ⟨V, hI, h⟩ := h
  exact ⟨_, servedSet_loop hI h (vsv V).length 0 (by omega)⟩
theorem lastL_getD {l : List Nat} (h : 0 < l.length) : lastL l = l.getD (l.length - 1) 0 := by
  unfold lastL
  rw [List.getLast?_eq_getElem?, List.getElem?_eq_getElem (by omega), getD_get (by omega)]
  rfl
theorem lastL_le {V : VV} (h : WV V) : lastL (vsv V) < vn V ∨ (lastL (vsv V) = 10 ∧ vsv V = []) := by
  cases hv : vsv V with
  | nil => exact Or.inr ⟨rfl, rfl⟩
  | cons a l =>
    refine Or.inl ?_
    rw [← hv, lastL_getD (by rw [hv]; exact Nat.succ_pos _)]
    exact h.sv.2 _ (getD_mem (by rw [hv]; exact Nat.lt_of_lt_of_le (Nat.sub_lt (Nat.succ_pos _) Nat.one_pos) (Nat.le_refl _)))
theorem sx_lastNow_ok {σ : St} {P : Int32 → St → Prop} (h : sx_lastNow σ P) : wx_lastNow σ P := by
  obtain ⟨V, hI, h⟩ := h
  have hn := hI.2.n
  have hl := hI.2.svl
  unfold wx_lastNow wx_lastNow_j22
  rw [show xI_servedMany σ = _ from hI.sm]
  simp only [nI_eq0 (show (vsv V).length < 2 ^ 31 by omega)]
  by_cases q : (vsv V).length = 0
  · rw [if_pos q]
    rw [List.length_eq_zero_iff.mp q] at h
    exact h
  · rw [if_neg q, show (1 : Int32) = nI 1 from rfl, pk_sub (by omega)]
    refine ⟨vp_in_nI (by omega) (by omega), ?_⟩
    have h1 := lastL_getD (l := vsv V) (by omega)
    have hd := hI.2.sv.2 _ (getD_mem (l := vsv V) (k := (vsv V).length - 1) (by omega))
    rw [cl (by omega), show xA_served σ ((vsv V).length - 1) = _ from hI.sv (by omega), ← h1]
    rw [lI_l (by omega)] at h
    exact h
theorem sm_servedLast_ok {σ : St} {P : Int32 → St → Prop} (h : sm_servedLast σ P) : wm_servedLast σ P := by
  obtain ⟨V, hI, h⟩ := h
  have hn := hI.2.n
  have hl := hI.2.svl
  unfold wm_servedLast wm_servedLast_j22
  rw [show mI_servedMany σ = _ from hI.sm]
  simp only [nI_eq0 (show (vsv V).length < 2 ^ 31 by omega)]
  by_cases q : (vsv V).length = 0
  · rw [if_pos q]
    rw [List.length_eq_zero_iff.mp q] at h
    exact h
  · rw [if_neg q, show (1 : Int32) = nI 1 from rfl, pk_sub (by omega)]
    refine ⟨vp_in_nI (by omega) (by omega), ?_⟩
    have h1 := lastL_getD (l := vsv V) (by omega)
    have hd := hI.2.sv.2 _ (getD_mem (l := vsv V) (k := (vsv V).length - 1) (by omega))
    rw [cl (by omega), show mA_served σ ((vsv V).length - 1) = _ from hI.sv (by omega), ← h1]
    rw [lI_l (by omega)] at h
    exact h
