theorem whyV_ge (V : VV) (s l d : Nat) : 0 ≤ whyV V s l d ↔ whyV V s l d = 0 := by
  unfold whyV
  split
  · decide
  · split
    · decide
    · split
      · decide
      · split
        · decide
        · split <;> decide
theorem why_new {V : VV} {s l d : Nat} (h : whyV V s l d = 0) : s.testBit d = false := by
  cases q : s.testBit d with
  | false => rfl
  | true => unfold whyV at h; rw [if_pos q] at h; exact absurd h (by decide)
theorem lastL_x {V : VV} (h : WV V) : lastL (vsv V) < vn V ∨ lastL (vsv V) = 10 := by
  rcases lastL_le h with q | q
  · exact Or.inl q
  · exact Or.inr q.1
theorem lastL_m {V : VV} (h : WV V) : lastL (vsv V) < vn V ∨ (lastL (vsv V) = 10 ∧ setL (vsv V) = 0) := by
  rcases lastL_le h with q | q
  · exact Or.inl q
  · exact Or.inr ⟨q.1, by rw [q.2]; rfl⟩
theorem WV.sv' {V : VV} (h : WV V) {l : List Nat} (hl : l.Nodup ∧ ∀ d ∈ l, d < vn V) : WV (vSSv V l) := by
  obtain ⟨h1, h2, h3, h4, h5, h6, h7, _, h9, h10, h11, h12⟩ := h
  exact ⟨h1, h2, h3, h4, h5, h6, h7, hl, h9, h10, h11, h12⟩
/-! serve -/
def wNow (V : VV) (d : Nat) : Int32 := whyV V (setL (vsv V)) (lastL (vsv V)) d
def R_serve (V : VV) (v : Int32) : Int32 := if rngB v (vn V) = true then (if 0 ≤ wNow V v.toNatClampNeg then nI ((vsv V).length + 1) else wNow V v.toNatClampNeg) else -1
def S_serve (V : VV) (v : Int32) : VV := if rngB v (vn V) = true ∧ 0 ≤ wNow V v.toNatClampNeg then vSSv V (vsv V ++ [v.toNatClampNeg]) else V
theorem serve_ok {V : VV} (h : WV V) {d : Nat} (hd : d < vn V) (q : 0 ≤ wNow V d) : ((vsv V ++ [d]).Nodup ∧ ∀ x ∈ vsv V ++ [d], x < vn V) ∧ (vsv V).length < 10 := by
  have h1 := why_new ((whyV_ge _ _ _ _).mp q)
  rw [setL_bit] at h1
  have h2 : d ∉ vsv V := of_decide_eq_false h1
  have h3 : (vsv V ++ [d]).Nodup ∧ ∀ x ∈ vsv V ++ [d], x < vn V := by
    refine ⟨List.nodup_append.mpr ⟨h.sv.1, by simp, ?_⟩, fun x hx => ?_⟩
    · intro a ha b hb e
      rw [List.mem_singleton] at hb
      subst hb; subst e
      exact h2 ha
    · rcases List.mem_append.mp hx with q2 | q2
      · exact h.sv.2 x q2
      · rw [List.mem_singleton.mp q2]; exact hd
  refine ⟨h3, ?_⟩
  have h4 := nodup_len _ h3.1 h3.2
  rw [List.length_append] at h4
  have := h.n
  simp only [List.length_cons, List.length_nil] at h4
  omega
theorem natpush {f : Nat → Int32} {l : List Nat} {v : Nat} (h : ∀ k, k < l.length → f k = nI (l.getD k 0)) : ∀ k, k < (l ++ [v]).length → upd f l.length (nI v) k = nI ((l ++ [v]).getD k 0) := by
  intro k hk
  rw [List.length_append] at hk
  simp only [List.length_cons, List.length_nil] at hk
  by_cases q : k = l.length
  · subst q; rw [upd_s, getD_app_eq]
  · rw [upd_n q, getD_app_lt (by omega)]; exact h k (by omega)
theorem ox_serve {σ : St} {V : VV} {P : Int32 → St → Prop} (hI : IX σ V) (v : Int32) (h : ∀ σ', IX σ' (S_serve V v) → P (R_serve V v) σ') : wx_serve σ v P := by
  have hn := hI.2.n
  have hl := hI.2.svl
  refine ⟨V, hI, ?_⟩
  dsimp only
  unfold R_serve S_serve at h
  cases q : rngB v (vn V) with
  | false => rw [jf0]; simp only [q, Bool.false_eq_true, false_and, if_false] at h; exact h σ hI
  | true =>
    rw [jt0]; rw [if_pos q] at h
    obtain ⟨d, hd, rfl⟩ := rngB_of (by omega) q
    rw [cl (by omega)] at h
    refine ⟨V, hI, ⟨V, hI, ⟨V, setL (vsv V), lastL (vsv V), d, hI, rfl, rfl, rfl, setL_lt hI.2.sv.2, lastL_x hI.2, hd, ?_⟩⟩⟩
    dsimp only
    by_cases q2 : 0 ≤ whyV V (setL (vsv V)) (lastL (vsv V)) d
    · rw [if_pos q2]
      rw [if_pos (show 0 ≤ wNow V d from q2), if_pos ⟨q, q2⟩] at h
      obtain ⟨hs, hlen⟩ := serve_ok hI.2 hd q2
      rw [show xI_servedMany σ = _ from hI.sm]
      refine ⟨vp_in_nI hlen (by omega), ?_⟩
      unfold xU_served uA
      rw [cl (by omega)]
      have e1 : xI_servedMany (sA σ 7 (upd (gA σ 7) (vsv V).length (nI d))) + (1 : Int32) = nI ((vsv V).length + 1) := by rw [show xI_servedMany (sA σ 7 (upd (gA σ 7) (vsv V).length (nI d))) = _ from hI.sm, nI_1]
      rw [e1]
      obtain ⟨⟨a1, a2, a3, a4, a5, a6⟩, h2, h3, h4, h5, h6, h7, h8, h9, h10, h11⟩ := hI.1
      refine h _ ⟨⟨⟨a1, a2, a3, ?_, a5, a6⟩, h2, h3, h4, h5, natpush h6, h7, h8, h9, fun i hi => keptX.kp rfl rfl (h10 i hi), ruleX.kp rfl rfl h11⟩, hI.2.sv' hs⟩
      show nI ((vsv V).length + 1) = nI (vsv V ++ [d]).length
      rw [List.length_append]; rfl
    · rw [if_neg q2]
      rw [if_neg (show ¬ 0 ≤ wNow V d from q2), if_neg (fun z => q2 z.2)] at h
      exact h σ hI
theorem om_serve {σ : St} {V : VV} {P : Int32 → St → Prop} (hI : IM σ V) (v : Int32) (h : ∀ σ', IM σ' (S_serve V v) → P (R_serve V v) σ') : wm_serve σ v P := by
  have hn := hI.2.n
  have hl := hI.2.svl
  have hI := hI.th 0
  refine ⟨V, hI, ?_⟩
  dsimp only
  unfold R_serve S_serve at h
  cases q : rngB v (vn V) with
  | false => rw [jf0]; simp only [q, Bool.false_eq_true, false_and, if_false] at h; exact h _ hI
  | true =>
    rw [jt0]; rw [if_pos q] at h
    obtain ⟨d, hd, rfl⟩ := rngB_of (by omega) q
    rw [cl (by omega)] at h
    refine ⟨V, hI, ⟨V, hI, ⟨V, setL (vsv V), lastL (vsv V), d, hI, rfl, rfl, rfl, setL_lt hI.2.sv.2, lastL_m hI.2, hd, ?_⟩⟩⟩
    dsimp only
    by_cases q2 : 0 ≤ whyV V (setL (vsv V)) (lastL (vsv V)) d
    · rw [if_pos q2]
      rw [if_pos (show 0 ≤ wNow V d from q2), if_pos ⟨q, q2⟩] at h
      obtain ⟨hs, hlen⟩ := serve_ok hI.2 hd q2
      rw [show mI_servedMany (mS_thrown σ 0) = _ from hI.sm]
      refine ⟨vp_in_nI hlen (by omega), ?_⟩
      unfold mU_served uA
      rw [cl (by omega)]
      have e1 : mI_servedMany (sA (mS_thrown σ 0) 12 (upd (gA (mS_thrown σ 0) 12) (vsv V).length (nI d))) + (1 : Int32) = nI ((vsv V).length + 1) := by rw [show mI_servedMany (sA (mS_thrown σ 0) 12 (upd (gA (mS_thrown σ 0) 12) (vsv V).length (nI d))) = _ from hI.sm, nI_1]
      rw [e1]
      obtain ⟨⟨a1, a2, a3, a4, a5, a6, a7, a8⟩, h2, h3, h4, h5, h6, h7, h8, h9, h10, h11⟩ := hI.1
      refine h _ ⟨⟨⟨a1, a2, a3, a4, a5, ?_, a7, a8⟩, h2, h3, h4, natpush h5, h6, h7, h8, h9, fun i hi => keptM.kp rfl rfl rfl rfl (h10 i hi), ruleM.kp rfl rfl h11⟩, hI.2.sv' hs⟩
      show nI ((vsv V).length + 1) = nI (vsv V ++ [d]).length
      rw [List.length_append]; rfl
    · rw [if_neg q2]
      rw [if_neg (show ¬ 0 ≤ wNow V d from q2), if_neg (fun z => q2 z.2)] at h
      exact h _ hI
/-! back -/
def R_back (V : VV) : Int32 := if (vsv V).length = 0 then -1 else nI ((vsv V).getD ((vsv V).length - 1) 0)
def S_back (V : VV) : VV := vSSv V (vsv V).dropLast
theorem getD_dropLast {l : List Nat} {k : Nat} (h : k < l.length - 1) : l.dropLast.getD k 0 = l.getD k 0 := by
  rw [List.dropLast_eq_take, getD_take h]
theorem ox_back {σ : St} {V : VV} {P : Int32 → St → Prop} (hI : IX σ V) (h : ∀ σ', IX σ' (S_back V) → P (R_back V) σ') : wx_back σ P := by
  have hn := hI.2.n
  have hl := hI.2.svl
  unfold wx_back
  rw [show xI_servedMany σ = _ from hI.sm]
  simp only [nI_eq0 (show (vsv V).length < 2 ^ 31 by omega)]
  unfold R_back S_back at h
  by_cases q : (vsv V).length = 0
  · rw [if_pos q]; rw [if_pos q] at h
    have e : vsv V = [] := List.length_eq_zero_iff.mp q
    exact h σ ⟨by
      obtain ⟨⟨a1, a2, a3, a4, a5, a6⟩, h2, h3, h4, h5, h6, h7, h8, h9, h10, h11⟩ := hI.1
      refine ⟨⟨a1, a2, a3, ?_, a5, a6⟩, h2, h3, h4, h5, ?_, h7, h8, h9, h10, h11⟩
      · show gI σ 11 = nI (vsv V).dropLast.length
        rw [a4, e]; rfl
      · intro k hk
        have hk2 : k < (vsv V).dropLast.length := hk
        rw [e] at hk2; exact absurd hk2 (by simp), hI.2.sv' (by rw [e]; simp)⟩
  · rw [if_neg q, show (1 : Int32) = nI 1 from rfl, pk_sub (by omega)]
    rw [if_neg q] at h
    have e1 : xI_servedMany (xS_servedMany σ (nI ((vsv V).length - 1))) = nI ((vsv V).length - 1) := rfl
    rw [e1]
    refine ⟨vp_in_nI (by omega) (by omega), ?_⟩
    rw [cl (by omega)]
    obtain ⟨⟨a1, a2, a3, a4, a5, a6⟩, h2, h3, h4, h5, h6, h7, h8, h9, h10, h11⟩ := hI.1
    rw [show xA_served (xS_servedMany σ (nI ((vsv V).length - 1))) ((vsv V).length - 1) = _ from h6 _ (by omega)]
    refine h _ ⟨⟨⟨a1, a2, a3, ?_, a5, a6⟩, h2, h3, h4, h5, ?_, h7, h8, h9, fun i hi => keptX.kp rfl rfl (h10 i hi), ruleX.kp rfl rfl h11⟩, hI.2.sv' ⟨hI.2.sv.1.sublist (List.dropLast_sublist _), fun d hd => hI.2.sv.2 d (List.dropLast_subset _ hd)⟩⟩
    · show nI ((vsv V).length - 1) = nI (vsv V).dropLast.length
      rw [List.length_dropLast]
    · intro k hk
      have hk2 : k < (vsv V).dropLast.length := hk
      rw [List.length_dropLast] at hk2
      show gA σ 7 k = nI ((vsv V).dropLast.getD k 0)
      rw [getD_dropLast hk2]; exact h6 k (by omega)
theorem om_back {σ : St} {V : VV} {P : Int32 → St → Prop} (hI : IM σ V) (h : ∀ σ', IM σ' (S_back V) → P (R_back V) σ') : wm_back σ P := by
  have hn := hI.2.n
  have hl := hI.2.svl
  have hI := hI.th 0
  unfold wm_back
  rw [show mI_servedMany (mS_thrown σ 0) = _ from hI.sm]
  simp only [nI_eq0 (show (vsv V).length < 2 ^ 31 by omega)]
  unfold R_back S_back at h
  by_cases q : (vsv V).length = 0
  · rw [if_pos q]; rw [if_pos q] at h
    have e : vsv V = [] := List.length_eq_zero_iff.mp q
    exact h _ ⟨by
      obtain ⟨⟨a1, a2, a3, a4, a5, a6, a7, a8⟩, h2, h3, h4, h5, h6, h7, h8, h9, h10, h11⟩ := hI.1
      refine ⟨⟨a1, a2, a3, a4, a5, ?_, a7, a8⟩, h2, h3, h4, ?_, h6, h7, h8, h9, h10, h11⟩
      · show gI (mS_thrown σ 0) 13 = nI (vsv V).dropLast.length
        rw [a6, e]; rfl
      · intro k hk
        have hk2 : k < (vsv V).dropLast.length := hk
        rw [e] at hk2; exact absurd hk2 (by simp), hI.2.sv' (by rw [e]; simp)⟩
  · rw [if_neg q, show (1 : Int32) = nI 1 from rfl, pk_sub (by omega)]
    rw [if_neg q] at h
    have e1 : mI_servedMany (mS_servedMany (mS_thrown σ 0) (nI ((vsv V).length - 1))) = nI ((vsv V).length - 1) := rfl
    rw [e1]
    refine ⟨vp_in_nI (by omega) (by omega), ?_⟩
    rw [cl (by omega)]
    obtain ⟨⟨a1, a2, a3, a4, a5, a6, a7, a8⟩, h2, h3, h4, h5, h6, h7, h8, h9, h10, h11⟩ := hI.1
    rw [show mA_served (mS_servedMany (mS_thrown σ 0) (nI ((vsv V).length - 1))) ((vsv V).length - 1) = _ from h5 _ (by omega)]
    refine h _ ⟨⟨⟨a1, a2, a3, a4, a5, ?_, a7, a8⟩, h2, h3, h4, ?_, h6, h7, h8, h9, fun i hi => keptM.kp rfl rfl rfl rfl (h10 i hi), ruleM.kp rfl rfl h11⟩, hI.2.sv' ⟨hI.2.sv.1.sublist (List.dropLast_sublist _), fun d hd => hI.2.sv.2 d (List.dropLast_subset _ hd)⟩⟩
    · show nI ((vsv V).length - 1) = nI (vsv V).dropLast.length
      rw [List.length_dropLast]
    · intro k hk
      have hk2 : k < (vsv V).dropLast.length := hk
      rw [List.length_dropLast] at hk2
      show gA σ 12 k = nI ((vsv V).dropLast.getD k 0)
      rw [getD_dropLast hk2]; exact h5 k (by omega)
/-! can -/
def R_can (V : VV) : Int32 := nI (bitsOf (fun d => mayV V (setL (vsv V)) (lastL (vsv V)) d) (vn V))
theorem bitsOf_s (p : Nat → Bool) (i : Nat) : bitsOf p (i + 1) = bitsOf p i ||| (if p i = true then 2 ^ i else 0) := rfl
theorem canX_loop {σ : St} {V : VV} {P : Int32 → St → Prop} (hI : IX σ V) (h : P (R_can V) σ) : ∀ m i : Nat, i + m = vn V → wx_can_l4 P (m + 1) (nI (bitsOf (fun d => mayV V (setL (vsv V)) (lastL (vsv V)) d) i)) (nI i) σ := by
  have hn := hI.2.n
  intro m
  induction m with
  | zero =>
    intro i hi
    rw [wx_can_l4_s, show xI_dishes σ = _ from hI.n, if_pos (by rw [show i = vn V by omega]; exact Int32.le_refl _), show i = vn V by omega]
    exact h
  | succ m ih =>
    intro i hi
    have ih1 := ih (i + 1) (by omega)
    rw [bitsOf_s] at ih1
    rw [wx_can_l4_s, show xI_dishes σ = _ from hI.n, if_neg (nI_ge (by omega) (by omega))]
    refine ⟨V, hI, ⟨V, hI, ⟨V, setL (vsv V), lastL (vsv V), i, hI, rfl, rfl, rfl, setL_lt hI.2.sv.2, lastL_x hI.2, by omega, ?_⟩⟩⟩
    dsimp only
    unfold wx_can_j36
    rw [nI_shl1 i (by omega), nI_1, nI_or]
    unfold mayV at ih1 ⊢
    by_cases q : whyV V (setL (vsv V)) (lastL (vsv V)) i = 0
    · rw [if_pos q]; rw [if_pos (decide_eq_true q)] at ih1; exact ih1
    · rw [if_neg q, lit0', nI_or]; rw [if_neg (by rw [decide_eq_false q]; decide)] at ih1; exact ih1
theorem ox_can {σ : St} {V : VV} {P : Int32 → St → Prop} (hI : IX σ V) (h : P (R_can V) σ) : wx_can σ P := ⟨_, canX_loop hI h (vn V) 0 (by omega)⟩
theorem canM_loop {σ : St} {V : VV} {P : Int32 → St → Prop} (hI : IM σ V) (h : P (R_can V) σ) : ∀ m i : Nat, i + m = vn V → wm_can_l9 P (m + 1) (nI (bitsOf (fun d => mayV V (setL (vsv V)) (lastL (vsv V)) d) i)) (nI i) σ := by
  have hn := hI.2.n
  intro m
  induction m with
  | zero =>
    intro i hi
    rw [wm_can_l9_s, show mI_dishes σ = _ from hI.n, if_pos (by rw [show i = vn V by omega]; exact Int32.le_refl _), show i = vn V by omega]
    exact h
  | succ m ih =>
    intro i hi
    have ih1 := ih (i + 1) (by omega)
    rw [bitsOf_s] at ih1
    rw [wm_can_l9_s, show mI_dishes σ = _ from hI.n, if_neg (nI_ge (by omega) (by omega))]
    refine ⟨V, hI, ⟨V, hI, ⟨V, setL (vsv V), lastL (vsv V), i, hI, rfl, rfl, rfl, setL_lt hI.2.sv.2, lastL_m hI.2, by omega, ?_⟩⟩⟩
    dsimp only
    unfold wm_can_j41
    rw [nI_shl1 i (by omega), nI_1, nI_or]
    unfold mayV at ih1 ⊢
    by_cases q : whyV V (setL (vsv V)) (lastL (vsv V)) i = 0
    · rw [if_pos q]; rw [if_pos (decide_eq_true q)] at ih1; exact ih1
    · rw [if_neg q, lit0', nI_or]; rw [if_neg (by rw [decide_eq_false q]; decide)] at ih1; exact ih1
theorem om_can {σ : St} {V : VV} {P : Int32 → St → Prop} (hI : IM σ V) (h : ∀ σ', IM σ' V → P (R_can V) σ') : wm_can σ P := ⟨_, canM_loop (hI.th 0) (h _ (hI.th 0)) (vn V) 0 (by omega)⟩
