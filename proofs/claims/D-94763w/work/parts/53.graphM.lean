/-! the model's tables -/
theorem sA_tw (σ : St) (k : Nat) (a b : Nat → Int32) : sA (sA σ k a) k b = sA σ k b := by
  unfold sA
  refine congrArg (fun f => (σ.1, f, σ.2.2)) (funext fun j => ?_)
  show (if j = k then b else if j = k then a else σ.2.1 j) = if j = k then b else σ.2.1 j
  by_cases q : j = k
  · simp only [q, if_true]
  · simp only [q, if_false]
theorem sL_tw (σ : St) (k : Nat) (a b : Nat → Int64) : sL (sL σ k a) k b = sL σ k b := by
  unfold sL
  refine congrArg (fun f => (σ.1, σ.2.1, f, σ.2.2.2)) (funext fun j => ?_)
  show (if j = k then b else if j = k then a else σ.2.2.1 j) = if j = k then b else σ.2.2.1 j
  by_cases q : j = k
  · simp only [q, if_true]
  · simp only [q, if_false]
theorem sA_id (σ : St) (k : Nat) : sA σ k (gA σ k) = σ := by
  obtain ⟨a, b, c⟩ := σ
  unfold sA gA
  refine congrArg (fun f => (a, f, c)) (funext fun j => ?_)
  by_cases q : j = k
  · rw [if_pos q, q]
  · rw [if_neg q]
theorem sL_id (σ : St) (k : Nat) : sL σ k (gL σ k) = σ := by
  obtain ⟨a, b, c, d⟩ := σ
  unfold sL gL
  refine congrArg (fun f => (a, b, f, d)) (funext fun j => ?_)
  by_cases q : j = k
  · rw [if_pos q, q]
  · rw [if_neg q]
theorem gA_sAk (σ : St) (k : Nat) (f : Nat → Int32) : gA (sA σ k f) k = f := if_pos rfl
theorem gL_sLk (σ : St) (k : Nat) (f : Nat → Int64) : gL (sL σ k f) k = f := if_pos rfl
theorem uA_k (σ : St) (k : Nat) (f : Nat → Int32) (i : Int32) (x : Int32) : uA (sA σ k f) k i x = sA σ k (upd f i.toNatClampNeg x) := by unfold uA; rw [gA_sAk, sA_tw]
theorem uL_k (σ : St) (k : Nat) (f : Nat → Int64) (i : Int32) (x : Int64) : uL (sL σ k f) k i x = sL σ k (vp_updL f i.toNatClampNeg x) := by unfold uL; rw [gL_sLk, sL_tw]
theorem nar_b (b : Bool) : vp_nar .boolean (j01 b) = j01 b := by cases b <;> decide
theorem nar_0 : vp_nar .boolean 0 = 0 := by decide
theorem nar_1 : vp_nar .boolean 1 = 1 := by decide
/-! noEnds -/
theorem noEnds_loop {σ : St} {P : St → Prop} (h : ∀ f : Nat → Int32, (∀ k, k < 11264 → f k = 0) → P (sA σ 35 f)) : ∀ m k : Nat, k + m = 11264 → ∀ f : Nat → Int32, (∀ j, j < k → f j = 0) → wm_noEnds_l2 P (m + 1) (nI k) (sA σ 35 f) := by
  intro m
  induction m with
  | zero =>
    intro k hk f hf
    rw [wm_noEnds_l2_s, show k = 11264 by omega, if_pos (by decide)]
    exact h f fun j hj => hf j (by omega)
  | succ m ih =>
    intro k hk f hf
    rw [wm_noEnds_l2_s, show (11264 : Int32) = nI 11264 from rfl, if_neg (nI_ge (by omega) (by omega)), nI_1, nar_0]
    unfold mU_isEnd
    rw [uA_k, cl (by omega)]
    refine ⟨vp_in_nI (by omega) (by omega), ih (k + 1) (by omega) _ fun j hj => ?_⟩
    by_cases q : j = k
    · rw [q, upd_s]
    · rw [upd_n q]; exact hf j (by omega)
theorem om_noEnds {σ : St} {P : St → Prop} (h : ∀ f : Nat → Int32, (∀ k, k < 11264 → f k = 0) → P (sA σ 35 f)) : wm_noEnds σ P := by
  have h9 := noEnds_loop (σ := σ) (P := P) h 11264 0 (by omega) (gA σ 35) (fun j hj => absurd hj (by omega))
  rw [sA_id] at h9
  exact ⟨_, h9⟩
/-! findEnds -/
def stE (M : Nat → Nat → Nat → Bool) (E : Nat → Nat → Bool) (n : Nat) : Nat → Nat → (Nat → Int32) → Int32 := fun s l f => j01 (E s l || anB (fun d => M s l d && decide (f d ≠ 0)) n)
theorem anB_congr {p q : Nat → Bool} : ∀ n, (∀ d, d < n → p d = q d) → anB p n = anB q n := by
  intro n
  induction n with
  | zero => intro _; rfl
  | succ n ih => intro h; unfold anB; rw [ih fun d hd => h d (by omega), h n (by omega)]
theorem stE_c {M : Nat → Nat → Nat → Bool} {E : Nat → Nat → Bool} {n : Nat} (hM : newM n M) : stepC n (stE M E n) := by
  intro s l f g _ h
  unfold stE
  rw [anB_congr n fun d hd => ?_]
  cases q : M s l d with
  | false => rfl
  | true => rw [h d hd (hM s l d hd q)]
theorem stE_spec {M : Nat → Nat → Nat → Bool} {E : Nat → Nat → Bool} {n : Nat} (hn : n ≤ 10) (hM : newM n M) {T : Nat → Int32} (hT : FixT n T (stE M E n)) : ∀ r s l, okS n s l → n ≤ pc s + r → (T (11 * s + l) ≠ 0 ↔ ∃ k, ex M n E k s l = true) := by
  intro r
  induction r with
  | zero =>
    intro s l hok hr
    have hno : ∀ d, d < n → M s l d = true → False := fun d hd hm => by
      have h1 := okS_step hok hd
      have h2 := pc_le_n h1.1 (by omega)
      rw [pc_or2 (hM s l d hd hm) (by omega)] at h2
      omega
    rw [hT s l hok]
    unfold stE
    rw [ne_eq, j01_ne0, Bool.or_eq_true, anB_iff]
    constructor
    · rintro (h | ⟨d, hd, h⟩)
      · exact ⟨0, h⟩
      · exact (hno d hd (Bool.and_eq_true _ _ ▸ h).1).elim
    · rintro ⟨k, h⟩
      cases k with
      | zero => exact Or.inl h
      | succ k => obtain ⟨d, hd, h1, _⟩ := ex_s.mp h; exact (hno d hd h1).elim
  | succ r ih =>
    intro s l hok hr
    rw [hT s l hok]
    unfold stE
    rw [ne_eq, j01_ne0, Bool.or_eq_true, anB_iff]
    constructor
    · rintro (h | ⟨d, hd, h⟩)
      · exact ⟨0, h⟩
      · have h1 := (Bool.and_eq_true _ _ ▸ h).1
        have h2 := of_decide_eq_true (Bool.and_eq_true _ _ ▸ h).2
        obtain ⟨k, hk⟩ := (ih _ _ (okS_step hok hd) (by rw [pc_or2 (hM s l d hd h1) (by omega)]; omega)).mp h2
        exact ⟨k + 1, ex_s.mpr ⟨d, hd, h1, hk⟩⟩
    · rintro ⟨k, h⟩
      cases k with
      | zero => exact Or.inl h
      | succ k =>
        obtain ⟨d, hd, h1, h2⟩ := ex_s.mp h
        exact Or.inr ⟨d, hd, by rw [h1, Bool.true_and]; exact decide_eq_true ((ih _ _ (okS_step hok hd) (by rw [pc_or2 (hM s l d hd h1) (by omega)]; omega)).mpr ⟨k, h2⟩)⟩
theorem okS_mlast {n s l : Nat} (h : okS n s l) : l < n ∨ (l = 10 ∧ s = 0) := h.2.elim (fun q => Or.inl q.1) Or.inr
theorem anB_s (p : Nat → Bool) (n : Nat) : anB p (n + 1) = (anB p n || p n) := rfl
theorem anB_mono {p : Nat → Bool} {i n : Nat} (hi : i ≤ n) (h : anB p i = true) : anB p n = true := by
  obtain ⟨k, hk, e⟩ := anB_iff.mp h
  exact anB_iff.mpr ⟨k, by omega, e⟩
theorem finE_d {V : VV} {S s l : Nat} {e : Bool} {T : Nat → Int32} {P : St → Prop} {K : Int32 → Int32 → Int32 → Int32 → St → Prop} {σ : St} (hI : IM (sA σ 36 T) V) (hS : S < 2 ^ vn V) (hok : okS (vn V) s l)
    (h : K (nI S) (nI s) (lI l) (j01 (e || anB (fun d => mv V S s l d && decide (T (11 * (s ||| 2 ^ d) + d) ≠ 0)) (vn V))) (sA σ 36 T)) :
    ∀ m d : Nat, d + m = vn V → wm_findEnds_l45 P K (m + 1) (nI S) (nI s) (lI l) (j01 (e || anB (fun d => mv V S s l d && decide (T (11 * (s ||| 2 ^ d) + d) ≠ 0)) d)) (nI d) (sA σ 36 T) := by
  have hn := hI.2.n
  have hb := okS_le hn hok
  have hp := pow_le_1024 hn
  intro m
  induction m with
  | zero =>
    intro d hd
    rw [wm_findEnds_l45_s, show mI_dishes (sA σ 36 T) = _ from hI.n, if_pos (by rw [show d = vn V by omega]; exact Int32.le_refl _), show d = vn V by omega]
    exact h
  | succ m ih =>
    intro d hd
    have ih1 := ih (d + 1) (by omega)
    have hor := or2_lt hok.1 (show d < vn V by omega)
    rw [anB_s] at ih1
    rw [wm_findEnds_l45_s, show mI_dishes (sA σ 36 T) = _ from hI.n, if_neg (nI_ge (by omega) (by omega))]
    by_cases q : (e || anB (fun d => mv V S s l d && decide (T (11 * (s ||| 2 ^ d) + d) ≠ 0)) d) = true
    · rw [q, show ∀ (A B : Prop), (if j01 true = 0 then A else B) = B from fun A B => jt0]
      have : (e || anB (fun d => mv V S s l d && decide (T (11 * (s ||| 2 ^ d) + d) ≠ 0)) (vn V)) = true := by
        rw [Bool.or_eq_true] at q ⊢
        exact q.elim Or.inl fun z => Or.inr (anB_mono (by omega) z)
      rw [this] at h
      exact h
    · rw [Bool.not_eq_true] at q
      rw [q, show ∀ (A B : Prop), (if j01 false = 0 then A else B) = A from fun A B => jf0]
      rw [← Bool.or_assoc, q, Bool.false_or] at ih1
      unfold sm_has
      rw [hasB_nI (by omega) (by omega)]
      unfold wm_findEnds_j102 wm_findEnds_j103
      rw [nI_1]
      unfold mv at ih1
      cases q2 : S.testBit d with
      | false => rw [jf0]; rw [q2, Bool.and_false, Bool.false_and] at ih1; exact ih1
      | true =>
        rw [jt0]; rw [q2, Bool.and_true] at ih1
        refine ⟨V, s, l, d, hI, rfl, rfl, rfl, hok.1, okS_mlast hok, by omega, ?_⟩
        dsimp only
        cases q3 : mayV V s l d with
        | false => rw [jf0]; rw [q3, Bool.false_and] at ih1; exact ih1
        | true =>
          rw [jt0]; rw [q3, Bool.true_and] at ih1
          rw [nI_shl1 _ (by omega), nI_or]
          refine ⟨s ||| 2 ^ d, d, rfl, (lI_l (by omega)).symm, by omega, by omega, vp_in_nI (by omega) (by omega), ?_⟩
          rw [cl (by omega), show mA_canEnd (sA σ 36 T) = T from gA_sAk _ _ _]
          by_cases q4 : T (11 * (s ||| 2 ^ d) + d) = 0
          · rw [if_pos q4]; rw [decide_eq_false (fun z => z q4)] at ih1; exact ih1
          · rw [if_neg q4]; rw [decide_eq_true q4] at ih1; exact ih1
theorem finE_l {V : VV} {S s : Nat} {E : Nat → Nat → Bool} {P : St → Prop} {K : Int32 → Int32 → St → Prop} {σ : St} (hI : IM σ V) (hS : S < 2 ^ vn V) (hE : ∀ s l, okS (vn V) s l → gA σ 35 (11 * s + l) = j01 (E s l)) (hs : s < 2 ^ vn V)
    (h : ∀ T, Done (vn V) T (stE (mv V S) E (vn V)) s (vn V + 1) → K (nI S) (nI s + (-1)) (sA σ 36 T)) :
    ∀ m j : Nat, j + m = vn V + 1 → ∀ T, Done (vn V) T (stE (mv V S) E (vn V)) s j → wm_findEnds_l11 P K (m + 1) (nI S) (nI s) (nI j - 1) (sA σ 36 T) := by
  have hn := hI.2.n
  have hp := pow_le_1024 hn
  intro m
  induction m with
  | zero =>
    intro j hj T hD
    rw [wm_findEnds_l11_s, show mI_dishes (sA σ 36 T) = _ from hI.n, if_pos ((nIm_lt (by omega) (by omega)).mpr (by omega))]
    rw [show j = vn V + 1 by omega] at hD
    exact h T hD
  | succ m ih =>
    intro j hj T hD
    rw [wm_findEnds_l11_s, show mI_dishes (sA σ 36 T) = _ from hI.n, if_neg (fun z => by have := (nIm_lt (by omega) (by omega)).mp z; omega)]
    have hl := lOf_n (j := j) hn (by omega)
    refine ⟨s, lOf j, rfl, (lOf_lI (by omega)).symm, by omega, by omega, ?_⟩
    dsimp only
    cases q : stateB s (lOf j) with
    | false =>
      rw [jf0]
      unfold wm_findEnds_j123
      rw [nIm_s]
      exact ih (j + 1) (by omega) T (hD.skip hn (by omega) hs q)
    | true =>
      rw [jt0]
      have hok := (okS_B hn hs hl).mp q
      refine ⟨s, lOf j, rfl, (lOf_lI (by omega)).symm, by omega, by omega, vp_in_nI (by omega) (by omega), ?_⟩
      rw [cl (by omega), show mA_isEnd (sA σ 36 T) (11 * s + lOf j) = _ from hE s (lOf j) hok]
      have h9 := finE_d (P := P) (K := wm_findEnds_j111 P (wm_findEnds_l11 P K (m + 1))) (e := E s (lOf j)) (T := T) (hI.qA (by decide) T) hS hok ?_ (vn V) 0 (by omega)
      · rw [show anB (fun d => mv V S s (lOf j) d && decide (T (11 * (s ||| 2 ^ d) + d) ≠ 0)) 0 = false from rfl, Bool.or_false, lOf_lI (by omega)] at h9
        exact ⟨_, h9⟩
      · refine ⟨s, lOf j, rfl, rfl, by omega, by omega, vp_in_nI (by omega) (by omega), ?_⟩
        unfold wm_findEnds_j123 mU_canEnd
        rw [uA_k, cl (by omega), nar_b, lOf_lI (by omega), nIm_s]
        refine ih (j + 1) (by omega) _ (hD.write hn (stE_c (mv_newM V S)) (by omega) hs q (fun k hk => ?_) ?_)
        · rw [upd_n hk]
        · rw [upd_s]; rfl
theorem finE_s {V : VV} {S : Nat} {E : Nat → Nat → Bool} {P : St → Prop} {σ : St} (hI : IM σ V) (hS : S < 2 ^ vn V) (hE : ∀ s l, okS (vn V) s l → gA σ 35 (11 * s + l) = j01 (E s l))
    (h : ∀ T, FixT (vn V) T (stE (mv V S) E (vn V)) → P (sA σ 36 T)) :
    ∀ m : Nat, m ≤ 2 ^ vn V → ∀ T, (0 < m → Done (vn V) T (stE (mv V S) E (vn V)) (m - 1) 0) → (m = 0 → FixT (vn V) T (stE (mv V S) E (vn V))) → wm_findEnds_l5 P (m + 1) (nI S) (nI m - 1) (sA σ 36 T) := by
  have hn := hI.2.n
  have hp := pow_le_1024 hn
  intro m
  induction m with
  | zero =>
    intro hm T _ hF
    rw [wm_findEnds_l5_s, if_pos (by decide)]
    exact h T (hF rfl)
  | succ m ih =>
    intro hm T hD _
    rw [wm_findEnds_l5_s, nI_pred, if_neg (nI_lt0 (by omega))]
    refine ⟨vn V + 2, ?_⟩
    refine finE_l hI hS hE (show m < 2 ^ vn V by omega) (fun T' hD' => ?_) (vn V + 1) 0 (by omega) T (hD (by omega))
    rw [show nI m + (-1) = nI m - 1 from (Int32.sub_eq_add_neg _ _).symm]
    refine ih (by omega) T' (fun hpos => ?_) (fun h0 => ?_)
    · rw [show m = m - 1 + 1 by omega] at hD'
      exact hD'.next hn
    · rw [h0] at hD'; exact hD'.fix hn
theorem om_findEnds {V : VV} {S : Nat} {E : Nat → Nat → Bool} {P : St → Prop} {σ : St} (hI : IM σ V) (hS : S < 2 ^ vn V) (hE : ∀ s l, okS (vn V) s l → gA σ 35 (11 * s + l) = j01 (E s l))
    (h : ∀ T, FixT (vn V) T (stE (mv V S) E (vn V)) → P (sA σ 36 T)) : wm_findEnds σ (nI S) P := by
  have h1 := Nat.one_le_two_pow (n := vn V)
  refine ⟨V, hI, 2 ^ vn V + 1, ?_⟩
  have h9 := finE_s (P := P) hI hS hE h (2 ^ vn V) (by omega) (gA σ 36) (fun _ => Done.start _ _) (fun z => by omega)
  rw [sA_id, nI_lit1, pk_sub h1] at h9
  exact h9
/-! tellWay -/
theorem telM_d {V : VV} {S s l D : Nat} {P : St → Prop} {K : Int32 → Int32 → Int32 → St → Prop} {σ : St} (hI : IM σ V) (hS : S < 2 ^ vn V) (hok : okS (vn V) s l) (hD : D < vn V) (hm : mv V S s l D = true) (hT : gA σ 36 (11 * (s ||| 2 ^ D) + D) ≠ 0)
    (hno : ∀ d, d < D → mv V S s l d = true → gA σ 36 (11 * (s ||| 2 ^ d) + d) = 0) (hr : (vrow V).length < 12)
    (h : ∀ σ', IM σ' (vSRow V (vrow V ++ [nI D])) → Kp [1, 6, 9, 10, 11, 13, 17, 20, 21, 22, 23, 24, 25, 27, 28, 29, 30, 31, 32, 33, 34, 39, 49] [0, 2, 3, 4, 5, 7, 8, 12, 14, 15, 16, 26, 35, 36, 38, 40, 41, 42, 43, 44, 45, 47, 48, 50, 51, 52] σ σ' → (∀ k, gL σ' k = gL σ k) → K (nI S) (nI (s ||| 2 ^ D)) (nI D) σ') :
    ∀ m d : Nat, d + m = D → wm_tellWay_l24 P K (m + 1) (nI S) (nI s) (lI l) (nI d) σ := by
  have hn := hI.2.n
  have hb := okS_le hn hok
  have hp := pow_le_1024 hn
  intro m
  induction m with
  | zero =>
    intro d hd
    have e : d = D := by omega
    subst e
    have hor := or2_lt hok.1 hD
    unfold mv at hm
    rw [Bool.and_eq_true] at hm
    rw [wm_tellWay_l24_s]
    unfold sm_has
    dsimp only
    rw [hasB_nI (by omega) (by omega), hm.2, jt0]
    refine ⟨V, s, l, d, hI, rfl, rfl, rfl, hok.1, okS_mlast hok, hD, ?_⟩
    dsimp only
    rw [hm.1, jt0, nI_shl1 _ (by omega), nI_or]
    refine ⟨s ||| 2 ^ d, d, rfl, (lI_l (by omega)).symm, by omega, by omega, vp_in_nI (by omega) (by omega), ?_⟩
    rw [cl (by omega), if_neg hT]
    exact ⟨V, hI, hr, fun σ' h' kp kl => h σ' h' kp kl⟩
  | succ m ih =>
    intro d hd
    have ih1 := ih (d + 1) (by omega)
    have hor := or2_lt hok.1 (show d < vn V by omega)
    have hno1 := hno d (by omega)
    unfold mv at hno1
    rw [wm_tellWay_l24_s]
    unfold sm_has wm_tellWay_j66
    rw [hasB_nI (by omega) (by omega), nI_1]
    cases q2 : S.testBit d with
    | false => rw [jf0]; exact ih1
    | true =>
      rw [jt0]; rw [q2, Bool.and_true] at hno1
      refine ⟨V, s, l, d, hI, rfl, rfl, rfl, hok.1, okS_mlast hok, by omega, ?_⟩
      dsimp only
      cases q3 : mayV V s l d with
      | false => rw [jf0]; exact ih1
      | true =>
        rw [jt0, nI_shl1 _ (by omega), nI_or]
        refine ⟨s ||| 2 ^ d, d, rfl, (lI_l (by omega)).symm, by omega, by omega, vp_in_nI (by omega) (by omega), ?_⟩
        rw [cl (by omega), show mA_canEnd σ (11 * (s ||| 2 ^ d) + d) = 0 from hno1 q3, if_pos rfl]
        exact ih1
theorem telM_k {V : VV} {S c : Nat} {E : Nat → Nat → Bool} {P : St → Prop} (hS : S < 2 ^ vn V) {F T : Nat → Int32} (hE : ∀ s l, okS (vn V) s l → F (11 * s + l) = j01 (E s l)) (hT : FixT (vn V) T (stE (mv V S) E (vn V))) (hpc : ∀ s l, E s l = true → pc s = c) :
    ∀ k s l, ∀ W, (∃ r, W = vSRow V r) → okS (vn V) s l → ex (mv V S) (vn V) E k s l = true → (vrow W).length + k ≤ 12 → ∀ σ, IM σ W → gA σ 35 = F → gA σ 36 = T →
      (∀ σ', IM σ' (rowG W (way (mv V S) (vn V) (ex (mv V S) (vn V) E) k s l)) → Kp [1, 6, 9, 10, 11, 13, 17, 20, 21, 22, 23, 24, 25, 27, 28, 29, 30, 31, 32, 33, 34, 39, 49] [0, 2, 3, 4, 5, 7, 8, 12, 14, 15, 16, 26, 35, 36, 38, 40, 41, 42, 43, 44, 45, 47, 48, 50, 51, 52] σ σ' → P σ') → wm_tellWay_l6 P (k + 1) (nI S) (nI s) (lI l) σ := by
  intro k
  induction k with
  | zero =>
    intro s l W eW hok hx hr σ hI h35 h36 h
    have hn : vn V ≤ 10 := by obtain ⟨r, rfl⟩ := eW; exact hI.2.n
    have hb := okS_le hn hok
    have hp := pow_le_1024 hn
    rw [wm_tellWay_l6_s]
    refine ⟨s, l, rfl, rfl, by omega, by omega, vp_in_nI (by omega) (by omega), ?_⟩
    rw [cl (by omega), show mA_isEnd σ = F from h35, hE s l hok, show E s l = true from hx, jt0]
    refine h σ ?_ (Kp.rf _ _ _)
    show IM σ (rowG W [])
    rw [rowG_nil]; exact hI
  | succ k ih =>
    intro s l W eW hok hx hr σ hI h35 h36 h
    obtain ⟨r, rfl⟩ := eW
    have hn : vn V ≤ 10 := hI.2.n
    have hM := mv_newM V S
    have hb := okS_le hn hok
    have hp := pow_le_1024 hn
    have hc := ex_pc hn hM hpc _ _ _ hx
    have hE0 : E s l = false := Bool.eq_false_iff.mpr fun z => by have := hpc s l z; omega
    rw [wm_tellWay_l6_s]
    refine ⟨s, l, rfl, rfl, by omega, by omega, vp_in_nI (by omega) (by omega), ?_⟩
    rw [cl (by omega), show mA_isEnd σ = F from h35, hE s l hok, hE0, jf0]
    have can : ∀ d, d < vn V → mv V S s l d = true → (T (11 * (s ||| 2 ^ d) + d) ≠ 0 ↔ ex (mv V S) (vn V) E k (s ||| 2 ^ d) d = true) := by
      intro d hd hm
      rw [stE_spec hn hM hT (vn V) _ _ (okS_step hok hd) (by omega)]
      refine ⟨fun ⟨k', hk'⟩ => ?_, fun z => ⟨k, z⟩⟩
      have h1 := ex_pc hn hM hpc _ _ _ hk'
      rw [pc_or2 (hM s l d hd hm) (by omega)] at h1
      rw [show k = k' by omega]; exact hk'
    obtain ⟨d0, hd0, hm0, hx0⟩ := ex_s.mp hx
    obtain ⟨a, b, c'⟩ := lst_ex (p := fun d => mv V S s l d && ex (mv V S) (vn V) E k (s ||| 2 ^ d) d) hd0 (by rw [hm0, hx0]; rfl)
    have b1 := (Bool.and_eq_true _ _ ▸ b).1
    have b2 := (Bool.and_eq_true _ _ ▸ b).2
    unfold way at h
    generalize lst (fun d => mv V S s l d && ex (mv V S) (vn V) E k (s ||| 2 ^ d) d) (vn V) = D at a b b1 b2 c' h
    have hlen : r.length + (k + 1) ≤ 12 := hr
    refine ⟨D + 1, telM_d (V := vSRow V r) hI hS hok a b1 (by rw [h36]; exact (can D a b1).mpr b2) (fun d hd hm => ?_) (by show r.length < 12; omega) (fun σ' hI' kp _ => ?_) D 0 (by omega)⟩
    · have := c' d hd
      rw [show mv V S s l d = true from hm, Bool.true_and] at this
      rw [h36]
      exact Decidable.byContradiction fun z => by rw [(can d (by omega) hm).mp z] at this; exact absurd this (by decide)
    · have h9 := ih (s ||| 2 ^ D) D (vSRow V (r ++ [nI D])) ⟨_, rfl⟩ (okS_step hok a) b2 (by show (r ++ [nI D]).length + k ≤ 12; rw [List.length_append]; show r.length + 1 + k ≤ 12; omega) σ' hI' (by rw [kp.2.1 35 (by decide), h35]) (by rw [kp.2.1 36 (by decide), h36]) (fun σ'' hI'' kp'' => h σ'' (by rw [← rowG_two]; exact hI'') (kp.tr kp''))
      rw [lI_l (by omega)] at h9
      exact h9
theorem om_tellWay {σ : St} {V : VV} {S c k s l : Nat} {E : Nat → Nat → Bool} {P : St → Prop} (hI : IM σ V) (hS : S < 2 ^ vn V) (hE : ∀ s l, okS (vn V) s l → gA σ 35 (11 * s + l) = j01 (E s l)) (hT : FixT (vn V) (gA σ 36) (stE (mv V S) E (vn V))) (hpc : ∀ s l, E s l = true → pc s = c)
    (hok : okS (vn V) s l) (hx : ex (mv V S) (vn V) E k s l = true) (hr : (vrow V).length + k ≤ 12)
    (h : ∀ σ', IM σ' (rowG V (way (mv V S) (vn V) (ex (mv V S) (vn V) E) k s l)) → Kp [1, 6, 9, 10, 11, 13, 17, 20, 21, 22, 23, 24, 25, 27, 28, 29, 30, 31, 32, 33, 34, 39, 49] [0, 2, 3, 4, 5, 7, 8, 12, 14, 15, 16, 26, 35, 36, 38, 40, 41, 42, 43, 44, 45, 47, 48, 50, 51, 52] σ σ' → P σ') : wm_tellWay σ (nI s) (lI l) (nI S) P :=
  ⟨_, telM_k (V := V) hS hE hT hpc k s l V ⟨vrow V, rfl⟩ hok hx hr σ hI rfl rfl h⟩
