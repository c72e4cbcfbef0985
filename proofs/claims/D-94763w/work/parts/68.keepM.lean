/-! the model's keep and again -/
def S_keep (V : VV) (v : Int32) : VV := if rngB v 2 = true then vSKp V v.toNatClampNeg (vsto V, vla V, vsv V, vn V) else V
theorem WV.kp' {V : VV} (h : WV V) (i : Nat) : WV (vSKp V i (vsto V, vla V, vsv V, vn V)) := by
  obtain ⟨h1, h2, h3, h4, h5, h6, h7, h8, h9, h10, h11, h12⟩ := h
  refine ⟨h1, h2, h3, h4, h5, h6, h7, h8, h9, h10, h11, fun j s l sv n e => ?_⟩
  have e : (if j = i then some (vsto V, vla V, vsv V, vn V) else vkp V j) = some (s, l, sv, n) := e
  by_cases q : j = i
  · rw [if_pos q] at e
    injection e with e
    injection e with e1 e
    injection e with e2 e
    injection e with e3 e4
    subst e1; subst e2; subst e3; subst e4
    exact ⟨h6, h7, h8, Nat.le_refl _⟩
  · rw [if_neg q] at e
    exact h12 j s l sv n e
theorem keptLen {V : VV} (h : WV V) {i : Nat} {s l : Nat → Nat} {sv : List Nat} {n : Nat} (e : vkp V i = some (s, l, sv, n)) : sv.length ≤ 10 := by
  obtain ⟨h1, h2, h3, h4, h5, h6, h7, h8, h9, h10, h11, h12⟩ := h
  obtain ⟨_, _, ⟨a, b⟩, c⟩ := h12 i s l sv n e
  have := nodup_len sv a b
  omega
theorem keM_1 {σ : St} {i : Nat} {f0 : Nat → Int32} {P : Int32 → St → Prop} {K : Int32 → Int32 → St → Prop} (hi : i < 2)
    (h : ∀ f, (∀ p, (p < 22 * i ∨ 22 * i + 22 ≤ p) → f p = f0 p) → (∀ j, j < 10 → f (22 * i + j) = gA σ 12 j) → f (22 * i + 10) = gI σ 13 → K (nI (22 * i)) 0 (sA σ 50 f)) :
    ∀ m k : Nat, k + m = 10 → ∀ f, (∀ p, (p < 22 * i ∨ 22 * i + 22 ≤ p) → f p = f0 p) → (∀ j, j < k → f (22 * i + j) = gA σ 12 j) → wm_keep_l40 P K (m + 1) (nI (22 * i)) (nI k) (sA σ 50 f) := by
  intro m
  induction m with
  | zero =>
    intro k hk f h1 h2
    rw [wm_keep_l40_s, show k = 10 by omega, if_pos (by decide), show (10 : Int32) = nI 10 from rfl, nI_add]
    unfold mU_kept
    rw [uA_k, cl (by omega)]
    refine ⟨vp_in_nI (by omega) (by omega), h _ (fun p hp => ?_) (fun j hj => ?_) ?_⟩
    · rw [upd_n (by omega)]; exact h1 p hp
    · rw [upd_n (by omega)]; exact h2 j (by omega)
    · rw [upd_s]; rfl
  | succ m ih =>
    intro k hk f h1 h2
    rw [wm_keep_l40_s, show (10 : Int32) = nI 10 from rfl, if_neg (nI_ge (by omega) (by omega)), nI_add, nI_1]
    unfold mU_kept
    rw [uA_k, cl (show 22 * i + k < 2 ^ 31 by omega), cl (show k < 2 ^ 31 by omega)]
    refine ⟨vp_in_nI (by omega) (by omega), vp_in_nI (by omega) (by omega), ih (k + 1) (by omega) _ (fun p hp => ?_) (fun j hj => ?_)⟩
    · rw [upd_n (by omega)]; exact h1 p hp
    · by_cases q : j = k
      · rw [q, upd_s]; rfl
      · rw [upd_n (by omega)]; exact h2 j (by omega)
theorem keM_2 {σ : St} {i : Nat} {f0 : Nat → Int32} {P : Int32 → St → Prop} (hi : i < 2) (hs : ∀ j, j < 10 → f0 (22 * i + j) = gA σ 12 j) (hm : f0 (22 * i + 10) = gI σ 13)
    (h : ∀ f, (∀ p, (p < 22 * i ∨ 22 * i + 22 ≤ p) → f p = f0 p) → (∀ j, j < 10 → f (22 * i + j) = gA σ 12 j) → f (22 * i + 10) = gI σ 13 → (∀ j, j < 8 → f (22 * i + 11 + j) = gA σ 0 j) → f (22 * i + 19) = gI σ 9 → f (22 * i + 20) = gI σ 10 → f (22 * i + 21) = gI σ 11 → P 1 (sA σ 50 f)) :
    ∀ m k : Nat, k + m = 8 → ∀ f, (∀ p, (p < 22 * i + 11 ∨ 22 * i + 22 ≤ p) → f p = f0 p) → (∀ j, j < k → f (22 * i + 11 + j) = gA σ 0 j) → wm_keep_l81 P (m + 1) (nI (22 * i)) (nI k) (sA σ 50 f) := by
  intro m
  induction m with
  | zero =>
    intro k hk f h1 h2
    rw [wm_keep_l81_s, show k = 8 by omega, if_pos (by decide), show (19 : Int32) = nI 19 from rfl, nI_add, nI_lit1, nI_add, show (2 : Int32) = nI 2 from rfl, nI_add]
    unfold mU_kept uA
    rw [cl (show 22 * i + 19 < 2 ^ 31 by omega), cl (show 22 * i + 19 + 1 < 2 ^ 31 by omega), cl (show 22 * i + 19 + 2 < 2 ^ 31 by omega)]
    simp only [gA_sAk, sA_tw]
    refine ⟨vp_in_nI (by omega) (by omega), vp_in_nI (by omega) (by omega), vp_in_nI (by omega) (by omega), h _ (fun p hp => ?_) (fun j hj => ?_) ?_ (fun j hj => ?_) ?_ ?_ ?_⟩
    · rw [upd_n (by omega), upd_n (by omega), upd_n (by omega)]; exact h1 p (by omega)
    · rw [upd_n (by omega), upd_n (by omega), upd_n (by omega), h1 _ (by omega)]; exact hs j hj
    · rw [upd_n (by omega), upd_n (by omega), upd_n (by omega), h1 _ (by omega)]; exact hm
    · rw [upd_n (by omega), upd_n (by omega), upd_n (by omega)]; exact h2 j (by omega)
    · rw [upd_n (by omega), upd_n (by omega), upd_s]; rfl
    · rw [upd_n (by omega), show 22 * i + 20 = 22 * i + 19 + 1 by omega, upd_s]; rfl
    · rw [show 22 * i + 21 = 22 * i + 19 + 2 by omega, upd_s]; rfl
  | succ m ih =>
    intro k hk f h1 h2
    rw [wm_keep_l81_s, show (8 : Int32) = nI 8 from rfl, if_neg (nI_ge (by omega) (by omega)), show (10 : Int32) = nI 10 from rfl, nI_add, nI_1, nI_add, nI_1]
    unfold mU_kept
    rw [uA_k, cl (show 22 * i + 10 + 1 + k < 2 ^ 31 by omega), cl (show k < 2 ^ 31 by omega)]
    refine ⟨vp_in_nI (by omega) (by omega), vp_in_nI (by omega) (by omega), ih (k + 1) (by omega) _ (fun p hp => ?_) (fun j hj => ?_)⟩
    · rw [upd_n (by omega)]; exact h1 p hp
    · by_cases q : j = k
      · rw [q, show 22 * i + 11 + k = 22 * i + 10 + 1 + k by omega, upd_s]; rfl
      · rw [upd_n (by omega)]; exact h2 j (by omega)
theorem om_keep {σ : St} {V : VV} {P : Int32 → St → Prop} (hI : IM σ V) (v : Int32) (h : ∀ σ', IM σ' (S_keep V v) → P (j01 (rngB v 2)) σ') : wm_keep σ v P := by
  have hI := hI.th 0
  have hw := hI.2
  have hsl := hw.svl
  have hn := hw.n
  unfold wm_keep sm_in
  rw [inM_lit (v := v) (x := 0) (y := 1) (by decide) (by decide), rngB_lt (v := v) (y := 1) (n := 2) (by decide)]
  dsimp only
  unfold S_keep at h
  cases q : rngB v 2 with
  | false => rw [jf0]; rw [q, if_neg (by decide)] at h; exact h _ hI
  | true =>
    rw [jt0]; rw [q, if_pos rfl] at h
    obtain ⟨i, hi, rfl⟩ := rngB_of (by omega) q
    rw [cl (show i < 2 ^ 31 by omega)] at h
    rw [show (22 : Int32) * nI i = nI (22 * i) from by rw [show (22 : Int32) = nI 22 from rfl]; exact pk_mul 22 i, nar_1]
    refine ⟨vp_in_nI hi (by omega), vp_in_nI hi (by omega), 11, ?_⟩
    unfold mU_keptCame mU_isKept uA
    rw [cl (show i < 2 ^ 31 by omega)]
    have key : ∀ σ1 : St, σ1 = sA (sA (mS_thrown σ 0) 51 (upd (gA (mS_thrown σ 0) 51) i 1)) 52 (upd (gA (mS_thrown σ 0) 52) i (gI (mS_thrown σ 0) 49)) → wm_keep_l40 P (fun v2 v3 σ => ∃ n81, wm_keep_l81 P n81 v2 v3 σ) 11 (nI (22 * i)) (nI 0) (sA σ1 50 (gA σ1 50)) := by
      intro σ1 e1
      refine keM_1 (σ := σ1) (f0 := gA σ1 50) hi (fun f a b c => ⟨9, ?_⟩) 10 0 (by omega) (gA σ1 50) (fun _ _ => rfl) (fun j hj => absurd hj (by omega))
      refine keM_2 (σ := σ1) (f0 := f) hi b c (fun f' a' b' c' d' e' g' i' => ?_) 8 0 (by omega) f (fun _ _ => rfl) (fun j hj => absurd hj (by omega))
      rw [e1] at a b' c' d' e' g' i' ⊢
      obtain ⟨⟨b1, b2, b3, b4, b5, b6, b7, b8⟩, h2, h3, h4, h5, h6, h7, h8, ⟨c9, h91, h92⟩, h10, h11⟩ := hI.1
      refine h _ ⟨⟨⟨b1, b2, b3, b4, b5, b6, b7, b8⟩, h2, h3, h4, h5, h6, h7, h8, ⟨c9, h91, h92⟩, fun j hj => ?_, ruleM.kp rfl rfl h11⟩, hw.kp' i⟩
      show keptM _ j (vn V) (if j = i then some (vsto V, vla V, vsv V, vn V) else vkp V j)
      by_cases y : j = i
      · subst y
        rw [if_pos rfl]
        have hla := hI.1.1
        refine ⟨?_, fun k hk => ?_, fun k hk => ?_, fun k hk => ?_, ?_, c9, c9, ?_, ?_, Nat.le_refl _, by omega, ⟨fun _ => rfl, fun _ => rfl⟩⟩
        · show upd (gA (mS_thrown σ 0) 51) j 1 j = 1; rw [upd_s]
        · show f' (22 * j + 11 + k) = _; rw [d' k hk]; exact h4 k hk
        · show f' (22 * j + 19 + k) = _
          rcases (by omega : k = 0 ∨ k = 1 ∨ k = 2) with rfl | rfl | rfl
          · exact e'.trans b3
          · exact g'.trans b4
          · exact i'.trans b5
        · show f' (22 * j + k) = _; rw [b' k (by omega)]; exact h5 k hk
        · show f' (22 * j + 10) = _; rw [c']; exact b6
        · exact h91
        · show upd (gA (mS_thrown σ 0) 52) j (gI (mS_thrown σ 0) 49) j = nI c9; rw [upd_s]; exact h91
      · rw [if_neg y]
        have h9 := h10 j hj
        have f51 : upd (gA (mS_thrown σ 0) 51) i 1 j = gA (mS_thrown σ 0) 51 j := upd_n y
        have f52 : upd (gA (mS_thrown σ 0) 52) i (gI (mS_thrown σ 0) 49) j = gA (mS_thrown σ 0) 52 j := upd_n y
        have f50 : ∀ p, p < 22 → f' (22 * j + p) = gA (mS_thrown σ 0) 50 (22 * j + p) := fun p hp => by
          rw [a' _ (by omega), a _ (by omega)]; rfl
        revert h9
        cases ek : vkp V j with
        | none => intro h9; unfold keptM at h9 ⊢; exact f51.trans h9
        | some w =>
          obtain ⟨s, l, sv, m⟩ := w
          intro h9
          unfold keptM at h9 ⊢
          obtain ⟨g1, g2, g3, g4, g5, c, c0, g6, g7, g8⟩ := h9
          refine ⟨f51.trans g1, fun k hk => ?_, fun k hk => ?_, fun k hk => ?_, (f50 10 (by omega)).trans g5, c, c0, g6, f52.trans g7, g8⟩
          · have := f50 (11 + k) (by omega); rw [← Nat.add_assoc] at this; exact this.trans (g2 k hk)
          · have := f50 (19 + k) (by omega); rw [← Nat.add_assoc] at this; exact this.trans (g3 k hk)
          · by_cases z : k < 22
            · exact (f50 k z).trans (g4 k hk)
            · exact absurd hk (by have := keptLen hw ek; omega)
    have h9 := key _ rfl
    rw [sA_id] at h9
    exact h9
