def agB (V : VV) (v : Int32) : Bool := rngB v 2 && (match vkp V v.toNatClampNeg with
  | none => false
  | some (_, _, _, m) => decide (m = vn V))
def S_again (V : VV) (v : Int32) : VV := if agB V v = true then (match vkp V v.toNatClampNeg with
  | none => V
  | some (s, l, sv, _) => vSSv (vSLa (vSSto V s) l) sv) else V
theorem WV.kpl {V : VV} (h : WV V) {i : Nat} {s l : Nat → Nat} {sv : List Nat} {n : Nat} (e : vkp V i = some (s, l, sv, n)) : (∀ k, k < 8 → s k ≤ 99) ∧ okLaw l ∧ (sv.Nodup ∧ ∀ d ∈ sv, d < n) ∧ n ≤ vn V := by
  obtain ⟨h1, h2, h3, h4, h5, h6, h7, h8, h9, h10, h11, h12⟩ := h
  exact h12 i s l sv n e
theorem agM_1 {σ : St} {i : Nat} {P : Int32 → St → Prop} {K : Int32 → Int32 → St → Prop} (hi : i < 2)
    (h : ∀ f, (∀ j, j < 10 → f j = gA σ 50 (22 * i + j)) → K (nI (22 * i)) 0 (sI (sA σ 12 f) 13 (gA σ 50 (22 * i + 10)))) :
    ∀ m k : Nat, k + m = 10 → ∀ f, (∀ j, j < k → f j = gA σ 50 (22 * i + j)) → wm_again_l45 P K (m + 1) (nI (22 * i)) (nI k) (sA σ 12 f) := by
  intro m
  induction m with
  | zero =>
    intro k hk f h1
    rw [wm_again_l45_s, show k = 10 by omega, if_pos (by decide), show (10 : Int32) = nI 10 from rfl, nI_add, cl (by omega)]
    exact ⟨vp_in_nI (by omega) (by omega), h f fun j hj => h1 j (by omega)⟩
  | succ m ih =>
    intro k hk f h1
    rw [wm_again_l45_s, show (10 : Int32) = nI 10 from rfl, if_neg (nI_ge (by omega) (by omega)), nI_add, nI_1]
    unfold mU_served
    rw [uA_k, cl (show 22 * i + k < 2 ^ 31 by omega), cl (show k < 2 ^ 31 by omega)]
    refine ⟨vp_in_nI (by omega) (by omega), vp_in_nI (by omega) (by omega), ih (k + 1) (by omega) _ (fun j hj => ?_)⟩
    by_cases q : j = k
    · rw [q, upd_s]; rfl
    · rw [upd_n q]; exact h1 j (by omega)
theorem agM_2 {σ : St} {i : Nat} {P : Int32 → St → Prop} (hi : i < 2)
    (h : ∀ f, (∀ j, j < 8 → f j = gA σ 50 (22 * i + 11 + j)) → P 1 (sI (sI (sI (sA σ 0 f) 9 (gA σ 50 (22 * i + 19))) 10 (gA σ 50 (22 * i + 20))) 11 (gA σ 50 (22 * i + 21)))) :
    ∀ m k : Nat, k + m = 8 → ∀ f, (∀ j, j < k → f j = gA σ 50 (22 * i + 11 + j)) → wm_again_l86 P (m + 1) (nI (22 * i)) (nI k) (sA σ 0 f) := by
  intro m
  induction m with
  | zero =>
    intro k hk f h1
    rw [wm_again_l86_s, show k = 8 by omega, if_pos (by decide), show (19 : Int32) = nI 19 from rfl, nI_add, nI_lit1, nI_add, show (2 : Int32) = nI 2 from rfl, nI_add, cl (show 22 * i + 19 < 2 ^ 31 by omega), cl (show 22 * i + 19 + 1 < 2 ^ 31 by omega), cl (show 22 * i + 19 + 2 < 2 ^ 31 by omega)]
    exact ⟨vp_in_nI (by omega) (by omega), vp_in_nI (by omega) (by omega), vp_in_nI (by omega) (by omega), h f fun j hj => h1 j (by omega)⟩
  | succ m ih =>
    intro k hk f h1
    rw [wm_again_l86_s, show (8 : Int32) = nI 8 from rfl, if_neg (nI_ge (by omega) (by omega)), show (10 : Int32) = nI 10 from rfl, nI_add, nI_1, nI_add, nI_1]
    unfold mU_store
    rw [uA_k, cl (show 22 * i + 10 + 1 + k < 2 ^ 31 by omega), cl (show k < 2 ^ 31 by omega)]
    refine ⟨vp_in_nI (by omega) (by omega), vp_in_nI (by omega) (by omega), ih (k + 1) (by omega) _ (fun j hj => ?_)⟩
    by_cases q : j = k
    · rw [q, upd_s]; rfl
    · rw [upd_n q]; exact h1 j (by omega)
theorem om_again {σ : St} {V : VV} {P : Int32 → St → Prop} (hI : IM σ V) (v : Int32) (h : ∀ σ', IM σ' (S_again V v) → P (j01 (agB V v)) σ') : wm_again σ v P := by
  have hI := hI.th 0
  have hw := hI.2
  have hn := hw.n
  unfold wm_again sm_in
  rw [inM_lit (v := v) (x := 0) (y := 1) (by decide) (by decide), rngB_lt (v := v) (y := 1) (n := 2) (by decide)]
  dsimp only
  have hf : agB V v = false → P 0 (mS_thrown σ 0) := fun z => by
    unfold S_again at h
    rw [z, if_neg (by decide)] at h
    exact h _ hI
  cases q : rngB v 2 with
  | false => rw [jf0]; exact hf (by unfold agB; rw [q, Bool.false_and])
  | true =>
    rw [jt0]
    obtain ⟨i, hi, rfl⟩ := rngB_of (by omega) q
    have hc : (nI i).toNatClampNeg = i := cl (by omega)
    rw [hc]
    unfold agB at hf
    rw [q, hc, Bool.true_and] at hf
    refine ⟨vp_in_nI hi (by omega), ?_⟩
    have hk := hI.1.2.2.2.2.2.2.2.2.2.1 i hi
    cases ek : vkp V i with
    | none =>
      rw [ek] at hk hf
      have e0 : mA_isKept (mS_thrown σ 0) i = 0 := hk
      rw [e0, if_pos rfl]
      exact hf rfl
    | some w =>
      obtain ⟨s, l, sv, m⟩ := w
      rw [ek] at hk hf
      obtain ⟨g1, g2, g3, g4, g5, c, c0, g6, g7, g8, g9, g10⟩ := hk
      rw [show mA_isKept (mS_thrown σ 0) i = 1 from g1, if_neg (by decide), show mA_keptCame (mS_thrown σ 0) i = nI c0 from g7, show mI_came (mS_thrown σ 0) = nI c from g6]
      refine ⟨vp_in_nI hi (by omega), ?_⟩
      simp only [nI_eq (show c0 < 2 ^ 31 by omega) (show c < 2 ^ 31 by omega)]
      by_cases e : c0 = c
      · rw [if_pos e]
        have em := g10.mp e
        obtain ⟨k1, k2, k3, _⟩ := hw.kpl ek
        have hlen := keptLen hw ek
        rw [show (22 : Int32) * nI i = nI (22 * i) from by rw [show (22 : Int32) = nI 22 from rfl]; exact pk_mul 22 i]
        refine ⟨11, ?_⟩
        have h9 := agM_1 (σ := mS_thrown σ 0) (P := P) (K := fun v2 v3 σ => ∃ n86, wm_again_l86 P n86 v2 v3 σ) hi (fun f hf1 => ⟨9, ?_⟩) 10 0 (by omega) (gA (mS_thrown σ 0) 12) (fun j hj => absurd hj (by omega))
        · rw [sA_id] at h9; exact h9
        · have h8 := agM_2 (σ := sI (sA (mS_thrown σ 0) 12 f) 13 (gA (mS_thrown σ 0) 50 (22 * i + 10))) (P := P) hi (fun f2 hf2 => ?_) 8 0 (by omega) (gA (sI (sA (mS_thrown σ 0) 12 f) 13 (gA (mS_thrown σ 0) 50 (22 * i + 10))) 0) (fun j hj => absurd hj (by omega))
          · rw [sA_id] at h8; exact h8
          · have ea : agB V (nI i) = true := by
              unfold agB
              rw [q, hc, ek, Bool.true_and]
              exact decide_eq_true em
            unfold S_again at h
            rw [ea, if_pos rfl, hc, ek] at h
            dsimp only at h
            obtain ⟨⟨b1, b2, b3, b4, b5, b6, b7, b8⟩, h2, h3, h4, h5, h6, h7, h8', ⟨c9, h91, h92⟩, h10, h11⟩ := hI.1
            refine h _ ⟨⟨⟨b1, b2, g3 0 (by omega), ?_, ?_, g5, b7, b8⟩, h2, h3, fun j hj => ?_, fun k hk => ?_, h6, h7, h8', ⟨c9, h91, h92⟩, fun j hj => keptM.kp rfl rfl rfl rfl (h10 j hj), ruleM.kp rfl rfl h11⟩, ((hw.sto' k1).la' k2).sv' ⟨k3.1, fun d hd => by have := k3.2 d hd; show d < vn V; omega⟩⟩
            · exact g3 1 (by omega)
            · exact g3 2 (by omega)
            · show f2 j = nI (s j)
              rw [hf2 j hj]; exact g2 j hj
            · show f k = nI (sv.getD k 0)
              have hk' : k < sv.length := hk
              rw [hf1 k (by omega)]; exact g4 k hk'
      · rw [if_neg e]
        exact hf (decide_eq_false fun z => e (g10.mpr z))
