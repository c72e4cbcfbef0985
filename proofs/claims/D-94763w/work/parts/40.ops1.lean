/-! THE OPS, first group: for each, what it answers (R_..) and the state behind it (S_..), the same for component and model -/
theorem IM.th {σ : St} {V : VV} (h : IM σ V) (v : Int32) : IM (mS_thrown σ v) V := h.kp (Kp.sI (by decide) _ _)
/-! end: some signs are taken back -/
def R_end (V : VV) (v : Int32) : Int32 := j01 (rngB v ((vtx V).length + 1))
def S_end (V : VV) (v : Int32) : VV := if rngB v ((vtx V).length + 1) = true then vSTx V ((vtx V).take v.toNatClampNeg) else V
theorem inB_len {v : Int32} {n : Nat} (hn : n < 2 ^ 31) : inB v.toInt64 (0 : Int64) (nI n).toInt64 = rngB v (n + 1) := by
  rw [inB_lit (x := 0) (y := n) (by decide) (by rw [Int32.toInt_toInt64, nI_toInt hn]), rngB_lt (n := n + 1) (by omega)]
theorem inM_len {v : Int32} {n : Nat} (hn : n < 2 ^ 31) : inM v (0 : Int32) (nI n) = rngB v (n + 1) := by
  rw [inM_lit (x := 0) (y := n) (by decide) (nI_toInt hn), rngB_lt (n := n + 1) (by omega)]
theorem getD_take {l : List Nat} {k j : Nat} (h : j < k) : (l.take k).getD j 0 = l.getD j 0 := by
  rw [List.getD_eq_getElem?_getD, List.getD_eq_getElem?_getD, List.getElem?_take, if_pos h]
theorem WV.tx' {V : VV} (h : WV V) {t : List Nat} (hl : t.length ≤ 80) (hb : ∀ b ∈ t, b < 256) : WV (vSTx V t) := by
  obtain ⟨h1, h2, h3, h4, h5, h6, h7, h8, h9, _, h11, h12⟩ := h
  exact ⟨h1, h2, h3, h4, h5, h6, h7, h8, h9, ⟨hl, hb⟩, h11, h12⟩
theorem ox_end {σ : St} {V : VV} (hI : IX σ V) (v : Int32) : wx_end σ v (fun r σ' => r = R_end V v ∧ IX σ' (S_end V v)) := by
  have ht := hI.2.tx
  unfold wx_end sx_in R_end S_end
  rw [show xI_signMany σ = _ from hI.tm, inB_len (by omega)]
  dsimp only
  cases q : rngB v ((vtx V).length + 1) with
  | false => rw [jf0]; exact ⟨rfl, hI⟩
  | true =>
    rw [jt0, if_pos rfl]
    obtain ⟨k, hk, rfl⟩ := rngB_of (by omega) q
    rw [cl (by omega)]
    obtain ⟨⟨a1, a2, a3, a4, a5, a6⟩, h2, h3, h4, h5, h6, h7, h8, h9, h10, h11⟩ := hI.1
    have e : ((vtx V).take k).length = k := by rw [List.length_take]; omega
    refine ⟨rfl, ⟨⟨a1, a2, a3, a4, ?_, a6⟩, h2, h3, h4, h5, h6, ?_, h8, h9, fun i hi => keptX.kp rfl rfl (h10 i hi), ruleX.kp rfl rfl h11⟩, hI.2.tx' (by rw [e]; omega) fun b hb => ht.2 b (List.mem_of_mem_take hb)⟩
    · show nI k = nI ((vtx V).take k).length
      rw [e]
    · intro j hj
      have hj2 : j < k := by have h1 : j < ((vtx V).take k).length := hj; rw [e] at h1; exact h1
      show gA σ 12 j = nI (((vtx V).take k).getD j 0)
      rw [getD_take hj2]; exact h7 j (by omega)
theorem om_end {σ : St} {V : VV} (hI : IM σ V) (v : Int32) : wm_end σ v (fun r σ' => r = R_end V v ∧ IM σ' (S_end V v)) := by
  have ht := hI.2.tx
  have hI := hI.th 0
  unfold wm_end sm_in R_end S_end
  rw [show mI_typed (mS_thrown σ 0) = _ from hI.tm, inM_len (by omega)]
  dsimp only
  cases q : rngB v ((vtx V).length + 1) with
  | false => rw [jf0]; exact ⟨rfl, hI⟩
  | true =>
    rw [jt0, if_pos rfl]
    obtain ⟨k, hk, rfl⟩ := rngB_of (by omega) q
    rw [cl (by omega)]
    obtain ⟨⟨a1, a2, a3, a4, a5, a6, a7, a8⟩, h2, h3, h4, h5, h6, h7, h8, h9, h10, h11⟩ := hI.1
    have e : ((vtx V).take k).length = k := by rw [List.length_take]; omega
    refine ⟨rfl, ⟨⟨a1, a2, a3, a4, a5, a6, ?_, a8⟩, h2, h3, h4, h5, ?_, h7, h8, h9, fun i hi => keptM.kp rfl rfl rfl rfl (h10 i hi), ruleM.kp rfl rfl h11⟩, hI.2.tx' (by rw [e]; omega) fun b hb => ht.2 b (List.mem_of_mem_take hb)⟩
    · show nI k = nI ((vtx V).take k).length
      rw [e]
    · intro j hj
      have hj2 : j < k := by have h1 : j < ((vtx V).take k).length := hj; rw [e] at h1; exact h1
      show gA σ 16 j = byM (((vtx V).take k).getD j 0)
      rw [getD_take hj2]; exact h6 j (by omega)
/-! law -/
def R_law (V : VV) (w v : Int32) : Int32 := if lawB w v = true then nI (vla V w.toNatClampNeg) else -1
def S_law (V : VV) (w v : Int32) : VV := if lawB w v = true then vSLa V (fun j => if j = w.toNatClampNeg then v.toNatClampNeg else vla V j) else V
theorem lawB_of {w v : Int32} (h : lawB w v = true) : ∃ k x : Nat, k < 3 ∧ w = nI k ∧ v = nI x ∧ x ≤ 9 ∧ (k = 0 → 1 ≤ x ∧ x ≤ 8) ∧ (k = 1 → 1 ≤ x) ∧ (k = 2 → x ≤ 2) := by
  have key : ∀ lo hi : Int, 0 ≤ lo → hi ≤ 9 → (decide (lo ≤ v.toInt) && decide (v.toInt ≤ hi)) = true → ∃ x : Nat, v = nI x ∧ lo ≤ x ∧ (x : Int) ≤ hi := by
    intro lo hi hlo hhi q
    rw [Bool.and_eq_true, decide_eq_true_eq, decide_eq_true_eq] at q
    refine ⟨v.toInt.toNat, Int32.toInt_inj.mp ?_, by omega, by omega⟩
    rw [nI_toInt (by omega)]; omega
  unfold lawB at h
  by_cases h0 : w = 0
  · rw [if_pos h0] at h
    obtain ⟨x, e, a, b⟩ := key 1 8 (by omega) (by omega) h
    exact ⟨0, x, by omega, h0, e, by omega, fun _ => by omega, fun q => by omega, fun q => by omega⟩
  · rw [if_neg h0] at h
    by_cases h1 : w = 1
    · rw [if_pos h1] at h
      obtain ⟨x, e, a, b⟩ := key 1 9 (by omega) (by omega) h
      exact ⟨1, x, by omega, h1, e, by omega, fun q => by omega, fun _ => by omega, fun q => by omega⟩
    · rw [if_neg h1, Bool.and_eq_true, decide_eq_true_eq] at h
      obtain ⟨x, e, a, b⟩ := key 0 2 (by omega) (by omega) h.2
      exact ⟨2, x, by omega, h.1, e, by omega, fun q => by omega, fun q => by omega, fun _ => by omega⟩
theorem WV.la' {V : VV} (h : WV V) {l : Nat → Nat} (hl : okLaw l) : WV (vSLa V l) := by
  obtain ⟨h1, h2, h3, h4, h5, h6, _, h8, h9, h10, h11, h12⟩ := h
  exact ⟨h1, h2, h3, h4, h5, h6, hl, h8, h9, h10, h11, h12⟩
theorem okLaw_up {la : Nat → Nat} (h : okLaw la) {k x : Nat} (h0 : k = 0 → 1 ≤ x ∧ x ≤ 8) (h1 : k = 1 → 1 ≤ x) (h2 : k = 2 → x ≤ 2) (hx : x ≤ 9) : okLaw (fun j => if j = k then x else la j) := by
  obtain ⟨a, b, c, d, e⟩ := h
  unfold okLaw
  refine ⟨?_, ?_, ?_, ?_, ?_⟩ <;> (dsimp only; split <;> omega)
theorem ox_law {σ : St} {V : VV} (hI : IX σ V) (w v : Int32) : wx_law σ w v (fun r σ' => r = R_law V w v ∧ IX σ' (S_law V w v)) := by
  unfold wx_law sx_isLaw R_law S_law
  cases q : lawB w v with
  | false => rw [jf0]; exact ⟨rfl, hI⟩
  | true =>
    rw [jt0, if_pos rfl, if_pos rfl]
    obtain ⟨k, x, hk, rfl, rfl, hx, x0, x1, x2⟩ := lawB_of q
    refine ⟨vp_in_nI hk (by omega), vp_in_nI hk (by omega), ?_⟩
    unfold xU_law uA
    rw [cl (by omega), cl (by omega)]
    obtain ⟨⟨a1, a2, a3, a4, a5, a6⟩, h2, h3, h4, h5, h6, h7, h8, h9, h10, h11⟩ := hI.1
    refine ⟨h5 k hk, ⟨⟨a1, a2, a3, a4, a5, a6⟩, h2, h3, h4, ?_, h6, h7, h8, h9, fun i hi => keptX.kp rfl rfl (h10 i hi), ruleX.kp rfl rfl h11⟩, hI.2.la' (okLaw_up hI.2.la x0 x1 x2 hx)⟩
    intro j hj
    show upd (gA σ 6) k (nI x) j = nI (if j = k then x else vla V j)
    by_cases e : j = k
    · rw [e, upd_s, if_pos rfl]
    · rw [upd_n e, if_neg e]; exact h5 j hj
theorem om_law {σ : St} {V : VV} (hI : IM σ V) (w v : Int32) : wm_law σ w v (fun r σ' => r = R_law V w v ∧ IM σ' (S_law V w v)) := by
  have hI := hI.th 0
  unfold wm_law sm_isLaw R_law S_law
  dsimp only
  cases q : lawB w v with
  | false => rw [jf0]; exact ⟨rfl, hI⟩
  | true =>
    rw [jt0, if_pos rfl, if_pos rfl]
    obtain ⟨k, x, hk, rfl, rfl, hx, x0, x1, x2⟩ := lawB_of q
    rw [cl (by omega), cl (by omega)]
    obtain ⟨⟨a1, a2, a3, a4, a5, a6, a7, a8⟩, h2, h3, h4, h5, h6, h7, h8, h9, h10, h11⟩ := hI.1
    have hw := hI.2.la' (okLaw_up hI.2.la x0 x1 x2 hx)
    simp only [nI_eq0 (show k < 2 ^ 31 by omega), nI_eq1 (show k < 2 ^ 31 by omega)]
    unfold wm_law_j42 wm_law_j73
    simp only [nI_eq0 (show k < 2 ^ 31 by omega), nI_eq1 (show k < 2 ^ 31 by omega)]
    have e0 : ∀ j, (0 : Nat) ≠ j → True := fun _ _ => trivial
    rcases (show k = 0 ∨ k = 1 ∨ k = 2 by omega) with rfl | rfl | rfl
    · rw [if_pos rfl, if_pos rfl]
      exact ⟨a3, ⟨⟨a1, a2, rfl, a4, a5, a6, a7, a8⟩, h2, h3, h4, h5, h6, h7, h8, h9, fun i hi => keptM.kp rfl rfl rfl rfl (h10 i hi), ruleM.kp rfl rfl h11⟩, hw⟩
    · rw [if_neg (by decide), if_pos rfl, if_neg (by decide), if_pos rfl]
      exact ⟨a4, ⟨⟨a1, a2, a3, rfl, a5, a6, a7, a8⟩, h2, h3, h4, h5, h6, h7, h8, h9, fun i hi => keptM.kp rfl rfl rfl rfl (h10 i hi), ruleM.kp rfl rfl h11⟩, hw⟩
    · rw [if_neg (by decide), if_neg (by decide), if_neg (by decide), if_neg (by decide)]
      exact ⟨a5, ⟨⟨a1, a2, a3, a4, rfl, a6, a7, a8⟩, h2, h3, h4, h5, h6, h7, h8, h9, fun i hi => keptM.kp rfl rfl rfl rfl (h10 i hi), ruleM.kp rfl rfl h11⟩, hw⟩
/-! store -/
def R_store (V : VV) (s v : Int32) : Int32 := if (rngB s 8 && rngB v 100) = true then nI (vsto V s.toNatClampNeg) else -1
def S_store (V : VV) (s v : Int32) : VV := if (rngB s 8 && rngB v 100) = true then vSSto V (fun j => if j = s.toNatClampNeg then v.toNatClampNeg else vsto V j) else V
theorem WV.sto' {V : VV} (h : WV V) {l : Nat → Nat} (hl : ∀ s, s < 8 → l s ≤ 99) : WV (vSSto V l) := by
  obtain ⟨h1, h2, h3, h4, h5, _, h7, h8, h9, h10, h11, h12⟩ := h
  exact ⟨h1, h2, h3, h4, h5, hl, h7, h8, h9, h10, h11, h12⟩
theorem ox_store {σ : St} {V : VV} (hI : IX σ V) (s v : Int32) : wx_store σ s v (fun r σ' => r = R_store V s v ∧ IX σ' (S_store V s v)) := by
  unfold wx_store sx_in R_store S_store
  rw [inB_lit (v := s) (x := 0) (y := 7) (by decide) (by decide), inB_lit (v := v) (x := 0) (y := 99) (by decide) (by decide), rngB_lt (v := s) (y := 7) (n := 8) (by decide), rngB_lt (v := v) (y := 99) (n := 100) (by decide)]
  dsimp only
  cases q : rngB s 8 with
  | false => rw [jf0, Bool.false_and]; exact ⟨rfl, hI⟩
  | true =>
    rw [jt0, Bool.true_and]
    cases q2 : rngB v 100 with
    | false => rw [jf0]; exact ⟨rfl, hI⟩
    | true =>
      rw [jt0, if_pos rfl, if_pos rfl]
      obtain ⟨k, hk, rfl⟩ := rngB_of (by omega) q
      obtain ⟨x, hx, rfl⟩ := rngB_of (by omega) q2
      refine ⟨vp_in_nI hk (by omega), vp_in_nI hk (by omega), ?_⟩
      unfold xU_stores uA
      rw [cl (by omega), cl (by omega)]
      obtain ⟨⟨a1, a2, a3, a4, a5, a6⟩, h2, h3, h4, h5, h6, h7, h8, h9, h10, h11⟩ := hI.1
      refine ⟨h4 k hk, ⟨⟨a1, a2, a3, a4, a5, a6⟩, h2, h3, ?_, h5, h6, h7, h8, h9, fun i hi => keptX.kp rfl rfl (h10 i hi), ruleX.kp rfl rfl h11⟩, hI.2.sto' ?_⟩
      · intro j hj
        show upd (gA σ 5) k (nI x) j = nI (if j = k then x else vsto V j)
        by_cases e : j = k
        · rw [e, upd_s, if_pos rfl]
        · rw [upd_n e, if_neg e]; exact h4 j hj
      · intro j hj
        have := hI.2.sto hj
        show (if j = k then x else vsto V j) ≤ 99
        split <;> omega
theorem om_store {σ : St} {V : VV} (hI : IM σ V) (s v : Int32) : wm_store σ s v (fun r σ' => r = R_store V s v ∧ IM σ' (S_store V s v)) := by
  have hI := hI.th 0
  unfold wm_store sm_in R_store S_store
  rw [inM_lit (v := s) (x := 0) (y := 7) (by decide) (by decide), inM_lit (v := v) (x := 0) (y := 99) (by decide) (by decide), rngB_lt (v := s) (y := 7) (n := 8) (by decide), rngB_lt (v := v) (y := 99) (n := 100) (by decide)]
  dsimp only
  cases q : rngB s 8 with
  | false => rw [jf0, Bool.false_and]; exact ⟨rfl, hI⟩
  | true =>
    rw [jt0, Bool.true_and]
    cases q2 : rngB v 100 with
    | false => rw [jf0]; exact ⟨rfl, hI⟩
    | true =>
      rw [jt0, if_pos rfl, if_pos rfl]
      obtain ⟨k, hk, rfl⟩ := rngB_of (by omega) q
      obtain ⟨x, hx, rfl⟩ := rngB_of (by omega) q2
      refine ⟨vp_in_nI hk (by omega), vp_in_nI hk (by omega), ?_⟩
      unfold mU_store uA
      rw [cl (by omega), cl (by omega)]
      obtain ⟨⟨a1, a2, a3, a4, a5, a6, a7, a8⟩, h2, h3, h4, h5, h6, h7, h8, h9, h10, h11⟩ := hI.1
      refine ⟨h4 k hk, ⟨⟨a1, a2, a3, a4, a5, a6, a7, a8⟩, h2, h3, ?_, h5, h6, h7, h8, h9, fun i hi => keptM.kp rfl rfl rfl rfl (h10 i hi), ruleM.kp rfl rfl h11⟩, hI.2.sto' ?_⟩
      · intro j hj
        show upd (gA σ 0) k (nI x) j = nI (if j = k then x else vsto V j)
        by_cases e : j = k
        · rw [e, upd_s, if_pos rfl]
        · rw [upd_n e, if_neg e]; exact h4 j hj
      · intro j hj
        have := hI.2.sto hj
        show (if j = k then x else vsto V j) ≤ 99
        split <;> omega
/-! beside -/
def R_beside (V : VV) (v : Int32) : Int32 := if rngB v (vn V) = true then nI (besV V v.toNatClampNeg) else -1
theorem ox_beside {σ : St} {V : VV} (hI : IX σ V) (v : Int32) : wx_beside σ v (fun r σ' => r = R_beside V v ∧ IX σ' V) := by
  have hn := hI.2.n
  refine ⟨V, hI, ?_⟩
  unfold wx_beside_j17 R_beside
  dsimp only
  cases q : rngB v (vn V) with
  | false => rw [jf0]; exact ⟨rfl, hI⟩
  | true =>
    rw [jt0, if_pos rfl]
    obtain ⟨k, hk, rfl⟩ := rngB_of (by omega) q
    exact ⟨V, k, hI, rfl, hk, by rw [cl (by omega)], hI⟩
theorem om_beside {σ : St} {V : VV} (hI : IM σ V) (v : Int32) : wm_beside σ v (fun r σ' => r = R_beside V v ∧ IM σ' V) := by
  have hn := hI.2.n
  have hI := hI.th 0
  refine ⟨V, hI, ?_⟩
  unfold wm_beside_j22 R_beside
  dsimp only
  cases q : rngB v (vn V) with
  | false => rw [jf0]; exact ⟨rfl, hI⟩
  | true =>
    rw [jt0, if_pos rfl]
    obtain ⟨k, hk, rfl⟩ := rngB_of (by omega) q
    exact ⟨V, k, hI, rfl, hk, by rw [cl (by omega)], hI⟩
