/-! quiet writes -/
theorem IX.qI {σ : St} {V : VV} (h : IX σ V) {k : Nat} (hk : k ∉ XI) (v : Int32) : IX (sI σ k v) V := h.kp (Kp.sI hk σ v)
theorem IX.qA {σ : St} {V : VV} (h : IX σ V) {k : Nat} (hk : k ∉ XA) (v : Nat → Int32) : IX (sA σ k v) V := h.kp (Kp.sA hk σ v)
theorem IX.qL {σ : St} {V : VV} (h : IX σ V) (k : Nat) (v : Nat → Int64) : IX (sL σ k v) V := h.kp (Kp.sL k σ v)
theorem IM.qI {σ : St} {V : VV} (h : IM σ V) {k : Nat} (hk : k ∉ MI) (v : Int32) : IM (sI σ k v) V := h.kp (Kp.sI hk σ v)
theorem IM.qA {σ : St} {V : VV} (h : IM σ V) {k : Nat} (hk : k ∉ MA) (v : Nat → Int32) : IM (sA σ k v) V := h.kp (Kp.sA hk σ v)
theorem IM.qL {σ : St} {V : VV} (h : IM σ V) (k : Nat) (v : Nat → Int64) : IM (sL σ k v) V := h.kp (Kp.sL k σ v)
theorem IX.row0 {σ : St} {V : VV} (h : IX σ V) : IX (sI σ 44 0) (vSRow V []) := by
  obtain ⟨⟨a1, a2, a3, a4, a5, a6⟩, h2, h3, h4, h5, h6, h7, h8, h9, h10, h11⟩ := h.1
  exact ⟨⟨⟨a1, a2, a3, a4, a5, rfl⟩, h2, h3, h4, h5, h6, h7, h8, fun k hk => absurd hk (by show ¬ k < 0; omega), fun i hi => keptX.kp rfl rfl (h10 i hi), ruleX.kp rfl rfl h11⟩, h.2.row' (by show 0 ≤ 12; omega)⟩
theorem IM.row0 {σ : St} {V : VV} (h : IM σ V) : IM (sI σ 19 0) (vSRow V []) := by
  obtain ⟨⟨a1, a2, a3, a4, a5, a6, a7, a8⟩, h2, h3, h4, h5, h6, h7, h8, h9, h10, h11⟩ := h.1
  exact ⟨⟨⟨a1, a2, a3, a4, a5, a6, a7, rfl⟩, h2, h3, h4, h5, h6, h7, fun k hk => absurd hk (by show ¬ k < 0; omega), h9, fun i hi => keptM.kp rfl rfl rfl rfl (h10 i hi), ruleM.kp rfl rfl h11⟩, h.2.row' (by show 0 ≤ 12; omega)⟩
/-! sign -/
def byteOf (v : Int32) (k : Nat) : Nat := ((v >>> (nI (24 - 8 * k) &&& 31)) &&& 255).toNatClampNeg
def fourOf (v : Int32) : List Nat := [byteOf v 0, byteOf v 1, byteOf v 2, byteOf v 3]
def R_sign (V : VV) : Int32 := if (vtx V).length ≤ 76 then nI ((vtx V).length + 4) else -1
def S_sign (V : VV) (v : Int32) : VV := if (vtx V).length ≤ 76 then vSTx V (vtx V ++ fourOf v) else V
theorem and255 (v : Int32) : ∃ b : Nat, b < 256 ∧ v &&& 255 = nI b := by
  refine ⟨(v.toBitVec &&& 255#32).toNat, ?_, ?_⟩
  · rw [BitVec.toNat_and]; exact Nat.lt_of_le_of_lt Nat.and_le_right (by decide)
  · apply nI_inj32
    rw [Int32.toBitVec_and, nI_bv, BitVec.ofNat_toNat, BitVec.setWidth_eq]
    rfl
theorem byteOf_eq (v : Int32) (k : Nat) : (v >>> (nI (24 - 8 * k) &&& 31)) &&& 255 = nI (byteOf v k) ∧ byteOf v k < 256 := by
  obtain ⟨b, hb, e⟩ := and255 (v >>> (nI (24 - 8 * k) &&& 31))
  unfold byteOf
  rw [e, cl (by omega)]
  exact ⟨rfl, hb⟩
/-- the byte of an int and of its low eight bits -/
theorem byte_low (v : Int32) (b : Nat) (h : v &&& 255 = nI b) : v.toInt8.toInt32 = byM b := by
  unfold byM
  rw [← h]
  congr 1
  apply Int8.toBitVec_inj.mp
  rw [Int32.toBitVec_toInt8, Int32.toBitVec_toInt8, Int32.toBitVec_and, BitVec.signExtend_eq_setWidth_of_le _ (by decide), BitVec.signExtend_eq_setWidth_of_le _ (by decide)]
  show _ = (v.toBitVec &&& 255#32).setWidth 8
  rw [BitVec.setWidth_and]
  show _ = v.toBitVec.setWidth 8 &&& BitVec.setWidth 8 255#32
  rw [show BitVec.setWidth 8 255#32 = BitVec.allOnes 8 from by decide, BitVec.and_allOnes]
theorem fourOf_b {v : Int32} : ∀ b ∈ fourOf v, b < 256 := by
  intro b hb
  unfold fourOf at hb
  simp only [List.mem_cons, List.not_mem_nil, or_false] at hb
  rcases hb with rfl | rfl | rfl | rfl <;> exact (byteOf_eq v _).2
theorem fourOf_get (v : Int32) {k : Nat} (hk : k < 4) : (fourOf v).getD k 0 = byteOf v k := by
  rcases (by omega : k = 0 ∨ k = 1 ∨ k = 2 ∨ k = 3) with rfl | rfl | rfl | rfl <;> rfl
theorem getD_app_l {α : Type} {l m : List α} {d : α} {k : Nat} (h : k < l.length) : (l ++ m).getD k d = l.getD k d := by
  rw [List.getD_eq_getElem?_getD, List.getD_eq_getElem?_getD, List.getElem?_append_left h]
theorem getD_app_r {α : Type} {l m : List α} {d : α} {k : Nat} (h : l.length ≤ k) : (l ++ m).getD k d = m.getD (k - l.length) d := by
  rw [List.getD_eq_getElem?_getD, List.getD_eq_getElem?_getD, List.getElem?_append_right h]
theorem signX_loop {V : VV} {v : Int32} {P : Int32 → St → Prop} (hw : WV V) (hl : (vtx V).length ≤ 76) (h : ∀ σ', IX σ' (vSTx V (vtx V ++ fourOf v)) → P (nI ((vtx V).length + 4)) σ') :
    ∀ m k : Nat, k + m = 4 → ∀ σ, IX σ V → (∀ j, j < k → gA σ 12 ((vtx V).length + j) = nI (byteOf v j)) → wx_sign_l13 P (m + 1) v (nI k) σ := by
  intro m
  induction m with
  | zero =>
    intro k hk σ hI hb
    rw [wx_sign_l13_s, show k = 4 by omega, if_pos (by decide)]
    have e : xI_signMany σ + 4 = nI ((vtx V).length + 4) := by rw [show xI_signMany σ = _ from hI.tm, show (4 : Int32) = nI 4 from rfl, nI_add]
    rw [e]
    obtain ⟨⟨a1, a2, a3, a4, a5, a6⟩, h2, h3, h4, h5, h6, h7, h8, h9, h10, h11⟩ := hI.1
    refine h _ ⟨⟨⟨a1, a2, a3, a4, ?_, a6⟩, h2, h3, h4, h5, h6, ?_, h8, h9, fun i hi => keptX.kp rfl rfl (h10 i hi), ruleX.kp rfl rfl h11⟩, hw.tx' ?_ ?_⟩
    · show nI ((vtx V).length + 4) = nI (vtx V ++ fourOf v).length
      rw [List.length_append]; rfl
    · intro j hj
      show gA σ 12 j = nI ((vtx V ++ fourOf v).getD j 0)
      have hj : j < (vtx V ++ fourOf v).length := hj
      rw [List.length_append, show (fourOf v).length = 4 from rfl] at hj
      rcases Nat.lt_or_ge j (vtx V).length with q | q
      · rw [getD_app_l q]; exact h7 j q
      · rw [getD_app_r q, fourOf_get v (by omega)]
        have := hb (j - (vtx V).length) (by omega)
        rw [← this]; congr 1; omega
    · rw [List.length_append]; show (vtx V).length + 4 ≤ 80; omega
    · intro b hb2
      rcases List.mem_append.mp hb2 with q | q
      · exact hw.tx.2 b q
      · exact fourOf_b b q
  | succ m ih =>
    intro k hk σ hI hb
    rw [wx_sign_l13_s, show (4 : Int32) = nI 4 from rfl, if_neg (nI_ge (by omega) (by omega)), show xI_signMany σ = _ from hI.tm, nI_add]
    refine ⟨vp_in_nI (by omega) (by omega), ?_⟩
    have e8 : (24 : Int32) - 8 * nI k = nI (24 - 8 * k) := by
      rcases (by omega : k = 0 ∨ k = 1 ∨ k = 2 ∨ k = 3) with rfl | rfl | rfl | rfl <;> decide
    rw [e8, (byteOf_eq v k).1, nI_1]
    unfold xU_text uA
    rw [cl (by omega)]
    obtain ⟨⟨a1, a2, a3, a4, a5, a6⟩, h2, h3, h4, h5, h6, h7, h8, h9, h10, h11⟩ := hI.1
    refine ih (k + 1) (by omega) _ ⟨⟨⟨a1, a2, a3, a4, a5, a6⟩, h2, h3, h4, h5, h6, fun j hj => ?_, h8, h9, fun i hi => keptX.kp rfl rfl (h10 i hi), ruleX.kp rfl rfl h11⟩, hw⟩ fun j hj => ?_
    · show upd (gA σ 12) ((vtx V).length + k) (nI (byteOf v k)) j = _
      rw [upd_n (by omega)]; exact h7 j hj
    · show upd (gA σ 12) ((vtx V).length + k) (nI (byteOf v k)) ((vtx V).length + j) = _
      by_cases q : j = k
      · rw [q, upd_s]
      · rw [upd_n (by omega)]; exact hb j (by omega)
theorem ox_sign {σ : St} {V : VV} {P : Int32 → St → Prop} (hI : IX σ V) (v : Int32) (h : ∀ σ', IX σ' (S_sign V v) → P (R_sign V) σ') : wx_sign σ v P := by
  have ht := hI.2.tx.1
  unfold wx_sign
  rw [show xI_signMany σ = _ from hI.tm, show (76 : Int32) = nI 76 from rfl]
  unfold S_sign R_sign at h
  by_cases q : (vtx V).length ≤ 76
  · rw [if_pos ((nI_leI (by omega) (by omega)).mpr q)]
    simp only [q, if_true] at h
    exact ⟨_, signX_loop hI.2 q h 4 0 (by omega) σ hI fun j hj => absurd hj (by omega)⟩
  · rw [if_neg (fun z => q ((nI_leI (by omega) (by omega)).mp z))]
    simp only [q, if_false] at h
    exact h σ hI
theorem signM_loop {V : VV} {v : Int32} {P : Int32 → St → Prop} (hw : WV V) (hl : (vtx V).length ≤ 76) (h : ∀ σ', IM σ' (vSTx V (vtx V ++ fourOf v)) → P (nI ((vtx V).length + 4)) σ') :
    ∀ m k : Nat, k + m = 4 → ∀ σ, IM σ (vSTx V (vtx V ++ (fourOf v).take k)) → wm_sign_l20 P (m + 1) v (nI 3 - nI k) σ := by
  intro m
  induction m with
  | zero =>
    intro k hk σ hI
    rw [show k = 4 by omega] at hI ⊢
    rw [wm_sign_l20_s, if_pos (by decide), show mI_typed σ = nI ((vtx V).length + 4) from by rw [show mI_typed σ = _ from hI.tm]; show nI (vtx V ++ (fourOf v).take 4).length = _; rw [List.length_append]; rfl]
    exact (h σ hI)
  | succ m ih =>
    intro k hk σ hI
    have hlen : (vtx V ++ (fourOf v).take k).length = (vtx V).length + k := by
      rw [List.length_append, List.length_take, show (fourOf v).length = 4 from rfl, Nat.min_eq_left (by omega)]
    have ht : mI_typed σ = nI ((vtx V).length + k) := by rw [← hlen]; exact hI.tm
    have en : ¬ nI 3 - nI k < 0 := by
      rcases (by omega : k = 0 ∨ k = 1 ∨ k = 2 ∨ k = 3) with rfl | rfl | rfl | rfl <;> decide
    have e8 : (8 : Int32) * (nI 3 - nI k) = nI (24 - 8 * k) := by
      rcases (by omega : k = 0 ∨ k = 1 ∨ k = 2 ∨ k = 3) with rfl | rfl | rfl | rfl <;> decide
    have em : nI 3 - nI k + (-1) = nI 3 - nI (k + 1) := by
      rcases (by omega : k = 0 ∨ k = 1 ∨ k = 2 ∨ k = 3) with rfl | rfl | rfl | rfl <;> decide
    have ek : (fourOf v).take (k + 1) = (fourOf v).take k ++ [byteOf v k] := by
      rcases (by omega : k = 0 ∨ k = 1 ∨ k = 2 ∨ k = 3) with rfl | rfl | rfl | rfl <;> rfl
    have eb : vp_nar .byte ((v >>> (nI (24 - 8 * k) &&& 31)).toInt8.toInt32) = byM (byteOf v k) := by
      rw [byte_low _ _ (byteOf_eq v k).1]
      show (byM (byteOf v k)).toInt8.toInt32 = _
      unfold byM
      rw [Int8.toInt8_toInt32]
    rw [wm_sign_l20_s, if_neg en, ht, e8, em, eb, nI_1]
    refine ⟨vp_in_nI (by omega) (by omega), ?_⟩
    unfold mU_text uA
    rw [cl (by omega)]
    have h9 := ih (k + 1) (by omega)
    rw [ek, ← List.append_assoc] at h9
    obtain ⟨⟨a1, a2, a3, a4, a5, a6, a7, a8⟩, h2, h3, h4, h5, h6, h7, h8, h9', h10, h11⟩ := hI.1
    refine h9 _ ⟨⟨⟨a1, a2, a3, a4, a5, a6, ?_, a8⟩, h2, h3, h4, h5, ?_, h7, h8, h9', fun i hi => keptM.kp rfl rfl rfl rfl (h10 i hi), ruleM.kp rfl rfl h11⟩, hw.tx' ?_ ?_⟩
    · show nI ((vtx V).length + k + 1) = nI (vtx V ++ (fourOf v).take k ++ [byteOf v k]).length
      rw [List.length_append, hlen]; rfl
    · intro j hj
      show upd (gA σ 16) ((vtx V).length + k) (byM (byteOf v k)) j = byM ((vtx V ++ (fourOf v).take k ++ [byteOf v k]).getD j 0)
      have hj : j < (vtx V ++ (fourOf v).take k ++ [byteOf v k]).length := hj
      rw [List.length_append, hlen, show [byteOf v k].length = 1 from rfl] at hj
      by_cases q : j = (vtx V).length + k
      · rw [q, upd_s, ← hlen, getD_app_eq]
      · rw [upd_n q, getD_app_l (by omega)]; exact h6 j (by show j < (vtx V ++ (fourOf v).take k).length; omega)
    · rw [List.length_append, hlen]; show (vtx V).length + k + 1 ≤ 80; omega
    · intro b hb2
      rcases List.mem_append.mp hb2 with q | q
      · exact hI.2.tx.2 b q
      · rw [List.mem_singleton.mp q]; exact (byteOf_eq v k).2
theorem om_sign {σ : St} {V : VV} {P : Int32 → St → Prop} (hI : IM σ V) (v : Int32) (h : ∀ σ', IM σ' (S_sign V v) → P (R_sign V) σ') : wm_sign σ v P := by
  have hI := hI.th 0
  have ht := hI.2.tx.1
  unfold wm_sign
  rw [show mI_typed (mS_thrown σ 0) = _ from hI.tm, show (80 : Int32) = nI 80 from rfl, show (4 : Int32) = nI 4 from rfl, nI_add]
  unfold S_sign R_sign at h
  by_cases q : (vtx V).length ≤ 76
  · rw [if_pos ((nI_leI (by omega) (by omega)).mpr (by omega))]
    simp only [q, if_true] at h
    refine ⟨_, signM_loop hI.2 q h 4 0 (by omega) _ ?_⟩
    rw [List.take_zero, List.append_nil]
    exact hI
  · rw [if_neg (fun z => q (by have := (nI_leI (by omega) (by omega)).mp z; omega))]
    simp only [q, if_false] at h
    exact h _ hI
