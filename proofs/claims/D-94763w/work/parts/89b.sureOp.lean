/-! SURE: both ops -/
theorem surX_d {V : VV} {i k s : Nat} {P : Int32 → St → Prop} {K : Int32 → Int32 → Int32 → St → Prop} {σ : St} {L : Nat → Nat} (hG : GX σ V (allA V)) (hi : i < 3) (hk : k < (vme V i).length) (hs : s < 2 ^ vn V)
    (hl : lasX σ (vn V) L) (hL : ∀ s l, s < 2 ^ vn V → l ≤ 10 → ((L s).testBit l = true ↔ rchB (mrL V (vme V i)) (vn V) 0 10 s l)) (hlt : ∀ k, L k < 2 ^ 11) (hA : ∀ s l, okS (vn V) s l → fnX σ V (vme V i) s l)
    (B : Nat)
    (h : K (nI k) (nI (B ||| bitsOf (fun d => decide (pc s = k + 1) && (L s).testBit d && decide (0 < np (mfL V (vme V i)) (vn V) ((vme V i).length - pc s) s d)) (vn V))) (nI s) σ) :
    ∀ m d : Nat, d + m = vn V → wx_sure_l75 P K (m + 1) (nI k) (nI (B ||| bitsOf (fun d => decide (pc s = k + 1) && (L s).testBit d && decide (0 < np (mfL V (vme V i)) (vn V) ((vme V i).length - pc s) s d)) d)) (nI s) (nI d) σ := by
  have hI := hG.1
  have hn := hI.2.n
  have hp := pow_le_1024 hn
  have hpc := pc_le s
  have hml := (hI.2.me i).1
  have hLs := hlt s
  intro m
  induction m with
  | zero =>
    intro d hd
    rw [wx_sure_l75_s, show xI_dishes σ = _ from hI.n, if_pos (by rw [show d = vn V by omega]; exact Int32.le_refl _), show d = vn V by omega]
    exact h
  | succ m ih =>
    intro d hd
    have ih1 := ih (d + 1) (by omega)
    rw [bitsOf_s, ← Nat.or_assoc] at ih1
    rw [wx_sure_l75_s, show xI_dishes σ = _ from hI.n, if_neg (nI_ge (by omega) (by omega)), bitC_nI (by omega), nI_1]
    simp only [nI_eq (show pc s < 2 ^ 31 by omega) (show k + 1 < 2 ^ 31 by omega)]
    unfold wx_sure_j135 wx_sure_j136
    rw [nI_1, show (0 : Int32) = nI 0 from rfl, nI_or, nI_shl1 _ (by omega), nI_or]
    by_cases q0 : pc s = k + 1
    · rw [if_pos q0]
      have eD : (decide (pc s = k + 1) && (L s).testBit d && decide (0 < np (mfL V (vme V i)) (vn V) ((vme V i).length - pc s) s d)) = ((L s).testBit d && decide (0 < np (mfL V (vme V i)) (vn V) ((vme V i).length - pc s) s d)) := by rw [decide_eq_true q0, Bool.true_and]
      rw [eD] at ih1
      refine ⟨vp_in_nI (by omega) (by omega), ?_⟩
      rw [cl (by omega), show xA_lasts σ s = _ from hl s hs]
      unfold sx_has
      dsimp only
      rw [hasB_nI (by omega) (by omega)]
      cases q : (L s).testBit d with
      | false => rw [show nI 0 = (0 : Int32) from rfl, jf0]; rw [q, Bool.false_and, if_neg (by decide)] at ih1; exact ih1
      | true =>
        rw [show nI 0 = (0 : Int32) from rfl, jt0]; rw [q, Bool.true_and] at ih1
        have hr := (hL s d hs (by omega)).mp q
        have hok := hr.1
        have ha := hA s d hok (by omega)
        have hlt2 := np_lt (M := mfL V (vme V i)) hn (show (vme V i).length - pc s ≤ 10 by omega) s d
        refine ⟨s, d, rfl, (lI_l (by omega)).symm, by omega, by omega, bV (by omega), ?_⟩
        rw [cl (by omega), show xA_many σ (11 * s + d) = _ from ha]
        simp only [lg_le0, nL_pos hlt2]
        by_cases q2 : 0 < np (mfL V (vme V i)) (vn V) ((vme V i).length - pc s) s d
        · rw [if_neg (fun z => z q2)]; rw [decide_eq_true q2, if_pos rfl] at ih1; exact ih1
        · rw [if_pos q2]; rw [decide_eq_false q2, if_neg (by decide)] at ih1; exact ih1
    · rw [if_neg q0]
      have e : ∀ m, bitsOf (fun d => decide (pc s = k + 1) && (L s).testBit d && decide (0 < np (mfL V (vme V i)) (vn V) ((vme V i).length - pc s) s d)) m = 0 := fun m => bits_0.mpr (Bool.eq_false_iff.mpr fun z => by
        obtain ⟨j, _, hj⟩ := anB_iff.mp z
        rw [decide_eq_false q0] at hj
        exact absurd hj (by rw [Bool.false_and, Bool.false_and]; decide))
      rw [e] at h ⊢
      exact h
theorem surX_s {V : VV} {i k : Nat} {P : Int32 → St → Prop} {K : Int32 → St → Prop} {σ : St} {L : Nat → Nat} (hG : GX σ V (allA V)) (hi : i < 3) (hk : k < (vme V i).length)
    (hl : lasX σ (vn V) L) (hL : ∀ s l, s < 2 ^ vn V → l ≤ 10 → ((L s).testBit l = true ↔ rchB (mrL V (vme V i)) (vn V) 0 10 s l)) (hlt : ∀ k, L k < 2 ^ 11) (hA : ∀ s l, okS (vn V) s l → fnX σ V (vme V i) s l)
    (h : K (if pc (N1 V (vme V i) k) = 1 then nI (N1 V (vme V i) k) else 0) σ) :
    ∀ m s B : Nat, s + m = 2 ^ vn V → B < 2 ^ vn V → (∀ d, d < vn V → (B.testBit d = true ↔ ∃ s', s' < s ∧ pc s' = k + 1 ∧ rchB (mrL V (vme V i)) (vn V) 0 10 s' d ∧ 0 < np (mfL V (vme V i)) (vn V) ((vme V i).length - pc s') s' d)) → wx_sure_l61 P K (m + 1) (nI k) (nI B) (nI s) σ := by
  have hI := hG.1
  have hn := hI.2.n
  have hp := pow_le_1024 hn
  intro m
  induction m with
  | zero =>
    intro s B hs hB hbits
    have e : B = N1 V (vme V i) k := tb_ext fun d => by
      unfold N1
      rw [bitsOf_tb]
      by_cases hd : d < vn V
      · rw [decide_eq_true hd, Bool.true_and, Bool.eq_iff_iff, decide_eq_true_eq, hbits d hd, ← cn_iff hn hk hd, show s = 2 ^ vn V by omega]
      · rw [decide_eq_false hd, Bool.false_and, tb_lt hB (by omega)]
    have hpc := pc_le B
    rw [wx_sure_l61_s, show xI_dishes σ = _ from hI.n, nI_shl1 _ (by omega), if_pos (by rw [show s = 2 ^ vn V by omega]; exact Int32.le_refl _), bitC_nI (by omega)]
    simp only [nI_eq1 (show pc B < 2 ^ 31 by omega)]
    rw [← e] at h
    by_cases q : pc B = 1
    · rw [if_pos q]; rw [if_pos q] at h; exact h
    · rw [if_neg q]; rw [if_neg q] at h; exact h
  | succ m ih =>
    intro s B hs hB hbits
    rw [wx_sure_l61_s, show xI_dishes σ = _ from hI.n, nI_shl1 _ (by omega), if_neg (nI_ge (by omega) (by omega))]
    have h9 := surX_d (P := P) (K := wx_sure_j144 P (wx_sure_l61 P K (m + 1))) hG hi hk (show s < 2 ^ vn V by omega) hl hL hlt hA B ?_ (vn V) 0 (by omega)
    · refine ⟨vn V + 1, ?_⟩
      rw [show bitsOf (fun d => decide (pc s = k + 1) && (L s).testBit d && decide (0 < np (mfL V (vme V i)) (vn V) ((vme V i).length - pc s) s d)) 0 = 0 from rfl, Nat.or_zero] at h9
      exact h9
    · unfold wx_sure_j144
      rw [nI_1]
      refine ih (s + 1) _ (by omega) (Nat.or_lt_two_pow hB (bitsOf_lt _ _)) fun d hd => ?_
      rw [Nat.testBit_or, bitsOf_tb, decide_eq_true hd, Bool.true_and, Bool.or_eq_true, hbits d hd, Bool.and_eq_true, Bool.and_eq_true, decide_eq_true_eq, decide_eq_true_eq, hL s d (by omega) (by omega)]
      constructor
      · rintro (⟨s', a, b⟩ | ⟨⟨a, b⟩, c⟩)
        · exact ⟨s', by omega, b⟩
        · exact ⟨s, by omega, a, b, c⟩
      · rintro ⟨s', a, b, c, e⟩
        rcases Nat.lt_or_ge s' s with z | z
        · exact Or.inl ⟨s', z, b, c, e⟩
        · have : s' = s := by omega
          subst this
          exact Or.inr ⟨⟨b, c⟩, e⟩
theorem ox_sure {σ : St} {V : VV} {P : Int32 → St → Prop} (hI : IX σ V) (v1 v2 : Int32) (h : ∀ σ', IX σ' V → P (R_sure V v1 v2) σ') : wx_sure σ v1 v2 P := by
  unfold R_sure at h
  refine ⟨V, hI, ?_⟩
  dsimp only
  cases q : laidV V v1 with
  | false => rw [jf0]; rw [q, Bool.false_and, if_neg (by decide)] at h; exact h σ hI
  | true =>
    rw [jt0]; rw [q, Bool.true_and] at h
    obtain ⟨i, hi, rfl, hl⟩ := laidV_of q
    rw [cl (by omega)] at h
    have hn := hI.2.n
    have hml := (hI.2.me i).1
    refine ⟨vp_in_nI hi (by omega), ?_⟩
    rw [cl (by omega), show xA_menuMany σ i = _ from hI.ml hi]
    unfold sx_in
    dsimp only
    rw [inB_rng (by omega)]
    cases q2 : rngB v2 (vme V i).length with
    | false => rw [jf0]; rw [q2, if_neg (by decide)] at h; exact h σ hI
    | true =>
      rw [jt0]; rw [q2, if_pos rfl] at h
      obtain ⟨k, hk, rfl⟩ := rngB_of (by omega) q2
      rw [cl (by omega)] at h
      refine ox_countsFills hI hi fun σ1 hG hA => ⟨0, 10, rfl, rfl, by omega, by omega, bV (by omega), ?_⟩
      have h0 := hA 0 10 (okE _) (by rw [pc_0]; omega)
      rw [pc_0, Nat.sub_zero] at h0
      have hlt : nFil V i < 2 ^ 63 := np_lt hn (by omega) 0 10
      rw [cl (by omega), show xA_many σ1 (11 * 0 + 10) = nL (nFil V i) from h0]
      have hz : lg_cmp (nL (nFil V i)) 0 = 0 ↔ ¬ 0 < nFil V i := by
        rw [lg_eq]
        constructor
        · intro z
          have := congrArg Int64.toInt z
          rw [nL_toInt hlt, show (0 : Int64).toInt = 0 from by decide] at this
          omega
        · intro z
          rw [show nFil V i = 0 by omega]; rfl
      simp only [hz]
      by_cases z : 0 < nFil V i
      · rw [if_neg (fun y => y z)]
        rw [if_pos z] at h
        refine ox_reachesBy (W := gL σ1 34) ⟨hG, rfl⟩ hi fun σ2 L hQ hl2 hL hLt => ?_
        have hA2 : ∀ s l, okS (vn V) s l → fnX σ2 V (vme V i) s l := fun s l hok y => by rw [hQ.2]; exact hA s l hok y
        refine ⟨2 ^ vn V + 1, ?_⟩
        have h9 := surX_s (P := P) (K := wx_sure_j163 P) hQ.1 hi hk hl2 hL hLt hA2 ?_ (2 ^ vn V) 0 0 (by omega) (Nat.two_pow_pos _) (fun d hd => ⟨fun y => by rw [Nat.zero_testBit] at y; exact absurd y (by decide), fun ⟨s', y, _⟩ => by omega⟩)
        · exact h9
        · have e := sure_eq (c := cnD V (vme V i) k) (n := vn V) (N := nFil V i) (by omega) (cnD_sum hn hk) z
          have h3 := h σ2 hQ.1.1
          rw [← e] at h3
          show P (if pc (N1 V (vme V i) k) = 1 then nI (N1 V (vme V i) k) else 0) σ2
          unfold N1
          by_cases y : pc (bitsOf (fun d => decide (0 < cnD V (vme V i) k d)) (vn V)) = 1
          · rw [if_pos y] at h3 ⊢; exact h3
          · rw [if_neg y] at h3 ⊢; exact h3
      · rw [if_pos z]
        rw [if_neg z] at h
        exact h σ1 hG.1
/-! the model puts each dish at the place and counts -/
theorem IM.meW {σ : St} {V : VV} (hI : IM σ V) {i k : Nat} (hi : i < 3) (hk : k < (vme V i).length) {d : Nat} (hd : d < vn V ∨ d = 99) : IM (mU_menus σ (nI (10 * i + k)) (nI d)) (vSMe V i ((vme V i).set k d)) := by
  have hml := (hI.2.me i).1
  unfold mU_menus uA
  rw [cl (by omega)]
  refine hI.me2 hi (by rw [List.length_set]) (fun x hx => ?_) (fun p hp => upd_n (by omega)) fun j hj => ?_
  · rcases List.mem_or_eq_of_mem_set hx with z | z
    · exact (hI.2.me i).2 x z
    · rw [z]; exact hd
  · rw [List.length_set] at hj
    rw [getD_set hk]
    by_cases e : j = k
    · rw [e, upd_s, if_pos rfl]
    · rw [upd_n (by omega), if_neg e]
      exact hI.me hi hj
theorem vSMe_tw (V : VV) (i : Nat) (a b : List Nat) : vSMe (vSMe V i a) i b = vSMe V i b := by
  unfold vSMe
  have : (fun j => if j = i then b else vme (vMk (vn V) (vg V) (vh V) (vst V) (vco V) (vho V) (vlo V) (vba V) (vsto V) (vla V) (vsv V) (fun j => if j = i then a else vme V j) (vtx V) (vru V) (vrow V) (vkp V)) j) = (fun j => if j = i then b else vme V j) := funext fun j => by
    show (if j = i then b else if j = i then a else vme V j) = _
    by_cases q : j = i
    · rw [if_pos q, if_pos q]
    · rw [if_neg q, if_neg q, if_neg q]
  show vMk _ _ _ _ _ _ _ _ _ _ _ (fun j => if j = i then b else vme (vMk (vn V) (vg V) (vh V) (vst V) (vco V) (vho V) (vlo V) (vba V) (vsto V) (vla V) (vsv V) (fun j => if j = i then a else vme V j) (vtx V) (vru V) (vrow V) (vkp V)) j) _ _ _ _ = _
  rw [this]; rfl
theorem vSMe_id (V : VV) (i : Nat) : vSMe V i (vme V i) = V := by
  unfold vSMe
  have : (fun j => if j = i then vme V i else vme V j) = vme V := funext fun j => by
    by_cases q : j = i
    · rw [if_pos q, q]
    · rw [if_neg q]
  rw [this]; rfl
theorem set_set {l : List Nat} {k a b : Nat} : (l.set k a).set k b = l.set k b := List.set_set _
theorem set_id {l : List Nat} {k : Nat} (hk : k < l.length) : l.set k (l.getD k 0) = l := by
  refine List.ext_getElem? fun j => ?_
  rw [List.getElem?_set]
  by_cases q : k = j
  · subst q
    rw [if_pos rfl, if_pos hk, List.getD_eq_getElem?_getD, List.getElem?_eq_getElem hk]; rfl
  · rw [if_neg q]
theorem surM_d {V : VV} {i k : Nat} {P : Int32 → St → Prop} (hw : WV V) (hi : i < 3) (hk : k < (vme V i).length) (hN : 0 < nFil V i) (h : ∀ σ', IM σ' V → P (nI (bitsOf (fun d => decide (cnD V (vme V i) k d = nFil V i)) (vn V))) σ') :
    ∀ m d : Nat, d + m = vn V → ∀ σ x, (x < vn V ∨ x = 99) → IM σ (vSMe V i ((vme V i).set k x)) → wm_sure_l57 P (wm_sure_j127 P) (m + 1) (nI i) (nI k) (nL (nFil V i)) (nI ((vme V i).getD k 0)) (nI (bitsOf (fun d => decide (cnD V (vme V i) k d = nFil V i)) d)) (nI d) σ := by
  have hn := hw.n
  have hml := (hw.me i).1
  have hme := me_lt hw hk
  have hlt : nFil V i < 2 ^ 63 := np_lt hn (by omega) 0 10
  have hUm : ∀ x, vme (vSMe V i ((vme V i).set k x)) i = (vme V i).set k x := fun x => if_pos rfl
  have hUl : ∀ x, (vme (vSMe V i ((vme V i).set k x)) i).length = (vme V i).length := fun x => by rw [hUm, List.length_set]
  intro m
  induction m with
  | zero =>
    intro d hd σ x hx hI
    rw [wm_sure_l57_s, show mI_dishes σ = nI (vn V) from hI.n, if_pos (by rw [show d = vn V by omega]; exact Int32.le_refl _), show d = vn V by omega]
    unfold wm_sure_j127
    rw [mul10, nI_add]
    refine ⟨vp_in_nI (by omega) (by omega), h _ ?_⟩
    have h9 := hI.meW hi (by rw [hUl]; exact hk) (d := (vme V i).getD k 0) hme
    rw [hUm, set_set, set_id hk, vSMe_tw, vSMe_id] at h9
    exact h9
  | succ m ih =>
    intro d hd σ x hx hI
    have ih1 := ih (d + 1) (by omega)
    rw [bitsOf_s] at ih1
    rw [wm_sure_l57_s, show mI_dishes σ = nI (vn V) from hI.n, if_neg (nI_ge (by omega) (by omega))]
    simp only [lg_le0, nL_pos hlt]
    rw [if_neg (fun z => z hN)]
    unfold wm_sure_j121
    rw [nI_1, show (99 : Int32) = nI 99 from rfl]
    simp only [nI_eq (show (vme V i).getD k 0 < 2 ^ 31 by omega) (show 99 < 2 ^ 31 by omega), nI_eq (show (vme V i).getD k 0 < 2 ^ 31 by omega) (show d < 2 ^ 31 by omega)]
    have try1 : fitL (vme V i) k d = true → wm_sure_j89 P (wm_sure_l57 P (wm_sure_j127 P) (m + 1)) (nI i) (nI k) (nL (nFil V i)) (nI ((vme V i).getD k 0)) (nI (bitsOf (fun d => decide (cnD V (vme V i) k d = nFil V i)) d)) (nI d) σ := by
      intro hf
      unfold wm_sure_j89 wm_sure_j121
      rw [mul10, nI_add]
      refine ⟨vp_in_nI (by omega) (by omega), ?_⟩
      have h9 := hI.meW hi (by rw [hUl]; exact hk) (d := d) (Or.inl (show d < vn V by omega))
      rw [hUm, set_set, vSMe_tw] at h9
      refine om_findFills h9 hi fun σ' hI' _ => ?_
      have ec : np (mfL (vSMe V i ((vme V i).set k d)) (vme (vSMe V i ((vme V i).set k d)) i)) (vn (vSMe V i ((vme V i).set k d))) (vme (vSMe V i ((vme V i).set k d)) i).length 0 10 = cnD V (vme V i) k d := by
        rw [hUm, List.length_set]
        unfold cnD
        rw [if_pos hf]; rfl
      have hlt2 : cnD V (vme V i) k d < 2 ^ 63 := by rw [← ec]; exact np_lt hn (by rw [hUm, List.length_set]; omega) 0 10
      rw [ec]
      have hz : lg_cmp (nL (cnD V (vme V i) k d)) (nL (nFil V i)) = 0 ↔ cnD V (vme V i) k d = nFil V i := by
        rw [lg_eq]
        constructor
        · intro z
          have := congrArg Int64.toInt z
          rw [nL_toInt hlt2, nL_toInt hlt] at this
          omega
        · intro z; rw [z]
      simp only [hz]
      rw [nI_1, nI_shl1 _ (by omega), nI_or]
      by_cases q : cnD V (vme V i) k d = nFil V i
      · rw [if_pos q]; rw [decide_eq_true q, if_pos rfl] at ih1
        exact ih1 σ' d (Or.inl (by omega)) hI'
      · rw [if_neg q]; rw [decide_eq_false q, if_neg (by decide), Nat.or_zero] at ih1
        exact ih1 σ' d (Or.inl (by omega)) hI'
    by_cases q1 : (vme V i).getD k 0 = 99
    · rw [if_pos q1]; exact try1 (by unfold fitL; rw [decide_eq_true q1, Bool.true_or])
    · rw [if_neg q1]
      by_cases q2 : (vme V i).getD k 0 = d
      · rw [if_pos q2]; exact try1 (by unfold fitL; rw [decide_eq_true q2, Bool.or_true])
      · rw [if_neg q2]
        have : cnD V (vme V i) k d = 0 := by
          unfold cnD fitL
          rw [decide_eq_false q1, decide_eq_false q2, if_neg (by decide)]
        rw [decide_eq_false (show ¬ cnD V (vme V i) k d = nFil V i by omega), if_neg (by decide), Nat.or_zero] at ih1
        exact ih1 σ x hx hI
theorem om_sure {σ : St} {V : VV} {P : Int32 → St → Prop} (hI : IM σ V) (v1 v2 : Int32) (h : ∀ σ', IM σ' V → P (R_sure V v1 v2) σ') : wm_sure σ v1 v2 P := by
  have hI := hI.th 0
  unfold R_sure at h
  refine ⟨V, hI, ?_⟩
  dsimp only
  cases q : laidV V v1 with
  | false => rw [jf0]; rw [q, Bool.false_and, if_neg (by decide)] at h; exact h _ hI
  | true =>
    rw [jt0]; rw [q, Bool.true_and] at h
    obtain ⟨i, hi, rfl, hl⟩ := laidV_of q
    rw [cl (by omega)] at h
    have hn := hI.2.n
    have hml := (hI.2.me i).1
    refine ⟨vp_in_nI hi (by omega), ?_⟩
    rw [cl (by omega), show mA_menuLong (mS_thrown σ 0) i = _ from hI.ml hi]
    unfold sm_in
    dsimp only
    rw [inM_rng (by omega)]
    cases q2 : rngB v2 (vme V i).length with
    | false => rw [jf0]; rw [q2, if_neg (by decide)] at h; exact h _ hI
    | true =>
      rw [jt0]; rw [q2, if_pos rfl] at h
      obtain ⟨k, hk, rfl⟩ := rngB_of (by omega) q2
      rw [cl (by omega)] at h
      refine om_findFills hI hi fun σ1 hI1 _ => ?_
      rw [show np (mfL V (vme V i)) (vn V) (vme V i).length 0 10 = nFil V i from rfl, mul10, nI_add]
      refine ⟨vp_in_nI (by omega) (by omega), ?_⟩
      rw [cl (by omega), show mA_menus σ1 (10 * i + k) = _ from hI1.me hi hk]
      have hlt : nFil V i < 2 ^ 63 := np_lt hn (by omega) 0 10
      by_cases z : 0 < nFil V i
      · rw [if_pos z] at h
        refine ⟨vn V + 1, surM_d hI.2 hi hk z h (vn V) 0 (by omega) σ1 ((vme V i).getD k 0) (me_lt hI.2 hk) ?_⟩
        rw [set_id hk, vSMe_id]; exact hI1
      · rw [if_neg z] at h
        refine ⟨1, ?_⟩
        have fin : wm_sure_j127 P (nI i) (nI k) (nI ((vme V i).getD k 0)) 0 σ1 := by
          unfold wm_sure_j127
          rw [mul10, nI_add]
          refine ⟨vp_in_nI (by omega) (by omega), h _ ?_⟩
          have h9 := hI1.meW hi hk (d := (vme V i).getD k 0) (me_lt hI.2 hk)
          rw [set_id hk, vSMe_id] at h9
          exact h9
        rw [wm_sure_l57_s]
        split
        · exact fin
        · simp only [lg_le0, nL_pos hlt]
          rw [if_pos z]; exact fin
