/-! MEND: the model, whose store of the stuff is set to none while it looks -/
theorem IM.stW {σ : St} {U : VV} (hI : IM σ U) {k x : Nat} (hk : k < 8) (hx : x ≤ 99) : IM (mU_store σ (nI k) (nI x)) (vSSto U (fun j => if j = k then x else vsto U j)) := by
  unfold mU_store uA
  rw [cl (by omega)]
  obtain ⟨a, h2, h3, h4, h5, h6, h7, h8, h9, h10, h11⟩ := hI.1
  refine ⟨⟨a, h2, h3, ?_, h5, h6, h7, h8, h9, fun i hi => keptM.kp rfl rfl rfl rfl (h10 i hi), ruleM.kp rfl rfl h11⟩, hI.2.sto' fun j hj => ?_⟩
  · intro j hj
    show upd (gA σ 0) k (nI x) j = nI (if j = k then x else vsto U j)
    by_cases e : j = k
    · rw [e, upd_s, if_pos rfl]
    · rw [upd_n e, if_neg e]; exact h4 j hj
  · have := hI.2.sto hj
    show (if j = k then x else vsto U j) ≤ 99
    split <;> omega
def mnM (σ : St) (U : VV) (mn : List Nat) (s l : Nat) : Prop := pc s ≤ mn.length → gA σ 45 (11 * s + l) = nI (meF (mv U (allA U)) mn (vn U) s l)
theorem om_menuAt {U : VV} {i s : Nat} {P : Int32 → St → Prop} {σ : St} (hI : IM σ U) (hi : i < 3) (hs : s < 2048) (hp : pc s < (vme U i).length) (h : P (nI ((vme U i).getD (pc s) 0)) σ) : wm_menuAt σ (nI i) (nI s) P := by
  have hml := (hI.2.me i).1
  unfold wm_menuAt
  rw [bitC_nI hs, mul10, nI_add]
  refine ⟨vp_in_nI (by omega) (by omega), ?_⟩
  rw [cl (by omega), show mA_menus σ (10 * i + pc s) = _ from hI.me hi hp]
  exact h
theorem menM_d {U : VV} {i s l : Nat} {x2 x3 : Int32} {P : Int32 → St → Prop} {K : Int32 → Int32 → Int32 → Int32 → Int32 → Int32 → Int32 → St → Prop} {σ : St} (hI : IM σ U) (hi : i < 3) (hok : okS (vn U) s l) (hp : pc s < (vme U i).length) (hA : ∀ d, d < vn U → s.testBit d = false → mnM σ U (vme U i) (s ||| 2 ^ d) d)
    (h : K (nI i) x2 x3 (nI (vme U i).length) (nI s) (lI l) (nI (dFo (mv U (allA U)) (meC (vme U i) s) s l (fun d => meF (mv U (allA U)) (vme U i) (vn U) (s ||| 2 ^ d) d) (vn U))) σ) :
    ∀ m d : Nat, d + m = vn U → wm_mend_l135 P K (m + 1) (nI i) x2 x3 (nI (vme U i).length) (nI s) (lI l) (nI (dFo (mv U (allA U)) (meC (vme U i) s) s l (fun d => meF (mv U (allA U)) (vme U i) (vn U) (s ||| 2 ^ d) d) d)) (nI d) σ := by
  have hn := hI.2.n
  have hml := (hI.2.me i).1
  have hb := okS_le hn hok
  have hp2 := pow_le_1024 hn
  intro m
  induction m with
  | zero =>
    intro d hd
    rw [wm_mend_l135_s, show mI_dishes σ = _ from hI.n, if_pos (by rw [show d = vn U by omega]; exact Int32.le_refl _), show d = vn U by omega]
    exact h
  | succ m ih =>
    intro d hd
    have ih1 := ih (d + 1) (by omega)
    have hor := or2_lt hok.1 (show d < vn U by omega)
    rw [dFo_s] at ih1
    rw [wm_mend_l135_s, show mI_dishes σ = _ from hI.n, if_neg (nI_ge (by omega) (by omega)), bitC_nI (by omega), if_neg (nI_ge hp (by omega))]
    refine om_may hI hok (by omega) ?_
    unfold wm_mend_j203 wm_mend_j209
    rw [nI_1]
    cases q : mv U (allA U) s l d with
    | false => rw [jf0]; rw [q, if_neg (by decide)] at ih1; exact ih1
    | true =>
      rw [jt0]; rw [q, if_pos rfl] at ih1
      have hnx := okS_step hok (show d < vn U by omega)
      have hle := meF_le (mn := vme U i) hn (mv_newM U (allA U)) hnx
      have hfo := (dFo_le (M := mv U (allA U)) (c := meC (vme U i) s) (s := s) (l := l) (f := fun d => meF (mv U (allA U)) (vme U i) (vn U) (s ||| 2 ^ d) d) d).1
      have ha := hA d (by omega) (mv_new q) (by rw [pc_or2 (mv_new q) (by omega)]; omega)
      have hme := me_lt hI.2 hp
      rw [nI_shl1 _ (by omega), nI_or]
      refine ⟨s ||| 2 ^ d, d, rfl, (lI_l (by omega)).symm, by omega, by omega, bV (by omega), ?_⟩
      rw [cl (by omega), show mA_changesFrom σ (11 * (s ||| 2 ^ d) + d) = _ from ha]
      refine om_menuAt hI hi (by omega) hp ?_
      simp only [nI_eq (show d < 2 ^ 31 by omega) (show (vme U i).getD (pc s) 0 < 2 ^ 31 by omega)]
      unfold meC at ih1
      by_cases q2 : (vme U i).getD (pc s) 0 = d
      · rw [if_pos q2.symm, Int32.add_zero]; rw [if_pos q2] at ih1
        show wm_mend_l135 P K (m + 1) (nI i) x2 x3 (nI (vme U i).length) (nI s) (lI l) (jmin (nI (dFo (mv U (allA U)) (meC (vme U i) s) s l (fun d => meF (mv U (allA U)) (vme U i) (vn U) (s ||| 2 ^ d) d) d)) (nI (meF (mv U (allA U)) (vme U i) (vn U) (s ||| 2 ^ d) d))) (nI (d + 1)) σ
        rw [jmin_nI (by omega) (by omega)]
        exact ih1
      · rw [if_neg (fun z => q2 z.symm)]; rw [if_neg q2] at ih1
        rw [nI_1, jmin_nI (by omega) (by omega)]
        exact ih1
theorem menM_l {U : VV} {i s : Nat} {x2 x3 : Int32} {P : Int32 → St → Prop} {K : Int32 → Int32 → Int32 → Int32 → Int32 → St → Prop} (hw : WV U) (hi : i < 3) (hs : s < 2 ^ vn U) (hpl : pc s ≤ (vme U i).length)
    (h : ∀ σ', IM σ' U → At (vn U) s (vn U + 1) (mnM σ' U (vme U i)) → K (nI i) x2 x3 (nI (vme U i).length) (nI s) σ') :
    ∀ m j : Nat, j + m = vn U + 1 → ∀ σ, IM σ U → At (vn U) s j (mnM σ U (vme U i)) → wm_mend_l91 P K (m + 1) (nI i) x2 x3 (nI (vme U i).length) (nI s) (nI j - 1) σ := by
  have hn := hw.n
  have hp := pow_le_1024 hn
  have hml := (hw.me i).1
  have hpc := pc_le s
  intro m
  induction m with
  | zero =>
    intro j hj σ hG hD
    rw [wm_mend_l91_s, show mI_dishes σ = _ from hG.n, if_pos ((nIm_lt (by omega) (by omega)).mpr (by omega))]
    rw [show j = vn U + 1 by omega] at hD
    exact h σ hG hD
  | succ m ih =>
    intro j hj σ hG hD
    rw [wm_mend_l91_s, show mI_dishes σ = _ from hG.n, if_neg (fun z => by have := (nIm_lt (by omega) (by omega)).mp z; omega)]
    have hl := lOf_n (j := j) hn (by omega)
    refine ⟨s, lOf j, rfl, (lOf_lI (by omega)).symm, by omega, by omega, ?_⟩
    dsimp only
    unfold wm_mend_j235
    rw [nIm_s]
    cases q : stateB s (lOf j) with
    | false => rw [jf0]; exact ih (j + 1) (by omega) σ hG (hD.skip hn (by omega) hs q)
    | true =>
      rw [jt0]
      have hok := (okS_B hn hs hl).mp q
      have hb := okS_le hn hok
      have hfix := meF_fix (M := mv U (allA U)) (mn := vme U i) hn (mv_newM U (allA U)) hok
      have hle := meF_le (mn := vme U i) hn (mv_newM U (allA U)) hok
      have fin : ∀ x, x = meF (mv U (allA U)) (vme U i) (vn U) s (lOf j) → wm_mend_j215 P (wm_mend_l91 P K (m + 1)) (nI i) x2 x3 (nI (vme U i).length) (nI s) (lI (lOf j)) (nI x) σ := by
        intro x ex
        refine ⟨s, lOf j, rfl, rfl, by omega, by omega, bV (by omega), ?_⟩
        unfold wm_mend_j235 mU_changesFrom uA
        rw [cl (by omega), lOf_lI (by omega), nIm_s, show (1000000 : Int32) = nI 1000000 from rfl, jmin_nI (by omega) (by omega), Nat.min_eq_left (by omega)]
        refine ih (j + 1) (by omega) _ (hG.qA (by decide) _) (hD.step hn (fun s' l' hok' hne hp' => ?_) fun _ => ?_)
        · have hb' := okS_le hn hok'
          intro y
          show upd (gA σ 45) _ _ _ = _
          rw [upd_n (fun z => hne ⟨by omega, by omega⟩)]; exact hp' y
        · intro _
          show upd (gA σ 45) _ _ _ = _
          rw [upd_s, ex]
      rw [bitC_nI (by omega)]
      simp only [nI_eq (show pc s < 2 ^ 31 by omega) (show (vme U i).length < 2 ^ 31 by omega)]
      unfold wm_mend_j130
      rw [← lOf_lI (by omega)]
      by_cases q1 : pc s = (vme U i).length
      · rw [if_pos q1]
        refine ⟨1, ?_⟩
        rw [wm_mend_l135_s, bitC_nI (by omega)]
        have hf := fin 0 (by rw [hfix, if_pos q1])
        split
        · exact hf
        · rw [if_pos (by rw [q1]; exact Int32.le_refl _)]; exact hf
      · rw [if_neg q1]
        rw [if_neg q1] at hfix
        exact ⟨vn U + 1, menM_d hG hi hok (by omega) (fun d hd hbt => hD.nx hok hd hbt) (fin _ hfix.symm) (vn U) 0 (by omega)⟩
theorem mpM_d {U : VV} {i s l D : Nat} {P : St → Prop} {K : Int32 → Int32 → Int32 → Int32 → St → Prop} {σ : St} (hI : IM σ U) (hi : i < 3) (hok : okS (vn U) s l) (hpl : pc s < (vme U i).length) (hA : ∀ s l, okS (vn U) s l → mnM σ U (vme U i) s l) (hlt : meF (mv U (allA U)) (vme U i) (vn U) s l < 1000000)
    (hD : D < vn U) (hm : mv U (allA U) s l D = true) (hT : meF (mv U (allA U)) (vme U i) (vn U) (s ||| 2 ^ D) D + meC (vme U i) s D = meF (mv U (allA U)) (vme U i) (vn U) s l)
    (hno : ∀ d, d < D → mv U (allA U) s l d = true → meF (mv U (allA U)) (vme U i) (vn U) (s ||| 2 ^ d) d + meC (vme U i) s d ≠ meF (mv U (allA U)) (vme U i) (vn U) s l) (hr : (vrow U).length < 12)
    (h : ∀ σ', IM σ' (vSRow U (vrow U ++ [nI D])) → gA σ' 45 = gA σ 45 → K (nI i) (nI (vme U i).length) (nI (s ||| 2 ^ D)) (nI D) σ') :
    ∀ m d : Nat, d + m = D → wm_tellMended_l21 P K (m + 1) (nI i) (nI (vme U i).length) (nI s) (lI l) (nI d) σ := by
  have hn := hI.2.n
  have hb := okS_le hn hok
  have hp := pow_le_1024 hn
  have hcur := hA s l hok (by omega)
  have hme := me_lt hI.2 hpl
  -- what a dish that may be comes to
  have ask : ∀ d, d < vn U → mv U (allA U) s l d = true → ∀ A B : Prop, (meF (mv U (allA U)) (vme U i) (vn U) (s ||| 2 ^ d) d + meC (vme U i) s d = meF (mv U (allA U)) (vme U i) (vn U) s l → A) → (meF (mv U (allA U)) (vme U i) (vn U) (s ||| 2 ^ d) d + meC (vme U i) s d ≠ meF (mv U (allA U)) (vme U i) (vn U) s l → B) →
      (if (nI (meF (mv U (allA U)) (vme U i) (vn U) (s ||| 2 ^ d) d) + nI (meC (vme U i) s d)) = mA_changesFrom σ (nI (11 * s + l)).toNatClampNeg then A else B) := by
    intro d hd hm A B h1 h2
    have hle := meF_le (mn := vme U i) hn (mv_newM U (allA U)) (okS_step hok hd)
    have hc : meC (vme U i) s d ≤ 1 := by unfold meC; split <;> omega
    rw [cl (by omega), show mA_changesFrom σ (11 * s + l) = _ from hcur, nI_add]
    by_cases z : meF (mv U (allA U)) (vme U i) (vn U) (s ||| 2 ^ d) d + meC (vme U i) s d = meF (mv U (allA U)) (vme U i) (vn U) s l
    · rw [if_pos (by rw [z])]; exact h1 z
    · rw [if_neg (fun y => z ((nI_eq (by omega) (by omega)).mp y))]; exact h2 z
  have one : ∀ d, d < vn U → mv U (allA U) s l d = true → ∀ K21, (meF (mv U (allA U)) (vme U i) (vn U) (s ||| 2 ^ d) d + meC (vme U i) s d = meF (mv U (allA U)) (vme U i) (vn U) s l → sm_tell σ (nI d) (fun σ89 => K (nI i) (nI (vme U i).length) (nI (s ||| 2 ^ d)) (nI d) σ89)) → (meF (mv U (allA U)) (vme U i) (vn U) (s ||| 2 ^ d) d + meC (vme U i) s d ≠ meF (mv U (allA U)) (vme U i) (vn U) s l → wm_tellMended_j80 P K21 (nI i) (nI (vme U i).length) (nI s) (lI l) (nI d) σ) →
      (if nI d = nI ((vme U i).getD (pc s) 0) then wm_tellMended_j65 P K K21 (nI i) (nI (vme U i).length) (nI s) (lI l) (nI d) (nI (meF (mv U (allA U)) (vme U i) (vn U) (s ||| 2 ^ d) d)) 0 σ else wm_tellMended_j65 P K K21 (nI i) (nI (vme U i).length) (nI s) (lI l) (nI d) (nI (meF (mv U (allA U)) (vme U i) (vn U) (s ||| 2 ^ d) d)) 1 σ) := by
    intro d hd hm K21 h1 h2
    have hor := or2_lt hok.1 hd
    unfold wm_tellMended_j65
    rw [nI_shl1 _ (by omega), nI_or]
    have a := ask d hd hm _ _ h1 h2
    simp only [nI_eq (show d < 2 ^ 31 by omega) (show (vme U i).getD (pc s) 0 < 2 ^ 31 by omega)]
    unfold meC at a
    by_cases q : (vme U i).getD (pc s) 0 = d
    · rw [if_pos q.symm]; rw [if_pos q] at a
      exact ⟨s, l, rfl, rfl, by omega, by omega, bV (by omega), a⟩
    · rw [if_neg (fun z => q z.symm)]; rw [if_neg q] at a
      exact ⟨s, l, rfl, rfl, by omega, by omega, bV (by omega), a⟩
  intro m
  induction m with
  | zero =>
    intro d hd
    have e : d = D := by omega
    subst e
    have hor := or2_lt hok.1 hD
    have ha := hA _ _ (okS_step hok hD) (by rw [pc_or2 (mv_new hm) (by omega)]; omega)
    rw [wm_tellMended_l21_s]
    refine om_may hI hok hD ?_
    rw [hm, jt0, nI_shl1 _ (by omega), nI_or]
    refine ⟨s ||| 2 ^ d, d, rfl, (lI_l (by omega)).symm, by omega, by omega, bV (by omega), ?_⟩
    rw [cl (by omega), show mA_changesFrom σ (11 * (s ||| 2 ^ d) + d) = _ from ha]
    refine om_menuAt hI hi (by omega) hpl (one d hD hm _ (fun _ => ⟨U, hI, hr, fun σ' h' kp _ => h σ' h' (kp.2.1 45 (by decide))⟩) fun z => absurd hT z)
  | succ m ih =>
    intro d hd
    have ih1 := ih (d + 1) (by omega)
    have hor := or2_lt hok.1 (show d < vn U by omega)
    rw [wm_tellMended_l21_s]
    refine om_may hI hok (by omega) ?_
    have nxt : wm_tellMended_j80 P (wm_tellMended_l21 P K (m + 1)) (nI i) (nI (vme U i).length) (nI s) (lI l) (nI d) σ := by
      unfold wm_tellMended_j80; rw [nI_1]; exact ih1
    cases q : mv U (allA U) s l d with
    | false => rw [jf0]; exact nxt
    | true =>
      rw [jt0, nI_shl1 _ (by omega), nI_or]
      have ha := hA _ _ (okS_step hok (show d < vn U by omega)) (by rw [pc_or2 (mv_new q) (by omega)]; omega)
      refine ⟨s ||| 2 ^ d, d, rfl, (lI_l (by omega)).symm, by omega, by omega, bV (by omega), ?_⟩
      rw [cl (by omega), show mA_changesFrom σ (11 * (s ||| 2 ^ d) + d) = _ from ha]
      exact om_menuAt hI hi (by omega) hpl (one d (by omega) q _ (fun z => absurd z (hno d (by omega) q)) fun _ => nxt)
theorem mpM_k {U : VV} {i : Nat} {P : St → Prop} {T : Nat → Int32} (hn : vn U ≤ 10) (hi : i < 3) (hml : (vme U i).length ≤ 10) (hT : ∀ s l, okS (vn U) s l → pc s ≤ (vme U i).length → T (11 * s + l) = nI (meF (mv U (allA U)) (vme U i) (vn U) s l)) :
    ∀ k s l, ∀ W, (∃ r, W = vSRow U r) → okS (vn U) s l → pc s + k = (vme U i).length → meF (mv U (allA U)) (vme U i) (vn U) s l < 1000000 → (vrow W).length + k ≤ 12 → ∀ σ, IM σ W → gA σ 45 = T → (∀ σ', IM σ' (rowG W (wyD (mv U (allA U)) (vme U i) (vn U) k s l)) → gA σ' 45 = T → P σ') →
      wm_tellMended_l10 P (k + 1) (nI i) (nI (vme U i).length) (nI s) (lI l) σ := by
  have hM := mv_newM U (allA U)
  have hp := pow_le_1024 hn
  intro k
  induction k with
  | zero =>
    intro s l W eW hok hk hlt hr σ hG hg h
    have hs := hok.1
    rw [wm_tellMended_l10_s, bitC_nI (by omega), if_pos (by rw [show pc s = (vme U i).length by omega]; exact Int32.le_refl _)]
    refine h σ ?_ hg
    show IM σ (rowG W [])
    rw [rowG_nil]; exact hG
  | succ k ih =>
    intro s l W eW hok hk hlt hr σ hG hg h
    have hs := hok.1
    obtain ⟨r, rfl⟩ := eW
    rw [wm_tellMended_l10_s, bitC_nI (by omega), if_neg (nI_ge (by omega) (by omega))]
    obtain ⟨d0, hd0, h1, h2⟩ := meF_next hn hM hok (by omega) hlt
    obtain ⟨a, b, c⟩ := lst_ex (p := fun d => mv U (allA U) s l d && decide (meF (mv U (allA U)) (vme U i) (vn U) (s ||| 2 ^ d) d + meC (vme U i) s d = meF (mv U (allA U)) (vme U i) (vn U) s l)) hd0 (by rw [h1, decide_eq_true h2]; rfl)
    rw [Bool.and_eq_true, decide_eq_true_eq] at b
    unfold wyD at h
    generalize lst (fun d => mv U (allA U) s l d && decide (meF (mv U (allA U)) (vme U i) (vn U) (s ||| 2 ^ d) d + meC (vme U i) s d = meF (mv U (allA U)) (vme U i) (vn U) s l)) (vn U) = D at a b c h
    have hlen : r.length + (k + 1) ≤ 12 := hr
    have hpcD := pc_or2 (hM s l D a b.1) (show D < 11 by omega)
    refine ⟨D + 1, mpM_d (U := vSRow U r) hG hi hok (show pc s < (vme U i).length by omega) (fun s l hok' y => by rw [hg]; exact hT s l hok' y) hlt a b.1 b.2 (fun d hd hm e => ?_) (by show r.length < 12; omega) (fun σ' hG' hg' => ?_) D 0 (by omega)⟩
    · have := c d hd
      rw [show mv U (allA U) s l d = true from hm, decide_eq_true (show meF (mv U (allA U)) (vme U i) (vn U) (s ||| 2 ^ d) d + meC (vme U i) s d = meF (mv U (allA U)) (vme U i) (vn U) s l from e)] at this
      exact absurd this (by decide)
    · have h9 := ih (s ||| 2 ^ D) D (vSRow U (r ++ [nI D])) ⟨_, rfl⟩ (okS_step hok a) (by omega) (by omega) (by show (r ++ [nI D]).length + k ≤ 12; rw [List.length_append]; show r.length + 1 + k ≤ 12; omega) σ' hG' (by rw [hg', hg]) (fun σ'' hG'' => h σ'' (by rw [← rowG_two]; exact hG''))
      rw [lI_l (by omega)] at h9
      exact h9
theorem menM_s {U : VV} {i : Nat} {x2 x3 : Int32} {P : Int32 → St → Prop} {K : Int32 → Int32 → Int32 → St → Prop} (hw : WV U) (hi : i < 3)
    (h1 : meF (mv U (allA U)) (vme U i) (vn U) 0 10 < 1000000 → ∀ σ', IM σ' (rowG (vSRow U []) (wyD (mv U (allA U)) (vme U i) (vn U) (vme U i).length 0 10)) → K x2 x3 (nI (meF (mv U (allA U)) (vme U i) (vn U) 0 10)) σ')
    (h0 : ¬ meF (mv U (allA U)) (vme U i) (vn U) 0 10 < 1000000 → ∀ σ', IM σ' U → K x2 x3 (nI 1000000) σ') :
    ∀ m : Nat, m ≤ 2 ^ vn U → ∀ σ, IM σ U → (0 < m → At (vn U) (m - 1) 0 (mnM σ U (vme U i))) → (m = 0 → ∀ s l, okS (vn U) s l → mnM σ U (vme U i) s l) →
      wm_mend_l70 P K (m + 1) (nI i) x2 x3 (nI (vme U i).length) (nI m - 1) σ := by
  have hn := hw.n
  have hp := pow_le_1024 hn
  have hml := (hw.me i).1
  intro m
  induction m with
  | zero =>
    intro hm σ hG _ hF
    have hA := hF rfl
    have hle := meF_le (mn := vme U i) hn (mv_newM U (allA U)) (okE (vn U))
    rw [wm_mend_l70_s, if_pos (by decide)]
    refine ⟨0, 10, rfl, rfl, by omega, by omega, bV (by omega), ?_⟩
    have ha : mA_changesFrom σ (11 * 0 + 10) = nI (meF (mv U (allA U)) (vme U i) (vn U) 0 10) := hA 0 10 (okE _) (by rw [pc_0]; omega)
    rw [cl (by omega), ha, show (1000000 : Int32) = nI 1000000 from rfl]
    simp only [nI_leI (show 1000000 < 2 ^ 31 by omega) (show meF (mv U (allA U)) (vme U i) (vn U) 0 10 < 2 ^ 31 by omega)]
    by_cases q : meF (mv U (allA U)) (vme U i) (vn U) 0 10 < 1000000
    · rw [if_neg (by omega)]
      have hr := hG.row0
      refine ⟨(vme U i).length + 1, ?_⟩
      exact mpM_k (U := U) (i := i) (P := fun σ271 => K x2 x3 (nI (meF (mv U (allA U)) (vme U i) (vn U) 0 10)) σ271) (T := gA σ 45) hn hi hml (fun s l hok y => hA s l hok y) (vme U i).length 0 10 (vSRow U []) ⟨[], rfl⟩ (okE _) (by rw [pc_0]; omega) q (by show 0 + (vme U i).length ≤ 12; omega) _ hr rfl (fun σ' hG' _ => h1 q σ' hG')
    · rw [if_pos (by omega), show meF (mv U (allA U)) (vme U i) (vn U) 0 10 = 1000000 by omega]; exact h0 q σ hG
  | succ m ih =>
    intro hm σ hG hD _
    have hpc := pc_le m
    rw [wm_mend_l70_s, nI_pred, if_neg (nI_lt0 (by omega)), bitC_nI (by omega)]
    simp only [nI_leI (show pc m < 2 ^ 31 by omega) (show (vme U i).length < 2 ^ 31 by omega)]
    unfold wm_mend_j241
    rw [show nI m + (-1) = nI m - 1 from (Int32.sub_eq_add_neg _ _).symm]
    have go : ∀ σ', IM σ' U → At (vn U) m (vn U + 1) (mnM σ' U (vme U i)) → wm_mend_l70 P K (m + 1) (nI i) x2 x3 (nI (vme U i).length) (nI m - 1) σ' := by
      intro σ' hG' hD'
      refine ih (by omega) σ' hG' (fun hpos => ?_) (fun h0 => ?_)
      · rw [show m = m - 1 + 1 by omega] at hD'
        exact hD'.next hn
      · rw [h0] at hD'; exact hD'.fix hn
    by_cases q : pc m ≤ (vme U i).length
    · rw [if_pos q]
      refine ⟨vn U + 2, menM_l hw hi (show m < 2 ^ vn U by omega) q (fun σ' hG' hD' => ?_) (vn U + 1) 0 (by omega) σ hG (hD (by omega))⟩
      rw [show nI m + (-1) = nI m - 1 from (Int32.sub_eq_add_neg _ _).symm]
      exact go σ' hG' hD'
    · rw [if_neg q]
      refine go σ hG fun s' l' hok' hle => ?_
      rcases hle with z | ⟨z, _⟩
      · exact hD (by omega) s' l' hok' (Or.inl z)
      · intro y; rw [z] at y; omega
/-! what the model sees without the stuff is what the component sees without its dishes -/
def noSt (V : VV) (k : Nat) : VV := vSSto V (fun j => if j = k then 0 else vsto V j)
theorem alB_congr {p q : Nat → Bool} {n : Nat} (h : ∀ k, k < n → p k = q k) : alB p n = alB q n := by
  rw [Bool.eq_iff_iff, alB_iff, alB_iff]
  exact ⟨fun a k hk => by rw [← h k hk]; exact a k hk, fun a k hk => by rw [h k hk]; exact a k hk⟩
def qCut (V : VV) (v : Int32) (s : Nat) : Prop := ∀ d, d < vn V → s.testBit d = true → cutP V v d = true
theorem cnt_zero {p : Nat → Bool} : ∀ n, (∀ k, k < n → p k = false) → cnt p n = 0 := by
  intro n
  induction n with
  | zero => intro _; rfl
  | succ n ih => intro h; rw [cnt_s, ih fun k hk => h k (by omega), h n (by omega)]; rfl
theorem cut_mv {V : VV} {k : Nat} (hk : k < 8) (s l d : Nat) (hq : qCut V (nI k) s) (hd : d < vn V) : mv V (cutA V (nI k)) s l d = mv (noSt V k) (allA (noSt V k)) s l d := by
  have eA : (allA (noSt V k)).testBit d = true := by
    show (2 ^ vn V - 1).testBit d = true
    rw [Nat.testBit_two_pow_sub_one, decide_eq_true hd]
  have eC : (cutA V (nI k)).testBit d = !((vst V d).testBit k) := by
    unfold cutA
    rw [bitsOf_tb, decide_eq_true hd, Bool.true_and]
    unfold cutP
    rw [decide_eq_false (nI_lt0 (by omega)), cl (by omega), Bool.false_or]
  unfold mv
  rw [eA, Bool.and_true, eC]
  cases hb : s.testBit d with
  | true =>
    rw [mayV_eq, mayV_eq, hb]; rfl
  | false =>
    have m0 : manyV V s k = 0 := cnt_zero _ fun j hj => by
      cases q : s.testBit j with
      | false => rfl
      | true =>
        have := hq j hj q
        unfold cutP at this
        rw [decide_eq_false (nI_lt0 (by omega)), cl (by omega), Bool.false_or] at this
        rw [Bool.true_and]
        cases z : (vst V j).testBit k with
        | false => rfl
        | true => rw [z] at this; exact absurd this (by decide)
    have hmany := many_or (V := V) k hb hd
    rw [m0] at hmany
    have eF : fineV (noSt V k) (s ||| 2 ^ d) = (fineV V (s ||| 2 ^ d) && !((vst V d).testBit k)) := by
      show (timesV V (s ||| 2 ^ d) && alB (fun j => decide (manyV V (s ||| 2 ^ d) j ≤ if j = k then 0 else vsto V j)) 8) = _
      unfold fineV
      rw [Bool.and_assoc]
      congr 1
      cases z : (vst V d).testBit k with
      | false =>
        rw [z, if_neg (by decide)] at hmany
        rw [Bool.not_false, Bool.and_true]
        refine alB_congr fun j hj => decide_eq_decide.mpr ?_
        by_cases e : j = k
        · rw [e, if_pos rfl, hmany]; omega
        · rw [if_neg e]
      | true =>
        rw [z, if_pos rfl] at hmany
        rw [Bool.not_true, Bool.and_false]
        refine Bool.eq_false_iff.mpr fun y => ?_
        have := of_decide_eq_true (alB_iff.mp y k hk)
        rw [if_pos rfl, hmany] at this
        omega
    rw [mayV_eq, mayV_eq, eF]
    show _ = (!(s.testBit d) && ((decide (l = 10) || (pairV V l d && warmV V s l d)) && (fineV V (s ||| 2 ^ d) && !((vst V d).testBit k))))
    cases s.testBit d <;> cases (decide (l = 10) || (pairV V l d && warmV V s l d)) <;> cases fineV V (s ||| 2 ^ d) <;> cases (vst V d).testBit k <;> rfl
theorem cut_nx {V : VV} (v : Int32) (s l d : Nat) (hq : qCut V v s) (hd : d < vn V) (hm : mv V (cutA V v) s l d = true) : qCut V v (s ||| 2 ^ d) := by
  intro j hj hb
  rw [tb_or2] at hb
  by_cases e : j = d
  · rw [e]
    unfold mv at hm
    rw [Bool.and_eq_true] at hm
    have := hm.2
    unfold cutA at this
    rw [bitsOf_tb, decide_eq_true hd, Bool.true_and] at this
    exact this
  · rw [decide_eq_false e, Bool.or_false] at hb; exact hq j hj hb
theorem cut_mv0 {V : VV} (s l d : Nat) (hd : d < vn V) : mv V (cutA V (-1)) s l d = mv V (allA V) s l d := by
  unfold mv cutA
  rw [bitsOf_tb, show (allA V).testBit d = true from by show (2 ^ vn V - 1).testBit d = true; rw [Nat.testBit_two_pow_sub_one, decide_eq_true hd], decide_eq_true hd]
  rfl
theorem okM_of {v : Int32} (h : okM v = true) : v = -1 ∨ ∃ k, k < 8 ∧ v = nI k := by
  unfold okM at h
  rw [Bool.and_eq_true, decide_eq_true_eq, decide_eq_true_eq] at h
  by_cases q : 0 ≤ v.toInt
  · have e : (v.toNatClampNeg : Int) = v.toInt := Int.toNat_of_nonneg q
    refine Or.inr ⟨v.toNatClampNeg, by omega, Int32.toInt_inj.mp ?_⟩
    rw [nI_toInt (by omega)]; omega
  · exact Or.inl (Int32.toInt_inj.mp (by rw [show (-1 : Int32).toInt = -1 from by decide]; omega))
theorem menM_j {V U : VV} {i : Nat} {v x : Int32} {P : Int32 → St → Prop} {σ : St} (hi : i < 3) (hU : IM σ U) (hM : vme U i = vme V i) (hN : vn U = vn V) (hm : meF (mv U (allA U)) (vme V i) (vn V) 0 10 = meR V i v)
    (h1 : meR V i v < 1000000 → ∀ σ', IM σ' (rowG (vSRow U []) (wyD (mv U (allA U)) (vme V i) (vn V) (vme V i).length 0 10)) → wm_mend_j274 P v x (nI (meR V i v)) σ')
    (h0 : ¬ meR V i v < 1000000 → ∀ σ', IM σ' U → wm_mend_j274 P v x (nI 1000000) σ') : wm_mend_j56 P (nI i) v x σ := by
  have hw := hU.2
  have hn := hw.n
  have h1p := Nat.one_le_two_pow (n := vn U)
  refine ⟨vp_in_nI hi (by omega), U, hU, 2 ^ vn U + 1, ?_⟩
  rw [cl (by omega), show mA_menuLong σ i = _ from hU.ml hi]
  have h9 := menM_s (x2 := v) (x3 := x) (P := P) (K := wm_mend_j274 P) hw hi (fun z σ' h' => ?_) (fun z σ' h' => ?_) (2 ^ vn U) (Nat.le_refl _) σ hU (fun _ => At.start _ _) (fun z => by omega)
  · rw [nI_lit1, pk_sub h1p] at h9
    exact h9
  · rw [hM, hN, hm] at z
    have h2 := h1 z σ'
    rw [hM, hN] at h' ⊢
    rw [hm]; exact h2 h'
  · rw [hM, hN, hm] at z
    exact h0 z σ' h'
theorem om_mend {σ : St} {V : VV} {P : Int32 → St → Prop} (hI : IM σ V) (v1 v2 : Int32) (h : ∀ σ', IM σ' (S_mend V v1 v2) → P (R_mend V v1 v2) σ') : wm_mend σ v1 v2 P := by
  have hI := hI.th 0
  unfold R_mend S_mend at h
  unfold wm_mend sm_in
  dsimp only
  rw [inM_lit (x := -1) (y := 7) (by decide) (by decide), show (decide (-1 ≤ v2.toInt) && decide (v2.toInt ≤ 7)) = okM v2 from rfl]
  cases q : okM v2 with
  | false => rw [jf0]; rw [q, if_neg (by decide), if_neg (by decide)] at h; exact h _ hI
  | true =>
    rw [jt0]; rw [q, if_pos rfl, if_pos rfl] at h
    refine ⟨V, hI, ?_⟩
    dsimp only
    cases q2 : wholeV V v1 with
    | false => rw [jf0]; rw [q2, if_neg (by decide), if_neg (by decide)] at h; exact h _ hI
    | true =>
      rw [jt0]; rw [q2, if_pos rfl, if_pos rfl] at h
      obtain ⟨i, hi, rfl, _⟩ := wholeV_of q2
      rw [cl (by omega)] at h
      have hn := hI.2.n
      have hM := mv_newM V (cutA V v2)
      have q0 : qCut V v2 0 := fun d _ hb => by rw [Nat.zero_testBit] at hb; exact absurd hb (by decide)
      rcases okM_of q with rfl | ⟨k, hk, rfl⟩
      · rw [if_pos rfl]
        unfold wm_mend_j43
        rw [if_pos rfl]
        have em : meF (mv V (allA V)) (vme V i) (vn V) 0 10 = meR V i (-1) := (meF_congr (Q := fun _ => True) (fun s l d _ hd => cut_mv0 s l d hd) (fun _ _ _ _ _ _ => trivial) 0 10 trivial).symm
        refine menM_j (V := V) hi hI rfl rfl em (fun z σ' h' => ?_) (fun z σ' h' => ?_)
        · have hlt : meF (mv V (cutA V (-1))) (vme V i) (vn V) 0 10 < 1000000 := z
          have ew := wyD_congr (M := mv V (cutA V (-1))) (M' := mv V (allA V)) (mn := vme V i) (Q := fun _ => True) hn hM (fun s l d _ hd => cut_mv0 s l d hd) (fun _ _ _ _ _ _ => trivial) (vme V i).length 0 10 trivial (okE _) (by rw [pc_0]; omega) hlt
          rw [if_pos z, if_pos z] at h
          unfold wm_mend_j274 wm_mend_j286
          rw [if_pos rfl, show (1000000 : Int32) = nI 1000000 from rfl, if_neg (nI_ge z (by omega))]
          rw [ew] at h
          exact h σ' h'
        · rw [if_neg z, if_neg z] at h
          unfold wm_mend_j274 wm_mend_j286
          rw [if_pos rfl, show (1000000 : Int32) = nI 1000000 from rfl, if_pos (Int32.le_refl _)]
          exact h σ' h'
      · rw [if_neg (m1_nI (by omega))]
        unfold wm_mend_j43
        rw [if_neg (m1_nI (by omega)), cl (by omega), show mA_store (mS_thrown σ 0) k = _ from hI.sto hk]
        refine ⟨vp_in_nI hk (by omega), vp_in_nI hk (by omega), ?_⟩
        have hU : IM (mU_store (mS_thrown σ 0) (nI k) 0) (noSt V k) := hI.stW (x := 0) hk (by omega)
        have hsto := hI.2.sto hk
        have back : (fun j => if j = k then vsto V k else vsto (noSt V k) j) = vsto V := funext fun j => by
          show (if j = k then vsto V k else (if j = k then 0 else vsto V j)) = vsto V j
          by_cases e : j = k
          · rw [if_pos e, e]
          · rw [if_neg e, if_neg e]
        have em : meF (mv (noSt V k) (allA (noSt V k))) (vme V i) (vn V) 0 10 = meR V i (nI k) := (meF_congr (Q := qCut V (nI k)) (fun s l d hq hd => cut_mv hk s l d hq hd) (fun s l d hq hd hm => cut_nx (nI k) s l d hq hd hm) 0 10 q0).symm
        refine menM_j (V := V) (U := noSt V k) hi hU rfl rfl em (fun z σ' h' => ?_) (fun z σ' h' => ?_)
        · have hlt : meF (mv V (cutA V (nI k))) (vme V i) (vn V) 0 10 < 1000000 := z
          have ew := wyD_congr (M := mv V (cutA V (nI k))) (M' := mv (noSt V k) (allA (noSt V k))) (mn := vme V i) (Q := qCut V (nI k)) hn hM (fun s l d hq hd => cut_mv hk s l d hq hd) (fun s l d hq hd hm => cut_nx (nI k) s l d hq hd hm) (vme V i).length 0 10 q0 (okE _) (by rw [pc_0]; omega) hlt
          rw [if_pos z, if_pos z] at h
          unfold wm_mend_j274 wm_mend_j286
          rw [if_neg (m1_nI (by omega)), show (1000000 : Int32) = nI 1000000 from rfl, if_neg (nI_ge z (by omega))]
          rw [ew] at h
          refine ⟨vp_in_nI hk (by omega), h _ ?_⟩
          have h8 := h'.stW (x := vsto V k) hk hsto
          have e : vSSto (rowG (vSRow (noSt V k) []) (wyD (mv (noSt V k) (allA (noSt V k))) (vme V i) (vn V) (vme V i).length 0 10)) (fun j => if j = k then vsto V k else vsto (noSt V k) j) = rowG (vSRow V []) (wyD (mv (noSt V k) (allA (noSt V k))) (vme V i) (vn V) (vme V i).length 0 10) := by
            rw [back]; rfl
          rw [← e]; exact h8
        · rw [if_neg z, if_neg z] at h
          unfold wm_mend_j274 wm_mend_j286
          rw [if_neg (m1_nI (by omega)), show (1000000 : Int32) = nI 1000000 from rfl, if_pos (Int32.le_refl _)]
          refine ⟨vp_in_nI hk (by omega), h _ ?_⟩
          have h8 := h'.stW (x := vsto V k) hk hsto
          have e : vSSto (noSt V k) (fun j => if j = k then vsto V k else vsto (noSt V k) j) = V := by
            rw [back]; rfl
          rw [e] at h8; exact h8
