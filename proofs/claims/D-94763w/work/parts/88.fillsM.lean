/-! the model: findFills, fills -/
theorem om_isAsked {σ : St} {U : VV} {i s d : Nat} {P : Int32 → St → Prop} (hI : IM σ U) (hi : i < 3) (hs : s < 2048) (hk : pc s < (vme U i).length) (hd : d < vn U) (h : P (j01 (fitL (vme U i) (pc s) d)) σ) : wm_isAsked σ (nI i) (nI s) (nI d) P := by
  have hn := hI.2.n
  have hme := me_lt hI.2 hk
  unfold wm_isAsked wm_isAsked_j21 wm_isAsked_j26
  refine om_menuAt hI hi hs hk ?_
  unfold fitL at h
  rw [show (99 : Int32) = nI 99 from rfl]
  simp only [nI_eq (show (vme U i).getD (pc s) 0 < 2 ^ 31 by omega) (show 99 < 2 ^ 31 by omega), nI_eq (show (vme U i).getD (pc s) 0 < 2 ^ 31 by omega) (show d < 2 ^ 31 by omega)]
  by_cases q : (vme U i).getD (pc s) 0 = 99
  · rw [if_pos q]; rw [decide_eq_true q, Bool.true_or] at h; exact ⟨rfl, h⟩
  · rw [if_neg q]; rw [decide_eq_false q, Bool.false_or] at h
    by_cases q2 : (vme U i).getD (pc s) 0 = d
    · rw [if_pos q2]; rw [decide_eq_true q2] at h; exact ⟨rfl, h⟩
    · rw [if_neg q2]; rw [decide_eq_false q2] at h; exact ⟨rfl, h⟩
def fnM (σ : St) (U : VV) (mn : List Nat) (s l : Nat) : Prop := pc s ≤ mn.length → gL σ 46 (11 * s + l) = nL (np (mfL U mn) (vn U) (mn.length - pc s) s l)
theorem filM_d {U : VV} {i s l : Nat} {P : Int64 → St → Prop} {K : Int32 → Int32 → Int32 → Int32 → Int64 → St → Prop} {σ : St} (hI : IM σ U) (hi : i < 3) (hok : okS (vn U) s l) (hp : pc s < (vme U i).length) (hA : ∀ d, d < vn U → s.testBit d = false → fnM σ U (vme U i) (s ||| 2 ^ d) d)
    (h : K (nI i) (nI (vme U i).length) (nI s) (lI l) (nL (np (mfL U (vme U i)) (vn U) ((vme U i).length - pc s) s l)) σ) :
    ∀ m d : Nat, d + m = vn U → wm_findFills_l69 P K (m + 1) (nI i) (nI (vme U i).length) (nI s) (lI l) (nL (npS (mfL U (vme U i)) (vn U) ((vme U i).length - pc s - 1) s l d)) (nI d) σ := by
  have hn := hI.2.n
  have hml := (hI.2.me i).1
  have hb := okS_le hn hok
  have hp2 := pow_le_1024 hn
  intro m
  induction m with
  | zero =>
    intro d hd
    rw [wm_findFills_l69_s, show mI_dishes σ = _ from hI.n, if_pos (by rw [show d = vn U by omega]; exact Int32.le_refl _), show d = vn U by omega]
    rw [show (vme U i).length - pc s = (vme U i).length - pc s - 1 + 1 by omega, np_s] at h
    exact h
  | succ m ih =>
    intro d hd
    have ih1 := ih (d + 1) (by omega)
    have hor := or2_lt hok.1 (show d < vn U by omega)
    rw [npS_s] at ih1
    rw [wm_findFills_l69_s, show mI_dishes σ = _ from hI.n, if_neg (nI_ge (by omega) (by omega)), bitC_nI (by omega), if_neg (nI_ge hp (by omega))]
    refine om_isAsked hI hi (by omega) hp (by omega) ?_
    unfold wm_findFills_j130
    rw [nI_1]
    unfold mfL at ih1
    cases qf : fitL (vme U i) (pc s) d with
    | false => rw [jf0]; rw [qf, Bool.and_false, if_neg (by decide), Nat.add_zero] at ih1; exact ih1
    | true =>
      rw [jt0]; rw [qf, Bool.and_true] at ih1
      refine om_may hI hok (by omega) ?_
      cases q : mv U (allA U) s l d with
      | false => rw [jf0]; rw [q, if_neg (by decide), Nat.add_zero] at ih1; exact ih1
      | true =>
        rw [jt0]; rw [q, if_pos rfl] at ih1
        have hpc := pc_or2 (mv_new q) (show d < 11 by omega)
        have ha := hA d (by omega) (mv_new q) (by omega)
        rw [nI_shl1 _ (by omega), nI_or]
        refine ⟨s ||| 2 ^ d, d, rfl, (lI_l (by omega)).symm, by omega, by omega, bV (by omega), ?_⟩
        rw [cl (by omega), show mA_fillsFrom σ (11 * (s ||| 2 ^ d) + d) = _ from ha, nL_add, show (vme U i).length - pc (s ||| 2 ^ d) = (vme U i).length - pc s - 1 by omega]
        exact ih1
theorem filM_l {U : VV} {i s : Nat} {P : Int64 → St → Prop} {K : Int32 → Int32 → Int32 → St → Prop} (hw : WV U) (hi : i < 3) (hs : s < 2 ^ vn U) (hpl : pc s ≤ (vme U i).length)
    (h : ∀ σ', IM σ' U → At (vn U) s (vn U + 1) (fnM σ' U (vme U i)) → K (nI i) (nI (vme U i).length) (nI s) σ') :
    ∀ m j : Nat, j + m = vn U + 1 → ∀ σ, IM σ U → At (vn U) s j (fnM σ U (vme U i)) → wm_findFills_l30 P K (m + 1) (nI i) (nI (vme U i).length) (nI s) (nI j - 1) σ := by
  have hn := hw.n
  have hp := pow_le_1024 hn
  have hml := (hw.me i).1
  have hpc := pc_le s
  intro m
  induction m with
  | zero =>
    intro j hj σ hG hD
    rw [wm_findFills_l30_s, show mI_dishes σ = _ from hG.n, if_pos ((nIm_lt (by omega) (by omega)).mpr (by omega))]
    rw [show j = vn U + 1 by omega] at hD
    exact h σ hG hD
  | succ m ih =>
    intro j hj σ hG hD
    rw [wm_findFills_l30_s, show mI_dishes σ = _ from hG.n, if_neg (fun z => by have := (nIm_lt (by omega) (by omega)).mp z; omega)]
    have hl := lOf_n (j := j) hn (by omega)
    refine ⟨s, lOf j, rfl, (lOf_lI (by omega)).symm, by omega, by omega, ?_⟩
    dsimp only
    unfold wm_findFills_j149
    rw [nIm_s]
    cases q : stateB s (lOf j) with
    | false => rw [jf0]; exact ih (j + 1) (by omega) σ hG (hD.skip hn (by omega) hs q)
    | true =>
      rw [jt0]
      have hok := (okS_B hn hs hl).mp q
      have hb := okS_le hn hok
      have fin : wm_findFills_j136 P (wm_findFills_l30 P K (m + 1)) (nI i) (nI (vme U i).length) (nI s) (lI (lOf j)) (nL (np (mfL U (vme U i)) (vn U) ((vme U i).length - pc s) s (lOf j))) σ := by
        refine ⟨s, lOf j, rfl, rfl, by omega, by omega, bV (by omega), ?_⟩
        unfold wm_findFills_j149 mU_fillsFrom uL
        rw [cl (by omega), lOf_lI (by omega), nIm_s]
        refine ih (j + 1) (by omega) _ (hG.qL _ _) (hD.step hn (fun s' l' hok' hne hp' => ?_) fun _ => ?_)
        · have hb' := okS_le hn hok'
          intro y
          rw [gL_sLk, updL_n (fun z => hne ⟨by omega, by omega⟩)]; exact hp' y
        · intro _
          rw [gL_sLk, updL_s]
      rw [bitC_nI (by omega)]
      simp only [nI_eq (show pc s < 2 ^ 31 by omega) (show (vme U i).length < 2 ^ 31 by omega)]
      unfold wm_findFills_j64
      rw [← lOf_lI (by omega)]
      by_cases q1 : pc s = (vme U i).length
      · rw [if_pos q1]
        refine ⟨1, ?_⟩
        rw [wm_findFills_l69_s, bitC_nI (by omega)]
        have hf := fin
        rw [show (vme U i).length - pc s = 0 by omega] at hf
        split
        · exact hf
        · rw [if_pos (by rw [q1]; exact Int32.le_refl _)]; exact hf
      · rw [if_neg q1]
        exact ⟨vn U + 1, filM_d hG hi hok (by omega) (fun d hd hbt => hD.nx hok hd hbt) fin (vn U) 0 (by omega)⟩
theorem filM_s {U : VV} {i : Nat} {P : Int64 → St → Prop} (hw : WV U) (hi : i < 3) (h : ∀ σ', IM σ' U → (∀ s l, okS (vn U) s l → fnM σ' U (vme U i) s l) → P (nL (np (mfL U (vme U i)) (vn U) (vme U i).length 0 10)) σ') :
    ∀ m : Nat, m ≤ 2 ^ vn U → ∀ σ, IM σ U → (0 < m → At (vn U) (m - 1) 0 (fnM σ U (vme U i))) → (m = 0 → ∀ s l, okS (vn U) s l → fnM σ U (vme U i) s l) →
      wm_findFills_l12 P (m + 1) (nI i) (nI (vme U i).length) (nI m - 1) σ := by
  have hn := hw.n
  have hp := pow_le_1024 hn
  have hml := (hw.me i).1
  intro m
  induction m with
  | zero =>
    intro hm σ hG _ hF
    have hA := hF rfl
    rw [wm_findFills_l12_s, if_pos (by decide)]
    refine ⟨0, 10, rfl, rfl, by omega, by omega, bV (by omega), ?_⟩
    have ha := hA 0 10 (okE _) (by rw [pc_0]; omega)
    rw [pc_0, Nat.sub_zero] at ha
    rw [cl (by omega), show mA_fillsFrom σ (11 * 0 + 10) = _ from ha]
    exact h σ hG hA
  | succ m ih =>
    intro hm σ hG hD _
    have hpc := pc_le m
    rw [wm_findFills_l12_s, nI_pred, if_neg (nI_lt0 (by omega)), bitC_nI (by omega)]
    simp only [nI_leI (show pc m < 2 ^ 31 by omega) (show (vme U i).length < 2 ^ 31 by omega)]
    unfold wm_findFills_j155
    rw [show nI m + (-1) = nI m - 1 from (Int32.sub_eq_add_neg _ _).symm]
    have go : ∀ σ', IM σ' U → At (vn U) m (vn U + 1) (fnM σ' U (vme U i)) → wm_findFills_l12 P (m + 1) (nI i) (nI (vme U i).length) (nI m - 1) σ' := by
      intro σ' hG' hD'
      refine ih (by omega) σ' hG' (fun hpos => ?_) (fun h0 => ?_)
      · rw [show m = m - 1 + 1 by omega] at hD'
        exact hD'.next hn
      · rw [h0] at hD'; exact hD'.fix hn
    by_cases q : pc m ≤ (vme U i).length
    · rw [if_pos q]
      refine ⟨vn U + 2, filM_l hw hi (show m < 2 ^ vn U by omega) q (fun σ' hG' hD' => ?_) (vn U + 1) 0 (by omega) σ hG (hD (by omega))⟩
      rw [show nI m + (-1) = nI m - 1 from (Int32.sub_eq_add_neg _ _).symm]
      exact go σ' hG' hD'
    · rw [if_neg q]
      refine go σ hG fun s' l' hok' hle => ?_
      rcases hle with z | ⟨z, _⟩
      · exact hD (by omega) s' l' hok' (Or.inl z)
      · intro y; rw [z] at y; omega
theorem om_findFills {σ : St} {U : VV} {i : Nat} {P : Int64 → St → Prop} (hI : IM σ U) (hi : i < 3) (h : ∀ σ', IM σ' U → (∀ s l, okS (vn U) s l → fnM σ' U (vme U i) s l) → P (nL (np (mfL U (vme U i)) (vn U) (vme U i).length 0 10)) σ') : wm_findFills σ (nI i) P := by
  have h1 := Nat.one_le_two_pow (n := vn U)
  refine ⟨vp_in_nI hi (by omega), U, hI, 2 ^ vn U + 1, ?_⟩
  rw [cl (by omega), show mA_menuLong σ i = _ from hI.ml hi]
  have h9 := filM_s (P := P) hI.2 hi h (2 ^ vn U) (Nat.le_refl _) σ hI (fun _ => At.start _ _) (fun z => by omega)
  rw [nI_lit1, pk_sub h1] at h9
  exact h9
theorem fpM_d {U : VV} {i s l D k : Nat} {x2 : Int64} {P : Int64 → St → Prop} {K : Int32 → Int64 → Int32 → Int32 → St → Prop} {σ : St} (hI : IM σ U) (hi : i < 3) (hok : okS (vn U) s l) (hpl : pc s + (k + 1) = (vme U i).length) (hA : ∀ s l, okS (vn U) s l → fnM σ U (vme U i) s l)
    (hD : D < vn U) (hm : mfL U (vme U i) s l D = true) (hT : 0 < np (mfL U (vme U i)) (vn U) k (s ||| 2 ^ D) D)
    (hno : ∀ d, d < D → mfL U (vme U i) s l d = true → ¬ 0 < np (mfL U (vme U i)) (vn U) k (s ||| 2 ^ d) d) (hr : (vrow U).length < 12)
    (h : ∀ σ', IM σ' (vSRow U (vrow U ++ [nI D])) → gL σ' 46 = gL σ 46 → K (nI i) x2 (nI (s ||| 2 ^ D)) (nI D) σ') :
    ∀ m d : Nat, d + m = D → wm_fills_l57 P K (m + 1) (nI i) x2 (nI s) (lI l) (nI d) σ := by
  have hn := hI.2.n
  have hb := okS_le hn hok
  have hp := pow_le_1024 hn
  have hml := (hI.2.me i).1
  have val : ∀ d, d < vn U → mv U (allA U) s l d = true → mA_fillsFrom σ (11 * (s ||| 2 ^ d) + d) = nL (np (mfL U (vme U i)) (vn U) k (s ||| 2 ^ d) d) := fun d hd hm => by
    have hpc := pc_or2 (mv_new hm) (show d < 11 by omega)
    have := hA _ _ (okS_step hok hd) (by omega)
    rw [show (vme U i).length - pc (s ||| 2 ^ d) = k by omega] at this
    exact this
  have zer : ∀ d, 0 < lg_cmp (nL (np (mfL U (vme U i)) (vn U) k (s ||| 2 ^ d) d)) 0 ↔ 0 < np (mfL U (vme U i)) (vn U) k (s ||| 2 ^ d) d := fun d => by
    have hlt := np_lt (M := mfL U (vme U i)) hn (show k ≤ 10 by omega) (s ||| 2 ^ d) d
    rw [lg_gt, nL_pos hlt]
  intro m
  induction m with
  | zero =>
    intro d hd
    have e : d = D := by omega
    subst e
    have hor := or2_lt hok.1 hD
    unfold mfL at hm
    rw [Bool.and_eq_true] at hm
    rw [wm_fills_l57_s]
    refine om_isAsked hI hi (by omega) (by omega) hD ?_
    rw [hm.2, jt0]
    refine om_may hI hok hD ?_
    rw [hm.1, jt0, nI_shl1 _ (by omega), nI_or]
    refine ⟨s ||| 2 ^ d, d, rfl, (lI_l (by omega)).symm, by omega, by omega, bV (by omega), ?_⟩
    rw [cl (by omega), val d hD hm.1, if_pos ((zer d).mpr hT)]
    exact ⟨U, hI, hr, fun σ' h' kp kl => h σ' h' (kl 46)⟩
  | succ m ih =>
    intro d hd
    have ih1 := ih (d + 1) (by omega)
    have hor := or2_lt hok.1 (show d < vn U by omega)
    have hno1 := hno d (by omega)
    rw [wm_fills_l57_s]
    refine om_isAsked hI hi (by omega) (by omega) (by omega) ?_
    unfold wm_fills_j104
    rw [nI_1]
    unfold mfL at hno1
    cases qf : fitL (vme U i) (pc s) d with
    | false => rw [jf0]; exact ih1
    | true =>
      rw [jt0]; rw [qf, Bool.and_true] at hno1
      refine om_may hI hok (by omega) ?_
      cases q : mv U (allA U) s l d with
      | false => rw [jf0]; exact ih1
      | true =>
        rw [jt0, nI_shl1 _ (by omega), nI_or]
        refine ⟨s ||| 2 ^ d, d, rfl, (lI_l (by omega)).symm, by omega, by omega, bV (by omega), ?_⟩
        rw [cl (by omega), val d (by omega) q, if_neg (fun z => hno1 q ((zer d).mp z))]
        exact ih1
theorem fpM_k {U : VV} {i : Nat} {N : Nat} {P : Int64 → St → Prop} {T : Nat → Int64} (hn : vn U ≤ 10) (hi : i < 3) (hml : (vme U i).length ≤ 10) (hN : 0 < N) (hN2 : N < 2 ^ 63) (hT : ∀ s l, okS (vn U) s l → pc s ≤ (vme U i).length → T (11 * s + l) = nL (np (mfL U (vme U i)) (vn U) ((vme U i).length - pc s) s l)) :
    ∀ k s l, ∀ W, (∃ r, W = vSRow U r) → okS (vn U) s l → pc s + k = (vme U i).length → 0 < np (mfL U (vme U i)) (vn U) k s l → (vrow W).length + k ≤ 12 → ∀ σ, IM σ W → gL σ 46 = T → (∀ σ', IM σ' (rowG W (way (mfL U (vme U i)) (vn U) (gP U (vme U i)) k s l)) → P (nL N) σ') →
      wm_fills_l34 P (wm_fills_j132 P) (k + 1) (nI i) (nL N) (nI s) (lI l) σ := by
  have hp := pow_le_1024 hn
  intro k
  induction k with
  | zero =>
    intro s l W eW hok hk hlt hr σ hG hg h
    have hs := hok.1
    obtain ⟨r, rfl⟩ := eW
    rw [wm_fills_l34_s]
    simp only [lg_le0, nL_pos hN2]
    rw [if_neg (fun z => z hN)]
    refine ⟨vp_in_nI hi (by omega), ?_⟩
    rw [cl (by omega), show mA_menuLong σ i = nI (vme U i).length from hG.ml hi, bitC_nI (by omega), if_pos (by rw [show pc s = (vme U i).length by omega]; exact Int32.le_refl _)]
    refine h σ ?_
    show IM σ (rowG (vSRow U r) [])
    rw [rowG_nil]; exact hG
  | succ k ih =>
    intro s l W eW hok hk hlt hr σ hG hg h
    have hs := hok.1
    obtain ⟨r, rfl⟩ := eW
    rw [wm_fills_l34_s]
    simp only [lg_le0, nL_pos hN2]
    rw [if_neg (fun z => z hN)]
    refine ⟨vp_in_nI hi (by omega), ?_⟩
    rw [cl (by omega), show mA_menuLong σ i = nI (vme U i).length from hG.ml hi, bitC_nI (by omega), if_neg (nI_ge (by omega) (by omega))]
    obtain ⟨d0, hd0, h1, h2⟩ := np_pos.mp hlt
    obtain ⟨a, b, c⟩ := lst_ex (p := fun d => mfL U (vme U i) s l d && gP U (vme U i) k (s ||| 2 ^ d) d) hd0 (by show (mfL U (vme U i) s l d0 && decide _) = true; rw [h1, decide_eq_true h2]; rfl)
    have b1 := (Bool.and_eq_true _ _ ▸ b).1
    have b2 := of_decide_eq_true ((Bool.and_eq_true _ _ ▸ b).2)
    unfold way at h
    generalize lst (fun d => mfL U (vme U i) s l d && gP U (vme U i) k (s ||| 2 ^ d) d) (vn U) = D at a b b1 b2 c h
    have hlen : r.length + (k + 1) ≤ 12 := hr
    have hpcD := pc_or2 (mfL_new U (vme U i) s l D a b1) (show D < 11 by omega)
    refine ⟨D + 1, fpM_d (U := vSRow U r) (k := k) hG hi hok (show pc s + (k + 1) = (vme U i).length by omega) (fun s l hok' y => by rw [hg]; exact hT s l hok' y) a b1 b2 (fun d hd hm e => ?_) (by show r.length < 12; omega) (fun σ' hG' hg' => ?_) D 0 (by omega)⟩
    · have := c d hd
      rw [show mfL U (vme U i) s l d = true from hm, show gP U (vme U i) k (s ||| 2 ^ d) d = true from decide_eq_true e] at this
      exact absurd this (by decide)
    · have h9 := ih (s ||| 2 ^ D) D (vSRow U (r ++ [nI D])) ⟨_, rfl⟩ (okS_step hok a) (by omega) b2 (by show (r ++ [nI D]).length + k ≤ 12; rw [List.length_append]; show r.length + 1 + k ≤ 12; omega) σ' hG' (by rw [hg', hg]) (fun σ'' hG'' => h σ'' (by rw [← rowG_two]; exact hG''))
      rw [lI_l (by omega)] at h9
      exact h9
theorem om_fills {σ : St} {V : VV} {P : Int64 → St → Prop} (hI : IM σ V) (v : Int32) (h : ∀ σ', IM σ' (S_fills V v) → P (R_fills V v) σ') : wm_fills σ v P := by
  have hI := hI.th 0
  unfold R_fills S_fills at h
  refine ⟨V, hI, ?_⟩
  dsimp only
  cases q : laidV V v with
  | false => rw [jf0]; rw [q, if_neg (by decide), if_neg (by decide)] at h; exact h _ hI
  | true =>
    rw [jt0]; rw [q, if_pos rfl, if_pos rfl] at h
    obtain ⟨i, hi, rfl, hl⟩ := laidV_of q
    rw [cl (by omega)] at h
    have hn := hI.2.n
    have hml := (hI.2.me i).1
    refine om_findFills hI hi fun σ1 hG hA => ?_
    have hr := hG.row0
    have hlt : nFil V i < 2 ^ 63 := np_lt hn (by omega) 0 10
    rw [show np (mfL V (vme V i)) (vn V) (vme V i).length 0 10 = nFil V i from rfl]
    by_cases z : 0 < nFil V i
    · rw [if_pos z] at h
      refine ⟨(vme V i).length + 1, ?_⟩
      exact fpM_k (U := V) (i := i) (N := nFil V i) (P := P) (T := gL σ1 46) hn hi hml z hlt (fun s l hok y => hA s l hok y) (vme V i).length 0 10 (vSRow V []) ⟨[], rfl⟩ (okE _) (by rw [pc_0]; omega) z (by show 0 + (vme V i).length ≤ 12; omega) _ hr rfl h
    · rw [if_neg z] at h
      refine ⟨1, ?_⟩
      rw [wm_fills_l34_s]
      simp only [lg_le0, nL_pos hlt]
      rw [if_pos z]
      exact h _ (by rw [rowG_nil]; exact hr)
