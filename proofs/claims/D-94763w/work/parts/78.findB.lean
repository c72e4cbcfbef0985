/-! the model: scoreOf, findBest -/
theorem scoM_g {V : VV} {t what : Nat} {P : Int32 → St → Prop} {σ0 : St} (ht : t < 2 ^ vn V) (hwh : what = 0 ∨ what = 1) (h : ∀ σ', IM σ' V → KJ σ0 σ' → P (scV V what t) σ') :
    ∀ m g : Nat, g + m = vg V → ∀ σ, IM σ V → KJ σ0 σ → wm_scoreOf_l33 P (wm_scoreOf_j81 P) (m + 1) (nI t) (nI what) (sumI (fun g => joyInV V g t) g) (minI (fun g => joyInV V g t) g) (nI g) σ := by
  intro m
  induction m with
  | zero =>
    intro g hk σ hI hK
    rw [wm_scoreOf_l33_s, show mI_guests σ = _ from hI.g, if_pos (by rw [show g = vg V by omega]; exact Int32.le_refl _), show g = vg V by omega]
    have h9 := h σ hI hK
    rcases hwh with rfl | rfl
    · rw [if_pos (by decide)]; exact h9
    · rw [if_neg (by decide)]; exact h9
  | succ m ih =>
    intro g hk σ hI hK
    have hg := hI.2.g
    have ih1 := ih (g + 1) (by omega)
    rw [sumI_s, minI_s] at ih1
    rw [wm_scoreOf_l33_s, show mI_guests σ = _ from hI.g, if_neg (nI_ge (by omega) (by omega))]
    refine om_joyIn hI (by omega) ht fun σ' hI' hK' => ?_
    rw [nI_1]
    exact ih1 σ' hI' (hK.tr hK')
theorem om_scoreOf {V : VV} {t what : Nat} {P : Int32 → St → Prop} {σ : St} (hI : IM σ V) (ht : t < 2 ^ vn V) (hwh : what ≤ 3) (h : ∀ σ', IM σ' V → KJ σ σ' → P (scV V what t) σ') : wm_scoreOf σ (nI t) (nI what) P := by
  have h9 := h σ hI (KJ.rf σ)
  unfold wm_scoreOf
  rcases (show what = 0 ∨ what = 1 ∨ what = 2 ∨ what = 3 by omega) with rfl | rfl | rfl | rfl
  · rw [if_neg (by decide), if_neg (by decide)]
    exact ⟨_, scoM_g ht (Or.inl rfl) h (vg V) 0 (by omega) σ hI (KJ.rf σ)⟩
  · rw [if_neg (by decide), if_neg (by decide)]
    exact ⟨_, scoM_g ht (Or.inr rfl) h (vg V) 0 (by omega) σ hI (KJ.rf σ)⟩
  · rw [if_pos (by decide)]
    exact ⟨V, t, hI, rfl, ht, h9⟩
  · rw [if_neg (by decide), if_pos (by decide)]
    exact ⟨V, t, hI, rfl, ht, h9⟩
def candP (V : VV) (S due purse s : Nat) : Bool := candV V S due s && decide (costV V (addS s (s0V V)) ≤ purse)
def scoM (V : VV) (S due what purse s : Nat) : Int32 := if candP V S due purse s = true then scV V what (addS s (s0V V)) else -1000001
theorem wV_ge {V : VV} (hw : WV V) (what purse s : Nat) : -1000000 ≤ (wV V what purse s).toInt := by
  have := scV_gt hw what (addS s (s0V V))
  unfold wV
  split
  · omega
  · decide
theorem bestW_ge {V : VV} (hw : WV V) (A due what purse : Nat) : ∀ c, -1000000 ≤ (bestW V A due (wV V what purse) c).toInt := by
  intro c
  rcases bestW_at (V := V) (A := A) (due := due) (w := wV V what purse) c with z | ⟨s, _, _, e⟩
  · rw [z]; decide
  · rw [e]; exact wV_ge hw _ _ _
theorem jmax_l {a b : Int32} (h : b.toInt ≤ a.toInt) : jmax a b = a := Int32.toInt_inj.mp (by rw [jmax_i]; omega)
theorem jmax_r {a b : Int32} (h : a.toInt ≤ b.toInt) : jmax a b = b := Int32.toInt_inj.mp (by rw [jmax_i]; omega)
theorem bestW_no {V : VV} (hw : WV V) {A due what purse c : Nat} (h : candP V A due purse c = false) : bestW V A due (wV V what purse) (c + 1) = bestW V A due (wV V what purse) c := by
  rw [bestW_s]
  unfold candP at h
  cases q : candV V A due c with
  | false => rw [if_neg (by decide)]
  | true =>
    rw [q, Bool.true_and] at h
    have h := of_decide_eq_false h
    rw [if_pos rfl]
    refine jmax_l ?_
    have := bestW_ge hw A due what purse c
    have e : wV V what purse c = -1000000 := if_neg h
    rw [e, show (-1000000 : Int32).toInt = -1000000 from by decide]
    omega
theorem bestW_ye {V : VV} {A due what purse c : Nat} (h : candP V A due purse c = true) : bestW V A due (wV V what purse) (c + 1) = jmax (bestW V A due (wV V what purse) c) (scV V what (addS c (s0V V))) := by
  rw [bestW_s]
  unfold candP at h
  rw [Bool.and_eq_true] at h
  rw [if_pos h.1]
  have e : wV V what purse c = scV V what (addS c (s0V V)) := if_pos (of_decide_eq_true h.2)
  rw [e]
theorem jmax_some {V : VV} (hw : WV V) (a : Int32) (what t : Nat) : jmax a (scV V what t) ≠ -1000000 := fun z => by
  have h1 := scV_gt hw what t
  have h2 := congrArg Int32.toInt z
  rw [jmax_i, show (-1000000 : Int32).toInt = -1000000 from by decide] at h2
  omega
def FB (σ : St) (V : VV) (S k what purse c : Nat) (R : Nat → Int64) : Prop := IM σ V ∧ gL σ 37 = R ∧ (∀ j, j < c → gA σ 38 j = scoM V S ((vsv V).length + k) what purse j) ∧ (bestW V S ((vsv V).length + k) (wV V what purse) c ≠ -1000000 → gI σ 39 = bestW V S ((vsv V).length + k) (wV V what purse) c)
def fbF (V : VV) (S k what purse c : Nat) : Bool := !(decide (bestW V S ((vsv V).length + k) (wV V what purse) c = -1000000))
theorem fbM_l {V : VV} {S s : Nat} {x1 x2 x3 x4 x5 x6 : Int32} {R : Nat → Int64} {P : Int32 → St → Prop} {K1 K2 : Int32 → Int32 → Int32 → Int32 → Int32 → Int32 → St → Prop} {K3 : Int32 → Int32 → Int32 → Int32 → Int32 → Int32 → Int32 → St → Prop} {σ : St} (hI : IM σ V) (hs : s < 2 ^ vn V)
    (hR : ∀ s l, okS (vn V) s l → R (11 * s + l) = nL (tabM V S s l)) (hg : gL σ 37 = R)
    (h0 : rchT V S s = false → K3 x1 x2 x3 x4 x5 x6 (nI s) σ)
    (h1 : rchT V S s = true → (if (bitC (nI s)) = ((mI_servedMany σ) + x1) then (sm_costIn σ (nI s &&& (x5 ^^^ (-1))) (fun r134 σ134 => if r134 ≤ x2 then (sm_scoreOf σ134 (nI s &&& (x5 ^^^ (-1))) x3 (fun r154 σ154 => vp_in (nI s) 1024 ∧ (if x6 = 0 then (K1 x1 x2 x3 x4 x5 (nI s) (mU_scores σ154 (nI s) r154)) else (vp_in (nI s) 1024 ∧ (if (mA_scores (mU_scores σ154 (nI s) r154) (nI s).toNatClampNeg) ≤ (mI_bestScore (mU_scores σ154 (nI s) r154)) then (K2 x1 x2 x3 x4 x5 (nI s) (mU_scores σ154 (nI s) r154)) else (K1 x1 x2 x3 x4 x5 (nI s) (mU_scores σ154 (nI s) r154))))))) else (K3 x1 x2 x3 x4 x5 x6 (nI s) σ134))) else (K3 x1 x2 x3 x4 x5 x6 (nI s) σ))) :
    ∀ m j : Nat, j + m = vn V + 1 → wm_findBest_l49 P K1 K2 K3 (m + 1) x1 x2 x3 x4 x5 x6 (nI s) (j01 (anB (fun o => stateB s (lOf o) && decide (0 < tabM V S s (lOf o))) j)) (nI j - 1) σ := by
  have hw := hI.2
  have hn := hw.n
  have hp := pow_le_1024 hn
  intro m
  induction m with
  | zero =>
    intro j hj
    rw [wm_findBest_l49_s, show mI_dishes σ = _ from hI.n, if_pos ((nIm_lt (by omega) (by omega)).mpr (by omega)), show j = vn V + 1 by omega]
    rw [show anB (fun o => stateB s (lOf o) && decide (0 < tabM V S s (lOf o))) (vn V + 1) = rchT V S s from rfl]
    cases q : rchT V S s with
    | false => rw [jf0]; exact h0 q
    | true => rw [jt0]; exact h1 q
  | succ m ih =>
    intro j hj
    have ih1 := ih (j + 1) (by omega)
    rw [anB_s] at ih1
    have hl := lOf_n (j := j) hn (by omega)
    rw [wm_findBest_l49_s, show mI_dishes σ = _ from hI.n, if_neg (fun z => by have := (nIm_lt (by omega) (by omega)).mp z; omega)]
    unfold wm_findBest_j94 wm_findBest_j90 wm_findBest_j95
    rw [nIm_s]
    cases q : anB (fun o => stateB s (lOf o) && decide (0 < tabM V S s (lOf o))) j with
    | true => rw [jt0]; rw [q, Bool.true_or] at ih1; exact ih1
    | false =>
      rw [jf0]; rw [q, Bool.false_or] at ih1
      refine ⟨s, lOf j, rfl, (lOf_lI (by omega)).symm, by omega, by omega, ?_⟩
      dsimp only
      cases q2 : stateB s (lOf j) with
      | false => rw [jf0]; rw [q2, Bool.false_and] at ih1; exact ih1
      | true =>
        rw [jt0]; rw [q2, Bool.true_and] at ih1
        have hok := (okS_B hn hs hl).mp q2
        refine ⟨s, lOf j, rfl, (lOf_lI (by omega)).symm, by omega, by omega, vp_in_nI (by omega) (by omega), ?_⟩
        rw [cl (by omega), show mA_rows σ = R from hg, hR s (lOf j) hok]
        simp only [lg_le0, nL_pos (tab_lt hn S s (lOf j))]
        by_cases q3 : 0 < tabM V S s (lOf j)
        · rw [if_neg (fun z => z q3)]; rw [decide_eq_true q3] at ih1; exact ih1
        · rw [if_pos q3]; rw [decide_eq_false q3] at ih1; exact ih1
theorem fbM_s {V : VV} {S k what purse : Nat} {R : Nat → Int64} {P : Int32 → St → Prop} {K : Int32 → Int32 → St → Prop} (hw : WV V) (hk : k ≤ 10) (hpu : purse ≤ 1000000) (hwh : what ≤ 3)
    (hR : ∀ s l, okS (vn V) s l → R (11 * s + l) = nL (tabM V S s l))
    (h0 : fbF V S k what purse (2 ^ vn V) = false → ∀ σ', IM σ' V → P 0 σ')
    (h1 : fbF V S k what purse (2 ^ vn V) = true → ∀ σ', FB σ' V S k what purse (2 ^ vn V) R → ∀ F : Nat → Int32, (∀ j, j < 11264 → F j = 0) → K (nI S) 0 (sA σ' 35 F)) :
    ∀ m s : Nat, s + m = 2 ^ vn V → ∀ σ, FB σ V S k what purse s R → wm_findBest_l24 P K (m + 1) (nI k) (nI purse) (nI what) (nI S) (nI (s0V V)) (j01 (fbF V S k what purse s)) (nI s) σ := by
  have hn := hw.n
  have hp := pow_le_1024 hn
  have hp1 := Nat.one_le_two_pow (n := vn V)
  have hsl := hw.svl
  intro m
  induction m with
  | zero =>
    intro s hs σ hF
    rw [wm_findBest_l24_s]
    refine ⟨V, hF.1, ?_⟩
    dsimp only
    rw [if_pos (nI_lt (by omega) (by omega)), show s = 2 ^ vn V by omega]
    rw [show s = 2 ^ vn V by omega] at hF
    cases q : fbF V S k what purse (2 ^ vn V) with
    | false => rw [jf0]; exact h0 q σ hF.1
    | true => rw [jt0]; exact om_noEnds fun F hz => h1 q σ hF F hz
  | succ m ih =>
    intro s hs σ hF
    have ih1 := ih (s + 1) (by omega)
    have hpc := pc_le s
    have hadd : addS s (s0V V) < 2 ^ vn V := addS_lt (by omega)
    have hcost := costV_le hw (addS s (s0V V))
    rw [wm_findBest_l24_s]
    refine ⟨V, hF.1, ?_⟩
    dsimp only
    rw [if_neg (nI_nlt (by omega) (by omega))]
    refine ⟨vp_in_nI (by omega) (by omega), vn V + 2, ?_⟩
    unfold mU_scores uA
    rw [cl (by omega)]
    have hI1 : IM (sA σ 38 (upd (gA σ 38) s (-1000001))) V := hF.1.qA (by decide) _
    -- no candidate: nothing changes
    have no : candP V S ((vsv V).length + k) purse s = false → ∀ x1 x2 x3 x4 x5 x6 x7, x1 = nI k → x2 = nI purse → x3 = nI what → x4 = nI S → x5 = nI (s0V V) → x6 = j01 (fbF V S k what purse s) → x7 = nI s → wm_findBest_j191 P (wm_findBest_l24 P K (m + 1)) x1 x2 x3 x4 x5 x6 x7 (sA σ 38 (upd (gA σ 38) s (-1000001))) := by
      intro hc x1 x2 x3 x4 x5 x6 x7 e1 e2 e3 e4 e5 e6 e7
      subst e1 e2 e3 e4 e5 e6 e7
      unfold wm_findBest_j191
      rw [nI_1]
      have e := bestW_no hw (what := what) hc
      have hf : fbF V S k what purse (s + 1) = fbF V S k what purse s := by unfold fbF; rw [e]
      rw [← hf]
      refine ih1 _ ⟨hI1, hF.2.1, fun j hj => ?_, fun z => ?_⟩
      · rw [gA_sAk]
        by_cases q : j = s
        · rw [q, upd_s]; unfold scoM; rw [hc, if_neg (by decide)]
        · rw [upd_n q]; exact hF.2.2.1 j (by omega)
      · rw [e] at z ⊢; exact hF.2.2.2 z
    refine fbM_l (S := S) hI1 (show s < 2 ^ vn V by omega) hR hF.2.1 (fun q => ?_) (fun q => ?_) (vn V + 1) 0 (by omega)
    · exact no (by unfold candP candV; rw [q, Bool.false_and, Bool.false_and]) _ _ _ _ _ _ _ rfl rfl rfl rfl rfl rfl rfl
    · rw [bitC_nI (by omega), show mI_servedMany (sA σ 38 (upd (gA σ 38) s (-1000001))) = _ from hF.1.sm, nI_add]
      simp only [nI_eq (show pc s < 2 ^ 31 by omega) (show (vsv V).length + k < 2 ^ 31 by omega)]
      by_cases q2 : pc s = (vsv V).length + k
      · rw [if_pos q2, addS_nI]
        refine ⟨V, addS s (s0V V), hI1, rfl, hadd, ?_⟩
        dsimp only
        simp only [nI_leI (show costV V (addS s (s0V V)) < 2 ^ 31 by omega) (show purse < 2 ^ 31 by omega)]
        by_cases q3 : costV V (addS s (s0V V)) ≤ purse
        · rw [if_pos q3]
          have hc : candP V S ((vsv V).length + k) purse s = true := by unfold candP candV; rw [q, decide_eq_true q2, decide_eq_true q3]; rfl
          have e := bestW_ye (V := V) (what := what) hc
          have hf : fbF V S k what purse (s + 1) = true := by unfold fbF; rw [e, decide_eq_false (jmax_some hw _ _ _)]; rfl
          rw [hf] at ih1
          refine om_scoreOf hI1 hadd hwh fun σ2 hI2 hK => ⟨vp_in_nI (by omega) (by omega), ?_⟩
          have a38 : gA σ2 38 = upd (gA σ 38) s (-1000001) := by rw [hK.1.2.1 38 (by decide), gA_sAk]
          have g39 : gI σ2 39 = gI σ 39 := by rw [hK.1.1 39 (by decide)]; rfl
          have l37 : gL σ2 37 = R := by rw [hK.2 37]; exact hF.2.1
          have aN : ∀ j, j < s + 1 → gA (sA σ2 38 (upd (gA σ2 38) s (scV V what (addS s (s0V V))))) 38 j = scoM V S ((vsv V).length + k) what purse j := fun j hj => by
            rw [gA_sAk]
            by_cases q : j = s
            · rw [q, upd_s]; unfold scoM; rw [hc, if_pos rfl]
            · rw [upd_n q, a38, upd_n q]; exact hF.2.2.1 j (by omega)
          have hI3 : IM (sA σ2 38 (upd (gA σ2 38) s (scV V what (addS s (s0V V))))) V := hI2.qA (by decide) _
          unfold mU_scores uA wm_findBest_j177 wm_findBest_j188 wm_findBest_j191
          rw [cl (by omega), nI_1]
          rw [show mA_scores (sA σ2 38 (upd (gA σ2 38) s (scV V what (addS s (s0V V))))) s = scV V what (addS s (s0V V)) from by
            show gA (sA σ2 38 _) 38 s = _
            rw [gA_sAk, upd_s]]
          have new : bestW V S ((vsv V).length + k) (wV V what purse) (s + 1) = scV V what (addS s (s0V V)) → wm_findBest_l24 P K (m + 1) (nI k) (nI purse) (nI what) (nI S) (nI (s0V V)) 1 (nI (s + 1)) (mS_bestScore (sA σ2 38 (upd (gA σ2 38) s (scV V what (addS s (s0V V))))) (scV V what (addS s (s0V V)))) := fun z =>
            ih1 _ ⟨hI3.qI (by decide) _, l37, aN, fun _ => z.symm⟩
          have hge := bestW_ge hw S ((vsv V).length + k) what purse s
          have hgt := scV_gt hw what (addS s (s0V V))
          cases q4 : fbF V S k what purse s with
          | false =>
            rw [jf0]
            refine ⟨vp_in_nI (by omega) (by omega), new ?_⟩
            unfold fbF at q4
            have q5 : bestW V S ((vsv V).length + k) (wV V what purse) s = -1000000 := Decidable.byContradiction fun z => by rw [decide_eq_false z] at q4; exact absurd q4 (by decide)
            rw [e, q5]
            exact jmax_r (by rw [show (-1000000 : Int32).toInt = -1000000 from by decide]; omega)
          | true =>
            rw [jt0]
            refine ⟨vp_in_nI (by omega) (by omega), ?_⟩
            unfold fbF at q4
            have q5 : bestW V S ((vsv V).length + k) (wV V what purse) s ≠ -1000000 := fun z => by rw [decide_eq_true z] at q4; exact absurd q4 (by decide)
            rw [show mI_bestScore (sA σ2 38 (upd (gA σ2 38) s (scV V what (addS s (s0V V))))) = bestW V S ((vsv V).length + k) (wV V what purse) s from g39.trans (hF.2.2.2 q5)]
            by_cases q6 : scV V what (addS s (s0V V)) ≤ bestW V S ((vsv V).length + k) (wV V what purse) s
            · rw [if_pos q6]
              rw [Int32.le_iff_toInt_le] at q6
              have e2 := e.trans (jmax_l q6)
              exact ih1 _ ⟨hI3, l37, aN, fun _ => by rw [e2]; exact g39.trans (hF.2.2.2 q5)⟩
            · rw [if_neg q6]
              rw [Int32.le_iff_toInt_le] at q6
              exact ⟨vp_in_nI (by omega) (by omega), new (e.trans (jmax_r (by omega)))⟩
        · rw [if_neg q3]
          exact no (by unfold candP; rw [decide_eq_false q3, Bool.and_false]) _ _ _ _ _ _ _ rfl rfl rfl rfl rfl rfl rfl
      · rw [if_neg q2]
        exact no (by unfold candP candV; rw [decide_eq_false q2, Bool.and_false, Bool.false_and]) _ _ _ _ _ _ _ rfl rfl rfl rfl rfl rfl rfl
/-! the ends are marked -/
def EBs (V : VV) (S due what purse : Nat) (b : Int32) (s l : Nat) : Bool := decide (0 < tabM V S s l) && decide (scoM V S due what purse s = b)
def markG (V : VV) (E : Nat → Nat → Bool) (s j : Nat) (F : Nat → Int32) : Prop := ∀ s' l', okS (vn V) s' l' → F (11 * s' + l') = j01 (E s' l' && decide (s' < s ∨ (s' = s ∧ ordL l' < j)))
theorem markG_next {V : VV} (hn : vn V ≤ 10) {E : Nat → Nat → Bool} {s : Nat} {F : Nat → Int32} (h : markG V E s (vn V + 1) F) : markG V E (s + 1) 0 F := fun s' l' hok => by
  rw [h s' l' hok]
  have := ordL_lt hn hok
  congr 2
  exact decide_eq_decide.mpr (by omega)
theorem markG_skip {V : VV} {E : Nat → Nat → Bool} {s : Nat} {F : Nat → Int32} (h : markG V E s 0 F) (hE : ∀ l, E s l = false) : markG V E (s + 1) 0 F := fun s' l' hok => by
  rw [h s' l' hok]
  by_cases e : s' = s
  · rw [e, hE, Bool.false_and, Bool.false_and]
  · congr 2
    exact decide_eq_decide.mpr (by omega)
theorem markG_wr {V : VV} (hn : vn V ≤ 10) {E : Nat → Nat → Bool} {s j : Nat} {F : Nat → Int32} (h : markG V E s j F) (hj : j ≤ 10) (hb : Bool) (hv : okS (vn V) s (lOf j) → hb = E s (lOf j)) : markG V E s (j + 1) (upd F (11 * s + lOf j) (j01 hb)) := fun s' l' hok => by
  have hb' := okS_le hn hok
  have hlj : lOf j ≤ 10 := by unfold lOf; split <;> omega
  by_cases e : s' = s ∧ l' = lOf j
  · obtain ⟨rfl, rfl⟩ := e
    rw [upd_s, hv hok, decide_eq_true (Or.inr ⟨rfl, by rw [ord_lOf (by omega)]; omega⟩), Bool.and_true]
  · rw [upd_n (fun z => e ⟨by omega, by omega⟩), h s' l' hok]
    congr 2
    refine decide_eq_decide.mpr ?_
    have : s' = s → ordL l' ≠ j := fun e' z => e ⟨e', by rw [← z, lOf_ord hb'.1]⟩
    omega
theorem fb2_l {V : VV} {S s : Nat} {E : Nat → Nat → Bool} {x4 : Int32} {R : Nat → Int64} {P : Int32 → St → Prop} {K : Int32 → Int32 → St → Prop} {σ : St} (hI : IM σ V) (hs : s < 2 ^ vn V) (hR : ∀ s l, okS (vn V) s l → R (11 * s + l) = nL (tabM V S s l)) (hg : gL σ 37 = R) (hE : ∀ l, E s l = decide (0 < tabM V S s l))
    (h : ∀ F, markG V E (s + 1) 0 F → K x4 (nI s) (sA σ 35 F)) :
    ∀ m j : Nat, j + m = vn V + 1 → ∀ F, markG V E s j F → wm_findBest_l240 P K (m + 1) x4 (nI s) (nI j - 1) (sA σ 35 F) := by
  have hw := hI.2
  have hn := hw.n
  have hp := pow_le_1024 hn
  intro m
  induction m with
  | zero =>
    intro j hj F hF
    rw [wm_findBest_l240_s, show mI_dishes (sA σ 35 F) = _ from hI.n, if_pos ((nIm_lt (by omega) (by omega)).mpr (by omega))]
    rw [show j = vn V + 1 by omega] at hF
    exact h F (markG_next hn hF)
  | succ m ih =>
    intro j hj F hF
    have hl := lOf_n (j := j) hn (by omega)
    rw [wm_findBest_l240_s, show mI_dishes (sA σ 35 F) = _ from hI.n, if_neg (fun z => by have := (nIm_lt (by omega) (by omega)).mp z; omega)]
    refine ⟨s, lOf j, rfl, (lOf_lI (by omega)).symm, by omega, by omega, s, lOf j, rfl, (lOf_lI (by omega)).symm, by omega, by omega, ?_⟩
    dsimp only
    have go : ∀ b x, vp_nar .boolean x = j01 b → (okS (vn V) s (lOf j) → b = E s (lOf j)) → wm_findBest_j292 P (wm_findBest_l240 P K (m + 1)) x4 (nI s) (nI j - 1) (nI (11 * s + lOf j)) x (sA σ 35 F) := by
      intro b x ex hb
      unfold wm_findBest_j292 mU_isEnd
      rw [ex, nIm_s, uA_k, cl (by omega)]
      exact ⟨vp_in_nI (by omega) (by omega), ih (j + 1) (by omega) _ (markG_wr hn hF (by omega) b hb)⟩
    unfold wm_findBest_j291
    cases q : stateB s (lOf j) with
    | false => rw [jf0]; exact go false 0 (by decide) (fun z => by rw [(okS_B hn hs hl).mpr z] at q; exact absurd q (by decide))
    | true =>
      rw [jt0]
      have hok := (okS_B hn hs hl).mp q
      refine ⟨s, lOf j, rfl, (lOf_lI (by omega)).symm, by omega, by omega, vp_in_nI (by omega) (by omega), ?_⟩
      rw [cl (by omega), show mA_rows (sA σ 35 F) = R from hg, hR s (lOf j) hok]
      simp only [lg_le0, nL_pos (tab_lt hn S s (lOf j))]
      by_cases q3 : 0 < tabM V S s (lOf j)
      · rw [if_neg (fun z => z q3)]; exact go true 1 (by decide) (fun _ => by rw [hE, decide_eq_true q3])
      · rw [if_pos q3]; exact go false 0 (by decide) (fun _ => by rw [hE, decide_eq_false q3])
theorem fb2_s {V : VV} {S k what purse : Nat} {b : Int32} {R : Nat → Int64} {P : Int32 → St → Prop} {σ : St} (hI : IM σ V) (hS : S < 2 ^ vn V) (hR : ∀ s l, okS (vn V) s l → R (11 * s + l) = nL (tabM V S s l)) (hg : gL σ 37 = R)
    (hsc : ∀ j, j < 2 ^ vn V → gA σ 38 j = scoM V S ((vsv V).length + k) what purse j) (hb : gI σ 39 = b)
    (h : ∀ σ', IM σ' V → (∀ s l, okS (vn V) s l → gA σ' 35 (11 * s + l) = j01 (EBs V S ((vsv V).length + k) what purse b s l)) → FixT (vn V) (gA σ' 36) (stE (mv V S) (EBs V S ((vsv V).length + k) what purse b) (vn V)) → gI σ' 39 = b → P 1 σ') :
    ∀ m s : Nat, s + m = 2 ^ vn V → ∀ F, markG V (EBs V S ((vsv V).length + k) what purse b) s 0 F → wm_findBest_l211 P (m + 1) (nI S) (nI s) (sA σ 35 F) := by
  have hw := hI.2
  have hn := hw.n
  have hp := pow_le_1024 hn
  have hp1 := Nat.one_le_two_pow (n := vn V)
  intro m
  induction m with
  | zero =>
    intro s hs F hF
    rw [wm_findBest_l211_s]
    refine ⟨V, hI.qA (by decide) _, ?_⟩
    dsimp only
    rw [if_pos (nI_lt (by omega) (by omega))]
    have hE : ∀ s l, okS (vn V) s l → gA (sA σ 35 F) 35 (11 * s + l) = j01 (EBs V S ((vsv V).length + k) what purse b s l) := fun s' l' hok => by
      rw [gA_sAk, hF s' l' hok, decide_eq_true (Or.inl (by have := hok.1; omega)), Bool.and_true]
    exact om_findEnds (hI.qA (by decide) _) hS hE fun T hT => h _ ((hI.qA (by decide) F).qA (by decide) T) hE hT hb
  | succ m ih =>
    intro s hs F hF
    rw [wm_findBest_l211_s]
    refine ⟨V, hI.qA (by decide) _, ?_⟩
    dsimp only
    rw [if_neg (nI_nlt (by omega) (by omega)), cl (by omega), show mA_scores (sA σ 35 F) s = _ from hsc s (by omega), show mI_bestScore (sA σ 35 F) = b from hb]
    refine ⟨vp_in_nI (by omega) (by omega), ?_⟩
    unfold wm_findBest_j299
    by_cases q : scoM V S ((vsv V).length + k) what purse s = b
    · rw [if_pos q]
      refine ⟨vn V + 2, fb2_l (S := S) hI (show s < 2 ^ vn V by omega) hR hg (fun l => by unfold EBs; rw [decide_eq_true q, Bool.and_true]) (fun F' hF' => ?_) (vn V + 1) 0 (by omega) F hF⟩
      rw [nI_1]
      exact ih (s + 1) (by omega) F' hF'
    · rw [if_neg q, nI_1]
      exact ih (s + 1) (by omega) F (markG_skip hF fun l => by unfold EBs; rw [decide_eq_false q, Bool.and_false])
theorem om_findBest {V : VV} {S k purse what : Nat} {P : Int32 → St → Prop} {σ : St} (hI : IM σ V) (hS : S < 2 ^ vn V) (hk : k ≤ 10) (hpu : purse ≤ 1000000) (hwh : what ≤ 3)
    (h0 : bB V S k what purse = -1000000 → ∀ σ', IM σ' V → P 0 σ')
    (h1 : bB V S k what purse ≠ -1000000 → ∀ σ', IM σ' V → (∀ s l, okS (vn V) s l → gA σ' 35 (11 * s + l) = j01 (EBs V S ((vsv V).length + k) what purse (bB V S k what purse) s l)) → FixT (vn V) (gA σ' 36) (stE (mv V S) (EBs V S ((vsv V).length + k) what purse (bB V S k what purse)) (vn V)) → gI σ' 39 = bB V S k what purse → P 1 σ') :
    wm_findBest σ (nI k) (nI purse) (nI what) (nI S) P := by
  have hw := hI.2
  have hn := hw.n
  refine ⟨V, hI, V, hI, ?_⟩
  refine om_findRows hI hS (start_ok hw) fun R hR => ?_
  have hR' : ∀ s l, okS (vn V) s l → R (11 * s + l) = nL (tabM V S s l) := fun s l hok => rows_eq hn (mv_newM V S) (start_ok hw) hR (s + 1) s l (by omega) hok
  refine ⟨_, fbM_s (R := R) hw hk hpu hwh hR' (fun z σ' h' => h0 ?_ σ' h') (fun z σ' hF F hz => ⟨2 ^ vn V + 1, ?_⟩) (2 ^ vn V) 0 (by omega) (sL σ 37 R) ⟨hI.qL 37 R, gL_sLk _ _ _, fun j hj => absurd hj (by omega), fun z => absurd rfl z⟩⟩
  · unfold fbF at z
    exact Decidable.byContradiction fun y => by rw [decide_eq_false (show ¬ bestW V S ((vsv V).length + k) (wV V what purse) (2 ^ vn V) = -1000000 from y)] at z; exact absurd z (by decide)
  · unfold fbF at z
    have z2 : bB V S k what purse ≠ -1000000 := fun y => by rw [decide_eq_true (show bestW V S ((vsv V).length + k) (wV V what purse) (2 ^ vn V) = -1000000 from y)] at z; exact absurd z (by decide)
    refine fb2_s (b := bB V S k what purse) hF.1 hS hR' hF.2.1 hF.2.2.1 (hF.2.2.2 z2) (h1 z2) (2 ^ vn V) 0 (by omega) F fun s l hok => ?_
    have hb := okS_le hn hok
    rw [hz _ (by omega), decide_eq_false (show ¬ (s < 0 ∨ (s = 0 ∧ ordL l < 0)) by omega), Bool.and_false]
    rfl
