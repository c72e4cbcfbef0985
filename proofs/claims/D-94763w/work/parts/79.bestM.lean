/-! the model's best fair cheap dear -/
def qBst (V : VV) (S due : Nat) (w : Nat → Int32) (b : Int32) (k s l : Nat) : Prop := okS (vn V) s l ∧ 0 < tabM V S s l ∧ pc s + k = due ∧ ex (mv V S) (vn V) (Ew w b due) k s l = true
theorem EBs_Ew {V : VV} {S due what purse : Nat} {b : Int32} (hb : -1000000 ≤ b.toInt) (s l : Nat) (h : EBs V S due what purse b s l = true) : Ew (wV V what purse) b due s l = true := by
  unfold EBs at h
  rw [Bool.and_eq_true, decide_eq_true_eq, decide_eq_true_eq] at h
  obtain ⟨_, h⟩ := h
  unfold scoM at h
  cases q : candP V S due purse s with
  | false =>
    rw [q, if_neg (by decide)] at h
    rw [← h] at hb
    exact absurd hb (by decide)
  | true =>
    rw [q, if_pos rfl] at h
    unfold candP candV at q
    simp only [Bool.and_eq_true, decide_eq_true_eq] at q
    unfold Ew
    rw [decide_eq_true q.1.2, Bool.true_and, decide_eq_true_eq]
    unfold wV
    rw [if_pos q.2]; exact h
theorem qBst_s {V : VV} (hw : WV V) {S due : Nat} {w : Nat → Int32} {b : Int32} {k s l d : Nat} (h : qBst V S due w b (k + 1) s l) (hd : d < vn V) (h1 : mv V S s l d = true) (h2 : ex (mv V S) (vn V) (Ew w b due) k (s ||| 2 ^ d) d = true) : qBst V S due w b k (s ||| 2 ^ d) d := by
  have hn := hw.n
  have := h.2.2.1
  exact ⟨okS_step h.1 hd, cpT_step hn (mv_newM V S) (start_ok hw) h.1 hd h1 h.2.1, by rw [pc_or2 (mv_new h1) (by omega)]; omega, h2⟩
theorem Ew_EBs {V : VV} (hw : WV V) {S due what purse : Nat} {b : Int32} (hb : b ≠ -1000000) : ∀ k s l, qBst V S due (wV V what purse) b k s l → ex (mv V S) (vn V) (EBs V S due what purse b) k s l = true := by
  have hn := hw.n
  intro k
  induction k with
  | zero =>
    intro s l h
    show EBs V S due what purse b s l = true
    have hx : Ew (wV V what purse) b due s l = true := h.2.2.2
    unfold Ew at hx
    rw [Bool.and_eq_true, decide_eq_true_eq, decide_eq_true_eq] at hx
    have hcost : costV V (addS s (s0V V)) ≤ purse := Decidable.byContradiction fun z => by
      have := hx.2
      unfold wV at this
      rw [if_neg z] at this
      exact hb this.symm
    have hbl := okS_le hn h.1
    have hr : rchT V S s = true := (rchT_iff hn h.1.1).mpr ⟨l, hbl.1, h.1, h.2.1⟩
    have hc : candP V S due purse s = true := by unfold candP candV; rw [hr, decide_eq_true hx.1, decide_eq_true hcost]; rfl
    unfold EBs
    rw [decide_eq_true h.2.1, Bool.true_and, decide_eq_true_eq]
    unfold scoM
    rw [hc, if_pos rfl]
    have := hx.2
    unfold wV at this
    rw [if_pos hcost] at this
    exact this
  | succ k ih =>
    intro s l h
    obtain ⟨d, hd, h1, h2⟩ := ex_s.mp h.2.2.2
    exact ex_s.mpr ⟨d, hd, h1, ih _ _ (qBst_s hw h hd h1 h2)⟩
theorem bst_start {V : VV} (hw : WV V) {S k what purse : Nat} (h : bB V S k what purse ≠ -1000000) : qBst V S ((vsv V).length + k) (wV V what purse) (bB V S k what purse) k (s0V V) (l0V V) :=
  ⟨start_ok hw, cpT_start, by rw [pc_s0 hw], best_ex hw h⟩
theorem bst_way {V : VV} (hw : WV V) {S k what purse : Nat} (h : bB V S k what purse ≠ -1000000) :
    way (mv V S) (vn V) (ex (mv V S) (vn V) (EBs V S ((vsv V).length + k) what purse (bB V S k what purse))) k (s0V V) (l0V V) = way (mv V S) (vn V) (ex (mv V S) (vn V) (Ew (wV V what purse) (bB V S k what purse) ((vsv V).length + k))) k (s0V V) (l0V V) := by
  have hn := hw.n
  have hge := bestW_ge hw S ((vsv V).length + k) what purse (2 ^ vn V)
  refine way_congr (Q := qBst V S ((vsv V).length + k) (wV V what purse) (bB V S k what purse)) (fun k' s l q d hd h1 => ?_) (fun k' s l q d hd h1 hg => qBst_s hw q hd h1 (ex_mono (fun s l z => EBs_Ew hge s l z) _ _ _ hg)) (fun k' s l q => ?_) _ _ _ (bst_start hw h)
  · rw [Bool.eq_iff_iff]
    exact ⟨fun z => ex_mono (fun s l z => EBs_Ew hge s l z) _ _ _ z, fun z => Ew_EBs hw h _ _ _ (qBst_s hw q hd h1 z)⟩
  · obtain ⟨d, hd, h1, h2⟩ := ex_s.mp q.2.2.2
    exact ⟨d, hd, h1, Ew_EBs hw h _ _ _ (qBst_s hw q hd h1 h2)⟩
theorem S_bst_eq {V : VV} {S k what purse : Nat} (told : Bool) : S_bst V S k (wV V what purse) told = rowG (vSRow V (if told = true then [bB V S k what purse] else [])) (way (mv V S) (vn V) (ex (mv V S) (vn V) (Ew (wV V what purse) (bB V S k what purse) ((vsv V).length + k))) k (s0V V) (l0V V)) := rfl
theorem EBs_pc {V : VV} {S due what purse : Nat} {b : Int32} (hb : -1000000 ≤ b.toInt) (s l : Nat) (h : EBs V S due what purse b s l = true) : pc s = due := by
  have := EBs_Ew hb s l h
  unfold Ew at this
  rw [Bool.and_eq_true, decide_eq_true_eq] at this
  exact this.1
/-- the row to the best is told, after a row r -/
theorem bstM_row {V : VV} {S k what purse : Nat} {r : List Int32} {P : St → Prop} {σ : St} (hw : WV V) (hI : IM σ (vSRow V r)) (hS : S < 2 ^ vn V) (hk : k ≤ 10) (hb : bB V S k what purse ≠ -1000000) (hr : r.length ≤ 1)
    (hE : ∀ s l, okS (vn V) s l → gA σ 35 (11 * s + l) = j01 (EBs V S ((vsv V).length + k) what purse (bB V S k what purse) s l)) (hT : FixT (vn V) (gA σ 36) (stE (mv V S) (EBs V S ((vsv V).length + k) what purse (bB V S k what purse)) (vn V)))
    (h : ∀ σ', IM σ' (rowG (vSRow V r) (way (mv V S) (vn V) (ex (mv V S) (vn V) (Ew (wV V what purse) (bB V S k what purse) ((vsv V).length + k))) k (s0V V) (l0V V))) → gI σ' 39 = gI σ 39 → P σ') : wm_tellWay σ (nI (s0V V)) (lI (l0V V)) (nI S) P := by
  have hge := bestW_ge hw S ((vsv V).length + k) what purse (2 ^ vn V)
  refine om_tellWay (V := vSRow V r) (S := S) (c := (vsv V).length + k) (k := k) (E := EBs V S ((vsv V).length + k) what purse (bB V S k what purse)) hI hS hE hT (fun s l z => EBs_pc hge s l z) (s := s0V V) (l := l0V V) (show okS (vn V) (s0V V) (l0V V) from start_ok hw) (Ew_EBs hw hb _ _ _ (bst_start hw hb)) (by show r.length + k ≤ 12; omega) fun σ' hI' kp => ?_
  refine h σ' ?_ (kp.1 39 (by decide))
  have h9 : IM σ' (rowG (vSRow V r) (way (mv V S) (vn V) (ex (mv V S) (vn V) (EBs V S ((vsv V).length + k) what purse (bB V S k what purse))) k (s0V V) (l0V V))) := hI'
  rw [bst_way hw hb] at h9
  exact h9
theorem inM_10 {v : Int32} : inM v (0 : Int32) (10 : Int32) = rngB v 11 := by
  rw [show (10 : Int32) = nI 11 - (1 : Int32) from by decide]
  exact inM_rng (by omega)
theorem inM_999 {v : Int32} : inM v (0 : Int32) (999 : Int32) = rngB v 1000 := by
  rw [show (999 : Int32) = nI 1000 - (1 : Int32) from by decide]
  exact inM_rng (by omega)
theorem om_tellCost {V : VV} {S what : Nat} {P : Int32 → St → Prop} {σ : St} (hI : IM σ V) (hS : S < 2 ^ vn V) (hwh : what ≤ 3) (v : Int32) (h : ∀ σ', IM σ' (S_cost V S what v) → P (R_cost V S what v) σ') : wm_tellCost σ v (nI what) (nI S) P := by
  unfold R_cost S_cost at h
  unfold wm_tellCost sm_in
  dsimp only
  rw [inM_10]
  cases q : rngB v 11 with
  | false => rw [jf0]; rw [q, if_neg (by decide), if_neg (by decide)] at h; exact h σ hI
  | true =>
    rw [jt0]; rw [q, if_pos rfl, if_pos rfl] at h
    obtain ⟨k, hk, rfl⟩ := rngB_of (by omega) q
    rw [cl (by omega)] at h
    rw [show (1000000 : Int32) = nI 1000000 from rfl]
    refine om_findBest hI hS (by omega) (Nat.le_refl _) hwh (fun z σ' hI' => ?_) (fun z σ' hI' hE hT hb => ?_)
    · rw [if_pos z, if_pos z] at h; rw [if_pos rfl]; exact h σ' hI'
    · rw [if_neg z, if_neg z] at h
      rw [if_neg (by decide)]
      have hr0 := hI'.row0
      refine ⟨_, hr0, _, hr0, ?_⟩
      refine bstM_row (V := V) (r := []) (P := fun σ => P (jabs (mI_bestScore σ)) σ) hI.2 hr0 hS (by omega) z (by decide) hE hT fun σ2 hI2 h39 => ?_
      rw [show mI_bestScore σ2 = bB V S k what 1000000 from h39.trans hb]
      exact h σ2 hI2
theorem om_dear {σ : St} {V : VV} {P : Int32 → St → Prop} (hI : IM σ V) (v : Int32) (h : ∀ σ', IM σ' (S_cost V (allA V) 3 v) → P (R_cost V (allA V) 3 v) σ') : wm_dear σ v P :=
  ⟨V, hI.th 0, om_tellCost (hI.th 0) (allA_lt V) (Nat.le_refl 3) v h⟩
theorem cheM_g {V : VV} {d S : Nat} {v : Int32} {P : Int32 → St → Prop} {K : Int32 → Int32 → Int32 → Int32 → St → Prop} {σ : St} (hI : IM σ V) (hd : d < vn V)
    (h : K v (nI d) (nI S) (nI (if (!(anB (fun g => hungV V g d) (vg V))) = true then 2 ^ d else 0)) σ) :
    ∀ m g : Nat, g + m = vg V → wm_cheap_l23 P K (m + 1) v (nI S) (nI d) (j01 (anB (fun g => hungV V g d) g)) (nI g) σ := by
  have hg := hI.2.g
  have hn := hI.2.n
  intro m
  induction m with
  | zero =>
    intro g hk
    rw [wm_cheap_l23_s, show mI_guests σ = _ from hI.g, if_pos (by rw [show g = vg V by omega]; exact Int32.le_refl _), show g = vg V by omega]
    cases q : anB (fun g => hungV V g d) (vg V) with
    | false => rw [jf0, nI_shl1 _ (by omega)]; rw [q] at h; exact h
    | true => rw [jt0]; rw [q] at h; exact h
  | succ m ih =>
    intro g hk
    have ih1 := ih (g + 1) (by omega)
    rw [anB_s] at ih1
    rw [wm_cheap_l23_s, show mI_guests σ = _ from hI.g, if_neg (nI_ge (by omega) (by omega))]
    unfold wm_cheap_j47 wm_cheap_j52
    rw [nI_1]
    cases q : anB (fun g => hungV V g d) g with
    | true => rw [jt0]; rw [q, Bool.true_or] at ih1; exact ih1
    | false =>
      rw [jf0]; rw [q, Bool.false_or] at ih1
      refine ⟨V, g, d, hI, rfl, rfl, by omega, hd, ?_⟩
      dsimp only
      cases q2 : hungV V g d with
      | false => rw [jf0]; rw [q2] at ih1; exact ih1
      | true => rw [jt0]; rw [q2] at ih1; exact ih1
theorem om_cheap {σ : St} {V : VV} {P : Int32 → St → Prop} (hI : IM σ V) (v : Int32) (h : ∀ σ', IM σ' (S_cost V (sateA V) 2 v) → P (R_cost V (sateA V) 2 v) σ') : wm_cheap σ v P := by
  have hI := hI.th 0
  have key : ∀ m d : Nat, d + m = vn V → wm_cheap_l9 P (m + 1) v (nI (bitsOf (fun d => !(anB (fun g => hungV V g d) (vg V))) d)) (nI d) (mS_thrown σ 0) := by
    have hn := hI.2.n
    intro m
    induction m with
    | zero =>
      intro d hd
      rw [wm_cheap_l9_s, show mI_dishes (mS_thrown σ 0) = _ from hI.n, if_pos (by rw [show d = vn V by omega]; exact Int32.le_refl _), show d = vn V by omega]
      exact om_tellCost (what := 2) hI (bitsOf_lt _ _) (by omega) v h
    | succ m ih =>
      intro d hd
      have ih1 := ih (d + 1) (by omega)
      rw [bitsOf_s] at ih1
      rw [wm_cheap_l9_s, show mI_dishes (mS_thrown σ 0) = _ from hI.n, if_neg (nI_ge (by omega) (by omega))]
      refine ⟨_, cheM_g hI (show d < vn V by omega) ?_ (vg V) 0 (by omega)⟩
      unfold wm_cheap_j73
      rw [nI_or, nI_1]
      exact ih1
  exact ⟨_, key (vn V) 0 (by omega)⟩
theorem om_tellBest {V : VV} {what : Nat} {P : Int32 → St → Prop} {σ : St} (hI : IM σ V) (hwh : what ≤ 1) (v1 v2 : Int32) (h : ∀ σ', IM σ' (S_fest V what v1 v2) → P (R_fest V what v1 v2) σ') : wm_tellBest σ v1 v2 (nI what) P := by
  have hgl := hI.2.g
  unfold R_fest S_fest at h
  unfold wm_tellBest sm_in
  dsimp only
  rw [inM_10, inM_999]
  cases q1 : rngB v1 11 with
  | false => rw [jf0]; rw [q1, Bool.false_and, if_neg (by decide), if_neg (by decide)] at h; exact h σ hI
  | true =>
    rw [jt0]; rw [q1, Bool.true_and] at h
    cases q2 : rngB v2 1000 with
    | false => rw [jf0]; rw [q2, if_neg (by decide), if_neg (by decide)] at h; exact h σ hI
    | true =>
      rw [jt0]; rw [q2, if_pos rfl, if_pos rfl] at h
      have e1 : nI what = 1 ↔ what = 1 := nI_eq1 (by omega)
      simp only [e1]
      have go : ¬ (what = 1 ∧ vg V = 0) → wm_tellBest_j35 P v1 v2 (nI what) σ := by
        intro z0
        rw [if_neg z0, if_neg z0] at h
        obtain ⟨k, hk, rfl⟩ := rngB_of (by omega) q1
        obtain ⟨p, hp, rfl⟩ := rngB_of (by omega) q2
        rw [cl (by omega), cl (by omega)] at h
        refine ⟨V, hI, ?_⟩
        refine om_findBest hI (allA_lt V) (by omega) (by omega) (by omega) (fun z σ' hI' => ?_) (fun z σ' hI' hE hT hb => ?_)
        · rw [if_pos z, if_pos z] at h; rw [if_pos rfl]; exact h σ' hI'
        · rw [if_neg z, if_neg z] at h
          rw [if_neg (by decide)]
          have hr0 := hI'.row0
          rw [show mI_bestScore (mS_rowMany σ' 0) = bB V (allA V) k what p from hb]
          refine ⟨vSRow V [], hr0, by show 0 < 12; omega, fun σ3 hI3 kp _ => ⟨_, hI3, _, hI3, _, hI3, ?_⟩⟩
          refine bstM_row (V := V) (r := [bB V (allA V) k what p]) (P := fun σ => P 1 σ) hI.2 hI3 (allA_lt V) (by omega) z (by show 1 ≤ 1; omega) (fun s l hok => ?_) ?_ fun σ4 hI4 _ => h σ4 hI4
          · rw [kp.2.1 35 (by decide)]; exact hE s l hok
          · rw [kp.2.1 36 (by decide)]; exact hT
      by_cases q3 : what = 1
      · rw [if_pos q3, show mI_guests σ = _ from hI.g]
        simp only [nI_eq0 (show vg V < 2 ^ 31 by omega)]
        by_cases q4 : vg V = 0
        · rw [if_pos q4]
          rw [if_pos ⟨q3, q4⟩, if_pos ⟨q3, q4⟩] at h
          exact h σ hI
        · rw [if_neg q4]; exact go fun z => q4 z.2
      · rw [if_neg q3]; exact go fun z => q3 z.1
theorem om_best {σ : St} {V : VV} {P : Int32 → St → Prop} (hI : IM σ V) (v1 v2 : Int32) (h : ∀ σ', IM σ' (S_fest V 0 v1 v2) → P (R_fest V 0 v1 v2) σ') : wm_best σ v1 v2 P :=
  om_tellBest (what := 0) (hI.th 0) (by omega) v1 v2 h
theorem om_fair {σ : St} {V : VV} {P : Int32 → St → Prop} (hI : IM σ V) (v1 v2 : Int32) (h : ∀ σ', IM σ' (S_fest V 1 v1 v2) → P (R_fest V 1 v1 v2) σ') : wm_fair σ v1 v2 P :=
  om_tellBest (what := 1) (hI.th 0) (by omega) v1 v2 h
