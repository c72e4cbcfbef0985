/-! the model: findGreedy, greedy -/
def TR (σ : St) (V : VV) (F G : Nat → Int32) : Prop := IM σ V ∧ gA σ 43 = F ∧ gA σ 44 = G
theorem TR.w43 {σ : St} {V : VV} {F G : Nat → Int32} (h : TR σ V F G) {p : Nat} (hp : p < 2 ^ 31) (x : Int32) : TR (uA σ 43 (nI p) x) V (upd F p x) G := by
  unfold uA; rw [cl hp, h.2.1]
  exact ⟨h.1.qA (by decide) _, gA_sAk _ _ _, h.2.2⟩
theorem TR.w44 {σ : St} {V : VV} {F G : Nat → Int32} (h : TR σ V F G) {p : Nat} (hp : p < 2 ^ 31) (x : Int32) : TR (uA σ 44 (nI p) x) V F (upd G p x) := by
  unfold uA; rw [cl hp, h.2.2]
  exact ⟨h.1.qA (by decide) _, h.2.1, gA_sAk _ _ _⟩
theorem TR.kj {σ σ' : St} {V : VV} {F G : Nat → Int32} (h : TR σ V F G) (hI : IM σ' V) (k : KJ σ σ') : TR σ' V F G := ⟨hI, (k.1.2.1 43 (by decide)).trans h.2.1, (k.1.2.1 44 (by decide)).trans h.2.2⟩
def pRM (V : VV) (F G : Nat → Int32) (s l : Nat) : Prop :=
  (F (11 * s + l) = j01 (grV V (allA V) s l).1.1 ∧ G (11 * s + l) = nI (grV V (allA V) s l).1.2) ∧
  (F (11264 + (11 * s + l)) = j01 (grV V (allA V) s l).2.1 ∧ G (11264 + (11 * s + l)) = nI (grV V (allA V) s l).2.2)
theorem cmbG_1 {a f : Bool × Nat} (hf : f.1 = true) (ha : a.1 = true) : cmbG a f = a := by unfold cmbG; rw [if_pos hf, if_pos ha]
theorem cmbG_2 {a f : Bool × Nat} (hf : f.1 = true) (ha : a.1 = false) : cmbG a f = (false, max a.2 (1 + f.2)) := by unfold cmbG; rw [if_pos hf, if_neg (by rw [ha]; decide)]
theorem cmbG_3 {a f : Bool × Nat} (hf : f.1 = false) (ha : a.1 = true) : cmbG a f = (true, min a.2 (1 + f.2)) := by unfold cmbG; rw [if_neg (by rw [hf]; decide), if_pos ha]
theorem cmbG_4 {a f : Bool × Nat} (hf : f.1 = false) (ha : a.1 = false) : cmbG a f = (true, 1 + f.2) := by unfold cmbG; rw [if_neg (by rw [hf]; decide), if_neg (by rw [ha]; decide)]
theorem grG_t {V : VV} {A s d : Nat} (h : (grN V A s d).1.1 = true) : (grG V A s d).1 = false := by unfold grG; rw [h]; rfl
theorem grG_f {V : VV} {A s d : Nat} (h : (grN V A s d).1.1 = false) : (grG V A s d).1 = true := by unfold grG; rw [h]; rfl
theorem c112 (p : Nat) : (11264 : Int32) + nI p = nI (11264 + p) := nI_add 11264 p
/-- the joy of the best so far -/
def gJ (V : VV) (a : Nat) : Int32 := if a = 99 then 0 else joyAllV V a
theorem fgrM_1 {V : VV} {s l : Nat} {F G : Nat → Int32} {P : St → Prop} {K : Int32 → Int32 → Int32 → Int32 → Int32 → Int32 → Int32 → St → Prop} (hw : WV V) (hok : okS (vn V) s l) (hA : ∀ d, d < vn V → s.testBit d = false → pRM V F G (s ||| 2 ^ d) d)
    (h : ∀ σ', TR σ' V F G → K (nI s) (lI l) (nI (11 * s + l)) (cI (glV V (allA V) s l (vn V))) (j01 (anB (fun d => mv V (allA V) s l d) (vn V))) (j01 (gFo (mv V (allA V)) s l (grG V (allA V) s) (vn V)).1)
      (if glV V (allA V) s l (vn V) = 99 then 0 else nI (11264 + (11 * (s ||| 2 ^ glV V (allA V) s l (vn V)) + glV V (allA V) s l (vn V)))) σ') :
    ∀ m d : Nat, d + m = vn V → ∀ σ, TR σ V F G → wm_findGreedy_l21 P K (m + 1) (nI s) (lI l) (nI (11 * s + l)) (cI (glV V (allA V) s l d)) (gJ V (glV V (allA V) s l d)) (j01 (anB (fun d => mv V (allA V) s l d) d)) (j01 (gFo (mv V (allA V)) s l (grG V (allA V) s) d).1) (nI d) σ := by
  have hn := hw.n
  have hb := okS_le hn hok
  have hp := pow_le_1024 hn
  intro m
  induction m with
  | zero =>
    intro d hd σ hT
    rw [wm_findGreedy_l21_s, show mI_dishes σ = _ from hT.1.n, if_pos (by rw [show d = vn V by omega]; exact Int32.le_refl _), show d = vn V by omega]
    have h9 := h σ hT
    rcases glV_bd (V := V) (allA V) s l (k := vn V) with z | z
    · rw [z] at h9 ⊢
      rw [if_pos (show cI 99 = -1 from rfl)]
      exact h9
    · have hor := or2_lt hok.1 z.1
      have e : cI (glV V (allA V) s l (vn V)) = nI (glV V (allA V) s l (vn V)) := if_neg (by omega)
      rw [if_neg (show ¬ glV V (allA V) s l (vn V) = 99 by omega)] at h9
      rw [e] at h9 ⊢
      generalize glV V (allA V) s l (vn V) = D at z hor h9 ⊢
      rw [if_neg (fun z => absurd (congrArg Int32.toInt z) (by rw [nI_toInt (by omega), show (-1 : Int32).toInt = -1 from by decide]; omega)), nI_shl1 _ (by omega), nI_or]
      refine ⟨s ||| 2 ^ D, D, rfl, (lI_l (by omega)).symm, by omega, by omega, ?_⟩
      dsimp only
      rw [c112]
      exact h9
  | succ m ih =>
    intro d hd σ hT
    have ih1 := ih (d + 1) (by omega)
    have hor := or2_lt hok.1 (show d < vn V by omega)
    rw [glV_s, anB_s, gFo_s] at ih1
    rw [wm_findGreedy_l21_s, show mI_dishes σ = _ from hT.1.n, if_neg (nI_ge (by omega) (by omega))]
    refine om_may hT.1 hok (by omega) ?_
    unfold wm_findGreedy_j71 wm_findGreedy_j76 wm_findGreedy_j102 wm_findGreedy_j110
    rw [nI_1]
    cases q : mv V (allA V) s l d with
    | false => rw [jf0]; rw [q, if_neg (by decide), Bool.or_false, if_neg (by decide)] at ih1; exact ih1 σ hT
    | true =>
      rw [jt0]; rw [q, if_pos rfl, Bool.or_true, if_pos rfl] at ih1
      obtain ⟨⟨t1, _⟩, _⟩ := hA d (by omega) (mv_new q)
      -- the joy is asked, and the better one kept
      have go : ∀ x, x = j01 (cmbG (gFo (mv V (allA V)) s l (grG V (allA V) s) d) (grG V (allA V) s d)).1 →
          sm_joyOfAll σ (nI d) (fun r81 σ81 => if cI (glV V (allA V) s l d) = (-1) then (wm_findGreedy_l21 P K (m + 1) (nI s) (lI l) (nI (11 * s + l)) (nI d) r81 1 x (nI (d + 1)) σ81) else (if gJ V (glV V (allA V) s l d) < r81 then (wm_findGreedy_l21 P K (m + 1) (nI s) (lI l) (nI (11 * s + l)) (nI d) r81 1 x (nI (d + 1)) σ81) else (wm_findGreedy_l21 P K (m + 1) (nI s) (lI l) (nI (11 * s + l)) (cI (glV V (allA V) s l d)) (gJ V (glV V (allA V) s l d)) 1 x (nI (d + 1)) σ81))) := by
        intro x ex
        refine om_joyOfAll hT.1 (by omega) fun σ' hI' hK => ?_
        have hT' := hT.kj hI' hK
        rw [← ex] at ih1
        have ed : cI d = nI d := if_neg (by omega)
        have ej : gJ V d = joyAllV V d := if_neg (by omega)
        rcases glV_bd (V := V) (allA V) s l (k := d) with z | z
        · rw [z, if_pos (show cI 99 = -1 from rfl)]
          rw [if_pos z, ed, ej] at ih1
          exact ih1 σ' hT'
        · have e : cI (glV V (allA V) s l d) = nI (glV V (allA V) s l d) := if_neg (by omega)
          have e2 : gJ V (glV V (allA V) s l d) = joyAllV V (glV V (allA V) s l d) := if_neg (by omega)
          rw [if_neg (show ¬ glV V (allA V) s l d = 99 by omega)] at ih1
          rw [if_neg (fun y => absurd (congrArg Int32.toInt (e.symm.trans y)) (by rw [nI_toInt (by omega), show (-1 : Int32).toInt = -1 from by decide]; omega))]
          by_cases y : joyAllV V (glV V (allA V) s l d) < joyAllV V d
          · rw [if_pos y, ed, ej] at ih1
            rw [if_pos (by rw [e2]; exact y)]
            exact ih1 σ' hT'
          · rw [if_neg y] at ih1
            rw [if_neg (by rw [e2]; exact y)]
            exact ih1 σ' hT'
      cases qa : (gFo (mv V (allA V)) s l (grG V (allA V) s) d).1 with
      | true =>
        rw [jt0]
        refine go 1 ?_
        cases q2 : (grN V (allA V) s d).1.1 with
        | false => rw [cmbG_1 (grG_f q2) qa, qa]; rfl
        | true => rw [cmbG_3 (grG_t q2) qa]; rfl
      | false =>
        rw [jf0, nI_shl1 _ (by omega), nI_or]
        refine ⟨s ||| 2 ^ d, d, rfl, (lI_l (by omega)).symm, by omega, by omega, vp_in_nI (by omega) (by omega), ?_⟩
        rw [cl (by omega), show mA_isShamed σ = _ from hT.2.1, t1, show (grV V (allA V) (s ||| 2 ^ d) d) = grN V (allA V) s d from rfl]
        cases q2 : (grN V (allA V) s d).1.1 with
        | false =>
          rw [jf0]
          refine go 0 ?_
          rw [cmbG_2 (grG_f q2) qa]; rfl
        | true =>
          rw [jt0]
          refine go 1 ?_
          rw [cmbG_4 (grG_t q2) qa]; rfl
/-- the last loop: at k -/
def iR (V : VV) (s l : Nat) (W : Bool) (k : Nat) (x y : Int32) : Prop :=
  (y = 0 ∨ y = 1) ∧ (W = false → x = nI (gFo (mv V (allA V)) s l (grG V (allA V) s) k).2 ∧ (y = 1 → (gFo (mv V (allA V)) s l (grG V (allA V) s) k).2 = 0)) ∧
  (W = true → ((gFo (mv V (allA V)) s l (grG V (allA V) s) k).1 = false → x = 0 ∧ y = 1) ∧ ((gFo (mv V (allA V)) s l (grG V (allA V) s) k).1 = true → x = nI (gFo (mv V (allA V)) s l (grG V (allA V) s) k).2 ∧ y = 0))
theorem fgrM_2 {V : VV} {s l : Nat} {F G : Nat → Int32} {P : St → Prop} {σ : St} (hw : WV V) (hok : okS (vn V) s l) (hT : TR σ V F G) (hA : ∀ d, d < vn V → s.testBit d = false → pRM V F G (s ||| 2 ^ d) d)
    (h : P (uA σ 44 (nI (11264 + (11 * s + l))) (nI (grV V (allA V) s l).2.2))) :
    ∀ m k : Nat, k + m = vn V → ∀ x y, iR V s l (grV V (allA V) s l).2.1 k x y → wm_findGreedy_l229 P (m + 1) (nI s) (lI l) (nI (11 * s + l)) (j01 (grV V (allA V) s l).2.1) x y (nI k) σ := by
  have hn := hw.n
  have hb := okS_le hn hok
  have hp := pow_le_1024 hn
  have hfix : (grV V (allA V) s l).2 = gFo (mv V (allA V)) s l (grG V (allA V) s) (vn V) := by rw [grV_fix hn hok]
  intro m
  induction m with
  | zero =>
    intro k hk x y hi
    have e : k = vn V := by omega
    subst e
    rw [wm_findGreedy_l229_s, show mI_dishes σ = _ from hT.1.n, if_pos (Int32.le_refl _), c112]
    refine ⟨vp_in_nI (by omega) (by omega), ?_⟩
    unfold iR at hi
    rw [← hfix] at hi
    have ex : x = nI (grV V (allA V) s l).2.2 := by
      cases q : (grV V (allA V) s l).2.1 with
      | false => exact (hi.2.1 q).1
      | true => exact ((hi.2.2 q).2 q).1
    rw [ex]
    exact h
  | succ m ih =>
    intro k hk x y hi
    have ih1 := ih (k + 1) (by omega)
    have hor := or2_lt hok.1 (show k < vn V by omega)
    rw [wm_findGreedy_l229_s, show mI_dishes σ = _ from hT.1.n, if_neg (nI_ge (by omega) (by omega))]
    refine om_may hT.1 hok (by omega) ?_
    unfold wm_findGreedy_j325 wm_findGreedy_j330
    rw [nI_1]
    cases q : mv V (allA V) s l k with
    | false =>
      rw [jf0]
      refine ih1 x y ?_
      unfold iR at hi ⊢
      rw [gFo_s, q, if_neg (by decide)]
      exact hi
    | true =>
      rw [jt0]
      obtain ⟨⟨t1, t2⟩, _⟩ := hA k (by omega) (mv_new q)
      have b1 := (grN_bd hn (allA V) hok (show k < vn V by omega)).1
      have b2 := gFoR_bd hn (allA V) (k := k) hok (by omega)
      have hf0 : grV V (allA V) (s ||| 2 ^ k) k = grN V (allA V) s k := rfl
      rw [hf0] at t1 t2
      have hstep := gFo_s (mv V (allA V)) s l (grG V (allA V) s) k
      rw [if_pos q] at hstep
      have vnx : vp_in (nI (11 * (s ||| 2 ^ k) + k)) 22528 := vp_in_nI (by omega) (by omega)
      rw [nI_shl1 _ (by omega), nI_or]
      refine ⟨s ||| 2 ^ k, k, rfl, (lI_l (by omega)).symm, by omega, by omega, vnx, ?_⟩
      rw [cl (by omega), show mA_isShamed σ = _ from hT.2.1, t1]
      have hgk : grG V (allA V) s k = (!(grN V (allA V) s k).1.1, (grN V (allA V) s k).1.2) := rfl
      have a44 : mA_moreOf σ (11 * (s ||| 2 ^ k) + k) = nI (grN V (allA V) s k).1.2 := by rw [show mA_moreOf σ = _ from hT.2.2, t2]
      simp only [j01_inj]
      cases qW : (grV V (allA V) s l).2.1 with
      | false =>
        rw [qW] at hi ih1
        have hval : (grN V (allA V) s k).1.1 = false := by
          have h2 := qW
          rw [hfix, gFo_f] at h2
          cases z : (grN V (allA V) s k).1.1 with
          | false => rfl
          | true => exact (anB_no h2 (show k < vn V by omega) (by show (mv V (allA V) s l k && !(!(grN V (allA V) s k).1.1)) = true; rw [q, z]; rfl)).elim
        have ha : (gFo (mv V (allA V)) s l (grG V (allA V) s) k).1 = false := by
          have h2 := qW
          rw [hfix, gFo_f] at h2
          rw [gFo_f]
          refine Bool.eq_false_iff.mpr fun z => ?_
          obtain ⟨j, hj, hjp⟩ := anB_iff.mp z
          exact anB_no h2 (show j < vn V by omega) hjp
        have e2 : (gFo (mv V (allA V)) s l (grG V (allA V) s) (k + 1)).2 = max (gFo (mv V (allA V)) s l (grG V (allA V) s) k).2 (1 + (grN V (allA V) s k).1.2) := by
          rw [hstep, cmbG_2 (grG_f hval) ha]; rfl
        obtain ⟨hx, hy1⟩ := hi.2.1 rfl
        rw [if_pos hval.symm]
        refine ⟨s ||| 2 ^ k, k, rfl, (lI_l (by omega)).symm, by omega, by omega, vnx, ?_⟩
        rw [cl (by omega), a44, nI_1]
        have fin : ∀ x', x' = nI (max (gFo (mv V (allA V)) s l (grG V (allA V) s) k).2 (1 + (grN V (allA V) s k).1.2)) → wm_findGreedy_l229 P (m + 1) (nI s) (lI l) (nI (11 * s + l)) (j01 false) x' 0 (nI (k + 1)) σ := fun x' ex =>
          ih1 x' 0 ⟨Or.inl rfl, fun _ => ⟨by rw [ex, e2], fun z => absurd z (by decide)⟩, fun z => absurd z (by decide)⟩
        rcases hi.1 with y0 | y1
        · rw [y0, if_pos rfl, jf0, hx, jmax_nI (by omega) (by omega)]
          exact fin _ (by rw [Nat.add_comm])
        · rw [y1, if_neg (by decide)]
          exact fin _ (by rw [hy1 y1, Nat.zero_max, Nat.add_comm])
      | true =>
        rw [qW] at hi ih1
        cases qf : (grN V (allA V) s k).1.1 with
        | false =>
          rw [if_neg (by decide)]
          refine ih1 x y ?_
          unfold iR at hi ⊢
          refine ⟨hi.1, fun z => absurd z (by decide), fun _ => ?_⟩
          rw [hstep]
          cases qa : (gFo (mv V (allA V)) s l (grG V (allA V) s) k).1 with
          | true => rw [cmbG_1 (grG_f qf) qa]; exact hi.2.2 rfl
          | false =>
            rw [cmbG_2 (grG_f qf) qa]
            exact ⟨fun _ => (hi.2.2 rfl).1 qa, fun z => by have z : false = true := z; exact absurd z (by decide)⟩
        | true =>
          rw [if_pos rfl]
          refine ⟨s ||| 2 ^ k, k, rfl, (lI_l (by omega)).symm, by omega, by omega, vnx, ?_⟩
          rw [cl (by omega), a44, nI_1]
          cases qa : (gFo (mv V (allA V)) s l (grG V (allA V) s) k).1 with
          | false =>
            obtain ⟨hx, hy⟩ := (hi.2.2 rfl).1 qa
            have e2 : gFo (mv V (allA V)) s l (grG V (allA V) s) (k + 1) = (true, 1 + (grN V (allA V) s k).1.2) := by
              rw [hstep, cmbG_4 (grG_t qf) qa]; rfl
            rw [hy, if_neg (by decide)]
            refine ih1 _ 0 ⟨Or.inl rfl, fun z => absurd z (by decide), fun _ => ?_⟩
            rw [e2]
            exact ⟨fun z => (by have z : true = false := z; exact absurd z (by decide)), fun _ => ⟨by rw [Nat.add_comm], rfl⟩⟩
          | true =>
            obtain ⟨hx, hy⟩ := (hi.2.2 rfl).2 qa
            have e2 : gFo (mv V (allA V)) s l (grG V (allA V) s) (k + 1) = (true, min (gFo (mv V (allA V)) s l (grG V (allA V) s) k).2 (1 + (grN V (allA V) s k).1.2)) := by
              rw [hstep, cmbG_3 (grG_t qf) qa]; rfl
            rw [hy, if_pos rfl, jt0, hx, jmin_nI (by omega) (by omega)]
            refine ih1 _ 0 ⟨Or.inl rfl, fun z => absurd z (by decide), fun _ => ?_⟩
            rw [e2]
            exact ⟨fun z => (by have z : true = false := z; exact absurd z (by decide)), fun _ => ⟨by rw [Nat.add_comm 1], rfl⟩⟩
theorem om_findGreedy {V : VV} {s l : Nat} {F G : Nat → Int32} {P : St → Prop} {σ : St} (hT : TR σ V F G) (hok : okS (vn V) s l) (hA : ∀ d, d < vn V → s.testBit d = false → pRM V F G (s ||| 2 ^ d) d)
    (h : ∀ σ', TR σ' V (upd (upd F (11 * s + l) (j01 (grV V (allA V) s l).1.1)) (11264 + (11 * s + l)) (j01 (grV V (allA V) s l).2.1)) (upd (upd G (11 * s + l) (nI (grV V (allA V) s l).1.2)) (11264 + (11 * s + l)) (nI (grV V (allA V) s l).2.2)) → P σ') : wm_findGreedy σ (nI s) (lI l) P := by
  have hw := hT.1.2
  have hn := hw.n
  have hb := okS_le hn hok
  have hp := pow_le_1024 hn
  have hfix := grV_fix hn (A := allA V) hok
  have hfix2 : (grV V (allA V) s l).2 = gFo (mv V (allA V)) s l (grG V (allA V) s) (vn V) := by rw [hfix]
  have hfix1 : (grV V (allA V) s l).1 = if glV V (allA V) s l (vn V) = 99 then (true, 0) else ((grN V (allA V) s (glV V (allA V) s l (vn V))).2.1, 1 + (grN V (allA V) s (glV V (allA V) s l (vn V))).2.2) := by rw [hfix]
  refine ⟨s, l, rfl, rfl, by omega, by omega, vn V + 1, ?_⟩
  refine fgrM_1 hw hok hA (fun σ1 hT1 => ?_) (vn V) 0 (by omega) σ hT
  have v3 : vp_in (nI (11 * s + l)) 22528 := vp_in_nI (by omega) (by omega)
  have v3b : vp_in (nI (11264 + (11 * s + l))) 22528 := vp_in_nI (by omega) (by omega)
  rw [← hfix2]
  -- the end, after the greedy one's entries
  have tail : ∀ σ2, TR σ2 V (upd F (11 * s + l) (j01 (grV V (allA V) s l).1.1)) G → ∀ x, x = nI (grV V (allA V) s l).1.2 → wm_findGreedy_j194 P (nI s) (lI l) (nI (11 * s + l)) (j01 (anB (fun d => mv V (allA V) s l d) (vn V))) (j01 (grV V (allA V) s l).2.1) (nI (11 * s + l)) x σ2 := by
    intro σ2 hT2 x ex
    subst ex
    have hT3 := hT2.w44 (p := 11 * s + l) (by omega) (nI (grV V (allA V) s l).1.2)
    have go : ∀ y, vp_nar .boolean y = j01 (grV V (allA V) s l).2.1 → wm_findGreedy_j219 P (nI s) (lI l) (nI (11 * s + l)) (j01 (grV V (allA V) s l).2.1) (nI (11264 + (11 * s + l))) y (uA σ2 44 (nI (11 * s + l)) (nI (grV V (allA V) s l).1.2)) := by
      intro y ey
      refine ⟨v3b, vn V + 1, ?_⟩
      unfold mU_isShamed
      rw [ey]
      have hT4 := hT3.w43 (p := 11264 + (11 * s + l)) (by omega) (j01 (grV V (allA V) s l).2.1)
      refine fgrM_2 hw hok hT4 (fun d hd hbt => ?_) (h _ (hT4.w44 (by omega) _)) (vn V) 0 (by omega) 0 1 ⟨Or.inr rfl, fun _ => ⟨rfl, fun _ => rfl⟩, fun _ => ⟨fun _ => ⟨rfl, rfl⟩, fun z => by have z : false = true := z; exact absurd z (by decide)⟩⟩
      have h9 := hA d hd hbt
      have hor := or2_lt hok.1 hd
      have hgt := or2_gt hbt
      unfold pRM at h9 ⊢
      rw [upd_n (by omega), upd_n (by omega), upd_n (by omega), upd_n (by omega), upd_n (by omega), upd_n (by omega)]
      exact h9
    unfold wm_findGreedy_j194 wm_findGreedy_j218
    rw [c112]
    refine ⟨v3, ?_⟩
    cases q2 : (grV V (allA V) s l).2.1 with
    | false =>
      rw [q2] at go
      split
      · exact go 0 (by decide)
      · rw [jf0]; exact go 0 (by decide)
    | true =>
      rw [q2] at go
      have : anB (fun d => mv V (allA V) s l d) (vn V) = true := by
        rw [hfix2, gFo_f] at q2
        obtain ⟨k, hk, hkp⟩ := anB_iff.mp q2
        exact anB_iff.mpr ⟨k, hk, (Bool.and_eq_true _ _ ▸ hkp).1⟩
      rw [this, jt0, jt0]; exact go 1 (by decide)
  unfold wm_findGreedy_j141 wm_findGreedy_j164 wm_findGreedy_j169 mU_isShamed
  rcases glV_bd (V := V) (allA V) s l (k := vn V) with z | z
  · rw [if_pos z] at hfix1
    rw [z, if_pos (show cI 99 = -1 from rfl), if_pos (show cI 99 = -1 from rfl)]
    refine ⟨v3, ?_⟩
    have e1 : (grV V (allA V) s l).1.1 = true := by rw [hfix1]
    have e2 : (grV V (allA V) s l).1.2 = 0 := by rw [hfix1]
    refine tail _ ?_ 0 (by rw [e2]; rfl)
    rw [e1, nar_1]
    exact hT1.w43 (by omega) _
  · have hor := or2_lt hok.1 z.1
    rw [if_neg (show ¬ glV V (allA V) s l (vn V) = 99 by omega)] at hfix1 ⊢
    have hgt := or2_gt (mv_new z.2)
    obtain ⟨_, u1, u2⟩ := hA _ z.1 (mv_new z.2)
    have b := (grN_bd hn (allA V) hok z.1).2
    have ec : ¬ cI (glV V (allA V) s l (vn V)) = -1 := fun y => absurd (congrArg Int32.toInt ((if_neg (show ¬ glV V (allA V) s l (vn V) = 99 by omega)).symm.trans y)) (by rw [nI_toInt (by omega), show (-1 : Int32).toInt = -1 from by decide]; omega)
    generalize glV V (allA V) s l (vn V) = D at z hor hfix1 hgt u1 u2 b ec ⊢
    have hf0 : grV V (allA V) (s ||| 2 ^ D) D = grN V (allA V) s D := rfl
    rw [hf0] at u1 u2
    rw [if_neg ec, if_neg ec, if_neg ec, cl (by omega), show mA_isShamed σ1 = _ from hT1.2.1, u1]
    have e1 : (grV V (allA V) s l).1.1 = (grN V (allA V) s D).2.1 := by rw [hfix1]
    have e2 : (grV V (allA V) s l).1.2 = 1 + (grN V (allA V) s D).2.2 := by rw [hfix1]
    have vD : vp_in (nI (11264 + (11 * (s ||| 2 ^ D) + D))) 22528 := vp_in_nI (by omega) (by omega)
    have go : ∀ y, vp_nar .boolean y = j01 (grN V (allA V) s D).2.1 → vp_in (nI (11 * s + l)) 22528 ∧ (vp_in (nI (11264 + (11 * (s ||| 2 ^ D) + D))) 22528 ∧ (wm_findGreedy_j194 P (nI s) (lI l) (nI (11 * s + l)) (j01 (anB (fun d => mv V (allA V) s l d) (vn V))) (j01 (grV V (allA V) s l).2.1) (nI (11 * s + l)) ((mA_moreOf (uA σ1 43 (nI (11 * s + l)) (vp_nar .boolean y)) (11264 + (11 * (s ||| 2 ^ D) + D))) + (1)) (uA σ1 43 (nI (11 * s + l)) (vp_nar .boolean y)))) := by
      intro y ey
      refine ⟨v3, vD, ?_⟩
      rw [ey]
      refine tail _ ?_ _ ?_
      · rw [e1]; exact hT1.w43 (by omega) _
      · rw [show mA_moreOf (uA σ1 43 (nI (11 * s + l)) (j01 (grN V (allA V) s D).2.1)) = G from hT1.2.2, u2, nI_1, e2, Nat.add_comm]
    refine ⟨vD, ?_⟩
    cases q3 : (grN V (allA V) s D).2.1 with
    | false => rw [q3] at go; rw [jf0]; exact go 0 (by decide)
    | true => rw [q3] at go; rw [jt0]; exact go 1 (by decide)
theorem greM_l {V : VV} {s : Nat} {P : Int32 → St → Prop} {K : Int32 → St → Prop} (hw : WV V) (hs : s < 2 ^ vn V)
    (h : ∀ σ' F G, TR σ' V F G → At (vn V) s (vn V + 1) (pRM V F G) → K (nI s + (-1)) σ') :
    ∀ m j : Nat, j + m = vn V + 1 → ∀ σ F G, TR σ V F G → At (vn V) s j (pRM V F G) → wm_greedy_l16 P K (m + 1) (nI s) (nI j - 1) σ := by
  have hn := hw.n
  have hp := pow_le_1024 hn
  intro m
  induction m with
  | zero =>
    intro j hj σ F G hT hD
    rw [wm_greedy_l16_s, show mI_dishes σ = _ from hT.1.n, if_pos ((nIm_lt (by omega) (by omega)).mpr (by omega))]
    rw [show j = vn V + 1 by omega] at hD
    exact h σ F G hT hD
  | succ m ih =>
    intro j hj σ F G hT hD
    rw [wm_greedy_l16_s, show mI_dishes σ = _ from hT.1.n, if_neg (fun z => by have := (nIm_lt (by omega) (by omega)).mp z; omega)]
    have hl := lOf_n (j := j) hn (by omega)
    refine ⟨s, lOf j, rfl, (lOf_lI (by omega)).symm, by omega, by omega, ?_⟩
    dsimp only
    unfold wm_greedy_j38
    rw [nIm_s]
    cases q : stateB s (lOf j) with
    | false => rw [jf0]; exact ih (j + 1) (by omega) σ F G hT (hD.skip hn (by omega) hs q)
    | true =>
      rw [jt0]
      have hok := (okS_B hn hs hl).mp q
      have hb := okS_le hn hok
      rw [← lOf_lI (by omega)]
      refine om_findGreedy hT hok (fun d hd hb => hD.nx hok hd hb) fun σ' hT' => ih (j + 1) (by omega) σ' _ _ hT' (hD.step hn (fun s' l' hok' hne hp' => ?_) fun _ => ?_)
      · have hb' := okS_le hn hok'
        have hne' : 11 * s' + l' ≠ 11 * s + lOf j := fun z => hne ⟨by omega, by omega⟩
        unfold pRM
        rw [upd_n (by omega), upd_n (by omega), upd_n (by omega), upd_n (by omega), upd_n (by omega), upd_n (by omega), upd_n (by omega), upd_n (by omega)]
        exact hp'
      · refine ⟨⟨?_, ?_⟩, ?_, ?_⟩
        · rw [upd_n (by omega), upd_s]
        · rw [upd_n (by omega), upd_s]
        · rw [upd_s]
        · rw [upd_s]
theorem greM_s {V : VV} {P : Int32 → St → Prop} (hw : WV V) (h : ∀ σ' F G, TR σ' V F G → (∀ s l, okS (vn V) s l → pRM V F G s l) → wm_greedy_l10 P (wm_greedy_j91 P) 1 (-1) σ') :
    ∀ m : Nat, m ≤ 2 ^ vn V → ∀ σ F G, TR σ V F G → (0 < m → At (vn V) (m - 1) 0 (pRM V F G)) → (m = 0 → ∀ s l, okS (vn V) s l → pRM V F G s l) → wm_greedy_l10 P (wm_greedy_j91 P) (m + 1) (nI m - 1) σ := by
  have hn := hw.n
  have hp := pow_le_1024 hn
  intro m
  induction m with
  | zero =>
    intro hm σ F G hT _ hF
    exact h σ F G hT (hF rfl)
  | succ m ih =>
    intro hm σ F G hT hD _
    rw [wm_greedy_l10_s, nI_pred, if_neg (nI_lt0 (by omega))]
    refine ⟨vn V + 2, greM_l (K := wm_greedy_l10 P (wm_greedy_j91 P) (m + 1)) hw (show m < 2 ^ vn V by omega) (fun σ' F' G' hT' hD' => ?_) (vn V + 1) 0 (by omega) σ F G hT (hD (by omega))⟩
    rw [show nI m + (-1) = nI m - 1 from (Int32.sub_eq_add_neg _ _).symm]
    refine ih (by omega) σ' F' G' hT' (fun hpos => ?_) (fun h0 => ?_)
    · rw [show m = m - 1 + 1 by omega] at hD'
      exact hD'.next hn
    · rw [h0] at hD'; exact hD'.fix hn
theorem om_greedy {σ : St} {V : VV} {P : Int32 → St → Prop} (hI : IM σ V) (h : ∀ σ', IM σ' (S_greedy V) → P (R_greedy V) σ') : wm_greedy σ P := by
  have hI := hI.th 0
  have hw := hI.2
  have hn := hw.n
  have hok := start_ok hw
  have hb := okS_le hn hok
  have h1 := Nat.one_le_two_pow (n := vn V)
  unfold R_greedy S_greedy at h
  refine ⟨V, hI, 2 ^ vn V + 1, ?_⟩
  have h9 := greM_s (P := P) hw (fun σ2 F G hT hA => ?_) (2 ^ vn V) (Nat.le_refl _) (mS_thrown σ 0) _ _ ⟨hI, rfl, rfl⟩ (fun _ => At.start _ _) (fun z => by omega)
  · rw [nI_lit1, pk_sub h1] at h9
    exact h9
  · obtain ⟨⟨t1, t2⟩, _⟩ := hA _ _ hok
    have hr := hT.1.row0
    rw [wm_greedy_l10_s, if_pos (by decide)]
    refine ⟨V, hT.1, V, hT.1, s0V V, l0V V, rfl, rfl, by omega, by omega, ?_⟩
    dsimp only
    rw [cl (by omega), show mA_moreOf (mS_rowMany σ2 0) = G from hT.2.2, t2]
    refine ⟨vp_in_nI (by omega) (by omega), _, hr, by show 0 < 12; omega, fun σ3 h3 k3 _ => ⟨vp_in_nI (by omega) (by omega), ?_⟩⟩
    rw [show mA_isShamed σ3 = F from (k3.2.1 43 (by decide)).trans hT.2.1, t1]
    have h9 := h σ3 h3
    cases q : (grV V (allA V) (s0V V) (l0V V)).1.1 with
    | false => rw [q] at h9; rw [jf0]; exact h9
    | true => rw [q] at h9; rw [jt0]; exact h9
