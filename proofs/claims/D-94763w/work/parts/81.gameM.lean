/-! the model: findTurn, findGame, game -/
theorem om_may {σ : St} {V : VV} {s l d : Nat} {P : Int32 → St → Prop} (hI : IM σ V) (hok : okS (vn V) s l) (hd : d < vn V) (h : P (j01 (mv V (allA V) s l d)) σ) : sm_may σ (nI s) (lI l) (nI d) P := by
  refine ⟨V, s, l, d, hI, rfl, rfl, rfl, hok.1, okS_mlast hok, hd, ?_⟩
  have : mv V (allA V) s l d = mayV V s l d := by
    unfold mv allA
    rw [Nat.testBit_two_pow_sub_one, decide_eq_true hd, Bool.and_true]
  rw [this] at h; exact h
theorem anB_no {p : Nat → Bool} {n k : Nat} (h : anB p n = false) (hk : k < n) (hp : p k = true) : False := by
  rw [anB_iff.mpr ⟨k, hk, hp⟩] at h; exact absurd h (by decide)
theorem upd_tw {f : Nat → Int32} {p : Nat} {x y : Int32} : upd (upd f p x) p y = upd f p y := funext fun k => by
  by_cases e : k = p
  · rw [e, upd_s, upd_s]
  · rw [upd_n e, upd_n e, upd_n e]
/-- what the three arrays of the game are -/
def TG (σ : St) (V : VV) (F G H : Nat → Int32) : Prop := IM σ V ∧ gA σ 40 = F ∧ gA σ 41 = G ∧ gA σ 42 = H
theorem TG.w40 {σ : St} {V : VV} {F G H : Nat → Int32} (h : TG σ V F G H) {p : Nat} (hp : p < 2 ^ 31) (x : Int32) : TG (uA σ 40 (nI p) x) V (upd F p x) G H := by
  unfold uA; rw [cl hp, h.2.1]
  exact ⟨h.1.qA (by decide) _, gA_sAk _ _ _, h.2.2.1, h.2.2.2⟩
theorem TG.w41 {σ : St} {V : VV} {F G H : Nat → Int32} (h : TG σ V F G H) {p : Nat} (hp : p < 2 ^ 31) (x : Int32) : TG (uA σ 41 (nI p) x) V F (upd G p x) H := by
  unfold uA; rw [cl hp, h.2.2.1]
  exact ⟨h.1.qA (by decide) _, h.2.1, gA_sAk _ _ _, h.2.2.2⟩
theorem TG.w42 {σ : St} {V : VV} {F G H : Nat → Int32} (h : TG σ V F G H) {p : Nat} (hp : p < 2 ^ 31) (x : Int32) : TG (uA σ 42 (nI p) x) V F G (upd H p x) := by
  unfold uA; rw [cl hp, h.2.2.2]
  exact ⟨h.1.qA (by decide) _, h.2.1, h.2.2.1, gA_sAk _ _ _⟩
def pGM (V : VV) (F G H : Nat → Int32) (s l : Nat) : Prop := F (11 * s + l) = j01 (gmV V (allA V) s l).1 ∧ G (11 * s + l) = nI (gmV V (allA V) s l).2 ∧ ((gmV V (allA V) s l).1 = true → H (11 * s + l) = nI (gmD V (allA V) s l))
theorem trnM_1 {V : VV} {s l : Nat} {F G H : Nat → Int32} {P : St → Prop} {K : Int32 → Int32 → Int32 → Int32 → St → Prop} (hw : WV V) (hok : okS (vn V) s l) (hA : ∀ d, d < vn V → s.testBit d = false → pGM V F G H (s ||| 2 ^ d) d)
    (h : ∀ σ', TG σ' V (upd F (11 * s + l) (j01 (gmV V (allA V) s l).1)) (upd G (11 * s + l) 0) (upd H (11 * s + l) (-1)) → K (nI s) (lI l) (nI (11 * s + l)) 0 σ') :
    ∀ m d : Nat, d + m = vn V → ∀ σ, TG σ V (upd F (11 * s + l) (j01 (anB (fun d => mv V (allA V) s l d && !(gmN V (allA V) s d).1) d))) G H → wm_findTurn_l16 P K (m + 1) (nI s) (lI l) (nI (11 * s + l)) (nI d) σ := by
  have hn := hw.n
  have hb := okS_le hn hok
  have hp := pow_le_1024 hn
  intro m
  induction m with
  | zero =>
    intro d hd σ hT
    rw [wm_findTurn_l16_s, show mI_dishes σ = _ from hT.1.n, if_pos (by rw [show d = vn V by omega]; exact Int32.le_refl _)]
    rw [show d = vn V by omega, ← gFo_f, ← gmV_fix hn hok] at hT
    exact ⟨vp_in_nI (by omega) (by omega), vp_in_nI (by omega) (by omega), h _ ((hT.w42 (by omega) _).w41 (by omega) _)⟩
  | succ m ih =>
    intro d hd σ hT
    have ih1 := ih (d + 1) (by omega)
    have hor := or2_lt hok.1 (show d < vn V by omega)
    rw [wm_findTurn_l16_s, show mI_dishes σ = _ from hT.1.n, if_neg (nI_ge (by omega) (by omega))]
    refine om_may hT.1 hok (by omega) ?_
    unfold wm_findTurn_j62
    rw [nI_1]
    rw [anB_s] at ih1
    cases q : mv V (allA V) s l d with
    | false => rw [jf0]; rw [q, Bool.false_and, Bool.or_false] at ih1; exact ih1 σ hT
    | true =>
      rw [jt0]; rw [q, Bool.true_and] at ih1
      obtain ⟨t1, _, _⟩ := hA d (by omega) (mv_new q)
      have hgt := or2_gt (mv_new q)
      rw [nI_shl1 _ (by omega), nI_or]
      refine ⟨s ||| 2 ^ d, d, rfl, (lI_l (by omega)).symm, by omega, by omega, vp_in_nI (by omega) (by omega), ?_⟩
      rw [cl (by omega), show mA_shames σ = _ from hT.2.1, upd_n (show 11 * (s ||| 2 ^ d) + d ≠ 11 * s + l by omega), t1, show (gmV V (allA V) (s ||| 2 ^ d) d) = gmN V (allA V) s d from rfl]
      cases q2 : (gmN V (allA V) s d).1 with
      | false =>
        rw [jf0]; rw [q2] at ih1
        refine ⟨vp_in_nI (by omega) (by omega), ih1 _ ?_⟩
        have h9 := hT.w40 (p := 11 * s + l) (by omega) (vp_nar .boolean 1)
        rw [upd_tw, nar_1] at h9
        rw [Bool.not_false, Bool.or_true]; exact h9
      | true =>
        rw [jt0]; rw [q2, Bool.not_true, Bool.or_false] at ih1
        exact ih1 σ hT
/-- the second loop: at k -/
def iT (V : VV) (s l : Nat) (W : Bool) (k : Nat) (x y : Int32) : Prop :=
  (W = false → x = nI (gFo (mv V (allA V)) s l (gmN V (allA V) s) k).2) ∧
  (W = true → ((gFo (mv V (allA V)) s l (gmN V (allA V) s) k).1 = false → x = 0 ∧ y = -1) ∧
    ((gFo (mv V (allA V)) s l (gmN V (allA V) s) k).1 = true → x = nI (gFo (mv V (allA V)) s l (gmN V (allA V) s) k).2 ∧ ∃ D, D < k ∧ y = nI D ∧ mv V (allA V) s l D = true ∧ (gmN V (allA V) s D).1 = false ∧ 1 + (gmN V (allA V) s D).2 = (gFo (mv V (allA V)) s l (gmN V (allA V) s) k).2 ∧
      ∀ j, j < D → mv V (allA V) s l j = true → (gmN V (allA V) s j).1 = false → 1 + (gmN V (allA V) s j).2 ≠ (gFo (mv V (allA V)) s l (gmN V (allA V) s) k).2))
theorem iT_no {V : VV} {s l : Nat} {W : Bool} {k : Nat} {x y : Int32} (h : iT V s l W k x y) (e : W = true ∨ mv V (allA V) s l k = false) (hf : mv V (allA V) s l k = true → (gmN V (allA V) s k).1 = true) : iT V s l W (k + 1) x y := by
  unfold iT at h ⊢
  rw [gFo_s]
  by_cases q : mv V (allA V) s l k = true
  · rw [if_pos q]
    unfold cmbG
    rw [if_pos (hf q)]
    have hW : W = true := e.resolve_right (by rw [q]; decide)
    refine ⟨fun z => by rw [hW] at z; exact absurd z (by decide), fun _ => ?_⟩
    by_cases q2 : (gFo (mv V (allA V)) s l (gmN V (allA V) s) k).1 = true
    · rw [if_pos q2]
      obtain ⟨h1, D, hD, h2⟩ := (h.2 hW).2 q2
      exact ⟨fun z => by rw [q2] at z; exact absurd z (by decide), fun _ => ⟨h1, D, by omega, h2⟩⟩
    · rw [if_neg q2]
      rw [Bool.not_eq_true] at q2
      exact ⟨fun _ => (h.2 hW).1 q2, fun z => by have z : false = true := z; exact absurd z (by decide)⟩
  · rw [if_neg q]
    refine ⟨h.1, fun hW => ⟨(h.2 hW).1, fun z => ?_⟩⟩
    obtain ⟨h1, D, hD, h2⟩ := (h.2 hW).2 z
    exact ⟨h1, D, by omega, h2⟩
theorem trnM_2 {V : VV} {s l : Nat} {F G H : Nat → Int32} {P : St → Prop} (hw : WV V) (hok : okS (vn V) s l) (hA : ∀ d, d < vn V → s.testBit d = false → pGM V F G H (s ||| 2 ^ d) d)
    (h : ∀ σ' y, TG σ' V (upd F (11 * s + l) (j01 (gmV V (allA V) s l).1)) (upd G (11 * s + l) (nI (gmV V (allA V) s l).2)) (upd H (11 * s + l) y) → ((gmV V (allA V) s l).1 = true → y = nI (gmD V (allA V) s l)) → P σ') :
    ∀ m k : Nat, k + m = vn V → ∀ σ x y, TG σ V (upd F (11 * s + l) (j01 (gmV V (allA V) s l).1)) (upd G (11 * s + l) x) (upd H (11 * s + l) y) → iT V s l (gmV V (allA V) s l).1 k x y → wm_findTurn_l85 P (m + 1) (nI s) (lI l) (nI (11 * s + l)) (nI k) σ := by
  have hn := hw.n
  have hb := okS_le hn hok
  have hp := pow_le_1024 hn
  have hfix := gmV_fix hn (A := allA V) hok
  intro m
  induction m with
  | zero =>
    intro k hk σ x y hT hi
    have e : k = vn V := by omega
    subst e
    rw [wm_findTurn_l85_s, show mI_dishes σ = _ from hT.1.n, if_pos (Int32.le_refl _)]
    unfold iT at hi
    rw [← hfix] at hi
    cases q : (gmV V (allA V) s l).1 with
    | false =>
      have hx := hi.1 q
      rw [hx] at hT
      exact h σ y hT fun z => by rw [q] at z; exact absurd z (by decide)
    | true =>
      obtain ⟨hx, D, hD, hy, h1, h2, h3, h4⟩ := (hi.2 q).2 q
      rw [hx] at hT
      refine h σ y hT fun _ => ?_
      obtain ⟨g1, g2, g3, g4, g5⟩ := gmD_spec hn hok q
      have : D = gmD V (allA V) s l := by
        rcases Nat.lt_trichotomy D (gmD V (allA V) s l) with z | z | z
        · exact absurd h3 (g5 D z h1 h2)
        · exact z
        · exact absurd g4 (h4 _ z g2 g3)
      rw [hy, this]
  | succ m ih =>
    intro k hk σ x y hT hi
    have ih1 := ih (k + 1) (by omega)
    have hor := or2_lt hok.1 (show k < vn V by omega)
    rw [wm_findTurn_l85_s, show mI_dishes σ = _ from hT.1.n, if_neg (nI_ge (by omega) (by omega))]
    refine om_may hT.1 hok (by omega) ?_
    have stay : ((gmV V (allA V) s l).1 = true ∨ mv V (allA V) s l k = false) → (mv V (allA V) s l k = true → (gmN V (allA V) s k).1 = true) → wm_findTurn_j234 P (wm_findTurn_l85 P (m + 1)) (nI s) (lI l) (nI (11 * s + l)) (nI k) σ := fun e hf => by
      unfold wm_findTurn_j234
      rw [nI_1]
      exact ih1 σ x y hT (iT_no hi e hf)
    cases q : mv V (allA V) s l k with
    | false => rw [jf0]; exact stay (Or.inr q) (fun z => by rw [q] at z; exact absurd z (by decide))
    | true =>
      rw [jt0]
      obtain ⟨t1, t2, _⟩ := hA k (by omega) (mv_new q)
      have hgt := or2_gt (mv_new q)
      have b1 := gmN_bd hn (allA V) hok (show k < vn V by omega)
      have b2 := gFo_bd2 hn (allA V) (k := k) hok (by omega)
      have hf0 : gmV V (allA V) (s ||| 2 ^ k) k = gmN V (allA V) s k := rfl
      rw [hf0] at t1 t2
      rw [nI_shl1 _ (by omega), nI_or]
      refine ⟨s ||| 2 ^ k, k, rfl, (lI_l (by omega)).symm, by omega, by omega, vp_in_nI (by omega) (by omega), ?_⟩
      have a40 : ∀ v : Int32, mA_shames σ (11 * s + l) = j01 (gmV V (allA V) s l).1 := fun _ => by rw [show mA_shames σ = _ from hT.2.1, upd_s]
      have a40 := a40 0
      have a40n : mA_shames σ (11 * (s ||| 2 ^ k) + k) = j01 (gmN V (allA V) s k).1 := by rw [show mA_shames σ = _ from hT.2.1, upd_n (by omega), t1]
      have a41 : mA_moreThen σ (11 * s + l) = x := by rw [show mA_moreThen σ = _ from hT.2.2.1, upd_s]
      have a41n : mA_moreThen σ (11 * (s ||| 2 ^ k) + k) = nI (gmN V (allA V) s k).2 := by rw [show mA_moreThen σ = _ from hT.2.2.1, upd_n (by omega), t2]
      have a42 : mA_firstThen σ (11 * s + l) = y := by rw [show mA_firstThen σ = _ from hT.2.2.2, upd_s]
      have v3 : vp_in (nI (11 * s + l)) 11264 := vp_in_nI (by omega) (by omega)
      have vn3 : vp_in (nI (11 * (s ||| 2 ^ k) + k)) 11264 := vp_in_nI (by omega) (by omega)
      -- take this one
      have take : iT V s l (gmV V (allA V) s l).1 (k + 1) (nI ((gmN V (allA V) s k).2 + 1)) (nI k) → wm_findTurn_j208 P (wm_findTurn_l85 P (m + 1)) (nI s) (lI l) (nI (11 * s + l)) (nI k) (nI ((gmN V (allA V) s k).2 + 1)) 1 σ := fun hi' => by
        unfold wm_findTurn_j208 wm_findTurn_j234
        rw [if_neg (by decide), nI_1]
        refine ⟨v3, v3, ih1 _ _ _ ?_ hi'⟩
        have h9 := (hT.w41 (p := 11 * s + l) (by omega) (nI ((gmN V (allA V) s k).2 + 1))).w42 (p := 11 * s + l) (by omega) (nI k)
        rw [upd_tw, upd_tw] at h9
        exact h9
      have keep : iT V s l (gmV V (allA V) s l).1 (k + 1) x y → wm_findTurn_j208 P (wm_findTurn_l85 P (m + 1)) (nI s) (lI l) (nI (11 * s + l)) (nI k) (nI ((gmN V (allA V) s k).2 + 1)) 0 σ := fun hi' => by
        unfold wm_findTurn_j208 wm_findTurn_j234
        rw [if_pos rfl, nI_1]
        exact ih1 σ x y hT hi'
      unfold wm_findTurn_j143 wm_findTurn_j184
      rw [cl (by omega), cl (by omega), a40, a40n, a41, a41n, a42, nI_1]
      have hstep := gFo_s (mv V (allA V)) s l (gmN V (allA V) s) k
      rw [if_pos q] at hstep
      cases qW : (gmV V (allA V) s l).1 with
      | false =>
        rw [jf0, jf0]
        rw [qW] at take keep hi
        have hx := hi.1 rfl
        have hf : (gmN V (allA V) s k).1 = true := by
          have h2 := qW
          rw [hfix, gFo_f] at h2
          cases z : (gmN V (allA V) s k).1 with
          | true => rfl
          | false => exact (anB_no h2 (show k < vn V by omega) (by rw [q, z]; rfl)).elim
        have ha : (gFo (mv V (allA V)) s l (gmN V (allA V) s) k).1 = false := by
          have h2 := qW
          rw [hfix, gFo_f] at h2
          rw [gFo_f]
          refine Bool.eq_false_iff.mpr fun z => ?_
          obtain ⟨j, hj, hjp⟩ := anB_iff.mp z
          exact anB_no h2 (show j < vn V by omega) hjp
        have e2 : (gFo (mv V (allA V)) s l (gmN V (allA V) s) (k + 1)).2 = max (gFo (mv V (allA V)) s l (gmN V (allA V) s) k).2 (1 + (gmN V (allA V) s k).2) := by
          rw [hstep]; unfold cmbG; rw [if_pos hf, if_neg (by rw [ha]; decide)]
        refine ⟨vn3, v3, v3, ?_⟩
        rw [hx]
        simp only [nI_leI (show (gmN V (allA V) s k).2 + 1 < 2 ^ 31 by omega) (show (gFo (mv V (allA V)) s l (gmN V (allA V) s) k).2 < 2 ^ 31 by omega)]
        by_cases z : (gmN V (allA V) s k).2 + 1 ≤ (gFo (mv V (allA V)) s l (gmN V (allA V) s) k).2
        · rw [if_pos z]
          exact keep ⟨fun _ => by rw [hx, e2, Nat.max_eq_left (by omega)], fun y => absurd y (by decide)⟩
        · rw [if_neg z]
          exact take ⟨fun _ => by rw [e2, Nat.max_eq_right (by omega), Nat.add_comm], fun y => absurd y (by decide)⟩
      | true =>
        rw [jt0, jt0]
        rw [qW] at take keep hi
        refine ⟨vn3, ?_⟩
        cases qf : (gmN V (allA V) s k).1 with
        | true => rw [jt0]; exact stay (Or.inl qW) (fun _ => qf)
        | false =>
          rw [jf0]
          refine ⟨vn3, v3, v3, ?_⟩
          cases qa : (gFo (mv V (allA V)) s l (gmN V (allA V) s) k).1 with
          | false =>
            obtain ⟨hx, hy⟩ := (hi.2 rfl).1 qa
            rw [hy, if_pos rfl]
            have e2 : gFo (mv V (allA V)) s l (gmN V (allA V) s) (k + 1) = (true, 1 + (gmN V (allA V) s k).2) := by
              rw [hstep]; unfold cmbG; rw [if_neg (by rw [qf]; decide), if_neg (by rw [qa]; decide)]
            refine take ⟨fun y => absurd y (by decide), fun _ => ?_⟩
            rw [e2]
            refine ⟨fun y => (by have y : true = false := y; exact absurd y (by decide)), fun _ => ⟨by rw [Nat.add_comm], k, by omega, rfl, q, qf, rfl, fun j hj hm hf _ => ?_⟩⟩
            rw [gFo_f] at qa
            exact anB_no qa hj (by rw [hm, hf]; rfl)
          | true =>
            obtain ⟨hx, D, hD, hy, h1, h2, h3, h4⟩ := (hi.2 rfl).2 qa
            rw [hy, if_neg (fun z => absurd (congrArg Int32.toInt z) (by rw [nI_toInt (by omega), show (-1 : Int32).toInt = -1 from by decide]; omega)), hx]
            have e2 : gFo (mv V (allA V)) s l (gmN V (allA V) s) (k + 1) = (true, min (gFo (mv V (allA V)) s l (gmN V (allA V) s) k).2 (1 + (gmN V (allA V) s k).2)) := by
              rw [hstep]; unfold cmbG; rw [if_neg (by rw [qf]; decide), if_pos qa]
            obtain ⟨hmin, _⟩ := gFo_min k qa
            refine ⟨v3, ?_⟩
            simp only [nI_leI (show (gFo (mv V (allA V)) s l (gmN V (allA V) s) k).2 < 2 ^ 31 by omega) (show (gmN V (allA V) s k).2 + 1 < 2 ^ 31 by omega)]
            by_cases z : (gFo (mv V (allA V)) s l (gmN V (allA V) s) k).2 ≤ (gmN V (allA V) s k).2 + 1
            · rw [if_pos z]
              refine keep ⟨fun y => absurd y (by decide), fun _ => ?_⟩
              rw [e2, Nat.min_eq_left (by omega)]
              exact ⟨fun y => (by have y : true = false := y; exact absurd y (by decide)), fun _ => ⟨hx, D, by omega, hy, h1, h2, h3, h4⟩⟩
            · rw [if_neg z]
              refine take ⟨fun y => absurd y (by decide), fun _ => ?_⟩
              rw [e2, Nat.min_eq_right (by omega)]
              exact ⟨fun y => (by have y : true = false := y; exact absurd y (by decide)), fun _ => ⟨by rw [Nat.add_comm], k, by omega, rfl, q, qf, rfl, fun j hj hm hf he => by have := hmin j hj hm hf; omega⟩⟩
theorem om_findTurn {V : VV} {s l : Nat} {F G H : Nat → Int32} {P : St → Prop} {σ : St} (hT : TG σ V F G H) (hok : okS (vn V) s l) (hA : ∀ d, d < vn V → s.testBit d = false → pGM V F G H (s ||| 2 ^ d) d)
    (h : ∀ σ' y, TG σ' V (upd F (11 * s + l) (j01 (gmV V (allA V) s l).1)) (upd G (11 * s + l) (nI (gmV V (allA V) s l).2)) (upd H (11 * s + l) y) → ((gmV V (allA V) s l).1 = true → y = nI (gmD V (allA V) s l)) → P σ') : wm_findTurn σ (nI s) (lI l) P := by
  have hw := hT.1.2
  have hb := okS_le hw.n hok
  have hp := pow_le_1024 hw.n
  refine ⟨s, l, rfl, rfl, by omega, by omega, vp_in_nI (by omega) (by omega), vn V + 1, ?_⟩
  refine trnM_1 hw hok hA (fun σ1 h1 => ⟨vn V + 1, ?_⟩) (vn V) 0 (by omega) _ (by rw [nar_0]; exact hT.w40 (by omega) 0)
  exact trnM_2 hw hok hA h (vn V) 0 (by omega) σ1 0 (-1) h1 ⟨fun _ => rfl, fun _ => ⟨fun _ => ⟨rfl, rfl⟩, fun z => by have z : false = true := z; exact absurd z (by decide)⟩⟩
theorem fgaM_l {V : VV} {s : Nat} {P : St → Prop} {K : Int32 → St → Prop} (hw : WV V) (hs : s < 2 ^ vn V)
    (h : ∀ σ' F G H, TG σ' V F G H → At (vn V) s (vn V + 1) (pGM V F G H) → K (nI s + (-1)) σ') :
    ∀ m j : Nat, j + m = vn V + 1 → ∀ σ F G H, TG σ V F G H → At (vn V) s j (pGM V F G H) → wm_findGame_l11 P K (m + 1) (nI s) (nI j - 1) σ := by
  have hn := hw.n
  have hp := pow_le_1024 hn
  intro m
  induction m with
  | zero =>
    intro j hj σ F G H hT hD
    rw [wm_findGame_l11_s, show mI_dishes σ = _ from hT.1.n, if_pos ((nIm_lt (by omega) (by omega)).mpr (by omega))]
    rw [show j = vn V + 1 by omega] at hD
    exact h σ F G H hT hD
  | succ m ih =>
    intro j hj σ F G H hT hD
    rw [wm_findGame_l11_s, show mI_dishes σ = _ from hT.1.n, if_neg (fun z => by have := (nIm_lt (by omega) (by omega)).mp z; omega)]
    have hl := lOf_n (j := j) hn (by omega)
    refine ⟨s, lOf j, rfl, (lOf_lI (by omega)).symm, by omega, by omega, ?_⟩
    dsimp only
    unfold wm_findGame_j33
    rw [nIm_s]
    cases q : stateB s (lOf j) with
    | false => rw [jf0]; exact ih (j + 1) (by omega) σ F G H hT (hD.skip hn (by omega) hs q)
    | true =>
      rw [jt0]
      have hok := (okS_B hn hs hl).mp q
      rw [← lOf_lI (by omega)]
      refine om_findTurn hT hok (fun d hd hb => hD.nx hok hd hb) fun σ' y hT' hy => ih (j + 1) (by omega) σ' _ _ _ hT' (hD.step hn (fun s' l' hok' hne hp' => ?_) fun _ => ?_)
      · have hb' := okS_le hn hok'
        have hb := okS_le hn hok
        have hne' : 11 * s' + l' ≠ 11 * s + lOf j := fun z => hne ⟨by omega, by omega⟩
        unfold pGM
        rw [upd_n hne', upd_n hne', upd_n hne']
        exact hp'
      · unfold pGM
        rw [upd_s, upd_s, upd_s]
        exact ⟨rfl, rfl, hy⟩
theorem fgaM_s {V : VV} {P : St → Prop} (hw : WV V) (h : ∀ σ' F G H, TG σ' V F G H → (∀ s l, okS (vn V) s l → pGM V F G H s l) → P σ') :
    ∀ m : Nat, m ≤ 2 ^ vn V → ∀ σ F G H, TG σ V F G H → (0 < m → At (vn V) (m - 1) 0 (pGM V F G H)) → (m = 0 → ∀ s l, okS (vn V) s l → pGM V F G H s l) → wm_findGame_l5 P (m + 1) (nI m - 1) σ := by
  have hn := hw.n
  have hp := pow_le_1024 hn
  intro m
  induction m with
  | zero =>
    intro hm σ F G H hT _ hF
    rw [wm_findGame_l5_s, if_pos (by decide)]
    exact h σ F G H hT (hF rfl)
  | succ m ih =>
    intro hm σ F G H hT hD _
    rw [wm_findGame_l5_s, nI_pred, if_neg (nI_lt0 (by omega))]
    refine ⟨vn V + 2, fgaM_l (K := wm_findGame_l5 P (m + 1)) hw (show m < 2 ^ vn V by omega) (fun σ' F' G' H' hT' hD' => ?_) (vn V + 1) 0 (by omega) σ F G H hT (hD (by omega))⟩
    rw [show nI m + (-1) = nI m - 1 from (Int32.sub_eq_add_neg _ _).symm]
    refine ih (by omega) σ' F' G' H' hT' (fun hpos => ?_) (fun h0 => ?_)
    · rw [show m = m - 1 + 1 by omega] at hD'
      exact hD'.next hn
    · rw [h0] at hD'; exact hD'.fix hn
theorem om_game {σ : St} {V : VV} {P : Int32 → St → Prop} (hI : IM σ V) (h : ∀ σ', IM σ' (S_game V) → P (R_game V) σ') : wm_game σ P := by
  have hI := hI.th 0
  have hw := hI.2
  have hn := hw.n
  have hok := start_ok hw
  have hb := okS_le hn hok
  have h1 := Nat.one_le_two_pow (n := vn V)
  unfold R_game S_game at h
  refine ⟨V, hI, 2 ^ vn V + 1, ?_⟩
  have h9 := fgaM_s (P := fun σ6 => sm_servedSet σ6 (fun r10 σ10 => sm_servedLast σ10 (fun r14 σ14 => sm_place r10 r14 (fun r17 => vp_in r17 11264 ∧ (if (mA_shames (mS_rowMany σ14 (0)) (r17).toNatClampNeg) = 0 then (wm_game_j46 P r17 (-1) (mS_rowMany σ14 (0))) else (vp_in r17 11264 ∧ (wm_game_j46 P r17 (mA_firstThen (mS_rowMany σ14 (0)) (r17).toNatClampNeg) (mS_rowMany σ14 (0)))))))) ) hw (fun σ2 F G H hT hA => ?_) (2 ^ vn V) (Nat.le_refl _) (mS_thrown σ 0) _ _ _ ⟨hI, rfl, rfl, rfl⟩ (fun _ => At.start _ _) (fun z => by omega)
  · rw [nI_lit1, pk_sub h1] at h9
    exact h9
  · obtain ⟨t1, t2, t3⟩ := hA _ _ hok
    have hr := hT.1.row0
    refine ⟨V, hT.1, V, hT.1, s0V V, l0V V, rfl, rfl, by omega, by omega, vp_in_nI (by omega) (by omega), ?_⟩
    rw [cl (by omega), show mA_shames (mS_rowMany σ2 0) = F from hT.2.1, show mA_firstThen (mS_rowMany σ2 0) = H from hT.2.2.2, t1]
    have fin : ∀ v : Int32, v = (if (gmV V (allA V) (s0V V) (l0V V)).1 = true then nI (gmD V (allA V) (s0V V) (l0V V)) else -1) → wm_game_j46 P (nI (11 * s0V V + l0V V)) v (mS_rowMany σ2 0) := fun v hv => by
      refine ⟨_, hr, by show 0 < 12; omega, fun σ3 h3 k3 _ => ⟨vp_in_nI (by omega) (by omega), _, h3, by show 0 + 1 < 12; omega, fun σ4 h4 k4 _ => ⟨vp_in_nI (by omega) (by omega), ?_⟩⟩⟩
      have a41 : mA_moreThen σ3 = G := (k3.2.1 41 (by decide)).trans hT.2.2.1
      have a40 : mA_shames σ4 = F := ((k4.2.1 40 (by decide)).trans (k3.2.1 40 (by decide))).trans hT.2.1
      rw [cl (by omega), a41, t2] at h4
      rw [hv] at h4
      rw [cl (by omega), a40, t1]
      have h9 := h σ4 h4
      cases q : (gmV V (allA V) (s0V V) (l0V V)).1 with
      | false => rw [q] at h9; rw [jf0]; exact h9
      | true => rw [q] at h9; rw [jt0]; exact h9
    cases q : (gmV V (allA V) (s0V V) (l0V V)).1 with
    | false => rw [jf0]; exact fin _ (by rw [q, if_neg (by decide)])
    | true => rw [jt0]; exact ⟨vp_in_nI (by omega) (by omega), fin _ (by rw [q, if_pos rfl]; exact t3 q)⟩
