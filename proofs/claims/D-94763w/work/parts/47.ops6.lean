/-! falls -/
def lawF (a b c : Nat) : Nat → Nat := fun j => if j = 0 then a else if j = 1 then b else if j = 2 then c else 0
def okF (V : VV) (i : Nat) : Bool := decide (badK V (vme V i) = (vme V i).length)
def fallP (V : VV) (a b c : Nat) (i : Nat) : Bool := (wholeV V (nI i) && okF V i) && !(okF (vSLa V (lawF a b c)) i)
def R_falls (V : VV) (s t h : Int32) : Int32 := if (lawB 0 s && lawB 1 t && lawB 2 h) = true then nI (bitsOf (fallP V s.toNatClampNeg t.toNatClampNeg h.toNatClampNeg) 3) else -1
theorem vSLa_same {V : VV} {f : Nat → Nat} (h : f = vla V) : vSLa V f = V := by rw [h]; rfl
theorem IX.laC {σ : St} {V : VV} {f g : Nat → Nat} (h : IX σ (vSLa V f)) (e : ∀ j, j < 3 → f j = g j) : IX σ (vSLa V g) := by
  obtain ⟨⟨h1, h2, h3, h4, h5, h6⟩, w1, w2, w3, w4, w5, w6, w7, w8⟩ := h
  refine ⟨⟨h1, h2, h3, h4, fun s hs => by rw [show vla (vSLa V g) s = f s from (e s hs).symm]; exact h5 s hs, h6⟩, w1, w2, w3, w4, w5, w6, ?_, w8⟩
  have a := e 0 (by omega)
  have b := e 1 (by omega)
  have c := e 2 (by omega)
  unfold okLaw at w7 ⊢
  show 1 ≤ g 0 ∧ g 0 ≤ 8 ∧ 1 ≤ g 1 ∧ g 1 ≤ 9 ∧ g 2 ≤ 2
  rw [← a, ← b, ← c]
  exact w7
theorem okF_neg {V : VV} (h : WV V) (i : Nat) : 0 ≤ (if badK V (vme V i) < (vme V i).length then nI (badK V (vme V i)) else -2) ↔ ¬ okF V i = true := by
  have h1 := badK_le V (vme V i)
  have h2 := (h.me i).1
  unfold okF
  rw [decide_eq_true_eq]
  by_cases q : badK V (vme V i) = (vme V i).length
  · rw [if_neg (by omega)]; exact ⟨fun z => absurd z (by decide), fun z => absurd q z⟩
  · rw [if_pos (by omega)]; exact ⟨fun _ => q, fun _ => nI_ge0 (by omega)⟩
theorem fallsX1 {V : VV} {v1 v2 v3 : Int32} {P : Int32 → St → Prop} {K : Int32 → Int32 → Int32 → Int32 → Int32 → St → Prop} (hw : WV V)
    (h : ∀ σ', IX σ' V → K (nI (bitsOf (fun i => wholeV V (nI i) && okF V i) 3)) (nI (vla V 0)) (nI (vla V 1)) (nI (vla V 2)) 0 (xU_law (xU_law (xU_law σ' 0 v1) 1 v2) 2 v3)) :
    ∀ m i : Nat, i + m = 3 → ∀ σ, IX σ V → wx_falls_l32 P K (m + 1) v1 v2 v3 (nI (bitsOf (fun i => wholeV V (nI i) && okF V i) i)) (nI i) σ := by
  intro m
  induction m with
  | zero =>
    intro i hi σ hI
    rw [wx_falls_l32_s, show i = 3 by omega, if_pos (by decide)]
    have e0 : xA_law σ (0 : Int32).toNatClampNeg = nI (vla V 0) := hI.la (d := 0) (by omega)
    have e1 : xA_law σ (1 : Int32).toNatClampNeg = nI (vla V 1) := hI.la (d := 1) (by omega)
    have e2 : xA_law σ (2 : Int32).toNatClampNeg = nI (vla V 2) := hI.la (d := 2) (by omega)
    rw [e0, e1, e2]
    exact ⟨vp_lit rfl, vp_lit rfl, vp_lit rfl, vp_lit rfl, vp_lit rfl, vp_lit rfl, h σ hI⟩
  | succ m ih =>
    intro i hi σ hI
    have ih1 := ih (i + 1) (by omega)
    rw [bitsOf_s] at ih1
    rw [wx_falls_l32_s, show (3 : Int32) = nI 3 from rfl, if_neg (nI_ge (by omega) (by omega))]
    refine ⟨V, hI, ?_⟩
    dsimp only
    unfold wx_falls_j65 wx_falls_j66
    rw [nI_1, show nI (bitsOf (fun i => wholeV V (nI i) && okF V i) i) ||| (0 : Int32) = nI (bitsOf (fun i => wholeV V (nI i) && okF V i) i) from by rw [lit0', nI_or, Nat.or_zero], nI_shl1 _ (by omega), nI_or]
    cases q : wholeV V (nI i) with
    | false => rw [jf0]; rw [q, Bool.false_and, if_neg (by decide), Nat.or_zero] at ih1; exact ih1 σ hI
    | true =>
      rw [jt0]; rw [q, Bool.true_and] at ih1
      refine ox_firstBad' hI (by omega) fun σ' hI' e hf => ?_
      simp only [okF_neg hI.2 i]
      cases q2 : okF V i with
      | true => rw [q2, if_pos rfl] at ih1; rw [if_neg (by decide)]; exact ih1 σ' hI'
      | false => rw [q2, if_neg (by decide), Nat.or_zero] at ih1; rw [if_pos (by decide)]; exact ih1 σ' hI'
theorem and_compl {b i : Nat} (hb : b < 2 ^ 30) (hi : i < 30) : nI b &&& (nI (2 ^ i) ^^^ (-1)) = nI (if b.testBit i = true then b ^^^ 2 ^ i else b) := by
  apply nI_inj32
  rw [Int32.toBitVec_and, Int32.toBitVec_xor, nI_bv, nI_bv, nI_bv]
  apply BitVec.eq_of_getLsbD_eq
  intro j hj
  rw [BitVec.getLsbD_and, BitVec.getLsbD_xor, BitVec.getLsbD_ofNat, BitVec.getLsbD_ofNat, BitVec.getLsbD_ofNat, show (-1 : Int32).toBitVec = BitVec.allOnes 32 from by decide, BitVec.getLsbD_allOnes]
  simp only [hj, decide_true, Bool.true_and]
  by_cases q : b.testBit i = true
  · rw [if_pos q, Nat.testBit_xor]
    by_cases e : j = i
    · subst e; simp [q, Nat.testBit_two_pow_self]
    · rw [Nat.testBit_two_pow_of_ne (fun z => e z.symm)]; simp
  · rw [if_neg q]
    by_cases e : j = i
    · subst e; simp [q, Nat.testBit_two_pow_self]
    · rw [Nat.testBit_two_pow_of_ne (fun z => e z.symm)]; simp
theorem and_m1 (v : Int32) : v &&& (-1) = v := by
  apply nI_inj32
  rw [Int32.toBitVec_and, show (-1 : Int32).toBitVec = BitVec.allOnes 32 from by decide, BitVec.and_allOnes]
/-- bits of p, of which those below i are kept only if they are not q -/
def fallB (p q : Nat → Bool) (i : Nat) : Nat := bitsOf (fun j => p j && !(decide (j < i) && q j)) 3
theorem fallB_lt (p q : Nat → Bool) (i : Nat) : fallB p q i < 8 := bitsOf_lt _ 3
theorem fallB_tb (p q : Nat → Bool) (i j : Nat) : (fallB p q i).testBit j = (decide (j < 3) && (p j && !(decide (j < i) && q j))) := bitsOf_tb _ _ _
theorem fallB_s {p q : Nat → Bool} {i : Nat} (hi : i < 3) : fallB p q (i + 1) = if (fallB p q i).testBit i = true then (if q i = true then fallB p q i ^^^ 2 ^ i else fallB p q i) else fallB p q i := by
  apply tb_ext
  intro j
  have key : (fallB p q (i + 1)).testBit j = (decide (j < 3) && (p j && !(decide (j < i + 1) && q j))) := fallB_tb _ _ _ _
  have e0 : (fallB p q i).testBit i = p i := by rw [fallB_tb]; simp [hi]
  rw [key, e0]
  by_cases e : j = i
  · subst e
    cases hp : p j <;> cases hq : q j <;> simp [fallB_tb, Nat.testBit_xor, Nat.testBit_two_pow_self, hp, hq, hi]
  · have e1 : decide (j < i + 1) = decide (j < i) := decide_eq_decide.mpr (by omega)
    rw [e1]
    cases hp : p i <;> cases hq : q i <;> simp [fallB_tb, Nat.testBit_xor, Nat.testBit_two_pow_of_ne (fun z => e z.symm : ¬ i = j)]
theorem fallB_0 (p q : Nat → Bool) : fallB p q 0 = bitsOf p 3 := by
  apply tb_ext
  intro j
  rw [fallB_tb, bitsOf_tb]
  simp
theorem fallB_3 (p q : Nat → Bool) : fallB p q 3 = bitsOf (fun j => p j && !(q j)) 3 := by
  apply tb_ext
  intro j
  rw [fallB_tb, bitsOf_tb]
  by_cases h : j < 3
  · simp [h]
  · simp [h]
theorem fallsX2 {V : VV} {p : Nat → Bool} {w0 w1 w2 : Int32} {P : Int32 → St → Prop} (hw : WV V) (h : ∀ σ', IX σ' V → P (nI (bitsOf (fun j => p j && !(okF V j)) 3)) (xU_law (xU_law (xU_law σ' 0 w0) 1 w1) 2 w2)) :
    ∀ m i : Nat, i + m = 3 → ∀ σ, IX σ V → wx_falls_l123 P (m + 1) (nI (fallB p (okF V) i)) w0 w1 w2 (nI i) σ := by
  intro m
  induction m with
  | zero =>
    intro i hi σ hI
    rw [wx_falls_l123_s, show i = 3 by omega, if_pos (by decide), fallB_3]
    exact ⟨vp_lit rfl, vp_lit rfl, vp_lit rfl, h σ hI⟩
  | succ m ih =>
    intro i hi σ hI
    have ih1 := ih (i + 1) (by omega)
    rw [fallB_s (by omega)] at ih1
    have hb := fallB_lt p (okF V) i
    rw [wx_falls_l123_s, show (3 : Int32) = nI 3 from rfl, if_neg (nI_ge (by omega) (by omega))]
    unfold sx_has wx_falls_j159 wx_falls_j160
    rw [hasB_nI (by omega) (by omega), and_m1, nI_1]
    cases q : (fallB p (okF V) i).testBit i with
    | false => rw [jf0]; rw [q, if_neg (by decide)] at ih1; exact ih1 σ hI
    | true =>
      rw [jt0]; rw [q, if_pos rfl] at ih1
      refine ox_firstBad' hI (by omega) fun σ' hI' e hf => ?_
      simp only [okF_neg hI.2 i]
      by_cases q3 : okF V i = true
      · rw [if_pos q3] at ih1
        rw [if_neg (fun z => z q3), nI_shl1 _ (by omega), and_compl (by omega) (by omega), if_pos q]
        exact ih1 σ' hI'
      · rw [if_neg q3] at ih1
        rw [if_pos q3]
        exact ih1 σ' hI'
theorem IX.law3 {σ : St} {V : VV} (h : IX σ V) {a b c : Nat} (hl : okLaw (lawF a b c)) : IX (xU_law (xU_law (xU_law σ 0 (nI a)) 1 (nI b)) 2 (nI c)) (vSLa V (lawF a b c)) := by
  obtain ⟨⟨a1, a2, a3, a4, a5, a6⟩, h2, h3, h4, h5, h6, h7, h8, h9, h10, h11⟩ := h.1
  refine ⟨⟨⟨a1, a2, a3, a4, a5, a6⟩, h2, h3, h4, ?_, h6, h7, h8, h9, fun i hi => keptX.kp rfl rfl (h10 i hi), ruleX.kp rfl rfl h11⟩, h.2.la' hl⟩
  intro k hk
  show upd (upd (upd (gA σ 6) 0 (nI a)) 1 (nI b)) 2 (nI c) k = nI (lawF a b c k)
  rcases (by omega : k = 0 ∨ k = 1 ∨ k = 2) with rfl | rfl | rfl
  · rw [upd_n (by omega), upd_n (by omega), upd_s]; rfl
  · rw [upd_n (by omega), upd_s]; rfl
  · rw [upd_s]; rfl
theorem lawB0 {a : Nat} (ha : a < 2 ^ 31) : lawB 0 (nI a) = decide (1 ≤ a ∧ a ≤ 8) := by
  unfold lawB; rw [if_pos rfl, nI_toInt ha, Bool.eq_iff_iff]; simp only [Bool.and_eq_true, decide_eq_true_eq]; omega
theorem lawB_in {w : Nat} {v : Int32} (h : lawB (nI w) v = true) (hw : w < 3) : ∃ x, v = nI x ∧ x ≤ 9 ∧ (w = 0 → 1 ≤ x ∧ x ≤ 8) ∧ (w = 1 → 1 ≤ x) ∧ (w = 2 → x ≤ 2) := by
  obtain ⟨k, x, hk, e, ev, hx, h0, h1, h2⟩ := lawB_of h
  have : w = k := (nI_eq (by omega) (by omega)).mp e
  subst this
  exact ⟨x, ev, hx, h0, h1, h2⟩
theorem okLawF {a b c : Nat} (h0 : 1 ≤ a ∧ a ≤ 8) (h1 : 1 ≤ b) (hb : b ≤ 9) (h2 : c ≤ 2) : okLaw (lawF a b c) := ⟨h0.1, h0.2, h1, hb, h2⟩
theorem lawF_self (V : VV) : ∀ j, j < 3 → lawF (vla V 0) (vla V 1) (vla V 2) j = vla V j := by
  intro j hj
  rcases (by omega : j = 0 ∨ j = 1 ∨ j = 2) with rfl | rfl | rfl <;> rfl
theorem ox_falls {σ : St} {V : VV} {P : Int32 → St → Prop} (hI : IX σ V) (s t u : Int32) (h : ∀ σ', IX σ' V → P (R_falls V s t u) σ') : wx_falls σ s t u P := by
  unfold wx_falls sx_isLaw
  dsimp only
  unfold R_falls at h
  cases q0 : lawB 0 s with
  | false => rw [jf0]; rw [q0, Bool.false_and, Bool.false_and, if_neg (by decide)] at h; exact h σ hI
  | true =>
    rw [jt0]
    cases q1 : lawB 1 t with
    | false => rw [jf0]; rw [q1, Bool.and_false, Bool.false_and, if_neg (by decide)] at h; exact h σ hI
    | true =>
      rw [jt0]
      cases q2 : lawB 2 u with
      | false => rw [jf0]; rw [q2, Bool.and_false, if_neg (by decide)] at h; exact h σ hI
      | true =>
        rw [jt0]; rw [q0, q1, q2, if_pos (by decide)] at h
        obtain ⟨a, rfl, ha, ha0, _, _⟩ := lawB_in (w := 0) q0 (by omega)
        obtain ⟨b, rfl, hb, _, hb1, _⟩ := lawB_in (w := 1) q1 (by omega)
        obtain ⟨c, rfl, hc, _, _, hc2⟩ := lawB_in (w := 2) q2 (by omega)
        rw [cl (by omega), cl (by omega), cl (by omega)] at h
        refine ⟨_, fallsX1 hI.2 (fun σ' hI' => ?_) 3 0 (by omega) σ hI⟩
        have hI2 := hI'.law3 (okLawF (ha0 rfl) (hb1 rfl) hb (hc2 rfl))
        have h9 := fallsX2 (V := vSLa V (lawF a b c)) (p := fun i => wholeV V (nI i) && okF V i) (w0 := nI (vla V 0)) (w1 := nI (vla V 1)) (w2 := nI (vla V 2)) (P := P) hI2.2 (fun σ'' hI'' => ?_) 3 0 (by omega) _ hI2
        · rw [fallB_0] at h9; exact ⟨_, h9⟩
        · have h8 := hI''.law3 (a := vla V 0) (b := vla V 1) (c := vla V 2) (okLawF ⟨hI.2.la.1, hI.2.la.2.1⟩ hI.2.la.2.2.1 hI.2.la.2.2.2.1 hI.2.la.2.2.2.2)
          have h7 : IX _ (vSLa V (vla V)) := IX.laC (V := V) (f := lawF (vla V 0) (vla V 1) (vla V 2)) h8 (lawF_self V)
          exact h _ h7
theorem om_isLawful {σ : St} {V : VV} {i : Nat} {P : Int32 → St → Prop} (hI : IM σ V) (hi : i < 3) (hl : 0 < (vme V i).length) (h : ∀ σ', IM σ' V → P (j01 (okF V i)) σ') : wm_isLawful σ (nI i) P := by
  have hm := (hI.2.me i).1
  unfold wm_isLawful
  refine om_look0 hI fun σ1 hI1 hL h0 => ?_
  refine om_lookOn hI1 hi (pre := []) (l := vme V i) rfl (fun d hd => by cases hd) (by show 0 ≤ 10; omega) (fun j hj => absurd hj (by show ¬ j < 0; omega)) (hL _) h0 (fun k hpk hk hf hw σ' hI' hL' e => ?_) (fun hf σ' hI' hL' e => ?_)
  · refine ⟨vp_in_nI hi (by omega), ?_⟩
    rw [cl (by omega), show mA_menuLong σ' i = _ from hI'.ml hi, if_neg (fun z => by have := (nI_eq (by show k - 0 < 2 ^ 31; omega) (by omega)).mp z; have e0 : ([] : List Nat).length = 0 := rfl; omega)]
    have q : okF V i = false := decide_eq_false (by rw [badK_at hk hf hw]; omega)
    rw [q] at h
    exact ⟨rfl, h σ' hI'⟩
  · refine ⟨vp_in_nI hi (by omega), ?_⟩
    rw [cl (by omega), show mA_menuLong σ' i = _ from hI'.ml hi, if_pos rfl]
    have q : okF V i = true := decide_eq_true (badK_all hf)
    rw [q] at h
    exact ⟨rfl, h σ' hI'⟩
theorem fallsM1 {V : VV} {v1 v2 v3 : Int32} {P : Int32 → St → Prop} {K : Int32 → Int32 → Int32 → Int32 → Int32 → St → Prop} (hw : WV V)
    (h : ∀ σ', IM σ' V → K (nI (bitsOf (fun i => wholeV V (nI i) && okF V i) 3)) (nI (vla V 0)) (nI (vla V 1)) (nI (vla V 2)) 0 (mS_heat (mS_times (mS_share σ' v1) v2) v3)) :
    ∀ m i : Nat, i + m = 3 → ∀ σ, IM σ V → wm_falls_l37 P K (m + 1) v1 v2 v3 (nI (bitsOf (fun i => wholeV V (nI i) && okF V i) i)) (nI i) σ := by
  intro m
  induction m with
  | zero =>
    intro i hi σ hI
    rw [wm_falls_l37_s, show i = 3 by omega, if_pos (by decide), show mI_share σ = _ from hI.l0, show mI_times σ = _ from hI.l1, show mI_heat σ = _ from hI.l2]
    exact h σ hI
  | succ m ih =>
    intro i hi σ hI
    have ih1 := ih (i + 1) (by omega)
    rw [bitsOf_s] at ih1
    rw [wm_falls_l37_s, show (3 : Int32) = nI 3 from rfl, if_neg (nI_ge (by omega) (by omega))]
    refine ⟨V, hI, ?_⟩
    dsimp only
    unfold wm_falls_j70 wm_falls_j71
    rw [nI_1, show nI (bitsOf (fun i => wholeV V (nI i) && okF V i) i) ||| (0 : Int32) = nI (bitsOf (fun i => wholeV V (nI i) && okF V i) i) from by rw [lit0', nI_or, Nat.or_zero], nI_shl1 _ (by omega), nI_or]
    cases q : wholeV V (nI i) with
    | false => rw [jf0]; rw [q, Bool.false_and, if_neg (by decide), Nat.or_zero] at ih1; exact ih1 σ hI
    | true =>
      rw [jt0]; rw [q, Bool.true_and] at ih1
      obtain ⟨i', hi', e, hl, _⟩ := wholeV_of q
      have : i = i' := (nI_eq (by omega) (by omega)).mp e
      subst this
      refine om_isLawful hI (by omega) hl fun σ' hI' => ?_
      cases q2 : okF V i with
      | true => rw [q2, if_pos rfl] at ih1; rw [jt0]; exact ih1 σ' hI'
      | false => rw [q2, if_neg (by decide), Nat.or_zero] at ih1; rw [jf0]; exact ih1 σ' hI'
theorem fallsM2 {V : VV} {p : Nat → Bool} {w0 w1 w2 : Int32} {P : Int32 → St → Prop} (hw : WV V) (hp : ∀ i, i < 3 → p i = true → 0 < (vme V i).length) (h : ∀ σ', IM σ' V → P (nI (bitsOf (fun j => p j && !(okF V j)) 3)) (mS_heat (mS_times (mS_share σ' w0) w1) w2)) :
    ∀ m i : Nat, i + m = 3 → ∀ σ, IM σ V → wm_falls_l116 P (m + 1) (nI (fallB p (okF V) i)) w0 w1 w2 (nI i) σ := by
  intro m
  induction m with
  | zero =>
    intro i hi σ hI
    rw [wm_falls_l116_s, show i = 3 by omega, if_pos (by decide), fallB_3]
    exact h σ hI
  | succ m ih =>
    intro i hi σ hI
    have ih1 := ih (i + 1) (by omega)
    rw [fallB_s (by omega)] at ih1
    have hb := fallB_lt p (okF V) i
    rw [wm_falls_l116_s, show (3 : Int32) = nI 3 from rfl, if_neg (nI_ge (by omega) (by omega))]
    unfold sm_has wm_falls_j152
    rw [hasB_nI (by omega) (by omega), nI_1]
    cases q : (fallB p (okF V) i).testBit i with
    | false => rw [jf0]; rw [q, if_neg (by decide)] at ih1; exact ih1 σ hI
    | true =>
      rw [jt0]; rw [q, if_pos rfl] at ih1
      have hpi : p i = true := by rw [fallB_tb] at q; simp at q; exact q.2
      refine om_isLawful hI (by omega) (hp i (by omega) hpi) fun σ' hI' => ?_
      cases q3 : okF V i with
      | true =>
        rw [if_pos q3] at ih1
        rw [jt0, nI_shl1 _ (by omega), and_compl (by omega) (by omega), if_pos q]
        exact ih1 σ' hI'
      | false =>
        rw [if_neg (by rw [q3]; decide)] at ih1
        rw [jf0]
        exact ih1 σ' hI'
theorem IM.law3 {σ : St} {V : VV} (h : IM σ V) {a b c : Nat} (hl : okLaw (lawF a b c)) : IM (mS_heat (mS_times (mS_share σ (nI a)) (nI b)) (nI c)) (vSLa V (lawF a b c)) := by
  obtain ⟨⟨a1, a2, a3, a4, a5, a6, a7, a8⟩, h2, h3, h4, h5, h6, h7, h8, h9, h10, h11⟩ := h.1
  exact ⟨⟨⟨a1, a2, rfl, rfl, rfl, a6, a7, a8⟩, h2, h3, h4, h5, h6, h7, h8, h9, fun i hi => keptM.kp rfl rfl rfl rfl (h10 i hi), ruleM.kp rfl rfl h11⟩, h.2.la' hl⟩
theorem IM.laC {σ : St} {V : VV} {f g : Nat → Nat} (h : IM σ (vSLa V f)) (e : ∀ j, j < 3 → f j = g j) : IM σ (vSLa V g) := by
  have a := e 0 (by omega)
  have b := e 1 (by omega)
  have c := e 2 (by omega)
  obtain ⟨⟨⟨a1, a2, a3, a4, a5, a6⟩, h2⟩, w1, w2, w3, w4, w5, w6, w7, w8⟩ := h
  refine ⟨⟨⟨a1, a2, ?_, ?_, ?_, a6⟩, h2⟩, w1, w2, w3, w4, w5, w6, ?_, w8⟩
  · show gI σ 9 = nI (g 0); rw [← a]; exact a3
  · show gI σ 10 = nI (g 1); rw [← b]; exact a4
  · show gI σ 11 = nI (g 2); rw [← c]; exact a5
  · unfold okLaw at w7 ⊢
    show 1 ≤ g 0 ∧ g 0 ≤ 8 ∧ 1 ≤ g 1 ∧ g 1 ≤ 9 ∧ g 2 ≤ 2
    rw [← a, ← b, ← c]
    exact w7
theorem om_falls {σ : St} {V : VV} {P : Int32 → St → Prop} (hI : IM σ V) (s t u : Int32) (h : ∀ σ', IM σ' V → P (R_falls V s t u) σ') : wm_falls σ s t u P := by
  have hI := hI.th 0
  unfold wm_falls sm_isLaw
  dsimp only
  unfold R_falls at h
  cases q0 : lawB 0 s with
  | false => rw [jf0]; rw [q0, Bool.false_and, Bool.false_and, if_neg (by decide)] at h; exact h _ hI
  | true =>
    rw [jt0]
    cases q1 : lawB 1 t with
    | false => rw [jf0]; rw [q1, Bool.and_false, Bool.false_and, if_neg (by decide)] at h; exact h _ hI
    | true =>
      rw [jt0]
      cases q2 : lawB 2 u with
      | false => rw [jf0]; rw [q2, Bool.and_false, if_neg (by decide)] at h; exact h _ hI
      | true =>
        rw [jt0]; rw [q0, q1, q2, if_pos (by decide)] at h
        obtain ⟨a, rfl, ha, ha0, _, _⟩ := lawB_in (w := 0) q0 (by omega)
        obtain ⟨b, rfl, hb, _, hb1, _⟩ := lawB_in (w := 1) q1 (by omega)
        obtain ⟨c, rfl, hc, _, _, hc2⟩ := lawB_in (w := 2) q2 (by omega)
        rw [cl (by omega), cl (by omega), cl (by omega)] at h
        refine ⟨_, fallsM1 hI.2 (fun σ' hI' => ?_) 3 0 (by omega) _ hI⟩
        have hI2 := hI'.law3 (okLawF (ha0 rfl) (hb1 rfl) hb (hc2 rfl))
        have h9 := fallsM2 (V := vSLa V (lawF a b c)) (p := fun i => wholeV V (nI i) && okF V i) (w0 := nI (vla V 0)) (w1 := nI (vla V 1)) (w2 := nI (vla V 2)) (P := P) hI2.2 (fun i hi hp => ?_) (fun σ'' hI'' => ?_) 3 0 (by omega) _ hI2
        · rw [fallB_0] at h9; exact ⟨_, h9⟩
        · obtain ⟨i', hi', e, hl, _⟩ := wholeV_of ((Bool.and_eq_true _ _ ▸ hp).1)
          have : i = i' := (nI_eq (by omega) (by omega)).mp e
          subst this
          exact hl
        · have h8 := hI''.law3 (a := vla V 0) (b := vla V 1) (c := vla V 2) (okLawF ⟨hI.2.la.1, hI.2.la.2.1⟩ hI.2.la.2.2.1 hI.2.la.2.2.2.1 hI.2.la.2.2.2.2)
          have h7 : IM _ (vSLa V (vla V)) := IM.laC (V := V) (f := lawF (vla V 0) (vla V 1) (vla V 2)) h8 (lawF_self V)
          exact h _ h7
