/-! scores of what is added; the purse; the component's best fair cheap dear -/
def addS (s s0 : Nat) : Nat := s ^^^ (s &&& s0)
theorem addS_nI (s s0 : Nat) : nI s &&& (nI s0 ^^^ (-1)) = nI (addS s s0) := by
  apply nI_inj32
  rw [Int32.toBitVec_and, Int32.toBitVec_xor, nI_bv, nI_bv, nI_bv]
  apply BitVec.eq_of_getLsbD_eq
  intro j hj
  rw [BitVec.getLsbD_and, BitVec.getLsbD_xor, BitVec.getLsbD_ofNat, BitVec.getLsbD_ofNat, BitVec.getLsbD_ofNat, show (-1 : Int32).toBitVec = BitVec.allOnes 32 from by decide, BitVec.getLsbD_allOnes]
  simp only [hj, decide_true, Bool.true_and]
  unfold addS
  rw [Nat.testBit_xor, Nat.testBit_and]
  cases s.testBit j <;> cases s0.testBit j <;> rfl
theorem addS_lt {s s0 n : Nat} (h : s < 2 ^ n) : addS s s0 < 2 ^ n := Nat.xor_lt_two_pow h (Nat.lt_of_le_of_lt Nat.and_le_left h)
def minI (f : Nat → Int32) : Nat → Int32
  | 0 => 1000000
  | k + 1 => jmin (minI f k) (f k)
theorem minI_s (f : Nat → Int32) (k : Nat) : minI f (k + 1) = jmin (minI f k) (f k) := rfl
def scV (V : VV) (what t : Nat) : Int32 := if what = 0 then sumI (fun g => joyInV V g t) (vg V) else if what = 1 then minI (fun g => joyInV V g t) (vg V) else if what = 2 then -(nI (costV V t)) else nI (costV V t)
theorem sumI_bd {f : Nat → Int32} {b : Nat} : ∀ n, (∀ k, k < n → -(b : Int) ≤ (f k).toInt ∧ (f k).toInt ≤ b) → n * b < 2 ^ 30 → -((n * b : Nat) : Int) ≤ (sumI f n).toInt ∧ (sumI f n).toInt ≤ ((n * b : Nat) : Int) := by
  intro n
  induction n with
  | zero => intro _ _; rw [show sumI f 0 = 0 from rfl, show (0 : Int32).toInt = 0 from by decide]; omega
  | succ n ih =>
    intro h hb
    rw [Nat.add_mul, Nat.one_mul] at hb ⊢
    obtain ⟨a1, a2⟩ := ih (fun k hk => h k (by omega)) (by omega)
    obtain ⟨b1, b2⟩ := h n (by omega)
    rw [sumI_s, Int32.toInt_add, Int.bmod_eq_of_le (by omega) (by omega)]
    omega
theorem joyV_bd {V : VV} (g d : Nat) : -((999 : Nat) : Int) ≤ (joyV V g d).toInt ∧ (joyV V g d).toInt ≤ ((999 : Nat) : Int) := by
  unfold joyV
  cases vru V with
  | none =>
    have := pc_le (vlo V g &&& vst V d)
    show -((999 : Nat) : Int) ≤ (nI (pc (vlo V g &&& vst V d))).toInt ∧ (nI (pc (vlo V g &&& vst V d))).toInt ≤ _
    rw [nI_toInt (by omega)]
    omega
  | some D =>
    show -((999 : Nat) : Int) ≤ (jmax (-999) (jmin 999 (D (letV V g d)))).toInt ∧ (jmax (-999) (jmin 999 (D (letV V g d)))).toInt ≤ _
    rw [jmax_i, jmin_i, show (-999 : Int32).toInt = -999 from by decide, show (999 : Int32).toInt = 999 from by decide]
    omega
theorem joyInV_bd {V : VV} (hn : vn V ≤ 10) (g s : Nat) : -((9990 : Nat) : Int) ≤ (joyInV V g s).toInt ∧ (joyInV V g s).toInt ≤ ((9990 : Nat) : Int) := by
  have h := sumI_bd (f := fun d => if s.testBit d = true then joyV V g d else 0) (b := 999) (vn V) (fun k _ => ?_) (by omega)
  · unfold joyInV; omega
  · show -((999 : Nat) : Int) ≤ (if s.testBit k = true then joyV V g k else 0).toInt ∧ (if s.testBit k = true then joyV V g k else 0).toInt ≤ _
    split
    · exact joyV_bd g k
    · rw [show (0 : Int32).toInt = 0 from by decide]; omega
theorem minI_bd {f : Nat → Int32} {b : Int} (hb : b ≤ 1000000) : ∀ n, (∀ k, k < n → b ≤ (f k).toInt) → b ≤ (minI f n).toInt := by
  intro n
  induction n with
  | zero => intro _; rw [show minI f 0 = 1000000 from rfl, show (1000000 : Int32).toInt = 1000000 from by decide]; omega
  | succ n ih =>
    intro h
    have h1 := ih fun k hk => h k (by omega)
    have h2 := h n (by omega)
    rw [minI_s, jmin_i]; omega
theorem neg_nI {c : Nat} (h : c ≤ 1000) : (-(nI c)).toInt = -(c : Int) := by
  rw [Int32.toInt_neg, nI_toInt (by omega), Int.bmod_eq_of_le (by omega) (by omega)]
theorem scV_gt {V : VV} (hw : WV V) (what t : Nat) : -1000000 < (scV V what t).toInt := by
  have hn := hw.n
  have hg := hw.g
  have hc := costV_le hw t
  unfold scV
  split
  · have := sumI_bd (f := fun g => joyInV V g t) (b := 9990) (vg V) (fun k _ => joyInV_bd hn k t) (by omega)
    omega
  · split
    · have := minI_bd (f := fun g => joyInV V g t) (b := -9990) (by omega) (vg V) (fun k _ => by have := joyInV_bd hn k t; omega)
      omega
    · split
      · rw [neg_nI (by omega)]; omega
      · rw [nI_toInt (by omega)]; omega
/-- what a set is worth to the component -/
def wV (V : VV) (what purse s : Nat) : Int32 := if costV V (addS s (s0V V)) ≤ purse then scV V what (addS s (s0V V)) else -1000000
def worD (σ : St) (V : VV) (what purse s : Nat) : Prop := ∀ j, j < s → gA σ 36 j = wV V what purse j
theorem wor_wr {σ : St} {V : VV} {what purse s : Nat} (h : worD σ V what purse s) (hs : s < 1024) {x : Int32} (hx : x = wV V what purse s) : worD (xU_worth σ (nI s) x) V what purse (s + 1) := by
  intro j hj
  unfold xU_worth uA
  rw [cl (by omega), gA_sAk]
  by_cases q : j = s
  · rw [q, upd_s, hx]
  · rw [upd_n q]; exact h j (by omega)
theorem wor_GX {σ : St} {V : VV} {A s : Nat} (hG : GX σ V A) (x : Int32) : GX (xU_worth σ (nI s) x) V A := hG.qA (by decide) _
theorem bstX_g {V : VV} {t purse : Nat} {x1 x3 : Int32} {P : Int32 → St → Prop} {K : Int32 → Int32 → Int32 → Int32 → Int32 → St → Prop} {σ : St} (hI : IX σ V) (ht : t < 2 ^ vn V) (hp : purse < 2 ^ 30)
    (h : K x1 (nI purse) x3 x3 (if costV V t ≤ purse then scV V 0 t else -1000000) σ) :
    ∀ m g : Nat, g + m = vg V → wx_best_l43 P K (m + 1) x1 (nI purse) x3 (nI t) (sumI (fun g => joyInV V g t) g) (nI g) σ := by
  have hg := hI.2.g
  have hc := costV_le hI.2 t
  intro m
  induction m with
  | zero =>
    intro g hk
    rw [wx_best_l43_s, show xI_guests σ = _ from hI.g, if_pos (by rw [show g = vg V by omega]; exact Int32.le_refl _), show g = vg V by omega]
    refine ⟨V, t, hI, rfl, ht, ?_⟩
    simp only [nI_ltI (show purse < 2 ^ 31 by omega) (show costV V t < 2 ^ 31 by omega)]
    by_cases q : costV V t ≤ purse
    · rw [if_neg (by omega)]; rw [if_pos q] at h; exact h
    · rw [if_pos (by omega)]; rw [if_neg q] at h; exact h
  | succ m ih =>
    intro g hk
    have ih1 := ih (g + 1) (by omega)
    rw [sumI_s] at ih1
    rw [wx_best_l43_s, show xI_guests σ = _ from hI.g, if_neg (nI_ge (by omega) (by omega))]
    refine ox_joyIn hI (by omega) ht ?_
    rw [nI_1]
    exact ih1
theorem bstX_s {V : VV} {A k purse : Nat} {P : Int32 → St → Prop} {K : Int32 → St → Prop} (hw : WV V) (hp : purse < 2 ^ 30) (hk : k ≤ 10)
    (h1 : bestW V A ((vsv V).length + k) (wV V 0 purse) (2 ^ vn V) = -1000000 → ∀ σ', IX σ' V → K (-2) σ')
    (h2 : bestW V A ((vsv V).length + k) (wV V 0 purse) (2 ^ vn V) ≠ -1000000 → ∀ σ', IX σ' (S_bst V A k (wV V 0 purse) true) → K 1 σ') :
    ∀ m s : Nat, s + m = 2 ^ vn V → ∀ σ, GX σ V A → worD σ V 0 purse s → wx_best_l17 P K (m + 1) (nI k) (nI purse) (nI s) σ := by
  have hn := hw.n
  have hp2 := pow_le_1024 hn
  intro m
  induction m with
  | zero =>
    intro s hs σ hG hW
    rw [wx_best_l17_s, show xI_dishes σ = _ from hG.1.n, nI_shl1 _ (by omega), if_pos (by rw [show s = 2 ^ vn V by omega]; exact Int32.le_refl _)]
    rw [show s = 2 ^ vn V by omega] at hW
    refine ox_bestSet (told := true) (w := wV V 0 purse) ⟨hG, hW⟩ hk (fun z σ' h' => ?_) (fun z σ' h' => ?_)
    · rw [if_pos rfl]; exact h1 z σ' h'
    · rw [if_neg z]; exact h2 z σ' h'
  | succ m ih =>
    intro s hs σ hG hW
    rw [wx_best_l17_s, show xI_dishes σ = _ from hG.1.n, nI_shl1 _ (by omega), if_neg (nI_ge (by omega) (by omega))]
    refine ⟨V, hG.1, vg V + 1, ?_⟩
    rw [addS_nI]
    refine bstX_g hG.1 (addS_lt (by omega)) hp ?_ (vg V) 0 (by omega)
    unfold wx_best_j94
    rw [nI_1]
    exact ⟨vp_in_nI (by omega) (by omega), ih (s + 1) (by omega) _ (wor_GX hG _) (wor_wr hW (by omega) rfl)⟩
theorem fairX_g {V : VV} {t purse : Nat} {x1 x3 : Int32} {P : Int32 → St → Prop} {K : Int32 → Int32 → Int32 → Int32 → Int32 → St → Prop} {σ : St} (hI : IX σ V) (ht : t < 2 ^ vn V) (hp : purse < 2 ^ 30)
    (h : K x1 (nI purse) x3 x3 (if costV V t ≤ purse then scV V 1 t else -1000000) σ) :
    ∀ m g : Nat, g + m = vg V → wx_fair_l55 P K (m + 1) x1 (nI purse) x3 (nI t) (minI (fun g => joyInV V g t) g) (nI g) σ := by
  have hg := hI.2.g
  have hc := costV_le hI.2 t
  intro m
  induction m with
  | zero =>
    intro g hk
    rw [wx_fair_l55_s, show xI_guests σ = _ from hI.g, if_pos (by rw [show g = vg V by omega]; exact Int32.le_refl _), show g = vg V by omega]
    refine ⟨V, t, hI, rfl, ht, ?_⟩
    simp only [nI_ltI (show purse < 2 ^ 31 by omega) (show costV V t < 2 ^ 31 by omega)]
    by_cases q : costV V t ≤ purse
    · rw [if_neg (by omega)]; rw [if_pos q] at h; exact h
    · rw [if_pos (by omega)]; rw [if_neg q] at h; exact h
  | succ m ih =>
    intro g hk
    have ih1 := ih (g + 1) (by omega)
    rw [minI_s] at ih1
    rw [wx_fair_l55_s, show xI_guests σ = _ from hI.g, if_neg (nI_ge (by omega) (by omega))]
    refine ox_joyIn hI (by omega) ht ?_
    rw [nI_1]
    exact ih1
theorem fairX_s {V : VV} {A k purse : Nat} {P : Int32 → St → Prop} {K : Int32 → St → Prop} (hw : WV V) (hp : purse < 2 ^ 30) (hk : k ≤ 10)
    (h1 : bestW V A ((vsv V).length + k) (wV V 1 purse) (2 ^ vn V) = -1000000 → ∀ σ', IX σ' V → K (-2) σ')
    (h2 : bestW V A ((vsv V).length + k) (wV V 1 purse) (2 ^ vn V) ≠ -1000000 → ∀ σ', IX σ' (S_bst V A k (wV V 1 purse) true) → K 1 σ') :
    ∀ m s : Nat, s + m = 2 ^ vn V → ∀ σ, GX σ V A → worD σ V 1 purse s → wx_fair_l27 P K (m + 1) (nI k) (nI purse) (nI s) σ := by
  have hn := hw.n
  have hp2 := pow_le_1024 hn
  intro m
  induction m with
  | zero =>
    intro s hs σ hG hW
    rw [wx_fair_l27_s, show xI_dishes σ = _ from hG.1.n, nI_shl1 _ (by omega), if_pos (by rw [show s = 2 ^ vn V by omega]; exact Int32.le_refl _)]
    rw [show s = 2 ^ vn V by omega] at hW
    refine ox_bestSet (told := true) (w := wV V 1 purse) ⟨hG, hW⟩ hk (fun z σ' h' => ?_) (fun z σ' h' => ?_)
    · rw [if_pos rfl]; exact h1 z σ' h'
    · rw [if_neg z]; exact h2 z σ' h'
  | succ m ih =>
    intro s hs σ hG hW
    rw [wx_fair_l27_s, show xI_dishes σ = _ from hG.1.n, nI_shl1 _ (by omega), if_neg (nI_ge (by omega) (by omega))]
    refine ⟨V, hG.1, vg V + 1, ?_⟩
    rw [addS_nI]
    refine fairX_g hG.1 (addS_lt (by omega)) hp ?_ (vg V) 0 (by omega)
    unfold wx_fair_j108
    rw [nI_1]
    exact ⟨vp_in_nI (by omega) (by omega), ih (s + 1) (by omega) _ (wor_GX hG _) (wor_wr hW (by omega) rfl)⟩
theorem wV_c {V : VV} (hw : WV V) (what s : Nat) : wV V what 1000000 s = scV V what (addS s (s0V V)) := by
  have := costV_le hw (addS s (s0V V))
  unfold wV
  rw [if_pos (by omega)]
theorem cheX_s {V : VV} {A k : Nat} {P : Int32 → St → Prop} {K : Int32 → St → Prop} (hw : WV V) (hk : k ≤ 10)
    (h1 : bestW V A ((vsv V).length + k) (wV V 2 1000000) (2 ^ vn V) = -1000000 → ∀ σ', IX σ' V → K (-2) σ')
    (h2 : bestW V A ((vsv V).length + k) (wV V 2 1000000) (2 ^ vn V) ≠ -1000000 → ∀ σ', IX σ' (S_bst V A k (wV V 2 1000000) false) → K (-(bestW V A ((vsv V).length + k) (wV V 2 1000000) (2 ^ vn V))) σ') :
    ∀ m s : Nat, s + m = 2 ^ vn V → ∀ σ, GX σ V A → worD σ V 2 1000000 s → wx_cheap_l62 P K (m + 1) (nI k) (nI s) σ := by
  have hn := hw.n
  have hp2 := pow_le_1024 hn
  intro m
  induction m with
  | zero =>
    intro s hs σ hG hW
    rw [wx_cheap_l62_s, show xI_dishes σ = _ from hG.1.n, nI_shl1 _ (by omega), if_pos (by rw [show s = 2 ^ vn V by omega]; exact Int32.le_refl _)]
    rw [show s = 2 ^ vn V by omega] at hW
    refine ox_bestSet (told := false) (w := wV V 2 1000000) ⟨hG, hW⟩ hk (fun z σ' h' => ?_) (fun z σ' h' => ?_)
    · rw [if_pos rfl]; exact h1 z σ' h'
    · rw [if_neg z]; exact h2 z σ' h'
  | succ m ih =>
    intro s hs σ hG hW
    rw [wx_cheap_l62_s, show xI_dishes σ = _ from hG.1.n, nI_shl1 _ (by omega), if_neg (nI_ge (by omega) (by omega))]
    refine ⟨V, hG.1, V, addS s (s0V V), hG.1, ?_, addS_lt (by omega), ?_⟩
    · exact addS_nI _ _
    · rw [nI_1]
      exact ⟨vp_in_nI (by omega) (by omega), ih (s + 1) (by omega) _ (wor_GX hG _) (wor_wr hW (by omega) (by rw [wV_c hw]; rfl))⟩
theorem deaX_s {V : VV} {A k : Nat} {P : Int32 → St → Prop} {K : Int32 → St → Prop} (hw : WV V) (hk : k ≤ 10)
    (h1 : bestW V A ((vsv V).length + k) (wV V 3 1000000) (2 ^ vn V) = -1000000 → ∀ σ', IX σ' V → K (-2) σ')
    (h2 : bestW V A ((vsv V).length + k) (wV V 3 1000000) (2 ^ vn V) ≠ -1000000 → ∀ σ', IX σ' (S_bst V A k (wV V 3 1000000) false) → K (bestW V A ((vsv V).length + k) (wV V 3 1000000) (2 ^ vn V)) σ') :
    ∀ m s : Nat, s + m = 2 ^ vn V → ∀ σ, GX σ V A → worD σ V 3 1000000 s → wx_dear_l20 P K (m + 1) (nI k) (nI s) σ := by
  have hn := hw.n
  have hp2 := pow_le_1024 hn
  intro m
  induction m with
  | zero =>
    intro s hs σ hG hW
    rw [wx_dear_l20_s, show xI_dishes σ = _ from hG.1.n, nI_shl1 _ (by omega), if_pos (by rw [show s = 2 ^ vn V by omega]; exact Int32.le_refl _)]
    rw [show s = 2 ^ vn V by omega] at hW
    refine ox_bestSet (told := false) (w := wV V 3 1000000) ⟨hG, hW⟩ hk (fun z σ' h' => ?_) (fun z σ' h' => ?_)
    · rw [if_pos rfl]; exact h1 z σ' h'
    · rw [if_neg z]; exact h2 z σ' h'
  | succ m ih =>
    intro s hs σ hG hW
    rw [wx_dear_l20_s, show xI_dishes σ = _ from hG.1.n, nI_shl1 _ (by omega), if_neg (nI_ge (by omega) (by omega))]
    refine ⟨V, hG.1, V, addS s (s0V V), hG.1, ?_, addS_lt (by omega), ?_⟩
    · exact addS_nI _ _
    · rw [nI_1]
      exact ⟨vp_in_nI (by omega) (by omega), ih (s + 1) (by omega) _ (wor_GX hG _) (wor_wr hW (by omega) (by rw [wV_c hw]; rfl))⟩
/-! what they answer and leave -/
def bB (V : VV) (A k what purse : Nat) : Int32 := bestW V A ((vsv V).length + k) (wV V what purse) (2 ^ vn V)
def R_fest (V : VV) (what : Nat) (v1 v2 : Int32) : Int32 :=
  if (rngB v1 11 && rngB v2 1000) = true then (if what = 1 ∧ vg V = 0 then -2 else if bB V (allA V) v1.toNatClampNeg what v2.toNatClampNeg = -1000000 then -2 else 1) else -1
def S_fest (V : VV) (what : Nat) (v1 v2 : Int32) : VV :=
  if (rngB v1 11 && rngB v2 1000) = true then (if what = 1 ∧ vg V = 0 then V else if bB V (allA V) v1.toNatClampNeg what v2.toNatClampNeg = -1000000 then V else S_bst V (allA V) v1.toNatClampNeg (wV V what v2.toNatClampNeg) true) else V
def R_cost (V : VV) (A what : Nat) (v : Int32) : Int32 := if rngB v 11 = true then (if bB V A v.toNatClampNeg what 1000000 = -1000000 then -2 else jabs (bB V A v.toNatClampNeg what 1000000)) else -1
def S_cost (V : VV) (A what : Nat) (v : Int32) : VV := if rngB v 11 = true then (if bB V A v.toNatClampNeg what 1000000 = -1000000 then V else S_bst V A v.toNatClampNeg (wV V what 1000000) false) else V
theorem ox_best {σ : St} {V : VV} {P : Int32 → St → Prop} (hI : IX σ V) (v1 v2 : Int32) (h : ∀ σ', IX σ' (S_fest V 0 v1 v2) → P (R_fest V 0 v1 v2) σ') : wx_best σ v1 v2 P := by
  unfold R_fest S_fest at h
  unfold wx_best sx_isPurse
  dsimp only
  cases q : (rngB v1 11 && rngB v2 1000) with
  | false => rw [jf0]; rw [q, if_neg (by decide), if_neg (by decide)] at h; exact h σ hI
  | true =>
    have e0 : ¬ ((0 : Nat) = 1 ∧ vg V = 0) := fun z => absurd z.1 (by decide)
    rw [jt0]; rw [q, if_pos rfl, if_pos rfl, if_neg e0, if_neg e0] at h
    obtain ⟨k, hk, rfl⟩ := rngB_of (by omega) (Bool.and_eq_true _ _ ▸ q).1
    obtain ⟨p, hp, rfl⟩ := rngB_of (by omega) (Bool.and_eq_true _ _ ▸ q).2
    rw [cl (by omega), cl (by omega)] at h
    refine ox_laysOut hI fun σ1 hG => ⟨_, bstX_s hI.2 (by omega) (by omega) (fun z σ' h' => ?_) (fun z σ' h' => ?_) (2 ^ vn V) 0 (by omega) σ1 hG (fun j hj => absurd hj (by omega))⟩
    · have h9 := h σ'
      rw [if_pos (show bB V (allA V) k 0 p = -1000000 from z), if_pos (show bB V (allA V) k 0 p = -1000000 from z)] at h9
      exact h9 h'
    · have h9 := h σ'
      rw [if_neg (show ¬ bB V (allA V) k 0 p = -1000000 from z), if_neg (show ¬ bB V (allA V) k 0 p = -1000000 from z)] at h9
      exact h9 h'
theorem ox_fair {σ : St} {V : VV} {P : Int32 → St → Prop} (hI : IX σ V) (v1 v2 : Int32) (h : ∀ σ', IX σ' (S_fest V 1 v1 v2) → P (R_fest V 1 v1 v2) σ') : wx_fair σ v1 v2 P := by
  have hgl := hI.2.g
  unfold R_fest S_fest at h
  unfold wx_fair sx_isPurse
  dsimp only
  cases q : (rngB v1 11 && rngB v2 1000) with
  | false => rw [jf0]; rw [q, if_neg (by decide), if_neg (by decide)] at h; exact h σ hI
  | true =>
    rw [jt0]; rw [q, if_pos rfl, if_pos rfl] at h
    rw [show xI_guests σ = _ from hI.g]
    simp only [nI_eq0 (show vg V < 2 ^ 31 by omega)]
    by_cases qg : vg V = 0
    · rw [if_pos qg]; rw [if_pos ⟨rfl, qg⟩, if_pos ⟨rfl, qg⟩] at h; exact h σ hI
    · have e0 : ¬ ((1 : Nat) = 1 ∧ vg V = 0) := fun z => qg z.2
      rw [if_neg qg]; rw [if_neg e0, if_neg e0] at h
      obtain ⟨k, hk, rfl⟩ := rngB_of (by omega) (Bool.and_eq_true _ _ ▸ q).1
      obtain ⟨p, hp, rfl⟩ := rngB_of (by omega) (Bool.and_eq_true _ _ ▸ q).2
      rw [cl (by omega), cl (by omega)] at h
      refine ox_laysOut hI fun σ1 hG => ⟨_, fairX_s hI.2 (by omega) (by omega) (fun z σ' h' => ?_) (fun z σ' h' => ?_) (2 ^ vn V) 0 (by omega) σ1 hG (fun j hj => absurd hj (by omega))⟩
      · have h9 := h σ'
        rw [if_pos (show bB V (allA V) k 1 p = -1000000 from z), if_pos (show bB V (allA V) k 1 p = -1000000 from z)] at h9
        exact h9 h'
      · have h9 := h σ'
        rw [if_neg (show ¬ bB V (allA V) k 1 p = -1000000 from z), if_neg (show ¬ bB V (allA V) k 1 p = -1000000 from z)] at h9
        exact h9 h'
theorem bB_cost {V : VV} {A k what : Nat} (hw : WV V) (h : bB V A k what 1000000 ≠ -1000000) : ∃ s, bB V A k what 1000000 = scV V what (addS s (s0V V)) := by
  rcases bestW_at (V := V) (A := A) (due := (vsv V).length + k) (w := wV V what 1000000) (2 ^ vn V) with z | ⟨s, _, _, e⟩
  · exact absurd z h
  · exact ⟨s, by rw [← wV_c hw]; exact e⟩
theorem jabs_p {c : Nat} (h : c ≤ 1000) : jabs (nI c) = nI c := by
  have : ∀ c : Fin 1001, jabs (nI c) = nI c := by decide +kernel
  exact this ⟨c, by omega⟩
theorem jabs_n {c : Nat} (h : c ≤ 1000) : jabs (-(nI c)) = -(-(nI c)) := by
  have : ∀ c : Fin 1001, jabs (-(nI c)) = -(-(nI c)) := by decide +kernel
  exact this ⟨c, by omega⟩
theorem bB_2 {V : VV} {A k : Nat} (hw : WV V) (h : bB V A k 2 1000000 ≠ -1000000) : jabs (bB V A k 2 1000000) = -(bB V A k 2 1000000) := by
  obtain ⟨s, e⟩ := bB_cost hw h
  have hc := costV_le hw (addS s (s0V V))
  rw [e, show scV V 2 (addS s (s0V V)) = -(nI (costV V (addS s (s0V V)))) from rfl]
  exact jabs_n (by omega)
theorem bB_3 {V : VV} {A k : Nat} (hw : WV V) (h : bB V A k 3 1000000 ≠ -1000000) : jabs (bB V A k 3 1000000) = bB V A k 3 1000000 := by
  obtain ⟨s, e⟩ := bB_cost hw h
  have hc := costV_le hw (addS s (s0V V))
  rw [e, show scV V 3 (addS s (s0V V)) = nI (costV V (addS s (s0V V))) from rfl]
  exact jabs_p (by omega)
theorem inB_10 {v : Int32} : inB v.toInt64 (0 : Int64) (10 : Int64) = rngB v 11 := by
  rw [show (10 : Int64) = (nI 11 - (1 : Int32)).toInt64 from by decide]
  exact inB_rng (by omega)
theorem ox_dear {σ : St} {V : VV} {P : Int32 → St → Prop} (hI : IX σ V) (v : Int32) (h : ∀ σ', IX σ' (S_cost V (allA V) 3 v) → P (R_cost V (allA V) 3 v) σ') : wx_dear σ v P := by
  unfold R_cost S_cost at h
  unfold wx_dear sx_in
  dsimp only
  rw [inB_10]
  cases q : rngB v 11 with
  | false => rw [jf0]; rw [q, if_neg (by decide), if_neg (by decide)] at h; exact h σ hI
  | true =>
    rw [jt0]; rw [q, if_pos rfl, if_pos rfl] at h
    obtain ⟨k, hk, rfl⟩ := rngB_of (by omega) q
    rw [cl (by omega)] at h
    refine ox_laysOut hI fun σ1 hG => ⟨_, deaX_s hI.2 (by omega) (fun z σ' h' => ?_) (fun z σ' h' => ?_) (2 ^ vn V) 0 (by omega) σ1 hG (fun j hj => absurd hj (by omega))⟩
    · have h9 := h σ'
      rw [if_pos (show bB V (allA V) k 3 1000000 = -1000000 from z), if_pos (show bB V (allA V) k 3 1000000 = -1000000 from z)] at h9
      exact h9 h'
    · have h9 := h σ'
      rw [if_neg (show ¬ bB V (allA V) k 3 1000000 = -1000000 from z), if_neg (show ¬ bB V (allA V) k 3 1000000 = -1000000 from z), bB_3 hI.2 z] at h9
      exact h9 h'
/-- the dishes that none is hungry at -/
def sateA (V : VV) : Nat := bitsOf (fun d => !(anB (fun g => hungV V g d) (vg V))) (vn V)
theorem bits_0 {p : Nat → Bool} {n : Nat} : bitsOf p n = 0 ↔ anB p n = false := by
  constructor
  · intro h
    refine Bool.eq_false_iff.mpr fun z => ?_
    obtain ⟨k, hk, hp⟩ := anB_iff.mp z
    have := bitsOf_tb p n k
    rw [h, Nat.zero_testBit, decide_eq_true hk, hp] at this
    exact absurd this (by decide)
  · intro h
    refine tb_ext fun j => ?_
    rw [bitsOf_tb, Nat.zero_testBit]
    by_cases q : j < n
    · cases hp : p j with
      | false => rw [Bool.and_false]
      | true => exact absurd (anB_iff.mpr ⟨j, q, hp⟩) (by rw [h]; decide)
    · rw [decide_eq_false q, Bool.false_and]
theorem cheX_d {V : VV} {k : Nat} {P : Int32 → St → Prop} {K : Int32 → St → Prop} (h : ∀ σ, GX σ V (sateA V) → K (nI k) σ) :
    ∀ m d : Nat, d + m = vn V → ∀ σ, GX σ V (lowB (fun d => !(anB (fun g => hungV V g d) (vg V))) (vn V) d) → wx_cheap_l20 P (fun v1 _ σ => K v1 σ) (m + 1) (nI k) (nI d) σ := by
  intro m
  induction m with
  | zero =>
    intro d hd σ hG
    rw [wx_cheap_l20_s, show xI_dishes σ = _ from hG.1.n, if_pos (by rw [show d = vn V by omega]; exact Int32.le_refl _)]
    rw [show d = vn V by omega, lowB_n] at hG
    exact h σ hG
  | succ m ih =>
    intro d hd σ hG
    have hn := hG.1.2.n
    have hg := hG.1.2.g
    have hp := pow_le_1024 hn
    have hA := hG.2.2.1
    have ih1 := ih (d + 1) (by omega)
    rw [lowB_s (by omega)] at ih1
    rw [wx_cheap_l20_s, show xI_dishes σ = _ from hG.1.n, if_neg (nI_ge (by omega) (by omega))]
    refine ⟨V, d, hG.1, rfl, by omega, ?_⟩
    have hb := bitsOf_lt (fun g => hungV V g d) (vg V)
    have hb2 : 2 ^ vg V ≤ 2 ^ 6 := Nat.pow_le_pow_right (by decide) hg
    unfold wx_cheap_j50
    simp only [nI_eq0 (show bitsOf (fun g => hungV V g d) (vg V) < 2 ^ 31 by omega)]
    rw [nI_1, show xI_allowed σ = _ from hG.2.1, and_m1, nI_shl1 _ (by omega), and_compl (by omega) (by omega), lowB_tbk (by omega), if_pos rfl]
    cases q : anB (fun g => hungV V g d) (vg V) with
    | false =>
      rw [if_pos (bits_0.mpr q)]
      rw [q] at ih1
      exact ih1 _ (hG.al hA)
    | true =>
      rw [if_neg (fun z => by rw [bits_0.mp z] at q; exact absurd q (by decide))]
      rw [q] at ih1
      exact ih1 _ (hG.al (Nat.xor_lt_two_pow hA (Nat.pow_lt_pow_right (by decide) (by omega))))
theorem ox_cheap {σ : St} {V : VV} {P : Int32 → St → Prop} (hI : IX σ V) (v : Int32) (h : ∀ σ', IX σ' (S_cost V (sateA V) 2 v) → P (R_cost V (sateA V) 2 v) σ') : wx_cheap σ v P := by
  unfold R_cost S_cost at h
  unfold wx_cheap sx_in
  dsimp only
  rw [inB_10]
  cases q : rngB v 11 with
  | false => rw [jf0]; rw [q, if_neg (by decide), if_neg (by decide)] at h; exact h σ hI
  | true =>
    rw [jt0]; rw [q, if_pos rfl, if_pos rfl] at h
    obtain ⟨k, hk, rfl⟩ := rngB_of (by omega) q
    rw [cl (by omega)] at h
    refine ox_laysOut hI fun σ1 hG => ?_
    refine ⟨vn V + 1, cheX_d (K := fun v1 σ => ∃ n62, wx_cheap_l62 P (wx_cheap_j118 P) n62 v1 0 σ) (fun σ2 hG2 => ⟨_, cheX_s hI.2 (by omega) (fun z σ' h' => ?_) (fun z σ' h' => ?_) (2 ^ vn V) 0 (by omega) σ2 hG2 (fun j hj => absurd hj (by omega))⟩) (vn V) 0 (by omega) σ1 (by rw [lowB_0]; exact hG)⟩
    · have h9 := h σ'
      rw [if_pos (show bB V (sateA V) k 2 1000000 = -1000000 from z), if_pos (show bB V (sateA V) k 2 1000000 = -1000000 from z)] at h9
      exact h9 h'
    · have h9 := h σ'
      rw [if_neg (show ¬ bB V (sateA V) k 2 1000000 = -1000000 from z), if_neg (show ¬ bB V (sateA V) k 2 1000000 = -1000000 from z), bB_2 hI.2 z] at h9
      exact h9 h'
