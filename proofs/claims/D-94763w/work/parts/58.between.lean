/-! BETWEEN and SHORTEST -/
def Eb (b : Nat) (_ l : Nat) : Bool := decide (l = b)
def EB (f b size s l : Nat) : Bool := decide (l = b) && (s.testBit b && (s.testBit f && (decide (pc s = size) && (!(decide (f = b)) || decide (size = 1)))))
def exB (V : VV) (f b k : Nat) : Bool := ex (mv V (allA V)) (vn V) (Eb b) k (2 ^ f) f && (!(decide (f = b)) || decide (k = 0))
theorem ok1 {n f : Nat} (hf : f < n) : okS n (2 ^ f) f := ⟨Nat.pow_lt_pow_right (by decide) hf, Or.inl ⟨hf, Nat.testBit_two_pow_self⟩⟩
def qB (V : VV) (f size k s l : Nat) : Prop := okS (vn V) s l ∧ l ≠ 10 ∧ s.testBit f = true ∧ pc s + k = size
theorem qB_next {V : VV} {f size k s l d : Nat} (hn : vn V ≤ 10) (h : qB V f size (k + 1) s l) (hd : d < vn V) (hm : mv V (allA V) s l d = true) : qB V f size k (s ||| 2 ^ d) d :=
  ⟨okS_step h.1 hd, by omega, by rw [tb_or2, h.2.2.1]; rfl, by rw [pc_or2 (mv_new hm) (by omega)]; have := h.2.2.2; omega⟩
theorem exB_eq {V : VV} {f b k : Nat} (hn : vn V ≤ 10) (hf : f < vn V) : ex (mv V (allA V)) (vn V) (EB f b (k + 1)) k (2 ^ f) f = exB V f b k := by
  unfold exB
  by_cases c : (!(decide (f = b)) || decide (k = 0)) = true
  · rw [c, Bool.and_true]
    refine ex_congr (Q := qB V f (k + 1)) (fun k' s l h d hd hm => qB_next hn h hd hm) (fun s l h => ?_) k _ _ ⟨ok1 hf, by omega, Nat.testBit_two_pow_self, by rw [pc_2 f (by omega)]; omega⟩
    unfold EB Eb
    rw [h.2.2.1, decide_eq_true (show pc s = k + 1 from h.2.2.2), Bool.true_and, Bool.true_and, show decide (k + 1 = 1) = decide (k = 0) from decide_eq_decide.mpr (by omega), c, Bool.and_true]
    by_cases e : l = b
    · rw [decide_eq_true e, Bool.true_and, ← e]
      rcases h.1.2 with q | q
      · exact q.2
      · exact absurd q.1 h.2.1
    · rw [decide_eq_false e, Bool.false_and]
  · rw [Bool.not_eq_true] at c
    rw [c, Bool.and_false]
    have none : ∀ k' s l, ex (mv V (allA V)) (vn V) (EB f b (k + 1)) k' s l = false := by
      intro k'
      induction k' with
      | zero =>
        intro s l
        show EB f b (k + 1) s l = false
        unfold EB
        rw [show decide (k + 1 = 1) = decide (k = 0) from decide_eq_decide.mpr (by omega), c, Bool.and_false, Bool.and_false, Bool.and_false, Bool.and_false]
      | succ k' ih =>
        intro s l
        rw [Bool.eq_false_iff]
        intro z
        obtain ⟨d, _, _, h2⟩ := ex_s.mp z
        rw [ih] at h2
        exact absurd h2 (by decide)
    exact none k _ _
theorem wayB_eq {V : VV} {f b k : Nat} (hn : vn V ≤ 10) (hf : f < vn V) (hx : exB V f b k = true) : way (mv V (allA V)) (vn V) (ex (mv V (allA V)) (vn V) (EB f b (k + 1))) k (2 ^ f) f = way (mv V (allA V)) (vn V) (ex (mv V (allA V)) (vn V) (Eb b)) k (2 ^ f) f := by
  have hx2 := hx
  unfold exB at hx2
  rw [Bool.and_eq_true] at hx2
  have c := hx2.2
  have same : ∀ k' s l, qB V f (k + 1) k' s l → ex (mv V (allA V)) (vn V) (EB f b (k + 1)) k' s l = ex (mv V (allA V)) (vn V) (Eb b) k' s l :=
    ex_congr (Q := qB V f (k + 1)) (fun k' s l h d hd hm => qB_next hn h hd hm) (fun s l h => by
      unfold EB Eb
      rw [h.2.2.1, decide_eq_true (show pc s = k + 1 from h.2.2.2), Bool.true_and, Bool.true_and, show decide (k + 1 = 1) = decide (k = 0) from decide_eq_decide.mpr (by omega), c, Bool.and_true]
      by_cases e : l = b
      · rw [decide_eq_true e, Bool.true_and, ← e]
        rcases h.1.2 with q | q
        · exact q.2
        · exact absurd q.1 h.2.1
      · rw [decide_eq_false e, Bool.false_and])
  refine way_congr (Q := fun k' s l => qB V f (k + 1) k' s l ∧ ex (mv V (allA V)) (vn V) (EB f b (k + 1)) k' s l = true) (fun k' s l h d hd hm => same _ _ _ (qB_next hn h.1 hd hm)) (fun k' s l h d hd hm hg => ⟨qB_next hn h.1 hd hm, hg⟩) (fun k' s l h => ex_s.mp h.2) k _ _ ⟨⟨ok1 hf, by omega, Nat.testBit_two_pow_self, by rw [pc_2 f (by omega)]; omega⟩, by rw [exB_eq hn hf]; exact hx⟩
/-! the model -/
theorem om_tellFrom {V : VV} {f size : Nat} {E : Nat → Nat → Bool} {x2 : Int32} {P : Int32 → St → Prop} {σ : St} (hI : IM σ V) (hf : f < vn V) (hsz : 1 ≤ size) (hE : ∀ s l, okS (vn V) s l → gA σ 35 (11 * s + l) = j01 (E s l)) (hpc : ∀ s l, E s l = true → pc s = size)
    (h1 : fineV V (2 ^ f) = true → ex (mv V (allA V)) (vn V) E (size - 1) (2 ^ f) f = true → ∀ σ', IM σ' (rowG (vSRow V [nI f]) (way (mv V (allA V)) (vn V) (ex (mv V (allA V)) (vn V) E) (size - 1) (2 ^ f) f)) → P 1 σ')
    (h0 : ¬ (fineV V (2 ^ f) = true ∧ ex (mv V (allA V)) (vn V) E (size - 1) (2 ^ f) f = true) → ∀ σ', IM σ' V → P 0 σ') : wm_tellFrom σ (nI f) x2 P := by
  have hw := hI.2
  have hn := hw.n
  have hp := pow_le_1024 hn
  have hM := mv_newM V (allA V)
  have hpf : 2 ^ f < 2 ^ vn V := Nat.pow_lt_pow_right (by decide) hf
  refine ⟨V, hI, ?_⟩
  refine om_findEnds hI (allA_lt V) hE fun T hT => ?_
  have hI1 : IM (sA σ 36 T) V := hI.qA (by decide) T
  refine ⟨V, 0, 10, f, hI1, rfl, rfl, rfl, Nat.two_pow_pos _, Or.inr ⟨rfl, rfl⟩, hf, ?_⟩
  dsimp only
  have em : mayV V 0 10 f = fineV V (2 ^ f) := by rw [mayV_eq, Nat.zero_testBit, decide_eq_true (rfl : (10 : Nat) = 10), Bool.true_or, Bool.true_and, Bool.not_false, Bool.true_and, Nat.zero_or]
  rw [em]
  cases q : fineV V (2 ^ f) with
  | false => rw [jf0]; exact h0 (fun z => by rw [q] at z; exact absurd z.1 (by decide)) _ hI1
  | true =>
    rw [jt0, nI_shl1 _ (by omega)]
    refine ⟨2 ^ f, f, rfl, (lI_l (by omega)).symm, by omega, by omega, vp_in_nI (by omega) (by omega), ?_⟩
    rw [cl (by omega), show mA_canEnd (sA σ 36 T) = T from gA_sAk _ _ _]
    have hc : T (11 * 2 ^ f + f) ≠ 0 ↔ ex (mv V (allA V)) (vn V) E (size - 1) (2 ^ f) f = true := by
      rw [stE_spec hn hM hT (vn V) _ _ (ok1 hf) (by omega)]
      refine ⟨fun ⟨k, hk⟩ => ?_, fun z => ⟨_, z⟩⟩
      have := ex_pc hn hM hpc _ _ _ hk
      rw [pc_2 f (by omega)] at this
      rw [show size - 1 = k by omega]; exact hk
    by_cases q2 : T (11 * 2 ^ f + f) = 0
    · rw [if_pos q2]; exact h0 (fun z => hc.mpr z.2 q2) _ hI1
    · rw [if_neg q2]
      have hx := hc.mp q2
      have hlen := ex_len hn hM _ _ _ (ok1 hf) hx
      rw [pc_2 f (by omega)] at hlen
      refine ⟨_, hI1.row0, by show 0 < 12; omega, fun σ2 hI2 kp _ => ⟨_, hI2, ?_⟩⟩
      have h9 := om_tellWay (V := vSRow V [nI f]) (S := allA V) (c := size) (k := size - 1) (E := E) (s := 2 ^ f) (l := f) (P := P 1) hI2 (allA_lt V) (fun s l hok => by rw [kp.2.1 35 (by decide)]; exact hE s l hok) (by rw [kp.2.1 36 (by decide)]; exact hT) hpc (ok1 hf) hx (by show 1 + (size - 1) ≤ 12; omega) (fun σ' hI' _ => h1 q hx σ' hI')
      rw [lI_l (by omega)] at h9
      exact h9
def markB (V : VV) (E : Nat → Nat → Bool) (c : Nat) (F : Nat → Int32) : Prop := ∀ s l, okS (vn V) s l → F (11 * s + l) = j01 (E s l && decide (s < c))
theorem bwM_in {V : VV} {f b size : Nat} {x3 x4 : Int32} {P : Int32 → St → Prop} {K : Int32 → Int32 → Int32 → Int32 → St → Prop} {σ : St} (hI : IM σ V) (hf : f < vn V) (hb : b < vn V) (hsz : 1 ≤ size) (hsz2 : size ≤ 20)
    (h1 : fineV V (2 ^ f) = true → ex (mv V (allA V)) (vn V) (EB f b size) (size - 1) (2 ^ f) f = true → ∀ σ', IM σ' (rowG (vSRow V [nI f]) (way (mv V (allA V)) (vn V) (ex (mv V (allA V)) (vn V) (EB f b size)) (size - 1) (2 ^ f) f)) → P (nI size) σ')
    (h0 : ¬ (fineV V (2 ^ f) = true ∧ ex (mv V (allA V)) (vn V) (EB f b size) (size - 1) (2 ^ f) f = true) → ∀ σ', IM σ' V → K (nI f) (nI b) x3 (x4 + 1) σ') :
    ∀ m s : Nat, s + m = 2 ^ vn V → ∀ F, markB V (EB f b size) s F → wm_betweenBy_l57 P K (m + 1) (nI f) (nI b) x3 x4 (nI size) (nI s) (sA σ 35 F) := by
  have hw := hI.2
  have hn := hw.n
  have hp := pow_le_1024 hn
  have h2p := Nat.one_le_two_pow (n := vn V)
  intro m
  induction m with
  | zero =>
    intro s hs F hF
    rw [wm_betweenBy_l57_s]
    refine ⟨V, hI.qA (by decide) _, ?_⟩
    dsimp only
    rw [if_pos (nI_lt (by omega) (by omega))]
    refine om_tellFrom (E := EB f b size) (hI.qA (by decide) F) hf hsz (fun s' l hok => ?_) (fun s' l z => ?_) (fun a b σ' hI' => ?_) (fun a σ' hI' => ?_)
    · rw [gA_sAk, hF s' l hok, decide_eq_true (show s' < s by have := hok.1; omega), Bool.and_true]
    · unfold EB at z
      simp only [Bool.and_eq_true, decide_eq_true_eq] at z
      exact z.2.2.2.1
    · rw [if_neg (by decide)]; exact h1 a b σ' hI'
    · rw [if_pos rfl]; exact h0 a σ' hI'
  | succ m ih =>
    intro s hs F hF
    have hpc := pc_le s
    rw [wm_betweenBy_l57_s]
    refine ⟨V, hI.qA (by decide) _, ?_⟩
    dsimp only
    rw [if_neg (nI_nlt (by omega) (by omega))]
    unfold sm_has wm_betweenBy_j117 wm_betweenBy_j105 wm_betweenBy_j117
    dsimp only
    rw [hasB_nI (by omega) (by omega), hasB_nI (by omega) (by omega), nI_1, bitC_nI (by omega)]
    have no : EB f b size s b = false → wm_betweenBy_l57 P K (m + 1) (nI f) (nI b) x3 x4 (nI size) (nI (s + 1)) (sA σ 35 F) := fun z => ih (s + 1) (by omega) F fun s' l hok => by
      rw [hF s' l hok]
      by_cases e : s' = s
      · subst e
        have : EB f b size s' l = false := by
          by_cases e2 : l = b
          · rw [e2]; exact z
          · unfold EB; rw [decide_eq_false e2, Bool.false_and]
        rw [this, Bool.false_and, Bool.false_and]
      · rw [show decide (s' < s + 1) = decide (s' < s) from decide_eq_decide.mpr (by omega)]
    have yes : EB f b size s b = true → sm_place (nI s) (nI b) (fun r112 => vp_in r112 11264 ∧ wm_betweenBy_l57 P K (m + 1) (nI f) (nI b) x3 x4 (nI size) (nI (s + 1)) (mU_isEnd (sA σ 35 F) r112 (vp_nar .boolean 1))) := fun z => by
      refine ⟨s, b, rfl, (lI_l (by omega)).symm, by omega, by omega, vp_in_nI (by omega) (by omega), ?_⟩
      unfold mU_isEnd
      rw [uA_k, cl (by omega), nar_1]
      refine ih (s + 1) (by omega) _ fun s' l hok => ?_
      have hb' := okS_le hn hok
      by_cases e : s' = s ∧ l = b
      · obtain ⟨rfl, rfl⟩ := e
        rw [upd_s, z, decide_eq_true (Nat.lt_succ_self s')]; rfl
      · rw [upd_n (fun y => e ⟨by omega, by omega⟩), hF s' l hok]
        by_cases e1 : s' = s
        · subst e1
          have : EB f b size s' l = false := by
            have e2 : l ≠ b := fun y => e ⟨rfl, y⟩
            unfold EB; rw [decide_eq_false e2, Bool.false_and]
          rw [this, Bool.false_and, Bool.false_and]
        · rw [show decide (s' < s + 1) = decide (s' < s) from decide_eq_decide.mpr (by omega)]
    unfold EB at no yes
    rw [decide_eq_true (rfl : b = b), Bool.true_and] at no yes
    simp only [nI_eq (show pc s < 2 ^ 31 by omega) (show size < 2 ^ 31 by omega), nI_eq (show f < 2 ^ 31 by omega) (show b < 2 ^ 31 by omega), nI_eq1 (show size < 2 ^ 31 by omega)]
    cases q1 : s.testBit b with
    | false => rw [jf0]; exact no (by rw [q1]; rfl)
    | true =>
      rw [jt0]
      cases q2 : s.testBit f with
      | false => rw [jf0]; exact no (by rw [q1, q2]; rfl)
      | true =>
        rw [jt0]; rw [q1, q2] at no yes
        by_cases q3 : pc s = size
        · rw [if_pos q3]
          rw [decide_eq_true q3] at no yes
          by_cases q4 : f = b
          · rw [if_pos q4]; rw [decide_eq_true q4] at no yes
            by_cases q5 : size = 1
            · rw [if_pos q5]; exact yes (by rw [decide_eq_true q5]; rfl)
            · rw [if_neg q5]; exact no (by rw [decide_eq_false q5]; rfl)
          · rw [if_neg q4]; exact yes (by rw [decide_eq_false q4]; rfl)
        · rw [if_neg q3]; exact no (by rw [decide_eq_false q3]; rfl)
def szB (V : VV) (mo : Bool) (k : Nat) : Nat := if mo = true then vn V - k else k + 1
def fndB (V : VV) (f b size : Nat) : Bool := fineV V (2 ^ f) && exB V f b (size - 1)
def S_bet (V : VV) (f b k : Nat) : VV := rowG (vSRow V [nI f]) (way (mv V (allA V)) (vn V) (ex (mv V (allA V)) (vn V) (Eb b)) k (2 ^ f) f)
theorem bwM_k {V : VV} {f b : Nat} {mo : Bool} {P : Int32 → St → Prop} (hf : f < vn V) (hb : b < vn V)
    (h1 : ∀ k, k < vn V → (∀ j, j < k → fndB V f b (szB V mo j) = false) → fndB V f b (szB V mo k) = true → ∀ σ', IM σ' (S_bet V f b (szB V mo k - 1)) → P (nI (szB V mo k)) σ')
    (h0 : (∀ j, j < vn V → fndB V f b (szB V mo j) = false) → ∀ σ', IM σ' V → P (-2) σ') :
    ∀ m k : Nat, k + m = vn V → (∀ j, j < k → fndB V f b (szB V mo j) = false) → ∀ σ, IM σ V → wm_betweenBy_l21 P (m + 1) (nI f) (nI b) (j01 mo) (nI k) σ := by
  intro m
  induction m with
  | zero =>
    intro k hk hno σ hI
    rw [wm_betweenBy_l21_s, show mI_dishes σ = _ from hI.n, if_pos (by rw [show k = vn V by omega]; exact Int32.le_refl _)]
    exact h0 (by rw [← show k = vn V by omega]; exact hno) σ hI
  | succ m ih =>
    intro k hk hno σ hI
    have hn := hI.2.n
    have h2p := Nat.one_le_two_pow (n := vn V)
    rw [wm_betweenBy_l21_s, show mI_dishes σ = _ from hI.n, if_neg (nI_ge (by omega) (by omega))]
    have go : wm_betweenBy_j48 P (wm_betweenBy_l21 P (m + 1)) (nI f) (nI b) (j01 mo) (nI k) (nI (szB V mo k)) σ := by
      have hsz : 1 ≤ szB V mo k ∧ szB V mo k ≤ 20 := by unfold szB; split <;> omega
      refine om_noEnds fun F hF => ⟨_, bwM_in hI hf hb hsz.1 hsz.2 (fun a x σ' hI' => ?_) (fun a σ' hI' => ?_) (2 ^ vn V) 0 (by omega) F fun s l hok => ?_⟩
      · have e : szB V mo k = szB V mo k - 1 + 1 := by omega
        rw [e] at x
        rw [Nat.add_sub_cancel, exB_eq hn hf] at x
        refine h1 k (by omega) hno (by unfold fndB; rw [a, x]; rfl) σ' ?_
        rw [e] at hI'
        rw [Nat.add_sub_cancel, wayB_eq hn hf x] at hI'
        exact hI'
      · rw [nI_1]
        refine ih (k + 1) (by omega) (fun j hj => ?_) σ' hI'
        rcases Nat.lt_or_ge j k with q | q
        · exact hno j q
        · rw [show j = k by omega]
          unfold fndB
          have e : szB V mo k = szB V mo k - 1 + 1 := by omega
          rw [e] at a
          rw [Nat.add_sub_cancel, exB_eq hn hf] at a
          cases y1 : fineV V (2 ^ f) with
          | false => rfl
          | true =>
            cases y2 : exB V f b (szB V mo k - 1) with
            | false => rfl
            | true => exact absurd ⟨y1, y2⟩ a
      · have hb := okS_le hn hok
        rw [hF _ (by omega), decide_eq_false (Nat.not_lt_zero s), Bool.and_false]; rfl
    cases mo with
    | false => rw [jf0, nI_1]; exact go
    | true => rw [jt0, pk_sub (show k ≤ vn V by omega)]; exact go
theorem exB_lt {V : VV} (hn : vn V ≤ 10) {f b k : Nat} (hf : f < vn V) (h : exB V f b k = true) : k < vn V := by
  unfold exB at h
  rw [Bool.and_eq_true] at h
  have := ex_len hn (mv_newM V (allA V)) _ _ _ (ok1 hf) h.1
  rw [pc_2 f (by omega)] at this
  omega
def bK (V : VV) (f b : Nat) : Nat := hiN (exB V f b) 11
def sK (V : VV) (f b : Nat) : Nat := lst (exB V f b) 11
def canB (V : VV) (f b : Nat) : Bool := fineV V (2 ^ f) && anB (exB V f b) 11
def R_between (V : VV) (v w : Int32) : Int32 := if rngB v (vn V) = true ∧ rngB w (vn V) = true then (if canB V v.toNatClampNeg w.toNatClampNeg = true then nI (bK V v.toNatClampNeg w.toNatClampNeg + 1) else -2) else -1
def S_between (V : VV) (v w : Int32) : VV := if (rngB v (vn V) = true ∧ rngB w (vn V) = true) ∧ canB V v.toNatClampNeg w.toNatClampNeg = true then S_bet V v.toNatClampNeg w.toNatClampNeg (bK V v.toNatClampNeg w.toNatClampNeg) else V
def R_shortest (V : VV) (v w : Int32) : Int32 := if rngB v (vn V) = true ∧ rngB w (vn V) = true then (if canB V v.toNatClampNeg w.toNatClampNeg = true then nI (sK V v.toNatClampNeg w.toNatClampNeg + 1) else -2) else -1
def S_shortest (V : VV) (v w : Int32) : VV := if (rngB v (vn V) = true ∧ rngB w (vn V) = true) ∧ canB V v.toNatClampNeg w.toNatClampNeg = true then S_bet V v.toNatClampNeg w.toNatClampNeg (sK V v.toNatClampNeg w.toNatClampNeg) else V
theorem om_between {σ : St} {V : VV} {P : Int32 → St → Prop} (hI : IM σ V) (v w : Int32) (h : ∀ σ', IM σ' (S_between V v w) → P (R_between V v w) σ') : wm_between σ v w P := by
  have hI := hI.th 0
  have hn := hI.2.n
  refine ⟨V, hI, ?_⟩
  dsimp only
  unfold R_between S_between at h
  cases q : rngB v (vn V) with
  | false => rw [jf0]; simp only [q, Bool.false_eq_true, false_and, if_false] at h; exact h _ hI
  | true =>
    rw [jt0]
    refine ⟨V, hI, ?_⟩
    dsimp only
    cases q2 : rngB w (vn V) with
    | false => rw [jf0]; simp only [q2, Bool.false_eq_true, and_false, false_and, if_false] at h; exact h _ hI
    | true =>
      rw [jt0]; simp only [q, q2, and_self, true_and, if_true] at h
      obtain ⟨f, hf, rfl⟩ := rngB_of (by omega) q
      obtain ⟨b, hb, rfl⟩ := rngB_of (by omega) q2
      rw [cl (by omega), cl (by omega)] at h
      refine ⟨_, bwM_k (mo := true) hf hb (fun k hk hno hy σ' hI' => ?_) (fun hno σ' hI' => ?_) (vn V) 0 (by omega) (fun j hj => absurd hj (by omega)) _ hI⟩
      · unfold fndB at hno hy
        rw [show szB V true k = vn V - k from rfl] at hy hI' ⊢
        have y1 := (Bool.and_eq_true _ _ ▸ hy).1
        have y2 := (Bool.and_eq_true _ _ ▸ hy).2
        have eK : bK V f b = vn V - k - 1 := hiN_eq 11 (by omega) y2 fun j hj hx => by
          have hjn := exB_lt hn hf hx
          rcases Nat.lt_or_ge (vn V - k - 1) j with z | z
          · have := hno (vn V - 1 - j) (by omega)
            rw [y1, Bool.true_and, show szB V true (vn V - 1 - j) - 1 = j by show vn V - (vn V - 1 - j) - 1 = j; omega, hx] at this
            exact absurd this (by decide)
          · exact z
        have ec : canB V f b = true := by
          unfold canB
          rw [y1, Bool.true_and]
          exact anB_iff.mpr ⟨_, by omega, y2⟩
        rw [ec, eK, if_pos rfl, if_pos rfl, show vn V - k - 1 + 1 = vn V - k by omega] at h
        exact h σ' hI'
      · have ec : canB V f b = false := by
          unfold canB
          cases y1 : fineV V (2 ^ f) with
          | false => rfl
          | true =>
            rw [Bool.true_and, Bool.eq_false_iff]
            intro z
            obtain ⟨j, hj, hx⟩ := anB_iff.mp z
            have hjn := exB_lt hn hf hx
            have := hno (vn V - 1 - j) (by omega)
            unfold fndB at this
            rw [y1, Bool.true_and, show szB V true (vn V - 1 - j) - 1 = j by show vn V - (vn V - 1 - j) - 1 = j; omega, hx] at this
            exact absurd this (by decide)
        rw [ec, if_neg (by decide), if_neg (by decide)] at h
        exact h σ' hI'
theorem om_shortest {σ : St} {V : VV} {P : Int32 → St → Prop} (hI : IM σ V) (v w : Int32) (h : ∀ σ', IM σ' (S_shortest V v w) → P (R_shortest V v w) σ') : wm_shortest σ v w P := by
  have hI := hI.th 0
  have hn := hI.2.n
  refine ⟨V, hI, ?_⟩
  dsimp only
  unfold R_shortest S_shortest at h
  cases q : rngB v (vn V) with
  | false => rw [jf0]; simp only [q, Bool.false_eq_true, false_and, if_false] at h; exact h _ hI
  | true =>
    rw [jt0]
    refine ⟨V, hI, ?_⟩
    dsimp only
    cases q2 : rngB w (vn V) with
    | false => rw [jf0]; simp only [q2, Bool.false_eq_true, and_false, false_and, if_false] at h; exact h _ hI
    | true =>
      rw [jt0]; simp only [q, q2, and_self, true_and, if_true] at h
      obtain ⟨f, hf, rfl⟩ := rngB_of (by omega) q
      obtain ⟨b, hb, rfl⟩ := rngB_of (by omega) q2
      rw [cl (by omega), cl (by omega)] at h
      refine ⟨_, bwM_k (mo := false) hf hb (fun k hk hno hy σ' hI' => ?_) (fun hno σ' hI' => ?_) (vn V) 0 (by omega) (fun j hj => absurd hj (by omega)) _ hI⟩
      · unfold fndB at hno hy
        rw [show szB V false k = k + 1 from rfl] at hy hI' ⊢
        rw [Nat.add_sub_cancel] at hy hI'
        have y1 := (Bool.and_eq_true _ _ ▸ hy).1
        have y2 := (Bool.and_eq_true _ _ ▸ hy).2
        have eK : sK V f b = k := lst_eq (by omega) (fun j hj => by
          have := hno j hj
          rw [y1, Bool.true_and, show szB V false j - 1 = j from rfl] at this
          exact this) (fun _ => y2)
        have ec : canB V f b = true := by
          unfold canB
          rw [y1, Bool.true_and]
          exact anB_iff.mpr ⟨k, by omega, y2⟩
        rw [ec, eK, if_pos rfl, if_pos rfl] at h
        exact h σ' hI'
      · have ec : canB V f b = false := by
          unfold canB
          cases y1 : fineV V (2 ^ f) with
          | false => rfl
          | true =>
            rw [Bool.true_and, Bool.eq_false_iff]
            intro z
            obtain ⟨j, hj, hx⟩ := anB_iff.mp z
            have hjn := exB_lt hn hf hx
            have := hno j hjn
            unfold fndB at this
            rw [y1, Bool.true_and, show szB V false j - 1 = j from rfl, hx] at this
            exact absurd this (by decide)
        rw [ec, if_neg (by decide), if_neg (by decide)] at h
        exact h σ' hI'
