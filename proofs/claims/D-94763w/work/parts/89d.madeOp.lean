/-! MADE: the least of them; the component's op -/
def Best (V : VV) (x : Nat) : Prop := (0 < x ∧ x < 256) ∧ joinsB V x = true ∧ ∀ y, 0 < y → y < 256 → joinsB V y = true → pc x < pc y ∨ (pc x = pc y ∧ x ≤ y)
theorem Best_one {V : VV} {x y : Nat} (h : Best V x) (h2 : Best V y) : x = y := by
  have a := h.2.2 y h2.1.1 h2.1.2 h2.2.1
  have b := h2.2.2 x h.1.1 h.1.2 h.2.1
  omega
noncomputable def bstV (V : VV) : Nat := @dite _ (∃ x, Best V x) (Classical.propDecidable _) (fun h => Classical.choose h) (fun _ => 256)
theorem bstV_of {V : VV} {x : Nat} (h : Best V x) : bstV V = x := by
  have hx : ∃ x, Best V x := ⟨x, h⟩
  unfold bstV
  rw [dif_pos hx]
  exact Best_one (Classical.choose_spec hx) h
theorem bstV_no {V : VV} (h : ∀ y, 0 < y → y < 256 → joinsB V y = false) : bstV V = 256 := by
  unfold bstV
  rw [dif_neg]
  rintro ⟨x, hx⟩
  have := h x hx.1.1 hx.1.2
  rw [hx.2.1] at this
  exact absurd this (by decide)
noncomputable def R_made (V : VV) : Int32 := if joinsB V 0 = true then 0 else if bstV V = 256 then -2 else nI (pc (bstV V))
noncomputable def S_made (V : VV) : VV := if joinsB V 0 = true then vSRow V [0] else if bstV V = 256 then V else vSRow V [nI (bstV V)]
theorem madX_x {V : VV} {c : Nat} {P : Int32 → St → Prop} {K : Int32 → St → Prop} (hc : c ≤ 8) (h1 : ∀ x, Best V x → ∀ σ', IX σ' (vSRow V [nI x]) → P (nI (pc x)) σ')
    (h0 : (∀ y, 0 < y → y < 256 → pc y < c + 1 → joinsB V y = false) → ∀ σ', IX σ' V → K (nI (c + 1)) σ') :
    ∀ m x : Nat, x + m = 256 → 0 < x → (∀ y, 0 < y → y < 256 → (pc y < c ∨ (pc y = c ∧ y < x)) → joinsB V y = false) → ∀ σ, IX σ V → wx_made_l30 P K (m + 1) (nI c) (nI x) σ := by
  intro m
  induction m with
  | zero =>
    intro x hx h0x hno σ hI
    rw [wx_made_l30_s, show x = 256 by omega, if_pos (by decide), nI_1]
    exact h0 (fun y hy hy2 hp => hno y hy hy2 (by omega)) σ hI
  | succ m ih =>
    intro x hx h0x hno σ hI
    have ih1 := ih (x + 1) (by omega) (by omega)
    have hpc := pc_le x
    have k256 : (256 : Int32) = nI 256 := rfl
    rw [wx_made_l30_s, k256, if_neg (nI_ge (by omega) (by omega)), bitC_nI (by omega)]
    simp only [nI_eq (show pc x < 2 ^ 31 by omega) (show c < 2 ^ 31 by omega)]
    unfold wx_made_j68
    rw [nI_1]
    by_cases q : pc x = c
    · rw [if_pos q]
      refine ox_joins hI (by omega) fun σ' hI' => ?_
      cases q2 : joinsB V x with
      | false =>
        rw [jf0]
        refine ih1 (fun y hy hy2 hp => ?_) σ' hI'
        by_cases e : y = x
        · rw [e]; exact q2
        · exact hno y hy hy2 (by omega)
      | true =>
        rw [jt0]
        have hr := hI'.row0
        refine ⟨_, hr, by show 0 < 12; omega, fun σ2 h2 _ _ => ?_⟩
        rw [← q]
        refine h1 x ⟨⟨h0x, by omega⟩, q2, fun y hy hy2 hj => ?_⟩ σ2 h2
        by_cases z : pc y < c ∨ (pc y = c ∧ y < x)
        · rw [hno y hy hy2 z] at hj; exact absurd hj (by decide)
        · omega
    · rw [if_neg q]
      refine ih1 (fun y hy hy2 hp => ?_) σ hI
      refine hno y hy hy2 ?_
      rcases hp with z | z
      · exact Or.inl z
      · refine Or.inr ⟨z.1, ?_⟩
        have : y ≠ x := fun e => q (by rw [← e]; exact z.1)
        omega
theorem ox_made {V : VV} {P : Int32 → St → Prop} {σ : St} (hI : IX σ V) (h : ∀ σ', IX σ' (S_made V) → P (R_made V) σ') : wx_made σ P := by
  unfold R_made S_made at h
  refine ox_joins (x := 0) hI (by omega) fun σ1 hI1 => ?_
  cases q0 : joinsB V 0 with
  | true =>
    rw [jt0]; rw [q0, if_pos rfl, if_pos rfl] at h
    have hr := hI1.row0
    exact ⟨_, hr, by show 0 < 12; omega, fun σ2 h2 _ _ => h σ2 h2⟩
  | false =>
    have e0 : ¬ (false = true) := by decide
    rw [jf0]; rw [q0, if_neg e0, if_neg e0] at h
    have h1 : ∀ x, Best V x → ∀ σ', IX σ' (vSRow V [nI x]) → P (nI (pc x)) σ' := fun x hb σ' h' => by
      have h9 := h σ'
      rw [bstV_of hb, if_neg (show ¬ x = 256 by have := hb.1; omega), if_neg (show ¬ x = 256 by have := hb.1; omega)] at h9
      exact h9 h'
    have key : ∀ m c : Nat, c + m = 9 → (∀ y, 0 < y → y < 256 → pc y < c → joinsB V y = false) → ∀ σ, IX σ V → wx_made_l22 P (m + 1) (nI c) σ := by
      intro m
      induction m with
      | zero =>
        intro c hc hno σ hI
        rw [wx_made_l22_s, show c = 9 by omega, if_pos (by decide)]
        have h9 := h σ
        rw [bstV_no (fun y hy hy2 => hno y hy hy2 (by have : pc y ≤ 8 := pc_le_n (n := 8) (s := y) hy2 (by omega); omega)), if_pos rfl, if_pos rfl] at h9
        exact h9 hI
      | succ m ih =>
        intro c hc hno σ hI
        rw [wx_made_l22_s, k8, if_neg (nI_nlt (by omega) (by omega))]
        refine ⟨256, ?_⟩
        exact madX_x (show c ≤ 8 by omega) h1 (fun hno' σ' hI' => ih (c + 1) (by omega) hno' σ' hI') 255 1 (by omega) (by omega) (fun y hy hy2 hp => by
          rcases hp with z | z
          · exact hno y hy hy2 z
          · omega) σ hI
    exact ⟨9, key 8 1 (by omega) (fun y hy hy2 hp => by
      have : pc y = 0 := by omega
      have hz : ∀ k, k < 11 → y.testBit k = false := fun k hk => by
        cases q : y.testBit k with
        | false => rfl
        | true =>
          have : 1 ≤ pc y := by
            unfold pc
            have : ∀ n, k < n → 1 ≤ cnt (fun k => y.testBit k) n := by
              intro n
              induction n with
              | zero => intro z; omega
              | succ n ihn =>
                intro z
                rw [cnt_s]
                by_cases w : k = n
                · rw [← w, q, if_pos rfl]; omega
                · have := ihn (by omega); omega
            exact this 11 hk
          omega
      have : y = 0 := tb_ext fun j => by
        rw [Nat.zero_testBit]
        by_cases hj : j < 11
        · exact hz j hj
        · exact tb_lt (n := 8) hy2 (by omega)
      omega) σ1 hI1⟩
/-! the model: canAll -/
/-- the dishes' places, the made one's too -/
def cW (σ : St) (V : VV) (x : Nat) : Prop := ∀ j, j < nW V x → gA σ 2 j = nI (stX V x j) ∧ gA σ 4 j = j01 (hotV V j)
theorem hot_n {V : VV} (hw : WV V) {j : Nat} (hj : vn V ≤ j) : hotV V j = false := tb_lt hw.h hj
/-- lastsOf, as the model fills it -/
def MWI (N : Nat) (M : Nat → Nat → Nat → Bool) (L : Nat → Nat) (s j : Nat) : Prop := (∀ k, L k < 2 ^ 11) ∧ ∀ t e, t < 2 ^ N → ((L t).testBit e = true ↔ WL N M t e ∧ (preS t e < s ∨ (preS t e = s ∧ e < j)))
theorem WL_tb {N : Nat} {M : Nat → Nat → Nat → Bool} {t e : Nat} (h : WL N M t e) : t.testBit e = true := by
  obtain ⟨_, z | ⟨p, l, _, _, z⟩⟩ := WL_iff.mp h
  · rw [z, Nat.testBit_two_pow_self]
  · rw [z, tb_or2]; simp
theorem MWI.at {N : Nat} {M : Nat → Nat → Nat → Bool} {L : Nat → Nat} {s j : Nat} (h : MWI N M L s j) (hs : s < 2 ^ N) (e : Nat) : (L s).testBit e = true ↔ WL N M s e := by
  rw [h.2 s e hs]
  exact ⟨fun z => z.1, fun z => ⟨z, Or.inl (preS_lt (WL_tb z))⟩⟩
theorem MWI.none {N : Nat} {M : Nat → Nat → Nat → Bool} {L : Nat → Nat} {s j : Nat} (h : MWI N M L s j) (hno : s.testBit j = true ∨ ¬ WL N M (s ||| 2 ^ j) j) : MWI N M L s (j + 1) := by
  refine ⟨h.1, fun t e ht => ?_⟩
  rw [h.2 t e ht]
  refine and_congr_right fun hw => ⟨fun z => by omega, fun z => ?_⟩
  have hb := WL_tb hw
  have : ¬ (preS t e = s ∧ e = j) := fun ⟨a, b⟩ => by
    obtain ⟨c, d⟩ := or_preS hb
    subst b
    rw [a] at c d
    rcases hno with y | y
    · rw [d] at y; exact absurd y (by decide)
    · exact y (by rw [c]; exact hw)
  omega
theorem MWI.put {N : Nat} {M : Nat → Nat → Nat → Bool} {L : Nat → Nat} {s j : Nat} (hj : j < 11) (h : MWI N M L s j) (hsj : s.testBit j = false) (hw : WL N M (s ||| 2 ^ j) j) : MWI N M (updN L (s ||| 2 ^ j) (L (s ||| 2 ^ j) ||| 2 ^ j)) s (j + 1) := by
  refine ⟨fun k => ?_, fun t e ht => ?_⟩
  · unfold updN
    split
    · exact or2_lt (h.1 _) hj
    · exact h.1 k
  · unfold updN
    by_cases et : t = s ||| 2 ^ j
    · subst et
      rw [if_pos rfl, tb_or2, Bool.or_eq_true, decide_eq_true_eq, h.2 _ e ht]
      constructor
      · rintro (⟨a, b⟩ | rfl)
        · exact ⟨a, by omega⟩
        · exact ⟨hw, by rw [preS_or hsj]; omega⟩
      · rintro ⟨a, b⟩
        by_cases ee : e = j
        · exact Or.inr ee
        · exact Or.inl ⟨a, by omega⟩
    · rw [if_neg et, h.2 t e ht]
      refine and_congr_right fun hw' => ⟨fun z => by omega, fun z => ?_⟩
      have hb := WL_tb hw'
      have : ¬ (preS t e = s ∧ e = j) := fun ⟨a, b⟩ => et (by
        obtain ⟨c, d⟩ := or_preS hb
        rw [← c, a, b])
      omega
theorem MWI.next {N : Nat} {M : Nat → Nat → Nat → Bool} {L : Nat → Nat} {s : Nat} (h : MWI N M L s N) : MWI N M L (s + 1) 0 := by
  refine ⟨h.1, fun t e ht => ?_⟩
  rw [h.2 t e ht]
  refine and_congr_right fun hw => ?_
  have := (WL_lt hw).2
  omega
def lasM (σ : St) (N : Nat) (L : Nat → Nat) : Prop := ∀ s, s < 2 ^ N → gA σ 48 s = nI (L s)
/-- what the loops keep -/
def CM (σ : St) (V : VV) (x : Nat) (F2 F4 : Nat → Int32) : Prop := IM σ V ∧ cW σ V x ∧ gA σ 2 = F2 ∧ gA σ 4 = F4
theorem CM.q48 {σ : St} {V : VV} {x : Nat} {F2 F4 : Nat → Int32} (h : CM σ V x F2 F4) (f : Nat → Int32) : CM (sA σ 48 f) V x F2 F4 := ⟨h.1.qA (by decide) f, h.2.1, h.2.2⟩
/-- the set that a last one goes to, in the model's words -/
def w2 (V : VV) (l d : Nat) : Bool := decide (vla V 2 ≠ 2) || (hotV V l != hotV V d)
def w1 (V : VV) (s d : Nat) : Bool := decide (vla V 2 ≠ 1) || (hotV V d || decide (s &&& vh V = 0))
theorem warm_eq {V : VV} (hw : WV V) (s l d : Nat) : warmV V s l d = (w1 V s d && w2 V l d) := by
  have := hw.la.2.2.2.2
  unfold warmV w1 w2
  rcases (show vla V 2 = 0 ∨ vla V 2 = 1 ∨ vla V 2 = 2 by omega) with e | e | e
  · rw [e, if_neg (by decide)]; rfl
  · rw [e, if_pos rfl, show decide ((1 : Nat) ≠ 2) = true from rfl, Bool.true_or, Bool.and_true]; rfl
  · rw [e, if_neg (by decide)]; rfl
def shW (V : VV) (x l d : Nat) : Bool := decide (vla V 0 ≤ pc (stX V x l &&& stX V x d))
theorem canM_l {V : VV} {x s d : Nat} {L : Nat → Nat} {x3 : Int32} {P : Int32 → St → Prop} {K : Int32 → Int32 → Int32 → Int32 → Int32 → Int32 → St → Prop} {F2 F4 : Nat → Int32} {σ : St} (hC : CM σ V x F2 F4) (hx : x < 256) (hs : s < 2 ^ nW V x) (hd : d < nW V x) (hl : lasM σ (nW V x) L) (hL : ∀ k, L k < 2 ^ 11)
    (f0 : Bool)
    (h : K (nI (nW V x)) (nI (2 ^ nW V x - 1)) x3 (nI s) (nI d) (j01 (f0 || anB (fun l => (L s).testBit l && (shW V x l d && w2 V l d)) (nW V x))) σ) :
    ∀ m l : Nat, l + m = nW V x → wm_canAll_l220 P K (m + 1) (nI (nW V x)) (nI (2 ^ nW V x - 1)) x3 (nI s) (nI d) (j01 (f0 || anB (fun l => (L s).testBit l && (shW V x l d && w2 V l d)) l)) (nI l) σ := by
  have hw := hC.1.2
  have hn := hw.n
  have hN := nW_le hn x
  have hp := pow_2048 hN.1
  have hla := hw.la
  have hLs := hL s
  intro m
  induction m with
  | zero =>
    intro l hl2
    rw [wm_canAll_l220_s, if_pos (by rw [show l = nW V x by omega]; exact Int32.le_refl _), show l = nW V x by omega]
    exact h
  | succ m ih =>
    intro l hl2
    have ih1 := ih (l + 1) (by omega)
    rw [anB_s, ← Bool.or_assoc] at ih1
    rw [wm_canAll_l220_s, if_neg (nI_ge (by omega) (by omega))]
    cases qf : (f0 || anB (fun l => (L s).testBit l && (shW V x l d && w2 V l d)) l) with
    | true =>
      rw [jt0]
      have e : (f0 || anB (fun l => (L s).testBit l && (shW V x l d && w2 V l d)) (nW V x)) = true := by
        rw [Bool.or_eq_true] at qf ⊢
        rcases qf with z | z
        · exact Or.inl z
        · obtain ⟨k, hk, hkp⟩ := anB_iff.mp z
          exact Or.inr (anB_iff.mpr ⟨k, by omega, hkp⟩)
      rw [e] at h
      exact h
    | false =>
      rw [jf0]; rw [qf, Bool.false_or] at ih1
      refine ⟨vp_in_nI (by omega) (by omega), ?_⟩
      rw [cl (by omega), show mA_lastsOf σ s = _ from hl s hs]
      unfold sm_has wm_canAll_j286 wm_canAll_j290 wm_canAll_j291
      dsimp only
      rw [hasB_nI (by omega) (by omega), nI_1]
      cases q : (L s).testBit l with
      | false => rw [jf0]; rw [q, Bool.false_and] at ih1; exact ih1
      | true =>
        rw [jt0]; rw [q, Bool.true_and] at ih1
        obtain ⟨a1, a2⟩ := hC.2.1 l (by omega)
        obtain ⟨b1, b2⟩ := hC.2.1 d (by omega)
        have hpc := pc_le (stX V x l &&& stX V x d)
        refine ⟨l, d, stX V x l, stX V x d, rfl, rfl, by omega, by omega, a1, b1, stX_lt hw hx (by omega), ?_⟩
        dsimp only
        rw [show mI_share σ = _ from hC.1.l0, show mI_heat σ = _ from hC.1.l2, show (2 : Int32) = nI 2 from rfl]
        simp only [nI_ltI (show pc (stX V x l &&& stX V x d) < 2 ^ 31 by omega) (show vla V 0 < 2 ^ 31 by have := hla.2.1; omega), nI_eq (show vla V 2 < 2 ^ 31 by have := hla.2.2.2.2; omega) (show 2 < 2 ^ 31 by omega)]
        unfold shW at ih1
        by_cases q1 : pc (stX V x l &&& stX V x d) < vla V 0
        · rw [if_pos q1]; rw [decide_eq_false (show ¬ vla V 0 ≤ pc (stX V x l &&& stX V x d) by omega), Bool.false_and] at ih1; exact ih1
        · rw [if_neg q1]; rw [decide_eq_true (show vla V 0 ≤ pc (stX V x l &&& stX V x d) by omega), Bool.true_and] at ih1
          unfold w2 at ih1
          by_cases q2 : vla V 2 = 2
          · rw [if_pos q2]
            have e : decide (vla V 2 ≠ 2) = false := decide_eq_false (fun z => z q2)
            rw [e, Bool.false_or] at ih1
            refine ⟨vp_in_nI (by omega) (by omega), vp_in_nI (by omega) (by omega), ?_⟩
            rw [cl (by omega), cl (by omega), show mA_isHot σ l = _ from a2, show mA_isHot σ d = _ from b2]
            simp only [j01_inj]
            by_cases q3 : hotV V l = hotV V d
            · rw [if_pos q3]; rw [q3, show (hotV V d != hotV V d) = false from bne_self_eq_false _] at ih1; exact ih1
            · rw [if_neg q3]; rw [show (hotV V l != hotV V d) = true from bne_iff_ne.mpr q3] at ih1; exact ih1
          · rw [if_neg q2]
            have e : decide (vla V 2 ≠ 2) = true := decide_eq_true q2
            rw [e, Bool.true_or] at ih1; exact ih1
theorem canM_d {V : VV} {x s : Nat} {P : Int32 → St → Prop} {K : Int32 → Int32 → Int32 → Int32 → St → Prop} {F2 F4 : Nat → Int32} (hw : WV V) (hx : x < 256) (hs : s < 2 ^ nW V x)
    (h : ∀ σ' L, CM σ' V x F2 F4 → lasM σ' (nW V x) L → MWI (nW V x) (mQW V x) L s (nW V x) → K (nI (nW V x)) (nI (2 ^ nW V x - 1)) (nI (vh V)) (nI (s + 1)) σ') :
    ∀ m d : Nat, d + m = nW V x → ∀ σ L, CM σ V x F2 F4 → lasM σ (nW V x) L → MWI (nW V x) (mQW V x) L s d → wm_canAll_l161 P K (m + 1) (nI (nW V x)) (nI (2 ^ nW V x - 1)) (nI (vh V)) (nI s) (nI d) σ := by
  have hn := hw.n
  have hN := nW_le hn x
  have hp := pow_2048 hN.1
  have hla := hw.la
  have hh := hw.h
  have hp0 := pow_le_1024 hn
  intro m
  induction m with
  | zero =>
    intro d hd σ L hC hl hR
    rw [wm_canAll_l161_s, if_pos (by rw [show d = nW V x by omega]; exact Int32.le_refl _), nI_1]
    rw [show d = nW V x by omega] at hR
    exact h σ L hC hl hR
  | succ m ih =>
    intro d hd σ L hC hl hR
    have hor := or2_lt hs (show d < nW V x by omega)
    obtain ⟨b1, b2⟩ := hC.2.1 d (by omega)
    have nxt : MWI (nW V x) (mQW V x) L s (d + 1) → wm_canAll_j323 P (wm_canAll_l161 P K (m + 1)) (nI (nW V x)) (nI (2 ^ nW V x - 1)) (nI (vh V)) (nI s) (nI d) σ := fun hR' => by
      unfold wm_canAll_j323
      rw [nI_1]
      exact ih (d + 1) (by omega) σ L hC hl hR'
    rw [wm_canAll_l161_s, if_neg (nI_ge (by omega) (by omega))]
    unfold sm_has
    dsimp only
    rw [hasB_nI (by omega) (by omega)]
    cases q : s.testBit d with
    | true => rw [jt0]; exact nxt (hR.none (Or.inl q))
    | false =>
      rw [jf0]
      -- whether d may follow s
      have hwl : WL (nW V x) (mQW V x) (s ||| 2 ^ d) d ↔ s = 0 ∨ (w1 V s d = true ∧ anB (fun l => (L s).testBit l && (shW V x l d && w2 V l d)) (nW V x) = true) := by
        have em : ∀ l, mQW V x s l d = (shW V x l d && (w1 V s d && w2 V l d)) := fun l => by unfold mQW shW; rw [q, warm_eq hw]; rfl
        rw [WL_iff]
        constructor
        · rintro ⟨_, z | ⟨p, l, h1, h2, h3⟩⟩
          · left
            refine tb_ext fun j => ?_
            have := congrArg (fun t => t.testBit j) z
            rw [tb_or2, Nat.testBit_two_pow] at this
            rw [Nat.zero_testBit]
            by_cases e : j = d
            · rw [e]; exact q
            · rw [decide_eq_false e, Bool.or_false, decide_eq_false (fun y => e y.symm)] at this; exact this
          · right
            have ep : p = s := by
              have := preS_or (mQW_new h2)
              rw [← h3, preS_or q] at this
              exact this.symm
            subst ep
            rw [em, Bool.and_eq_true, Bool.and_eq_true] at h2
            exact ⟨h2.2.1, anB_iff.mpr ⟨l, (WL_lt h1).2, by rw [(hR.at hs l).mpr h1, h2.1, h2.2.2]; rfl⟩⟩
        · rintro (z | ⟨z1, z2⟩)
          · exact ⟨by omega, Or.inl (by rw [z, Nat.zero_or])⟩
          · obtain ⟨l, hlN, h1⟩ := anB_iff.mp z2
            rw [Bool.and_eq_true, Bool.and_eq_true] at h1
            exact ⟨by omega, Or.inr ⟨s, l, (hR.at hs l).mp h1.1, by rw [em, h1.2.1, z1, h1.2.2]; rfl, rfl⟩⟩
      have go : w1 V s d = true ∨ s = 0 → wm_canAll_j205 P (wm_canAll_l161 P K (m + 1)) (nI (nW V x)) (nI (2 ^ nW V x - 1)) (nI (vh V)) (nI s) (nI d) σ := by
        intro hw1
        have lst : ∀ f0 : Bool, f0 = decide (s = 0) → wm_canAll_j215 P (wm_canAll_l161 P K (m + 1)) (nI (nW V x)) (nI (2 ^ nW V x - 1)) (nI (vh V)) (nI s) (nI d) (j01 f0) σ := by
          intro f0 ef
          have h9 := canM_l (x3 := nI (vh V)) (P := P) (K := wm_canAll_j299 P (wm_canAll_l161 P K (m + 1))) hC hx hs (show d < nW V x by omega) hl hR.1 f0 ?_ (nW V x) 0 (by omega)
          · refine ⟨nW V x + 1, ?_⟩
            rw [show anB (fun l => (L s).testBit l && (shW V x l d && w2 V l d)) 0 = false from rfl, Bool.or_false] at h9
            exact h9
          · unfold wm_canAll_j299
            have hb : (f0 || anB (fun l => (L s).testBit l && (shW V x l d && w2 V l d)) (nW V x)) = true ↔ WL (nW V x) (mQW V x) (s ||| 2 ^ d) d := by
              rw [hwl, Bool.or_eq_true, ef, decide_eq_true_eq]
              refine ⟨fun z => ?_, fun z => z.elim Or.inl fun y => Or.inr y.2⟩
              rcases z with z | z
              · exact Or.inl z
              · rcases hw1 with y | y
                · exact Or.inr ⟨y, z⟩
                · exact Or.inl y
            cases qb : (f0 || anB (fun l => (L s).testBit l && (shW V x l d && w2 V l d)) (nW V x)) with
            | false => rw [jf0]; exact nxt (hR.none (Or.inr fun z => by rw [hb.mpr z] at qb; exact absurd qb (by decide)))
            | true =>
              rw [jt0, nI_shl1 _ (by omega), nI_or]
              refine ⟨vp_in_nI (by omega) (by omega), vp_in_nI (by omega) (by omega), ?_⟩
              unfold wm_canAll_j323 mU_lastsOf uA
              rw [cl (by omega), show mA_lastsOf σ (s ||| 2 ^ d) = _ from hl _ hor, nI_or, nI_1]
              refine ih (d + 1) (by omega) _ _ (hC.q48 _) (fun s' hs' => ?_) (hR.put (by omega) q (hb.mp qb))
              show upd (gA σ 48) (s ||| 2 ^ d) _ s' = nI (updN _ _ _ s')
              unfold updN
              by_cases e : s' = s ||| 2 ^ d
              · rw [e, upd_s, if_pos rfl]
              · rw [upd_n e, if_neg e]; exact hl s' hs'
        unfold wm_canAll_j205
        simp only [nI_eq0 (show s < 2 ^ 31 by omega)]
        by_cases e : s = 0
        · rw [if_pos e]; exact lst true (by rw [decide_eq_true e])
        · rw [if_neg e]; exact lst false (by rw [decide_eq_false e])
      rw [show mI_heat σ = _ from hC.1.l2, show (1 : Int32) = nI 1 from rfl, nI_and]
      have hsv : s &&& vh V < 2 ^ 31 := Nat.lt_of_le_of_lt Nat.and_le_right (by omega)
      simp only [nI_eq (show vla V 2 < 2 ^ 31 by have := hla.2.2.2.2; omega) (show 1 < 2 ^ 31 by omega), nI_eq0 hsv]
      by_cases q2 : vla V 2 = 1
      · rw [if_pos q2]
        refine ⟨vp_in_nI (by omega) (by omega), ?_⟩
        rw [cl (by omega), show mA_isHot σ d = _ from b2]
        have e1 : decide (vla V 2 ≠ 1) = false := decide_eq_false (fun z => z q2)
        cases q3 : hotV V d with
        | true => rw [jt0]; exact go (Or.inl (by unfold w1; rw [q3, Bool.true_or, Bool.or_true]))
        | false =>
          rw [jf0]
          by_cases q4 : s &&& vh V = 0
          · rw [if_pos q4]; exact go (Or.inl (by unfold w1; rw [decide_eq_true q4, Bool.or_true, Bool.or_true]))
          · rw [if_neg q4]
            refine nxt (hR.none (Or.inr fun z => ?_))
            rcases hwl.mp z with y | y
            · exact q4 (by rw [y, Nat.zero_and])
            · have := y.1
              unfold w1 at this
              rw [e1, q3, decide_eq_false q4] at this
              exact absurd this (by decide)
      · rw [if_neg q2]
        exact go (Or.inl (by unfold w1; rw [show decide (vla V 2 ≠ 1) = true from decide_eq_true q2, Bool.true_or]))
theorem canM_s {V : VV} {x : Nat} {P : Int32 → St → Prop} {F2 F4 : Nat → Int32} (hw : WV V) (hx : x < 256)
    (h1 : (nW V x = 0 ∨ ∃ d, WL (nW V x) (mQW V x) (2 ^ nW V x - 1) d) → ∀ σ', CM σ' V x F2 F4 → P 1 σ') (h0 : ¬ (nW V x = 0 ∨ ∃ d, WL (nW V x) (mQW V x) (2 ^ nW V x - 1) d) → ∀ σ', CM σ' V x F2 F4 → P 0 σ') :
    ∀ m s : Nat, s + m = 2 ^ nW V x - 1 → ∀ σ L, CM σ V x F2 F4 → lasM σ (nW V x) L → MWI (nW V x) (mQW V x) L s 0 → wm_canAll_l152 P (wm_canAll_j348 P) (wm_canAll_j353 P) (m + 1) (nI (nW V x)) (nI (2 ^ nW V x - 1)) (nI (vh V)) (nI s) σ := by
  have hn := hw.n
  have hN := nW_le hn x
  have hp := pow_2048 hN.1
  have hp1 := Nat.one_le_two_pow (n := nW V x)
  intro m
  induction m with
  | zero =>
    intro s hs σ L hC hl hR
    rw [wm_canAll_l152_s, if_pos (by rw [show s = 2 ^ nW V x - 1 by omega]; exact Int32.le_refl _)]
    simp only [nI_eq0 (show nW V x < 2 ^ 31 by omega)]
    unfold wm_canAll_j348 wm_canAll_j353
    by_cases q : nW V x = 0
    · rw [if_pos q]; exact ⟨rfl, h1 (Or.inl q) σ hC⟩
    · rw [if_neg q]
      have hLf := hR.1 (2 ^ nW V x - 1)
      have hf : 2 ^ nW V x - 1 < 2 ^ nW V x := by omega
      rw [show s = 2 ^ nW V x - 1 by omega] at hR
      have hat := fun d => hR.at hf d
      refine ⟨vp_in_nI (by omega) (by omega), ?_⟩
      rw [cl (by omega), show mA_lastsOf σ (2 ^ nW V x - 1) = _ from hl _ hf]
      simp only [nI_eq0 (show L (2 ^ nW V x - 1) < 2 ^ 31 by omega)]
      by_cases q2 : L (2 ^ nW V x - 1) = 0
      · rw [if_pos q2]
        refine ⟨rfl, h0 (fun z => ?_) σ hC⟩
        rcases z with z | ⟨d, hd⟩
        · exact q z
        · have := (hat d).mpr hd
          rw [q2, Nat.zero_testBit] at this
          exact absurd this (by decide)
      · rw [if_neg q2]
        obtain ⟨d, hd⟩ := Nat.exists_testBit_of_ne_zero q2
        exact ⟨rfl, h1 (Or.inr ⟨d, (hat d).mp hd⟩) σ hC⟩
  | succ m ih =>
    intro s hs σ L hC hl hR
    rw [wm_canAll_l152_s, if_neg (nI_ge (by omega) (by omega))]
    exact ⟨_, canM_d hw hx (show s < 2 ^ nW V x by omega) (fun σ' L' hC' hl' hR' => ih (s + 1) (by omega) σ' L' hC' hl' hR'.next) (nW V x) 0 (by omega) σ L hC hl hR⟩
theorem canM_0 {V : VV} {x : Nat} {P : Int32 → St → Prop} {K : Int32 → Int32 → Int32 → Int32 → St → Prop} {F2 F4 : Nat → Int32} (hw : WV V) (h : ∀ σ' L, CM σ' V x F2 F4 → lasM σ' (nW V x) L → MWI (nW V x) (mQW V x) L 0 0 → K (nI (nW V x)) (nI (2 ^ nW V x - 1)) (nI (vh V)) 0 σ') :
    ∀ m s : Nat, s + m = 2 ^ nW V x → ∀ σ, CM σ V x F2 F4 → (∀ k, k < s → gA σ 48 k = 0) → wm_canAll_l129 P K (m + 1) (nI (nW V x)) (nI (2 ^ nW V x - 1)) (nI (vh V)) (nI s) σ := by
  have hn := hw.n
  have hN := nW_le hn x
  have hp := pow_2048 hN.1
  have hp1 := Nat.one_le_two_pow (n := nW V x)
  intro m
  induction m with
  | zero =>
    intro s hs σ hC hl
    rw [wm_canAll_l129_s, if_pos (nI_lt (by omega) (by omega))]
    refine h σ (fun _ => 0) hC (fun k hk => hl k (by omega)) ⟨fun _ => by show 0 < 2 ^ 11; omega, fun t e _ => ⟨fun z => by rw [Nat.zero_testBit] at z; exact absurd z (by decide), fun z => by omega⟩⟩
  | succ m ih =>
    intro s hs σ hC hl
    rw [wm_canAll_l129_s, if_neg (nI_nlt (by omega) (by omega))]
    refine ⟨vp_in_nI (by omega) (by omega), ?_⟩
    unfold mU_lastsOf uA
    rw [cl (by omega), nI_1]
    refine ih (s + 1) (by omega) _ (hC.q48 _) fun k hk => ?_
    show upd (gA σ 48) s 0 k = _
    by_cases e : k = s
    · rw [e, upd_s]
    · rw [upd_n e]; exact hl k (by omega)
theorem manyW_N {V : VV} {x k : Nat} : manyW V x k = cnt (fun d => (stX V x d).testBit k) (nW V x) := by
  have e : cnt (fun d => (stX V x d).testBit k) (vn V) = cnt (fun d => (vst V d).testBit k) (vn V) := cnt_congr fun d hd => by unfold stX; rw [if_neg (by omega)]
  unfold manyW nW
  by_cases q : x = 0
  · rw [if_pos q, e, q, Nat.zero_testBit]; rfl
  · rw [if_neg q, cnt_s, e]; unfold stX; rw [if_pos rfl]
theorem canM_k {V : VV} {x k : Nat} {x2 x3 : Int32} {P : Int32 → St → Prop} {K : Int32 → Int32 → Int32 → Int32 → St → Prop} {σ : St} {F2 F4 : Nat → Int32} (hC : CM σ V x F2 F4) (hx : x < 256) (hk : k < 8)
    (h1 : (decide (manyW V x k ≤ vla V 1) && decide (manyW V x k ≤ vsto V k)) = true → K (nI (nW V x)) x2 x3 (nI (k + 1)) σ) (h0 : (decide (manyW V x k ≤ vla V 1) && decide (manyW V x k ≤ vsto V k)) = false → P 0 σ) :
    ∀ m j : Nat, j + m = nW V x → wm_canAll_l60 P K (m + 1) (nI (nW V x)) x2 x3 (nI k) (nI (cnt (fun d => (stX V x d).testBit k) j)) (nI j) σ := by
  have hw := hC.1.2
  have hn := hw.n
  have hN := nW_le hn x
  have hla := hw.la
  have hsto := hw.sto hk
  intro m
  induction m with
  | zero =>
    intro j hj
    have hc : manyW V x k ≤ 11 := by rw [manyW_N]; exact Nat.le_trans (cnt_le _ _) hN.1
    rw [wm_canAll_l60_s, if_pos (by rw [show j = nW V x by omega]; exact Int32.le_refl _), show j = nW V x by omega, ← manyW_N, show mI_times σ = _ from hC.1.l1, cl (by omega), show mA_store σ k = _ from hC.1.sto hk, nI_1]
    simp only [nI_ltI (show vla V 1 < 2 ^ 31 by have := hla.2.2.2.1; omega) (show manyW V x k < 2 ^ 31 by omega), nI_leI (show manyW V x k < 2 ^ 31 by omega) (show vsto V k < 2 ^ 31 by omega)]
    by_cases q1 : vla V 1 < manyW V x k
    · rw [if_pos q1]; exact h0 (by rw [decide_eq_false (show ¬ manyW V x k ≤ vla V 1 by omega), Bool.false_and])
    · rw [if_neg q1]
      refine ⟨vp_in_nI hk (by omega), ?_⟩
      by_cases q2 : manyW V x k ≤ vsto V k
      · rw [if_pos q2]; exact h1 (by rw [decide_eq_true q2, decide_eq_true (show manyW V x k ≤ vla V 1 by omega)]; rfl)
      · rw [if_neg q2]; exact h0 (by rw [decide_eq_false q2, Bool.and_false])
  | succ m ih =>
    intro j hj
    have ih1 := ih (j + 1) (by omega)
    rw [cnt_s] at ih1
    obtain ⟨a1, _⟩ := hC.2.1 j (by omega)
    have b1 := stX_lt hw hx (show j < nW V x by omega)
    rw [wm_canAll_l60_s, if_neg (nI_ge (by omega) (by omega))]
    refine ⟨vp_in_nI (by omega) (by omega), ?_⟩
    unfold sm_has wm_canAll_j88
    dsimp only
    rw [cl (by omega), show mA_stuffs σ j = _ from a1, hasB_nI (by omega) (by omega), nI_1, nI_1, Int32.add_zero]
    cases q : (stX V x j).testBit k with
    | false => rw [jf0]; rw [q, if_neg (by decide), Nat.add_zero] at ih1; exact ih1
    | true => rw [jt0]; rw [q, if_pos rfl] at ih1; exact ih1
theorem canM_f {V : VV} {x : Nat} {x2 x3 : Int32} {P : Int32 → St → Prop} {K : Int32 → Int32 → Int32 → Int32 → St → Prop} {σ : St} {F2 F4 : Nat → Int32} (hC : CM σ V x F2 F4) (hx : x < 256)
    (h1 : fineW V x = true → K (nI (nW V x)) x2 x3 0 σ) (h0 : fineW V x = false → P 0 σ) :
    ∀ m k : Nat, k + m = 8 → alB (fun k => decide (manyW V x k ≤ vla V 1) && decide (manyW V x k ≤ vsto V k)) k = true → wm_canAll_l47 P K (m + 1) (nI (nW V x)) x2 x3 (nI k) σ := by
  intro m
  induction m with
  | zero =>
    intro k hk ha
    rw [wm_canAll_l47_s, show k = 8 by omega, if_pos (by decide)]
    rw [show k = 8 by omega] at ha
    exact h1 ha
  | succ m ih =>
    intro k hk ha
    have ih1 := ih (k + 1) (by omega)
    rw [show alB (fun k => decide (manyW V x k ≤ vla V 1) && decide (manyW V x k ≤ vsto V k)) (k + 1) = (alB (fun k => decide (manyW V x k ≤ vla V 1) && decide (manyW V x k ≤ vsto V k)) k && (decide (manyW V x k ≤ vla V 1) && decide (manyW V x k ≤ vsto V k))) from rfl, ha, Bool.true_and] at ih1
    rw [wm_canAll_l47_s, k8, if_neg (nI_ge (by omega) (by omega))]
    exact ⟨_, canM_k hC hx (show k < 8 by omega) ih1 (fun z => h0 (Bool.eq_false_iff.mpr fun y => by
      have := alB_iff.mp y k (by omega)
      rw [z] at this
      exact absurd this (by decide))) (nW V x) 0 (by omega)⟩
theorem canM_h {V : VV} {x : Nat} {x2 : Int32} {P : Int32 → St → Prop} {K : Int32 → Int32 → Int32 → Int32 → St → Prop} {σ : St} {F2 F4 : Nat → Int32} (hC : CM σ V x F2 F4)
    (h : K (nI (nW V x)) x2 (nI (vh V)) 0 σ) :
    ∀ m j : Nat, j + m = nW V x → wm_canAll_l11 P K (m + 1) (nI (nW V x)) x2 (nI (bitsOf (hotV V) j)) (nI j) σ := by
  have hw := hC.1.2
  have hn := hw.n
  have hN := nW_le hn x
  intro m
  induction m with
  | zero =>
    intro j hj
    have e : bitsOf (hotV V) (nW V x) = vh V := tb_ext fun i => by
      rw [bitsOf_tb]
      by_cases q : i < nW V x
      · rw [decide_eq_true q, Bool.true_and]; rfl
      · rw [decide_eq_false q, Bool.false_and, tb_lt hw.h (by omega)]
    rw [wm_canAll_l11_s, if_pos (by rw [show j = nW V x by omega]; exact Int32.le_refl _), show j = nW V x by omega, e]
    exact h
  | succ m ih =>
    intro j hj
    have ih1 := ih (j + 1) (by omega)
    rw [bitsOf_s] at ih1
    obtain ⟨_, b1⟩ := hC.2.1 j (by omega)
    rw [wm_canAll_l11_s, if_neg (nI_ge (by omega) (by omega))]
    refine ⟨vp_in_nI (by omega) (by omega), ?_⟩
    unfold wm_canAll_j36
    rw [cl (by omega), show mA_isHot σ j = _ from b1, nI_1, nI_shl1 _ (by omega), nI_or, show nI (bitsOf (hotV V) j) ||| (0 : Int32) = nI (bitsOf (hotV V) j ||| 0) from nI_or _ 0]
    cases q : hotV V j with
    | false => rw [jf0]; rw [q, if_neg (by decide)] at ih1; exact ih1
    | true => rw [jt0]; rw [q, if_pos rfl] at ih1; exact ih1
theorem om_canAll {V : VV} {x : Nat} {P : Int32 → St → Prop} {σ : St} (hI : IM σ V) (hx : x < 256) (hc : cW σ V x) (h : ∀ σ', IM σ' V → gA σ' 2 = gA σ 2 → gA σ' 4 = gA σ 4 → P (j01 (joinsB V x)) σ') : wm_canAll σ (nI (nW V x)) P := by
  have hw := hI.2
  have hn := hw.n
  have hN := nW_le hn x
  have hp := pow_2048 hN.1
  have hp1 := Nat.one_le_two_pow (n := nW V x)
  have hC : CM σ V x (gA σ 2) (gA σ 4) := ⟨hI, hc, rfl, rfl⟩
  have h1 : joinsP V x → ∀ σ', CM σ' V x (gA σ 2) (gA σ 4) → P 1 σ' := fun z σ' hC' => by have := h σ' hC'.1 hC'.2.2.1 hC'.2.2.2; rw [joinsB_t z] at this; exact this
  have h0 : ¬ joinsP V x → ∀ σ', CM σ' V x (gA σ 2) (gA σ 4) → P 0 σ' := fun z σ' hC' => by have := h σ' hC'.1 hC'.2.2.1 hC'.2.2.2; rw [joinsB_f z] at this; exact this
  unfold wm_canAll
  rw [nI_shl1 _ (by omega), nI_lit1, pk_sub hp1]
  refine ⟨nW V x + 1, canM_h hC ?_ (nW V x) 0 (by omega)⟩
  refine ⟨9, canM_f hC hx (fun z => ?_) (fun z => ?_) 8 0 (by omega) rfl⟩
  · refine ⟨_, canM_0 hw (fun σ' L hC' hl hR => ⟨_, canM_s hw hx (fun y => h1 ⟨z, y⟩) (fun y => h0 (fun w => y w.2)) (2 ^ nW V x - 1) 0 (by omega) σ' L hC' hl hR⟩) (2 ^ nW V x) 0 (by omega) σ hC (fun k hk => absurd hk (by omega))⟩
  · exact h0 (fun w => by have y := w.1; rw [z] at y; exact absurd y (by decide)) σ hC
/-! its op -/
theorem IM.wN {σ : St} {V : VV} (h : IM σ V) {k : Nat} (hk : k = 2 ∨ k = 3 ∨ k = 4) (v : Int32) : IM (uA σ k (nI (vn V)) v) V := by
  have hn := h.2.n
  unfold uA
  rw [cl (by omega)]
  obtain ⟨a, b, b3, b4, b5, b6, b7, b8, b9, b10, b11⟩ := h.1
  have e : ∀ j, j < vn V → ∀ i, i = 2 ∨ i = 3 ∨ i = 5 ∨ i = 4 → gA (sA σ k (upd (gA σ k) (vn V) v)) i j = gA σ i j := fun j hj i _ => by
    rw [gA_sA]
    by_cases q : i = k
    · rw [if_pos q, upd_n (by omega), q]
    · rw [if_neg q]
  have ne : ∀ i, i ≠ 2 → i ≠ 3 → i ≠ 4 → gA (sA σ k (upd (gA σ k) (vn V) v)) i = gA σ i := fun i h2 h3 h4 => by
    rw [gA_sA, if_neg (fun q => by omega)]
  refine ⟨⟨a, fun d hd => ?_, ?_, ?_, ?_, ?_, ?_, ?_, b9, fun i hi => ?_, ?_⟩, h.2⟩
  · rw [e d hd 2 (by omega), e d hd 3 (by omega), e d hd 5 (by omega), e d hd 4 (by omega)]; exact b d hd
  · rw [ne 7 (by decide) (by decide) (by decide), ne 8 (by decide) (by decide) (by decide)]; exact b3
  · rw [ne 0 (by decide) (by decide) (by decide)]; exact b4
  · rw [ne 12 (by decide) (by decide) (by decide)]; exact b5
  · rw [ne 16 (by decide) (by decide) (by decide)]; exact b6
  · rw [ne 15 (by decide) (by decide) (by decide), ne 14 (by decide) (by decide) (by decide)]; exact b7
  · rw [ne 18 (by decide) (by decide) (by decide)]; exact b8
  · exact keptM.kp (ne 50 (by decide) (by decide) (by decide)) (ne 51 (by decide) (by decide) (by decide)) (ne 52 (by decide) (by decide) (by decide)) rfl (b10 i hi)
  · exact ruleM.kp (σ := σ) (σ' := sA σ k (upd (gA σ k) (vn V) v)) rfl (ne 26 (by decide) (by decide) (by decide)) b11
/-- the best so far -/
def bestS (V : VV) (b x : Nat) : Prop := (b = 256 ∧ ∀ y, 0 < y → y < x → joinsB V y = false) ∨ ((0 < b ∧ b < x) ∧ joinsB V b = true ∧ ∀ y, 0 < y → y < x → joinsB V y = true → pc b < pc y ∨ (pc b = pc y ∧ b ≤ y))
def bI (b : Nat) : Int32 := if b = 256 then -1 else nI b
theorem madM_x {V : VV} {P : Int32 → St → Prop} (hw : WV V) (hq : joinsB V 0 = false) (h : ∀ σ', IM σ' (S_made V) → P (R_made V) σ') :
    ∀ m x : Nat, x + m = 256 → 0 < x → ∀ b, bestS V b x → ∀ σ, IM σ V → gA σ 4 (vn V) = 0 → wm_made_l52 P (m + 1) (bI b) (nI x) σ := by
  have hn := hw.n
  unfold R_made S_made at h
  have e0 : ¬ (false = true) := by decide
  rw [hq, if_neg e0, if_neg e0] at h
  intro m
  induction m with
  | zero =>
    intro x hx h0 b hb σ hI h4
    rw [wm_made_l52_s, show x = 256 by omega, if_pos (by decide)]
    rw [show x = 256 by omega] at hb
    rcases hb with ⟨rfl, hno⟩ | ⟨hb1, hb2, hb3⟩
    · rw [if_pos (show bI 256 = -1 from rfl)]
      have h9 := h σ
      rw [bstV_no hno, if_pos rfl, if_pos rfl] at h9
      exact h9 hI
    · have e : bI b = nI b := if_neg (by omega)
      rw [e, if_neg (m1_nI (by omega))]
      have hbest : Best V b := ⟨by omega, hb2, hb3⟩
      have h9 := h
      rw [bstV_of hbest, if_neg (show ¬ b = 256 by omega), if_neg (show ¬ b = 256 by omega)] at h9
      have hr := hI.row0
      refine ⟨_, hr, by show 0 < 12; omega, fun σ2 h2 _ _ => ?_⟩
      rw [bitC_nI (by omega)]
      exact h9 σ2 h2
  | succ m ih =>
    intro x hx h0 b hb σ hI h4
    have hbx : b < x ∨ b = 256 := by rcases hb with z | z <;> omega
    have hpcx := pc_le x
    have hpcb := pc_le b
    rw [wm_made_l52_s, show (256 : Int32) = nI 256 from rfl, if_neg (nI_ge (by omega) (by omega))]
    unfold wm_made_j103
    rw [nI_1]
    have hNx : nW V x = vn V + 1 := if_neg (by omega)
    -- x is tried
    have try1 : (b = 256 ∨ pc x < pc b) → wm_made_j78 P (wm_made_l52 P (m + 1)) (bI b) (nI x) σ := by
      intro hlt
      unfold wm_made_j78 wm_made_j103 mU_stuffs
      rw [nI_1, show mI_dishes σ = nI (vn V) from hI.n]
      refine ⟨vp_in_nI (by omega) (by omega), ?_⟩
      have hI1 : IM (uA σ 2 (nI (vn V)) (nI x)) V := hI.wN (Or.inl rfl) (nI x)
      rw [show mI_dishes (uA σ 2 (nI (vn V)) (nI x)) = nI (vn V) from hI1.n, nI_1, ← hNx]
      refine om_canAll hI1 (by omega) (fun j hj => ?_) fun σ' hI' e2 e4 => ?_
      · unfold stX
        by_cases q : j = vn V
        · rw [if_pos q, q, hot_n hw (Nat.le_refl _)]
          refine ⟨?_, h4⟩
          show gA (sA σ 2 (upd (gA σ 2) (nI (vn V)).toNatClampNeg (nI x))) 2 (vn V) = _
          rw [gA_sAk, cl (by omega), upd_s]
        · rw [if_neg q]
          exact ⟨hI1.st (by omega), hI1.hot (by omega)⟩
      · have h4' : gA σ' 4 (vn V) = 0 := by rw [e4]; exact h4
        cases q2 : joinsB V x with
        | false =>
          rw [jf0]
          refine ih (x + 1) (by omega) (by omega) b ?_ σ' hI' h4'
          rcases hb with ⟨hb0, hno⟩ | ⟨hb1, hb2, hb3⟩
          · refine Or.inl ⟨hb0, fun y hy hyx => ?_⟩
            by_cases e : y = x
            · rw [e]; exact q2
            · exact hno y hy (by omega)
          · refine Or.inr ⟨by omega, hb2, fun y hy hyx hj => ?_⟩
            have : y ≠ x := fun e => by rw [e, q2] at hj; exact absurd hj (by decide)
            exact hb3 y hy (by omega) hj
        | true =>
          rw [jt0]
          have h9 := ih (x + 1) (by omega) (by omega) x ?_ σ' hI' h4'
          · rw [show bI x = nI x from if_neg (by omega)] at h9
            exact h9
          · refine Or.inr ⟨by omega, q2, fun y hy hyx hj => ?_⟩
            by_cases e : y = x
            · rw [e]; omega
            · rcases hb with ⟨hb0, hno⟩ | ⟨hb1, hb2, hb3⟩
              · rw [hno y hy (by omega)] at hj; exact absurd hj (by decide)
              · have := hb3 y hy (by omega) hj
                omega
    by_cases q : b = 256
    · rw [if_pos (by rw [q]; rfl)]; exact try1 (Or.inl q)
    · have e : bI b = nI b := if_neg q
      rw [if_neg (by rw [e]; exact m1_nI (by omega)), bitC_nI (by omega)]
      rw [show bitC (bI b) = nI (pc b) from by rw [e, bitC_nI (by omega)]]
      simp only [nI_ltI (show pc x < 2 ^ 31 by omega) (show pc b < 2 ^ 31 by omega)]
      by_cases q2 : pc x < pc b
      · rw [if_pos q2]; exact try1 (Or.inr q2)
      · rw [if_neg q2]
        refine ih (x + 1) (by omega) (by omega) b ?_ σ hI h4
        rcases hb with ⟨hb0, _⟩ | ⟨hb1, hb2, hb3⟩
        · exact absurd hb0 q
        · refine Or.inr ⟨by omega, hb2, fun y hy hyx hj => ?_⟩
          by_cases e : y = x
          · rw [e]; omega
          · exact hb3 y hy (by omega) hj
theorem om_made {V : VV} {P : Int32 → St → Prop} {σ : St} (hI : IM σ V) (h : ∀ σ', IM σ' (S_made V) → P (R_made V) σ') : wm_made σ P := by
  have hI := hI.th 0
  have hw := hI.2
  have hn := hw.n
  unfold wm_made
  rw [show mI_dishes (mS_thrown σ 0) = nI (vn V) from hI.n, show vn V = nW V 0 from rfl]
  refine om_canAll (x := 0) hI (by omega) (fun j hj => ?_) fun σ1 hI1 _ _ => ?_
  · have hj' : j < vn V := hj
    unfold stX
    rw [if_neg (by omega)]
    exact ⟨hI.st hj', hI.hot hj'⟩
  · cases q0 : joinsB V 0 with
    | true =>
      rw [jt0]
      unfold R_made S_made at h
      rw [q0, if_pos rfl, if_pos rfl] at h
      have hr := hI1.row0
      exact ⟨_, hr, by show 0 < 12; omega, fun σ2 h2 _ _ => h σ2 h2⟩
    | false =>
      rw [jf0]
      unfold mU_isHot mU_cost
      rw [show mI_dishes σ1 = nI (vn V) from hI1.n, nar_0]
      have hI2 : IM (uA σ1 4 (nI (vn V)) 0) V := hI1.wN (Or.inr (Or.inr rfl)) 0
      rw [show mI_dishes (uA σ1 4 (nI (vn V)) 0) = nI (vn V) from hI2.n]
      refine ⟨vp_in_nI (by omega) (by omega), vp_in_nI (by omega) (by omega), 256, ?_⟩
      have hI3 : IM (uA (uA σ1 4 (nI (vn V)) 0) 3 (nI (vn V)) 0) V := hI2.wN (Or.inr (Or.inl rfl)) 0
      refine madM_x hw q0 h 255 1 (by omega) (by omega) 256 (Or.inl ⟨rfl, fun y hy hy2 => by omega⟩) _ hI3 ?_
      show upd (gA σ1 4) (nI (vn V)).toNatClampNeg 0 (vn V) = 0
      rw [cl (by omega), upd_s]
