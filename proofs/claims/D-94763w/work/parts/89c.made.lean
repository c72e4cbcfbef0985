/-! MADE: a dish of some stuffs, made so that all dishes can be served -/
def stX (V : VV) (x j : Nat) : Nat := if j = vn V then x else vst V j
def nW (V : VV) (x : Nat) : Nat := if x = 0 then vn V else vn V + 1
def mQW (V : VV) (x s l d : Nat) : Bool := !(s.testBit d) && (decide (vla V 0 ≤ pc (stX V x l &&& stX V x d)) && warmV V s l d)
def manyW (V : VV) (x k : Nat) : Nat := cnt (fun d => (vst V d).testBit k) (vn V) + (if x.testBit k = true then 1 else 0)
def fineW (V : VV) (x : Nat) : Bool := alB (fun k => decide (manyW V x k ≤ vla V 1) && decide (manyW V x k ≤ vsto V k)) 8
/-- set s can be served with d last -/
def WLk (N : Nat) (M : Nat → Nat → Nat → Bool) : Nat → Nat → Nat → Prop
  | 0, s, d => d < N ∧ s = 2 ^ d
  | k + 1, s, d => d < N ∧ ∃ p l, WLk N M k p l ∧ M p l d = true ∧ s = p ||| 2 ^ d
def WL (N : Nat) (M : Nat → Nat → Nat → Bool) (s d : Nat) : Prop := ∃ k, WLk N M k s d
theorem WL_iff {N : Nat} {M : Nat → Nat → Nat → Bool} {s d : Nat} : WL N M s d ↔ d < N ∧ (s = 2 ^ d ∨ ∃ p l, WL N M p l ∧ M p l d = true ∧ s = p ||| 2 ^ d) := by
  constructor
  · rintro ⟨k, h⟩
    cases k with
    | zero => exact ⟨h.1, Or.inl h.2⟩
    | succ k =>
      obtain ⟨hd, p, l, h1, h2⟩ := h
      exact ⟨hd, Or.inr ⟨p, l, ⟨k, h1⟩, h2⟩⟩
  · rintro ⟨hd, h | ⟨p, l, ⟨k, h1⟩, h2⟩⟩
    · exact ⟨0, hd, h⟩
    · exact ⟨k + 1, hd, p, l, h1, h2⟩
theorem WL_lt {N : Nat} {M : Nat → Nat → Nat → Bool} {s d : Nat} (h : WL N M s d) : s < 2 ^ N ∧ d < N := by
  obtain ⟨k, h⟩ := h
  revert s d
  induction k with
  | zero => intro s d h; exact ⟨by rw [h.2]; exact Nat.pow_lt_pow_right (by decide) h.1, h.1⟩
  | succ k ih =>
    intro s d h
    obtain ⟨hd, p, l, h1, h2, h3⟩ := h
    exact ⟨by rw [h3]; exact or2_lt (ih h1).1 hd, hd⟩
theorem mQW_new {V : VV} {x s l d : Nat} (h : mQW V x s l d = true) : s.testBit d = false := by
  unfold mQW at h
  rw [Bool.and_eq_true, Bool.not_eq_true'] at h
  exact h.1
def joinsP (V : VV) (x : Nat) : Prop := fineW V x = true ∧ (nW V x = 0 ∨ ∃ d, WL (nW V x) (mQW V x) (2 ^ nW V x - 1) d)
noncomputable def joinsB (V : VV) (x : Nat) : Bool := @decide (joinsP V x) (Classical.propDecidable _)
theorem joinsB_t {V : VV} {x : Nat} (h : joinsP V x) : joinsB V x = true := @decide_eq_true _ (Classical.propDecidable _) h
theorem joinsB_f {V : VV} {x : Nat} (h : ¬ joinsP V x) : joinsB V x = false := @decide_eq_false _ (Classical.propDecidable _) h
/-! the component: forward -/
def WI (N : Nat) (M : Nat → Nat → Nat → Bool) (L : Nat → Nat) (s j : Nat) : Prop := (∀ k, L k < 2 ^ 11) ∧ ∀ t d, t < 2 ^ N → ((L t).testBit d = true ↔ d < N ∧ (t = 2 ^ d ∨ ∃ p l, (p < s ∨ (p = s ∧ l < j)) ∧ WL N M p l ∧ M p l d = true ∧ t = p ||| 2 ^ d))
theorem WI.at {N : Nat} {M : Nat → Nat → Nat → Bool} {L : Nat → Nat} {s j : Nat} (hM : ∀ p l d, M p l d = true → p.testBit d = false) (h : WI N M L s j) (hs : s < 2 ^ N) (d : Nat) : (L s).testBit d = true ↔ WL N M s d := by
  rw [h.2 s d hs, WL_iff]
  refine and_congr_right fun hd => or_congr_right ⟨fun ⟨p, l, _, h2⟩ => ⟨p, l, h2⟩, fun ⟨p, l, h1, h2, h3⟩ => ⟨p, l, Or.inl ?_, h1, h2, h3⟩⟩
  have := or2_gt (hM p l d h2)
  omega
theorem WI.push {N : Nat} {M : Nat → Nat → Nat → Bool} {L : Nat → Nat} {s j : Nat} (hN : N ≤ 11) (h : WI N M L s j) (hr : WL N M s j) : WI N M (pushB M s j L N) s (j + 1) := by
  refine ⟨pushB_lt h.1 N hN, fun t d ht => ?_⟩
  rw [pushB_tb, h.2 t d ht]
  constructor
  · rintro (⟨hd, e | ⟨p, l, h1, h2⟩⟩ | ⟨hd, hm, e⟩)
    · exact ⟨hd, Or.inl e⟩
    · exact ⟨hd, Or.inr ⟨p, l, by omega, h2⟩⟩
    · exact ⟨hd, Or.inr ⟨s, j, by omega, hr, hm, e⟩⟩
  · rintro ⟨hd, e | ⟨p, l, h1, h2, h3, h4⟩⟩
    · exact Or.inl ⟨hd, Or.inl e⟩
    · by_cases e : p = s ∧ l = j
      · obtain ⟨rfl, rfl⟩ := e
        exact Or.inr ⟨hd, h3, h4⟩
      · exact Or.inl ⟨hd, Or.inr ⟨p, l, by omega, h2, h3, h4⟩⟩
theorem WI.skip {N : Nat} {M : Nat → Nat → Nat → Bool} {L : Nat → Nat} {s j : Nat} (h : WI N M L s j) (hr : ¬ WL N M s j) : WI N M L s (j + 1) := by
  refine ⟨h.1, fun t d ht => ?_⟩
  rw [h.2 t d ht]
  refine and_congr_right fun hd => or_congr_right ⟨fun ⟨p, l, h1, h2⟩ => ⟨p, l, by omega, h2⟩, fun ⟨p, l, h1, h2⟩ => ⟨p, l, ?_, h2⟩⟩
  have : ¬ (p = s ∧ l = j) := fun e => hr (by rw [← e.1, ← e.2]; exact h2.1)
  omega
theorem WI.next {N : Nat} {M : Nat → Nat → Nat → Bool} {L : Nat → Nat} {s : Nat} (h : WI N M L s N) : WI N M L (s + 1) 0 := by
  refine ⟨h.1, fun t d ht => ?_⟩
  rw [h.2 t d ht]
  refine and_congr_right fun hd => or_congr_right ⟨fun ⟨p, l, h1, h2⟩ => ⟨p, l, by omega, h2⟩, fun ⟨p, l, h1, h2⟩ => ⟨p, l, ?_, h2⟩⟩
  have := (WL_lt h2.1).2
  omega
def lasW (σ : St) (N : Nat) (L : Nat → Nat) : Prop := ∀ s, s < 2 ^ N → gA σ 40 s = nI (L s)
theorem nW_le {V : VV} (hn : vn V ≤ 10) (x : Nat) : nW V x ≤ 11 ∧ vn V ≤ nW V x ∧ nW V x ≤ vn V + 1 := by unfold nW; split <;> omega
theorem pow_2048 {N : Nat} (h : N ≤ 11) : 2 ^ N ≤ 2048 := Nat.pow_le_pow_right (n := 2) (by decide) h
theorem stX_lt {V : VV} (hw : WV V) {x j : Nat} (hx : x < 256) (hj : j < nW V x) : stX V x j < 256 := by
  unfold stX
  have := nW_le hw.n x
  split
  · exact hx
  · exact (hw.d (d := j) (by omega)).2.1
theorem ox_stuffsOf {σ : St} {V : VV} {x j : Nat} {P : Int32 → St → Prop} (hI : IX σ V) (hj : j < nW V x) (h : P (nI (stX V x j)) σ) : wx_stuffsOf σ (nI j) (nI x) P := by
  have hn := hI.2.n
  have := nW_le hn x
  unfold wx_stuffsOf wx_stuffsOf_j18
  unfold stX at h
  rw [show xI_dishes σ = _ from hI.n]
  simp only [nI_eq (show j < 2 ^ 31 by omega) (show vn V < 2 ^ 31 by omega)]
  by_cases q : j = vn V
  · rw [if_pos q] at h ⊢; exact h
  · rw [if_neg q] at h ⊢
    refine ⟨vp_in_nI (by omega) (by omega), ?_⟩
    rw [cl (by omega), show xA_stuffs σ j = _ from hI.st (by omega)]
    exact h
theorem ox_goesWith {σ : St} {V : VV} {x s l d : Nat} {P : Int32 → St → Prop} (hI : IX σ V) (hx : x < 256) (hs : s < 2048) (hl : l < nW V x) (hd : d < nW V x) (h : P (j01 (decide (vla V 0 ≤ pc (stX V x l &&& stX V x d)) && warmV V s l d)) σ) : wx_goesWith σ (nI s) (nI l) (nI d) (nI x) P := by
  have hn := hI.2.n
  have hN := nW_le hn x
  have hla := hI.2.la
  have b1 := stX_lt hI.2 hx hl
  have b2 : stX V x l &&& stX V x d < 256 := Nat.lt_of_le_of_lt Nat.and_le_left b1
  have hpc := pc_le (stX V x l &&& stX V x d)
  refine ox_stuffsOf hI hl (ox_stuffsOf hI hd ⟨vp_lit rfl, ?_⟩)
  rw [nI_and, bitC_nI (by omega), show xA_law σ (0 : Int32).toNatClampNeg = nI (vla V 0) from hI.la (d := 0) (by omega)]
  simp only [nI_leI (show vla V 0 < 2 ^ 31 by have := hla.2.1; omega) (show pc (stX V x l &&& stX V x d) < 2 ^ 31 by omega)]
  by_cases q : vla V 0 ≤ pc (stX V x l &&& stX V x d)
  · rw [if_pos q]; rw [decide_eq_true q, Bool.true_and] at h
    exact ⟨V, s, l, d, hI, rfl, rfl, rfl, hs, by omega, by omega, j01_nz _, h⟩
  · rw [if_neg q]; rw [decide_eq_false q, Bool.false_and] at h; exact h
theorem joiX_d {V : VV} {x s l : Nat} {L : Nat → Nat} {x3 : Int32} {P : Int32 → St → Prop} {K : Int32 → Int32 → Int32 → Int32 → Int32 → St → Prop} (hx : x < 256) (hs : s < 2 ^ nW V x) (hl : l < nW V x) (hL : ∀ k, L k < 2 ^ 11)
    (h : ∀ σ', IX σ' V → lasW σ' (nW V x) (pushB (mQW V x) s l L (nW V x)) → K (nI x) (nI (nW V x)) x3 (nI s) (nI l) σ') :
    ∀ m d : Nat, d + m = nW V x → ∀ σ, IX σ V → lasW σ (nW V x) (pushB (mQW V x) s l L d) → wx_joins_l108 P K (m + 1) (nI x) (nI (nW V x)) x3 (nI s) (nI l) (nI d) σ := by
  intro m
  induction m with
  | zero =>
    intro d hd σ hI hl2
    rw [wx_joins_l108_s, if_pos (by rw [show d = nW V x by omega]; exact Int32.le_refl _)]
    rw [show d = nW V x by omega] at hl2
    exact h σ hI hl2
  | succ m ih =>
    intro d hd σ hI hl2
    have hn := hI.2.n
    have hN := nW_le hn x
    have hp := pow_2048 hN.1
    have ih1 := ih (d + 1) (by omega)
    have hor := or2_lt hs (show d < nW V x by omega)
    rw [wx_joins_l108_s, if_neg (nI_ge (by omega) (by omega))]
    unfold sx_has wx_joins_j157
    dsimp only
    rw [hasB_nI (by omega) (by omega), nI_1]
    cases q : s.testBit d with
    | true =>
      rw [jt0]
      exact ih1 σ hI (by rw [pushB_s, if_neg (fun z => by rw [mQW_new z] at q; exact absurd q (by decide))]; exact hl2)
    | false =>
      rw [jf0]
      have em : mQW V x s l d = (decide (vla V 0 ≤ pc (stX V x l &&& stX V x d)) && warmV V s l d) := by unfold mQW; rw [q]; rfl
      refine ox_goesWith hI hx (by omega) hl (by omega) ?_
      rw [← em]
      cases q2 : mQW V x s l d with
      | false => rw [jf0]; exact ih1 σ hI (by rw [pushB_s, if_neg (by rw [q2]; decide)]; exact hl2)
      | true =>
        rw [jt0, nI_shl1 _ (by omega), nI_or]
        refine ⟨vp_in_nI (by omega) (by omega), vp_in_nI (by omega) (by omega), ?_⟩
        unfold xU_wideLasts uA
        rw [cl (by omega), show xA_wideLasts σ (s ||| 2 ^ d) = _ from hl2 _ hor, nI_or]
        refine ih1 _ (hI.qA (by decide) _) fun s' hs' => ?_
        rw [pushB_s, if_pos q2]
        show upd (gA σ 40) (s ||| 2 ^ d) _ s' = nI (updN _ _ _ s')
        unfold updN
        by_cases e : s' = s ||| 2 ^ d
        · rw [e, upd_s, if_pos rfl]
        · rw [upd_n e, if_neg e]; exact hl2 s' hs'
theorem joiX_l {V : VV} {x s : Nat} {x3 : Int32} {P : Int32 → St → Prop} {K : Int32 → Int32 → Int32 → Int32 → St → Prop} (hw : WV V) (hx : x < 256) (hs : s < 2 ^ nW V x)
    (h : ∀ σ' L, IX σ' V → lasW σ' (nW V x) L → WI (nW V x) (mQW V x) L s (nW V x) → K (nI x) (nI (nW V x)) x3 (nI (s + 1)) σ') :
    ∀ m j : Nat, j + m = nW V x → ∀ σ L, IX σ V → lasW σ (nW V x) L → WI (nW V x) (mQW V x) L s j → wx_joins_l81 P K (m + 1) (nI x) (nI (nW V x)) x3 (nI s) (nI j) σ := by
  have hn := hw.n
  have hN := nW_le hn x
  have hp := pow_2048 hN.1
  intro m
  induction m with
  | zero =>
    intro j hj σ L hI hl hR
    rw [wx_joins_l81_s, if_pos (by rw [show j = nW V x by omega]; exact Int32.le_refl _), nI_1]
    rw [show j = nW V x by omega] at hR
    exact h σ L hI hl hR
  | succ m ih =>
    intro j hj σ L hI hl hR
    have ih1 := ih (j + 1) (by omega)
    have hat := hR.at (fun _ _ _ h => mQW_new h) hs j
    have hLs := hR.1 s
    rw [wx_joins_l81_s, if_neg (nI_ge (by omega) (by omega))]
    refine ⟨vp_in_nI (by omega) (by omega), ?_⟩
    rw [cl (by omega), show xA_wideLasts σ s = _ from hl s hs]
    unfold sx_has
    dsimp only
    rw [hasB_nI (by omega) (by omega)]
    cases q : (L s).testBit j with
    | false =>
      rw [jf0]
      unfold wx_joins_j163
      rw [nI_1]
      exact ih1 σ L hI hl (hR.skip fun z => by rw [hat.mpr z] at q; exact absurd q (by decide))
    | true =>
      rw [jt0]
      refine ⟨_, joiX_d hx hs (by omega) hR.1 (fun σ' hI' hl' => ?_) (nW V x) 0 (by omega) σ hI hl⟩
      unfold wx_joins_j163
      rw [nI_1]
      exact ih1 σ' _ hI' hl' (hR.push hN.1 (hat.mp q))
theorem joiX_s {V : VV} {x : Nat} {P : Int32 → St → Prop} (hw : WV V) (hx : x < 256)
    (h1 : (nW V x = 0 ∨ ∃ d, WL (nW V x) (mQW V x) (2 ^ nW V x - 1) d) → ∀ σ', IX σ' V → P 1 σ') (h0 : ¬ (nW V x = 0 ∨ ∃ d, WL (nW V x) (mQW V x) (2 ^ nW V x - 1) d) → ∀ σ', IX σ' V → P 0 σ') :
    ∀ m s : Nat, s + m = 2 ^ nW V x → ∀ σ L, IX σ V → lasW σ (nW V x) L → WI (nW V x) (mQW V x) L s 0 → wx_joins_l72 P (wx_joins_j188 P) (wx_joins_j193 P) (m + 1) (nI x) (nI (nW V x)) (nI (2 ^ nW V x - 1)) (nI s) σ := by
  have hn := hw.n
  have hN := nW_le hn x
  have hp := pow_2048 hN.1
  have hp1 := Nat.one_le_two_pow (n := nW V x)
  intro m
  induction m with
  | zero =>
    intro s hs σ L hI hl hR
    rw [wx_joins_l72_s, if_pos (nI_lt (by omega) (by omega))]
    simp only [nI_eq0 (show 2 ^ nW V x - 1 < 2 ^ 31 by omega)]
    unfold wx_joins_j188 wx_joins_j193
    by_cases q : 2 ^ nW V x - 1 = 0
    · rw [if_pos q]
      have : nW V x = 0 := Decidable.byContradiction fun z => by
        have : 2 ^ 1 ≤ 2 ^ nW V x := Nat.pow_le_pow_right (n := 2) (by decide) (show 1 ≤ nW V x by omega)
        omega
      exact ⟨rfl, h1 (Or.inl this) σ hI⟩
    · rw [if_neg q]
      have hLf := hR.1 (2 ^ nW V x - 1)
      have hne : ¬ nW V x = 0 := fun z => by rw [z] at q; exact q (by decide)
      have hf : 2 ^ nW V x - 1 < 2 ^ nW V x := by omega
      -- at the end all are processed
      have hat : ∀ d, (L (2 ^ nW V x - 1)).testBit d = true ↔ WL (nW V x) (mQW V x) (2 ^ nW V x - 1) d := fun d => by
        rw [hR.2 _ d hf, WL_iff]
        refine and_congr_right fun hd => or_congr_right ⟨fun ⟨p, l, _, h2⟩ => ⟨p, l, h2⟩, fun ⟨p, l, h2⟩ => ⟨p, l, Or.inl ?_, h2⟩⟩
        have := (WL_lt h2.1).1
        omega
      refine ⟨vp_in_nI (by omega) (by omega), ?_⟩
      rw [cl (by omega), show xA_wideLasts σ (2 ^ nW V x - 1) = _ from hl _ hf]
      simp only [nI_eq0 (show L (2 ^ nW V x - 1) < 2 ^ 31 by omega)]
      by_cases q2 : L (2 ^ nW V x - 1) = 0
      · rw [if_pos q2]
        refine ⟨rfl, h0 (fun z => ?_) σ hI⟩
        rcases z with z | ⟨d, hd⟩
        · exact hne z
        · have := (hat d).mpr hd
          rw [q2, Nat.zero_testBit] at this
          exact absurd this (by decide)
      · rw [if_neg q2]
        obtain ⟨d, hd⟩ := Nat.exists_testBit_of_ne_zero q2
        exact ⟨rfl, h1 (Or.inr ⟨d, (hat d).mp hd⟩) σ hI⟩
  | succ m ih =>
    intro s hs σ L hI hl hR
    rw [wx_joins_l72_s, if_neg (nI_nlt (by omega) (by omega))]
    exact ⟨_, joiX_l hw hx (show s < 2 ^ nW V x by omega) (fun σ' L' hI' hl' hR' => ih (s + 1) (by omega) σ' L' hI' hl' hR'.next) (nW V x) 0 (by omega) σ L hI hl hR⟩
theorem pc_one {t : Nat} (ht : t < 2 ^ 11) (h : pc t = 1) {d : Nat} : t.testBit d = true ↔ t = 2 ^ d := by
  obtain ⟨a, ha, hp, hu⟩ := cnt_one (p := fun k => t.testBit k) h
  constructor
  · intro z
    have hd : d < 11 := Decidable.byContradiction fun y => by rw [tb_lt ht (by omega)] at z; exact absurd z (by decide)
    refine tb_ext fun j => ?_
    rw [Nat.testBit_two_pow]
    by_cases hj : j < 11
    · cases q : t.testBit j with
      | true => rw [hu j hj q, hu d hd z]; simp
      | false =>
        have : d ≠ j := fun y => by rw [y, q] at z; exact absurd z (by decide)
        simp [this]
    · rw [tb_lt ht (by omega)]
      have : d ≠ j := by omega
      simp [this]
  · intro z; rw [z, Nat.testBit_two_pow_self]
theorem joiX_0 {V : VV} {x : Nat} {P : Int32 → St → Prop} {K : Int32 → Int32 → Int32 → Int32 → St → Prop} (hw : WV V) (h : ∀ σ' L, IX σ' V → lasW σ' (nW V x) L → WI (nW V x) (mQW V x) L 1 0 → K (nI x) (nI (nW V x)) (nI (2 ^ nW V x - 1)) 1 σ') :
    ∀ m s : Nat, s + m = 2 ^ nW V x → ∀ σ, IX σ V → (∀ k, k < s → gA σ 40 k = nI (if pc k = 1 then k else 0)) → wx_joins_l35 P K (m + 1) (nI x) (nI (nW V x)) (nI (2 ^ nW V x - 1)) (nI s) σ := by
  have hn := hw.n
  have hN := nW_le hn x
  have hp := pow_2048 hN.1
  have hp1 := Nat.one_le_two_pow (n := nW V x)
  intro m
  induction m with
  | zero =>
    intro s hs σ hI hl
    rw [wx_joins_l35_s, if_pos (nI_lt (by omega) (by omega))]
    refine h σ (fun k => if k < 2 ^ nW V x then (if pc k = 1 then k else 0) else 0) hI (fun k hk => ?_) ⟨fun k => ?_, fun t d ht => ?_⟩
    · show gA σ 40 k = nI (if k < 2 ^ nW V x then (if pc k = 1 then k else 0) else 0)
      rw [if_pos hk]; exact hl k (by omega)
    · show (if k < 2 ^ nW V x then (if pc k = 1 then k else 0) else 0) < 2 ^ 11
      by_cases hk : k < 2 ^ nW V x
      · rw [if_pos hk]; split <;> omega
      · rw [if_neg hk]; decide
    · show (if t < 2 ^ nW V x then (if pc t = 1 then t else 0) else 0).testBit d = true ↔ _
      rw [if_pos ht]
      have no : ¬ ∃ p l, (p < 1 ∨ (p = 1 ∧ l < 0)) ∧ WL (nW V x) (mQW V x) p l ∧ mQW V x p l d = true ∧ t = p ||| 2 ^ d := by
        rintro ⟨p, l, h1, h2, _⟩
        have : p = 0 := by omega
        subst this
        obtain ⟨_, e | ⟨p, l', _, _, e⟩⟩ := WL_iff.mp h2
        · have := Nat.two_pow_pos l; omega
        · have : (p ||| 2 ^ l).testBit l = true := by rw [tb_or2]; simp
          rw [← e, Nat.zero_testBit] at this
          exact absurd this (by decide)
      constructor
      · intro z
        by_cases q : pc t = 1
        · rw [if_pos q] at z
          have e := (pc_one (by omega) q).mp z
          refine ⟨Decidable.byContradiction fun y => ?_, Or.inl e⟩
          have : 2 ^ nW V x ≤ 2 ^ d := Nat.pow_le_pow_right (n := 2) (by decide) (show nW V x ≤ d by omega)
          omega
        · rw [if_neg q, Nat.zero_testBit] at z; exact absurd z (by decide)
      · rintro ⟨hd, e | z⟩
        · rw [e, pc_2 d (by omega), if_pos rfl, Nat.testBit_two_pow_self]
        · exact absurd z no
  | succ m ih =>
    intro s hs σ hI hl
    have hpc := pc_le s
    rw [wx_joins_l35_s, if_neg (nI_nlt (by omega) (by omega)), bitC_nI (by omega)]
    simp only [nI_eq1 (show pc s < 2 ^ 31 by omega)]
    have fin : ∀ y, y = nI (if pc s = 1 then s else 0) → wx_joins_j62 P (wx_joins_l35 P K (m + 1)) (nI x) (nI (nW V x)) (nI (2 ^ nW V x - 1)) (nI s) (nI s) y σ := by
      intro y ey
      refine ⟨vp_in_nI (by omega) (by omega), ?_⟩
      unfold xU_wideLasts uA
      rw [cl (by omega), nI_1]
      refine ih (s + 1) (by omega) _ (hI.qA (by decide) _) fun k hk => ?_
      show upd (gA σ 40) s y k = _
      by_cases e : k = s
      · rw [e, upd_s, ey]
      · rw [upd_n e]; exact hl k (by omega)
    by_cases q : pc s = 1
    · rw [if_pos q]; exact fin _ (by rw [if_pos q])
    · rw [if_neg q]; exact fin _ (by rw [if_neg q]; rfl)
/-- many of a stuff among all -/
theorem manyV_full {V : VV} {N k : Nat} (hN : vn V ≤ N) : manyV V (2 ^ N - 1) k = cnt (fun d => (vst V d).testBit k) (vn V) := cnt_congr fun d hd => by
  rw [Nat.testBit_two_pow_sub_one, decide_eq_true (by omega), Bool.true_and]
theorem fine_loop {V : VV} {x : Nat} {P : Int32 → St → Prop} {σ : St} (hI : IX σ V) (hx : x < 256) (h1 : fineW V x = true → P 1 σ) (h0 : fineW V x = false → P 0 σ) :
    ∀ m k : Nat, k + m = 8 → alB (fun k => decide (manyW V x k ≤ vla V 1) && decide (manyW V x k ≤ vsto V k)) k = true → wx_isFineWith_l2 P (m + 1) (nI (2 ^ nW V x - 1)) (nI x) (nI k) σ := by
  have hn := hI.2.n
  have hN := nW_le hn x
  have hp := pow_2048 hN.1
  have hla := hI.2.la
  intro m
  induction m with
  | zero =>
    intro k hk ha
    rw [wx_isFineWith_l2_s, show k = 8 by omega, if_pos (by decide)]
    rw [show k = 8 by omega] at ha
    exact h1 ha
  | succ m ih =>
    intro k hk ha
    have ih1 := ih (k + 1) (by omega)
    have hsto := hI.2.sto (s := k) (by omega)
    have hmn : cnt (fun d => (vst V d).testBit k) (vn V) ≤ vn V := cnt_le _ _
    have bad : (decide (manyW V x k ≤ vla V 1) && decide (manyW V x k ≤ vsto V k)) = false → fineW V x = false := fun z => Bool.eq_false_iff.mpr fun y => by
      have := alB_iff.mp y k (by omega)
      rw [z] at this
      exact absurd this (by decide)
    rw [show alB (fun k => decide (manyW V x k ≤ vla V 1) && decide (manyW V x k ≤ vsto V k)) (k + 1) = (alB (fun k => decide (manyW V x k ≤ vla V 1) && decide (manyW V x k ≤ vsto V k)) k && (decide (manyW V x k ≤ vla V 1) && decide (manyW V x k ≤ vsto V k))) from rfl, ha, Bool.true_and] at ih1
    rw [wx_isFineWith_l2_s, k8, if_neg (nI_ge (by omega) (by omega))]
    refine ⟨V, 2 ^ nW V x - 1, k, hI, rfl, rfl, by omega, by omega, ?_⟩
    rw [manyV_full hN.2.1]
    have fin : ∀ b : Bool, (if b = true then 1 else 0) = (if x.testBit k = true then 1 else 0) → ∀ y, y = j01 b → wx_isFineWith_j38 P (wx_isFineWith_l2 P (m + 1)) (nI (2 ^ nW V x - 1)) (nI x) (nI k) (nI (cnt (fun d => (vst V d).testBit k) (vn V))) y σ := by
      intro b hb y ey
      have ey2 : nI (cnt (fun d => (vst V d).testBit k) (vn V)) + y = nI (manyW V x k) := by
        unfold manyW
        rw [← hb, ey]
        cases b
        · rw [j01_f, Int32.add_zero]; rfl
        · rw [j01_t, nI_1]; rfl
      have hmw : manyW V x k ≤ 11 := by unfold manyW; split <;> omega
      unfold wx_isFineWith_j38
      rw [ey2, nI_1, show xA_law σ (1 : Int32).toNatClampNeg = nI (vla V 1) from hI.la (d := 1) (by omega), cl (by omega), show xA_stores σ k = _ from hI.sto (by omega)]
      refine ⟨vp_lit rfl, ?_⟩
      simp only [nI_ltI (show vla V 1 < 2 ^ 31 by have := hla.2.2.2.1; omega) (show manyW V x k < 2 ^ 31 by omega), nI_leI (show manyW V x k < 2 ^ 31 by omega) (show vsto V k < 2 ^ 31 by omega)]
      by_cases q1 : vla V 1 < manyW V x k
      · rw [if_pos q1]; exact h0 (bad (by rw [decide_eq_false (show ¬ manyW V x k ≤ vla V 1 by omega), Bool.false_and]))
      · rw [if_neg q1]
        refine ⟨vp_in_nI (by omega) (by omega), ?_⟩
        by_cases q2 : manyW V x k ≤ vsto V k
        · rw [if_pos q2]; exact ih1 (by rw [decide_eq_true q2, decide_eq_true (show manyW V x k ≤ vla V 1 by omega)]; rfl)
        · rw [if_neg q2]; exact h0 (bad (by rw [decide_eq_false q2, Bool.and_false]))
    unfold sx_has wx_isFineWith_j37
    dsimp only
    rw [show xI_dishes σ = _ from hI.n, hasB_nI (by omega) (by omega), hasB_nI (by omega) (by omega), Nat.testBit_two_pow_sub_one]
    by_cases q : x = 0
    · have e : nW V x = vn V := if_pos q
      rw [decide_eq_false (by omega), jf0]
      exact fin false (by rw [q, Nat.zero_testBit]) 0 rfl
    · have e : nW V x = vn V + 1 := if_neg q
      rw [decide_eq_true (by omega), jt0]
      cases q2 : x.testBit k with
      | false => rw [jf0]; exact fin false (by rw [q2]) 0 rfl
      | true => rw [jt0]; exact fin true (by rw [q2]) 1 rfl
theorem ox_joins {V : VV} {x : Nat} {P : Int32 → St → Prop} {σ : St} (hI : IX σ V) (hx : x < 256) (h : ∀ σ', IX σ' V → P (j01 (joinsB V x)) σ') : wx_joins σ (nI x) P := by
  have hw := hI.2
  have hn := hw.n
  have hN := nW_le hn x
  have hp := pow_2048 hN.1
  have hp1 := Nat.one_le_two_pow (n := nW V x)
  have h1 : joinsP V x → ∀ σ', IX σ' V → P 1 σ' := fun z σ' hI' => by have := h σ' hI'; rw [joinsB_t z] at this; exact this
  have h0 : ¬ joinsP V x → ∀ σ', IX σ' V → P 0 σ' := fun z σ' hI' => by have := h σ' hI'; rw [joinsB_f z] at this; exact this
  have go : ∀ a b : Int32, a + b = nI (nW V x) → wx_joins_j13 P (nI x) a b σ := by
    intro a b hab
    unfold wx_joins_j13
    rw [hab, nI_shl1 _ (by omega), nI_lit1, pk_sub hp1]
    refine ⟨_, fine_loop hI hx (fun z => ?_) (fun z => ?_) 8 0 (by omega) rfl⟩
    · rw [if_neg (by decide)]
      refine ⟨_, joiX_0 hw (fun σ' L hI' hl hR => ⟨2 ^ nW V x, ?_⟩) (2 ^ nW V x) 0 (by omega) σ hI (fun k hk => absurd hk (by omega))⟩
      have h9 := joiX_s (P := P) hw hx (fun y => h1 ⟨z, y⟩) (fun y => h0 (fun w => y w.2)) (2 ^ nW V x - 1) 1 (by omega) σ' L hI' hl hR
      rw [show 2 ^ nW V x - 1 + 1 = 2 ^ nW V x by omega] at h9
      exact h9
    · rw [if_pos rfl]
      exact h0 (fun w => by have y := w.1; rw [z] at y; exact absurd y (by decide)) σ hI
  unfold wx_joins
  rw [show xI_dishes σ = _ from hI.n]
  simp only [nI_eq0 (show x < 2 ^ 31 by omega)]
  by_cases q : x = 0
  · rw [if_pos q]; exact go _ _ (by rw [Int32.add_zero, show nW V x = vn V from if_pos q])
  · rw [if_neg q]; exact go _ _ (by rw [nI_1, show nW V x = vn V + 1 from if_neg q])
