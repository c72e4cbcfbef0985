/-! LONGEST and BEARS -/
def hiN (p : Nat → Bool) : Nat → Nat
  | 0 => 0
  | k + 1 => if p k = true then k else hiN p k
theorem hiN_eq {p : Nat → Bool} {k : Nat} : ∀ n, k < n → p k = true → (∀ j, j < n → p j = true → j ≤ k) → hiN p n = k := by
  intro n
  induction n with
  | zero => intro h; omega
  | succ n ih =>
    intro hk hp hm
    unfold hiN
    by_cases q : p n = true
    · rw [if_pos q]; have := hm n (by omega) q; omega
    · rw [if_neg q]
      have : k ≠ n := fun z => q (by rw [← z]; exact hp)
      exact ih (by omega) hp fun j hj => hm j (by omega)
theorem hiN_spec {p : Nat → Bool} {n k : Nat} (hk : k < n) (hp : p k = true) : hiN p n < n ∧ p (hiN p n) = true ∧ ∀ j, j < n → p j = true → j ≤ hiN p n := by
  induction n with
  | zero => omega
  | succ n ih =>
    unfold hiN
    by_cases q : p n = true
    · rw [if_pos q]; exact ⟨by omega, q, fun j hj _ => by omega⟩
    · rw [if_neg q]
      have : k ≠ n := fun z => q (by rw [← z]; exact hp)
      obtain ⟨a, b, c⟩ := ih (by omega)
      refine ⟨by omega, b, fun j hj hpj => ?_⟩
      have : j ≠ n := fun z => q (by rw [← z]; exact hpj)
      exact c j (by omega) hpj
theorem mes_top {M : Nat → Nat → Nat → Bool} {E : Nat → Nat → Bool} {n : Nat} (hn : n ≤ 10) (hM : newM n M) {T : Nat → Int32} (hT : FixT n T (stM M E n)) {s l k : Nat} (hok : okS n s l) (hx : ex M n E k s l = true) :
    T (11 * s + l) = nI (hiN (fun k => ex M n E k s l) 11) ∧ hiN (fun k => ex M n E k s l) 11 ≤ 10 ∧ ex M n E (hiN (fun k => ex M n E k s l) 11) s l = true := by
  obtain ⟨h1, h2, _⟩ := mes_spec hn hM hT n s l (by omega) hok (by omega)
  obtain ⟨k0, hk0, e, hx0⟩ := h2 (by have := h1 k hx; omega)
  have hl := ex_len hn hM k0 s l hok hx0
  have : hiN (fun k => ex M n E k s l) 11 = k0 := hiN_eq 11 (by omega) hx0 fun j hj hj2 => by
    have := h1 j hj2
    rw [e, nI_toInt (by omega)] at this
    omega
  rw [this]
  exact ⟨e, by omega, hx0⟩
theorem mes_next {M : Nat → Nat → Nat → Bool} {E : Nat → Nat → Bool} {n : Nat} (hn : n ≤ 10) (hM : newM n M) {T : Nat → Int32} (hT : FixT n T (stM M E n)) {s l k : Nat} (hk : k < 1000) (hok : okS n s l) (hTk : T (11 * s + l) = nI (k + 1)) :
    ∀ d, d < n → M s l d = true → (T (11 * (s ||| 2 ^ d) + d) = nI k ↔ ex M n E k (s ||| 2 ^ d) d = true) := by
  intro d hd hm
  obtain ⟨h1, h2, _⟩ := mes_spec hn hM hT n s l (by omega) hok (by omega)
  obtain ⟨g1, g2, _⟩ := mes_spec hn hM hT n _ _ (by omega) (okS_step hok hd) (by omega)
  rw [hTk, nI_toInt (by omega)] at h1
  constructor
  · intro h
    obtain ⟨k', hk', e, hx⟩ := g2 (by rw [h, nI_toInt (by omega)]; omega)
    rw [h] at e
    rw [(nI_eq (by omega) (by omega)).mp e]
    exact hx
  · intro h
    have := g1 k h
    obtain ⟨k', hk', e, hx⟩ := g2 (by omega)
    have h3 := h1 (k' + 1) (ex_s.mpr ⟨d, hd, hm, hx⟩)
    rw [e, nI_toInt (by omega)] at this
    rw [e, show k' = k by omega]
theorem mes_one {M : Nat → Nat → Nat → Bool} {E : Nat → Nat → Bool} {n : Nat} (hn : n ≤ 10) (hM : newM n M) {T : Nat → Int32} (hT : FixT n T (stM M E n)) {s l k : Nat} (hk : k < 1000) (hok : okS n s l) (hTk : T (11 * s + l) = nI (k + 1)) :
    ∃ d, d < n ∧ M s l d = true ∧ T (11 * (s ||| 2 ^ d) + d) = nI k := by
  obtain ⟨h1, h2, _⟩ := mes_spec hn hM hT n s l (by omega) hok (by omega)
  obtain ⟨k', hk', e, hx⟩ := h2 (by rw [hTk, nI_toInt (by omega)]; omega)
  rw [hTk] at e
  rw [← (nI_eq (by omega) (by omega)).mp e] at hx
  obtain ⟨d, hd, hm, hx2⟩ := ex_s.mp hx
  exact ⟨d, hd, hm, (mes_next hn hM hT hk hok hTk d hd hm).mpr hx2⟩
theorem mes_way {M : Nat → Nat → Nat → Bool} {E : Nat → Nat → Bool} {n : Nat} (hn : n ≤ 10) (hM : newM n M) {T : Nat → Int32} (hT : FixT n T (stM M E n)) {k s l : Nat} (hk : k ≤ 10) (hok : okS n s l) (hTk : T (11 * s + l) = nI k) : way M n (gT T) k s l = way M n (ex M n E) k s l := by
  refine way_congr (Q := fun k s l => k ≤ 10 ∧ okS n s l ∧ T (11 * s + l) = nI k) (fun k s l q d hd hm => ?_) (fun k s l q d hd hm hg => ⟨by omega, okS_step q.2.1 hd, of_decide_eq_true hg⟩) (fun k s l q => ?_) k s l ⟨hk, hok, hTk⟩
  · have := mes_next hn hM hT (by omega) q.2.1 q.2.2 d hd hm
    unfold gT
    rw [Bool.eq_iff_iff, decide_eq_true_eq]
    exact this
  · obtain ⟨d, hd, hm, h⟩ := mes_one hn hM hT (show k < 1000 by omega) q.2.1 q.2.2
    exact ⟨d, hd, hm, decide_eq_true h⟩
def tt : Nat → Nat → Bool := fun _ _ => true
theorem endX_tt : endX (-1) 0 = tt := funext fun s => funext fun l => by
  unfold endX tt
  rw [decide_eq_true (show (-1 : Int32) < 0 by decide), Bool.true_or]
abbrev s0V (V : VV) : Nat := setL (vsv V)
abbrev l0V (V : VV) : Nat := lastL (vsv V)
theorem start_ok {V : VV} (h : WV V) : okS (vn V) (s0V V) (l0V V) := by
  refine ⟨setL_lt h.sv.2, ?_⟩
  rcases lastL_m h with q | q
  · refine Or.inl ⟨q, ?_⟩
    rw [setL_bit]
    refine decide_eq_true ?_
    have hpos : 0 < (vsv V).length := by
      rcases Nat.eq_zero_or_pos (vsv V).length with z | z
      · have : vsv V = [] := List.length_eq_zero_iff.mp z
        unfold lastL at q
        rw [this] at q
        have hn := h.n
        have : (10 : Nat) < vn V := q
        omega
      · exact z
    show lastL (vsv V) ∈ vsv V
    rw [lastL_getD hpos]
    exact getD_mem (by omega)
  · exact Or.inr q
theorem pc_setU {l : List Nat} (hn : l.Nodup) (hb : ∀ d ∈ l, d < 11) : ∀ k, k ≤ l.length → pc (setU l k) = k := by
  intro k
  induction k with
  | zero => intro _; exact pc_0
  | succ k ih =>
    intro hk
    rw [setU_s, pc_or2 (setU_new hn (by omega)) (hb _ (getD_mem (by omega))), ih (by omega)]
theorem pc_s0 {V : VV} (h : WV V) : pc (s0V V) = (vsv V).length := by
  show pc (setL (vsv V)) = _
  rw [← setU_all, pc_setU h.sv.1 (fun d hd => by have := h.sv.2 d hd; have := h.n; omega) _ (Nat.le_refl _)]
def topV (V : VV) (A : Nat) : Nat := hiN (fun k => ex (mv V A) (vn V) tt k (s0V V) (l0V V)) 11
def S_long (V : VV) (A : Nat) : VV := rowG (vSRow V []) (way (mv V A) (vn V) (ex (mv V A) (vn V) tt) (topV V A) (s0V V) (l0V V))
/-- the component's end of longest and bears -/
theorem ox_longT {σ : St} {V : VV} {A : Nat} {P : Int32 → St → Prop} (hG : GX σ V A) (h : ∀ σ', IX σ' (S_long V A) → P (nI (topV V A)) σ') :
    sx_measures σ (-1) (0) (fun σ7 => sx_setNow (xS_rowMany σ7 (0)) (fun r17 σ17 => sx_lastNow σ17 (fun r21 σ21 => sx_tellsMost σ21 r17 r21 (fun σ24 => sx_setNow σ24 (fun r32 σ32 => sx_lastNow σ32 (fun r36 σ36 => sx_stateOf r32 r36 (fun r39 => vp_in r39 11264 ∧ (P (xA_value σ36 (r39).toNatClampNeg) σ36)))))))) := by
  have hw := hG.1.2
  have hn := hw.n
  have hM := mv_newM V A
  have hok := start_ok hw
  have hb := okS_le hn hok
  refine ox_measures hG (by decide) (le := 0) fun σ1 hG1 hT => ?_
  rw [endX_tt] at hT
  obtain ⟨t1, t2, t3⟩ := mes_top hn hM hT hok (k := 0) rfl
  have hG2 := hG1.row0
  refine ⟨_, hG2.1, _, hG2.1, ?_⟩
  refine ox_tellsMost hG2 hok (k := topV V A) t1 (fun k s l hk hok' hTk => mes_one hn hM hT (by omega) hok' hTk) (by show 0 + topV V A ≤ 12; unfold topV; omega) fun σ2 hG3 hv => ?_
  refine ⟨_, hG3.1, _, hG3.1, s0V V, l0V V, rfl, rfl, by omega, by omega, vp_in_nI (by omega) (by omega), ?_⟩
  rw [cl (by omega), show xA_value σ2 = gA σ1 32 from hv, show gA σ1 32 (11 * s0V V + l0V V) = nI (topV V A) from t1]
  refine h σ2 ?_
  have e : way (mv V A) (vn V) (gT (gA σ1 32)) (topV V A) (s0V V) (l0V V) = way (mv V A) (vn V) (ex (mv V A) (vn V) tt) (topV V A) (s0V V) (l0V V) := mes_way hn hM hT t2 hok t1
  have h9 : IX σ2 (rowG (vSRow V []) (way (mv V A) (vn V) (gT (gA σ1 32)) (topV V A) (s0V V) (l0V V))) := hG3.1
  rw [e] at h9
  exact h9
/-! the model: longestBy -/
def tabM (V : VV) (S s l : Nat) : Nat := cpT (mv V S) (vn V) (s0V V) (l0V V) s l
theorem tab_lt {V : VV} (hn : vn V ≤ 10) (S s l : Nat) : tabM V S s l < 2 ^ 63 := cpT_lt hn
def Em (V : VV) (S : Nat) (s l : Nat) : Bool := decide (0 < tabM V S s l) && decide (pc s = pc (s0V V) + topV V S)
theorem tab_top {V : VV} {S s l : Nat} (hw : WV V) (hok : okS (vn V) s l) (h : 0 < tabM V S s l) : pc (s0V V) ≤ pc s ∧ pc s - pc (s0V V) ≤ topV V S := by
  have hn := hw.n
  obtain ⟨a, b⟩ := cpT_ex h
  refine ⟨a, ?_⟩
  have hx := ex_mono (E' := tt) (fun _ _ _ => rfl) _ _ _ b
  have hl := ex_len hn (mv_newM V S) _ _ _ (start_ok hw) hx
  exact (hiN_spec (p := fun k => ex (mv V S) (vn V) tt k (s0V V) (l0V V)) (n := 11) (k := 0) (by omega) rfl).2.2 _ (by omega) hx
theorem top_ex {V : VV} {S : Nat} : ex (mv V S) (vn V) tt (topV V S) (s0V V) (l0V V) = true := (hiN_spec (p := fun k => ex (mv V S) (vn V) tt k (s0V V) (l0V V)) (n := 11) (k := 0) (by omega) rfl).2.1
theorem top_le {V : VV} {S : Nat} (hw : WV V) : topV V S + pc (s0V V) ≤ vn V := ex_len hw.n (mv_newM V S) _ _ _ (start_ok hw) top_ex
def qLong (V : VV) (S k s l : Nat) : Prop := okS (vn V) s l ∧ 0 < tabM V S s l ∧ pc s + k = pc (s0V V) + topV V S ∧ ex (mv V S) (vn V) tt k s l = true
theorem em_tt {V : VV} {S : Nat} (hw : WV V) : ∀ k s l, qLong V S k s l → ex (mv V S) (vn V) (Em V S) k s l = true := by
  have hn := hw.n
  intro k
  induction k with
  | zero =>
    intro s l h
    show Em V S s l = true
    unfold Em
    rw [decide_eq_true h.2.1, decide_eq_true (show pc s = _ by have := h.2.2.1; omega)]; rfl
  | succ k ih =>
    intro s l h
    obtain ⟨d, hd, h1, h2⟩ := ex_s.mp h.2.2.2
    exact ex_s.mpr ⟨d, hd, h1, ih _ _ ⟨okS_step h.1 hd, cpT_step hn (mv_newM V S) (start_ok hw) h.1 hd h1 h.2.1, by rw [pc_or2 (mv_new h1) (by omega)]; have := h.2.2.1; omega, h2⟩⟩
theorem em_way {V : VV} {S : Nat} (hw : WV V) : way (mv V S) (vn V) (ex (mv V S) (vn V) (Em V S)) (topV V S) (s0V V) (l0V V) = way (mv V S) (vn V) (ex (mv V S) (vn V) tt) (topV V S) (s0V V) (l0V V) := by
  have hn := hw.n
  have nx : ∀ k s l, qLong V S (k + 1) s l → ∀ d, d < vn V → mv V S s l d = true → ex (mv V S) (vn V) tt k (s ||| 2 ^ d) d = true → qLong V S k (s ||| 2 ^ d) d := fun k s l h d hd h1 h2 =>
    ⟨okS_step h.1 hd, cpT_step hn (mv_newM V S) (start_ok hw) h.1 hd h1 h.2.1, by rw [pc_or2 (mv_new h1) (by omega)]; have := h.2.2.1; omega, h2⟩
  refine way_congr (Q := qLong V S) (fun k s l h d hd h1 => ?_) (fun k s l h d hd h1 hg => nx k s l h d hd h1 (ex_mono (fun _ _ _ => rfl) _ _ _ hg)) (fun k s l h => ?_) _ _ _ ⟨start_ok hw, cpT_start, by omega, top_ex⟩
  · rw [Bool.eq_iff_iff]
    exact ⟨fun z => ex_mono (fun _ _ _ => rfl) _ _ _ z, fun z => em_tt hw _ _ _ (nx k s l h d hd h1 z)⟩
  · obtain ⟨d, hd, h1, h2⟩ := ex_s.mp h.2.2.2
    exact ⟨d, hd, h1, em_tt hw _ _ _ (nx k s l h d hd h1 h2)⟩
def bestA (V : VV) (S a s j : Nat) : Prop := a ≤ topV V S ∧ ∀ s' l', okS (vn V) s' l' → l' ≠ 10 → 0 < tabM V S s' l' → (s' < s ∨ (s' = s ∧ l' < j)) → pc s' - pc (s0V V) ≤ a
theorem loM_1 {V : VV} {S s : Nat} {x2 x3 : Int32} {R : Nat → Int64} {P : Int32 → St → Prop} {K : Int32 → Int32 → Int32 → Int32 → Int32 → St → Prop} {σ : St} (hI : IM σ V) (hs : s < 2 ^ vn V) (hR : ∀ s l, okS (vn V) s l → R (11 * s + l) = nL (tabM V S s l)) (hg : gL σ 37 = R)
    (h : ∀ a, bestA V S a (s + 1) 0 → K (nI S) x2 x3 (nI a) (nI (s + 1)) σ) : ∀ m l : Nat, l + m = vn V → ∀ a, bestA V S a s l → wm_longestBy_l35 P K (m + 1) (nI S) x2 x3 (nI a) (nI s) (nI l) σ := by
  have hw := hI.2
  have hn := hw.n
  have hp := pow_le_1024 hn
  have hsl := hw.svl
  have hps := pc_s0 hw
  intro m
  induction m with
  | zero =>
    intro l hl a ha
    rw [wm_longestBy_l35_s, show mI_dishes σ = _ from hI.n, if_pos (by rw [show l = vn V by omega]; exact Int32.le_refl _), nI_1]
    refine h a ⟨ha.1, fun s' l' hok h10 hr hlt => ha.2 s' l' hok h10 hr ?_⟩
    rcases hlt with q | q
    · rcases Nat.lt_or_ge s' s with z | z
      · exact Or.inl z
      · exact Or.inr ⟨by omega, by rcases hok.2 with y | y; omega; exact absurd y.1 h10⟩
    · omega
  | succ m ih =>
    intro l hl a ha
    rw [wm_longestBy_l35_s, show mI_dishes σ = _ from hI.n, if_neg (nI_ge (by omega) (by omega))]
    unfold sm_has wm_longestBy_j88
    dsimp only
    rw [hasB_nI (by omega) (by omega), nI_1]
    have go : ∀ a', bestA V S a' s (l + 1) → wm_longestBy_l35 P K (m + 1) (nI S) x2 x3 (nI a') (nI s) (nI (l + 1)) σ := ih (l + 1) (by omega)
    have ext : ∀ a', a ≤ a' → a' ≤ topV V S → (okS (vn V) s l → 0 < tabM V S s l → pc s - pc (s0V V) ≤ a') → bestA V S a' s (l + 1) := fun a' h1 h2 h3 => ⟨h2, fun s' l' hok h10 hr hlt => by
      by_cases e : s' = s ∧ l' = l
      · obtain ⟨rfl, rfl⟩ := e; exact h3 hok hr
      · exact Nat.le_trans (ha.2 s' l' hok h10 hr (by rcases hlt with q | q; exact Or.inl q; exact Or.inr ⟨q.1, by omega⟩)) h1⟩
    cases q : s.testBit l with
    | false =>
      rw [jf0]
      exact go a (ext a (Nat.le_refl _) ha.1 fun hok _ => by rcases hok.2 with y | y; rw [q] at y; exact absurd y.2 (by decide); omega)
    | true =>
      rw [jt0]
      have hok : okS (vn V) s l := ⟨hs, Or.inl ⟨by omega, q⟩⟩
      refine ⟨s, l, rfl, (lI_l (by omega)).symm, by omega, by omega, vp_in_nI (by omega) (by omega), ?_⟩
      rw [cl (by omega), show mA_rows σ = R from hg, hR s l hok]
      simp only [lg_le0, nL_pos (tab_lt hn S s l)]
      by_cases q2 : 0 < tabM V S s l
      · rw [if_neg (fun z => z q2)]
        obtain ⟨t1, t2⟩ := tab_top hw hok q2
        have hpc := pc_le s
        rw [bitC_nI (by omega), show mI_servedMany σ = _ from hI.sm, ← hps, pk_sub t1, jmax_nI (by have := ha.1; have := top_le (S := S) hw; omega) (by omega)]
        exact go _ (ext _ (by omega) (by have := ha.1; omega) fun _ _ => by omega)
      · rw [if_pos q2]
        exact go a (ext a (Nat.le_refl _) ha.1 fun _ z => absurd z q2)
def markF (V : VV) (S s j : Nat) (F : Nat → Int32) : Prop := ∀ s' l', okS (vn V) s' l' → F (11 * s' + l') = j01 (Em V S s' l' && decide (s' < s ∨ (s' = s ∧ ordL l' < j)))
theorem loM_2 {V : VV} {S s : Nat} {x2 x3 : Int32} {R : Nat → Int64} {P : Int32 → St → Prop} {K : Int32 → Int32 → Int32 → Int32 → Int32 → St → Prop} {σ : St} (hI : IM σ V) (hs : s < 2 ^ vn V) (hR : ∀ s l, okS (vn V) s l → R (11 * s + l) = nL (tabM V S s l)) (hg : gL σ 37 = R)
    (h : ∀ F, markF V S (s + 1) 0 F → K (nI S) x2 x3 (nI (topV V S)) (nI (s + 1)) (sA σ 35 F)) : ∀ m j : Nat, j + m = vn V + 1 → ∀ F, markF V S s j F → wm_longestBy_l119 P K (m + 1) (nI S) x2 x3 (nI (topV V S)) (nI s) (nI j - 1) (sA σ 35 F) := by
  have hw := hI.2
  have hn := hw.n
  have hp := pow_le_1024 hn
  have hsl := hw.svl
  have hps := pc_s0 hw
  have htop := top_le (S := S) hw
  intro m
  induction m with
  | zero =>
    intro j hj F hF
    rw [wm_longestBy_l119_s, show mI_dishes (sA σ 35 F) = _ from hI.n, if_pos ((nIm_lt (by omega) (by omega)).mpr (by omega)), nI_1]
    refine h F fun s' l' hok => ?_
    rw [hF s' l' hok]
    congr 2
    have := ordL_lt hn hok
    exact decide_eq_decide.mpr (by omega)
  | succ m ih =>
    intro j hj F hF
    rw [wm_longestBy_l119_s, show mI_dishes (sA σ 35 F) = _ from hI.n, if_neg (fun z => by have := (nIm_lt (by omega) (by omega)).mp z; omega)]
    have hl := lOf_n (j := j) hn (by omega)
    have go : ∀ F', markF V S s (j + 1) F' → wm_longestBy_l119 P K (m + 1) (nI S) x2 x3 (nI (topV V S)) (nI s) (nI j - 1 + 1) (sA σ 35 F') := by rw [nIm_s]; exact ih (j + 1) (by omega)
    have same : ∀ s' l', okS (vn V) s' l' → ¬ (s' = s ∧ l' = lOf j) → decide (s' < s ∨ (s' = s ∧ ordL l' < j + 1)) = decide (s' < s ∨ (s' = s ∧ ordL l' < j)) := fun s' l' hok hne => decide_eq_decide.mpr (by
      have hb := okS_le hn hok
      have : s' = s → ordL l' ≠ j := fun e z => hne ⟨e, by rw [← z, lOf_ord hb.1]⟩
      omega)
    refine ⟨s, lOf j, rfl, (lOf_lI (by omega)).symm, by omega, by omega, ?_⟩
    unfold wm_longestBy_j187
    dsimp only
    cases q : stateB s (lOf j) with
    | false =>
      rw [jf0]
      refine go F fun s' l' hok => ?_
      rw [hF s' l' hok, same s' l' hok fun z => by
        rw [z.1, z.2] at hok
        rw [(okS_B hn hs hl).mpr hok] at q
        exact absurd q (by decide)]
    | true =>
      rw [jt0]
      have hok := (okS_B hn hs hl).mp q
      refine ⟨s, lOf j, rfl, (lOf_lI (by omega)).symm, by omega, by omega, vp_in_nI (by omega) (by omega), ?_⟩
      rw [cl (by omega), show mA_rows (sA σ 35 F) = R from hg, hR s (lOf j) hok]
      simp only [lg_le0, nL_pos (tab_lt hn S s (lOf j))]
      by_cases q2 : 0 < tabM V S s (lOf j)
      · rw [if_neg (fun z => z q2)]
        obtain ⟨t1, t2⟩ := tab_top hw hok q2
        have hpc := pc_le s
        refine ⟨s, lOf j, rfl, (lOf_lI (by omega)).symm, by omega, by omega, ?_⟩
        unfold wm_longestBy_j186 wm_longestBy_j187 mU_isEnd
        dsimp only
        rw [bitC_nI (by omega), show mI_servedMany (sA σ 35 F) = _ from hI.sm, ← hps, pk_sub t1, uA_k, uA_k, cl (by omega), nar_0, nar_1]
        simp only [nI_eq (show pc s - pc (s0V V) < 2 ^ 31 by omega) (show topV V S < 2 ^ 31 by omega)]
        have wr : ∀ b x, x = j01 b → b = Em V S s (lOf j) → markF V S s (j + 1) (upd F (11 * s + lOf j) x) := by
          intro b x ex eb s' l' hok'
          have hb' := okS_le hn hok'
          by_cases e : s' = s ∧ l' = lOf j
          · obtain ⟨rfl, rfl⟩ := e
            rw [upd_s, ex, eb, decide_eq_true (Or.inr ⟨rfl, by rw [ord_lOf (by omega)]; omega⟩), Bool.and_true]
          · rw [upd_n (fun z => e ⟨by omega, by omega⟩), hF s' l' hok', same s' l' hok' e]
        by_cases q3 : pc s - pc (s0V V) = topV V S
        · rw [if_pos q3]
          exact ⟨vp_in_nI (by omega) (by omega), go _ (wr true 1 rfl (by unfold Em; rw [decide_eq_true q2, decide_eq_true (show pc s = _ by omega)]; rfl))⟩
        · rw [if_neg q3]
          exact ⟨vp_in_nI (by omega) (by omega), go _ (wr false 0 rfl (by unfold Em; rw [decide_eq_false (show ¬ pc s = pc (s0V V) + topV V S by omega), Bool.and_false]))⟩
      · rw [if_pos q2]
        refine go F fun s' l' hok' => ?_
        rw [hF s' l' hok']
        by_cases e : s' = s ∧ l' = lOf j
        · obtain ⟨rfl, rfl⟩ := e
          have : Em V S s' (lOf j) = false := by unfold Em; rw [decide_eq_false q2, Bool.false_and]
          rw [this, Bool.false_and, Bool.false_and]
        · rw [same s' l' hok' e]
theorem loM_3 {V : VV} {S : Nat} {R : Nat → Int64} {P : Int32 → St → Prop} {σ : St} (hI : IM σ V) (hS : S < 2 ^ vn V) (hR : ∀ s l, okS (vn V) s l → R (11 * s + l) = nL (tabM V S s l)) (hg : gL σ 37 = R) (h : ∀ σ', IM σ' (S_long V S) → P (nI (topV V S)) σ') :
    ∀ m s : Nat, s + m = 2 ^ vn V → ∀ F, markF V S s 0 F → wm_longestBy_l107 P (m + 1) (nI S) (nI (s0V V)) (lI (l0V V)) (nI (topV V S)) (nI s) (sA σ 35 F) := by
  have hw := hI.2
  have hn := hw.n
  have hp := pow_le_1024 hn
  have h1 := Nat.one_le_two_pow (n := vn V)
  have htop := top_le (S := S) hw
  intro m
  induction m with
  | zero =>
    intro s hs F hF
    rw [wm_longestBy_l107_s]
    refine ⟨V, hI.qA (by decide) _, ?_⟩
    dsimp only
    rw [if_pos (nI_lt (by omega) (by omega))]
    have hE : ∀ s l, okS (vn V) s l → gA (sA σ 35 F) 35 (11 * s + l) = j01 (Em V S s l) := fun s' l' hok => by
      rw [gA_sAk, hF s' l' hok, decide_eq_true (Or.inl (by have := hok.1; omega)), Bool.and_true]
    refine om_findEnds (hI.qA (by decide) _) hS hE fun T hT => ?_
    refine om_tellWay (V := vSRow V []) (S := S) (c := pc (s0V V) + topV V S) (k := topV V S) (E := Em V S) (((hI.qA (by decide) _).qA (by decide) T).row0) hS hE hT (fun s' l' z => of_decide_eq_true ((Bool.and_eq_true _ _ ▸ z).2)) (s := s0V V) (l := l0V V) (show okS (vn V) (s0V V) (l0V V) from start_ok hw) (show ex (mv V S) (vn V) (Em V S) (topV V S) (s0V V) (l0V V) = true from em_tt hw _ _ _ ⟨start_ok hw, cpT_start, by omega, top_ex⟩) (by show 0 + topV V S ≤ 12; omega) fun σ' hI' _ => ?_
    refine h σ' ?_
    have h9 : IM σ' (rowG (vSRow V []) (way (mv V S) (vn V) (ex (mv V S) (vn V) (Em V S)) (topV V S) (s0V V) (l0V V))) := hI'
    rw [em_way hw] at h9
    exact h9
  | succ m ih =>
    intro s hs F hF
    rw [wm_longestBy_l107_s]
    refine ⟨V, hI.qA (by decide) _, ?_⟩
    dsimp only
    rw [if_neg (nI_nlt (by omega) (by omega))]
    exact ⟨_, loM_2 hI (by omega) hR hg (fun F' hF' => ih (s + 1) (by omega) F' hF') (vn V + 1) 0 (by omega) F hF⟩
theorem loM_4 {V : VV} {S : Nat} {R : Nat → Int64} {P : Int32 → St → Prop} {σ : St} (hI : IM σ V) (hS : S < 2 ^ vn V) (hR : ∀ s l, okS (vn V) s l → R (11 * s + l) = nL (tabM V S s l)) (hg : gL σ 37 = R) (h : ∀ σ', IM σ' (S_long V S) → P (nI (topV V S)) σ') :
    ∀ m s : Nat, s + m = 2 ^ vn V → ∀ a, bestA V S a s 0 → wm_longestBy_l23 P (fun v1 v2 v3 v4 v5 σ => ∃ n107, wm_longestBy_l107 P n107 v1 v2 v3 v4 v5 σ) (m + 1) (nI S) (nI (s0V V)) (lI (l0V V)) (nI a) (nI s) σ := by
  have hw := hI.2
  have hn := hw.n
  have hp := pow_le_1024 hn
  have h1 := Nat.one_le_two_pow (n := vn V)
  have htop := top_le (S := S) hw
  intro m
  induction m with
  | zero =>
    intro s hs a ha
    rw [wm_longestBy_l23_s]
    refine ⟨V, hI, ?_⟩
    dsimp only
    rw [if_pos (nI_lt (by omega) (by omega))]
    have ea : a = topV V S := by
      refine Nat.le_antisymm ha.1 ?_
      obtain ⟨s', l', hok, _, hc⟩ := ex_okS _ _ _ (start_ok hw) (top_ex (V := V) (S := S))
      have hpc := cp_pc hn (mv_newM V S) hc
      by_cases z : topV V S = 0
      · omega
      · have h10 : l' ≠ 10 := fun e => by
          rcases hok.2 with y | y
          · omega
          · rw [y.2, pc_0] at hpc; omega
        have hr : 0 < tabM V S s' l' := by
          unfold tabM cpT
          rw [if_pos (by omega), show pc s' - pc (s0V V) = topV V S by omega]
          exact hc
        have := ha.2 s' l' hok h10 hr (Or.inl (by have := hok.1; omega))
        omega
    rw [ea]
    refine om_noEnds fun f hf => ⟨_, loM_3 hI hS hR hg h (2 ^ vn V) 0 (by omega) f fun s' l' hok => ?_⟩
    have hb := okS_le hn hok
    rw [hf _ (by omega), decide_eq_false (show ¬ (s' < 0 ∨ (s' = 0 ∧ ordL l' < 0)) by omega), Bool.and_false]
    rfl
  | succ m ih =>
    intro s hs a ha
    rw [wm_longestBy_l23_s]
    refine ⟨V, hI, ?_⟩
    dsimp only
    rw [if_neg (nI_nlt (by omega) (by omega))]
    exact ⟨_, loM_1 hI (by omega) hR hg (fun a' ha' => ih (s + 1) (by omega) a' ha') (vn V) 0 (by omega) a ha⟩
theorem om_longestBy {V : VV} {S : Nat} {P : Int32 → St → Prop} {σ : St} (hI : IM σ V) (hS : S < 2 ^ vn V) (h : ∀ σ', IM σ' (S_long V S) → P (nI (topV V S)) σ') : wm_longestBy σ (nI S) P := by
  have hw := hI.2
  refine ⟨V, hI, V, hI, ?_⟩
  refine om_findRows hI hS (start_ok hw) fun R hR => ?_
  refine ⟨_, loM_4 (R := R) (hI.qL 37 R) hS (fun s l hok => rows_eq hw.n (mv_newM V S) (start_ok hw) hR (s + 1) s l (by omega) hok) (gL_sLk _ _ _) h (2 ^ vn V) 0 (by omega) 0 ⟨by omega, fun s' l' _ _ _ z => absurd z (by omega)⟩⟩
abbrev allA (V : VV) : Nat := 2 ^ vn V - 1
theorem allA_lt (V : VV) : allA V < 2 ^ vn V := by have := Nat.one_le_two_pow (n := vn V); show 2 ^ vn V - 1 < _; omega
theorem ox_longest {σ : St} {V : VV} {P : Int32 → St → Prop} (hI : IX σ V) (h : ∀ σ', IX σ' (S_long V (allA V)) → P (nI (topV V (allA V))) σ') : wx_longest σ P :=
  ox_laysOut hI fun _ hG => ox_longT hG h
theorem om_longest {σ : St} {V : VV} {P : Int32 → St → Prop} (hI : IM σ V) (h : ∀ σ', IM σ' (S_long V (allA V)) → P (nI (topV V (allA V))) σ') : wm_longest σ P :=
  ⟨V, hI.th 0, om_longestBy (hI.th 0) (allA_lt V) h⟩
/-! bears -/
def freeA (V : VV) (g : Nat) : Nat := bitsOf (fun d => !(hungV V g d)) (vn V)
def R_bears (V : VV) (v : Int32) : Int32 := if rngB v (vg V) = true then nI (topV V (freeA V v.toNatClampNeg)) else -1
def S_bears (V : VV) (v : Int32) : VV := if rngB v (vg V) = true then S_long V (freeA V v.toNatClampNeg) else V
/-- bits below k by p, all above -/
def lowB (p : Nat → Bool) (n k : Nat) : Nat := bitsOf (fun d => p d || decide (k ≤ d)) n
theorem lowB_0 (p : Nat → Bool) (n : Nat) : lowB p n 0 = 2 ^ n - 1 := tb_ext fun j => by
  unfold lowB
  rw [bitsOf_tb, Nat.testBit_two_pow_sub_one, decide_eq_true (Nat.zero_le j), Bool.or_true, Bool.and_true]
theorem lowB_n (p : Nat → Bool) (n : Nat) : lowB p n n = bitsOf p n := tb_ext fun j => by
  unfold lowB
  rw [bitsOf_tb, bitsOf_tb]
  by_cases q : j < n
  · rw [decide_eq_false (show ¬ n ≤ j by omega), Bool.or_false]
  · rw [decide_eq_false q, Bool.false_and, Bool.false_and]
theorem lowB_s {p : Nat → Bool} {n k : Nat} (hk : k < n) : lowB p n (k + 1) = if p k = true then lowB p n k else lowB p n k ^^^ 2 ^ k := tb_ext fun j => by
  have h1 : (lowB p n (k + 1)).testBit j = (decide (j < n) && (p j || decide (k + 1 ≤ j))) := bitsOf_tb _ _ _
  have h2 : (lowB p n k).testBit j = (decide (j < n) && (p j || decide (k ≤ j))) := bitsOf_tb _ _ _
  rw [h1]
  by_cases e : j = k
  · subst e
    by_cases q : p j = true
    · rw [if_pos q, h2, q]; simp
    · rw [if_neg q, Nat.testBit_xor, h2, Nat.testBit_two_pow_self]
      rw [Bool.not_eq_true] at q
      rw [q, decide_eq_false (show ¬ j + 1 ≤ j by omega), decide_eq_true (Nat.le_refl j), decide_eq_true hk]; rfl
  · have : decide (k + 1 ≤ j) = decide (k ≤ j) := decide_eq_decide.mpr (by omega)
    rw [this]
    by_cases q : p k = true
    · rw [if_pos q, h2]
    · rw [if_neg q, Nat.testBit_xor, h2, Nat.testBit_two_pow_of_ne (fun z => e z.symm), Bool.xor_false]
theorem lowB_tbk {p : Nat → Bool} {n k : Nat} (hk : k < n) : (lowB p n k).testBit k = true := by
  unfold lowB
  rw [bitsOf_tb, decide_eq_true hk, decide_eq_true (Nat.le_refl k), Bool.or_true]; rfl
theorem GX.al {σ : St} {V : VV} {A A' : Nat} (h : GX σ V A) (hA : A' < 2 ^ vn V) : GX (sI σ 35 (nI A')) V A' := ⟨h.1.qI (by decide) _, rfl, hA, h.2.2.2⟩
theorem bearsX_loop {V : VV} {g : Nat} {P : Int32 → St → Prop} (hg : g < vg V) (h : ∀ σ', IX σ' (S_long V (freeA V g)) → P (nI (topV V (freeA V g))) σ') :
    ∀ m d : Nat, d + m = vn V → ∀ σ, GX σ V (lowB (fun d => !(hungV V g d)) (vn V) d) → wx_bears_l16 P (m + 1) (nI g) (nI d) σ := by
  intro m
  induction m with
  | zero =>
    intro d hd σ hG
    rw [wx_bears_l16_s, show xI_dishes σ = _ from hG.1.n, if_pos (by rw [show d = vn V by omega]; exact Int32.le_refl _)]
    rw [show d = vn V by omega, lowB_n] at hG
    exact ox_longT hG h
  | succ m ih =>
    intro d hd σ hG
    have hn := hG.1.2.n
    have hp := pow_le_1024 hn
    have hA := hG.2.2.1
    rw [wx_bears_l16_s, show xI_dishes σ = _ from hG.1.n, if_neg (nI_ge (by omega) (by omega))]
    refine ⟨V, d, hG.1, rfl, by omega, ?_⟩
    unfold sx_has wx_bears_j50
    dsimp only
    rw [bits_has hG.1.2 hg, nI_1, show xI_allowed σ = _ from hG.2.1, and_m1, nI_shl1 _ (by omega), and_compl (by omega) (by omega), lowB_tbk (by omega), if_pos rfl]
    have ih1 := ih (d + 1) (by omega)
    rw [lowB_s (by omega)] at ih1
    cases q : hungV V g d with
    | false =>
      rw [jf0]
      rw [q] at ih1
      exact ih1 _ (hG.al hA)
    | true =>
      rw [jt0]
      rw [q] at ih1
      refine ih1 _ (hG.al ?_)
      exact Nat.xor_lt_two_pow hA (Nat.pow_lt_pow_right (by decide) (by omega))
theorem ox_bears {σ : St} {V : VV} {P : Int32 → St → Prop} (hI : IX σ V) (v : Int32) (h : ∀ σ', IX σ' (S_bears V v) → P (R_bears V v) σ') : wx_bears σ v P := by
  have hg := hI.2.g
  refine ⟨V, hI, ?_⟩
  dsimp only
  unfold R_bears S_bears at h
  cases q : rngB v (vg V) with
  | false => rw [jf0]; rw [q, if_neg (by decide), if_neg (by decide)] at h; exact h σ hI
  | true =>
    rw [jt0]; rw [q, if_pos rfl, if_pos rfl] at h
    obtain ⟨g, hgl, rfl⟩ := rngB_of (by omega) q
    rw [cl (by omega)] at h
    exact ox_laysOut hI fun σ' hG => ⟨_, bearsX_loop hgl h (vn V) 0 (by omega) σ' (by rw [lowB_0]; exact hG)⟩
theorem bearsM_loop {V : VV} {g : Nat} {P : Int32 → St → Prop} {σ : St} (hI : IM σ V) (hg : g < vg V) (h : ∀ σ', IM σ' (S_long V (freeA V g)) → P (nI (topV V (freeA V g))) σ') :
    ∀ m d : Nat, d + m = vn V → wm_bears_l19 P (m + 1) (nI g) (nI (bitsOf (fun d => !(hungV V g d)) d)) (nI d) σ := by
  have hn := hI.2.n
  intro m
  induction m with
  | zero =>
    intro d hd
    rw [wm_bears_l19_s, show mI_dishes σ = _ from hI.n, if_pos (by rw [show d = vn V by omega]; exact Int32.le_refl _), show d = vn V by omega]
    exact om_longestBy hI (bitsOf_lt _ _) h
  | succ m ih =>
    intro d hd
    have ih1 := ih (d + 1) (by omega)
    rw [bitsOf_s] at ih1
    rw [wm_bears_l19_s, show mI_dishes σ = _ from hI.n, if_neg (nI_ge (by omega) (by omega))]
    refine ⟨V, g, d, hI, rfl, rfl, hg, by omega, ?_⟩
    unfold wm_bears_j44
    dsimp only
    rw [nI_1, nI_shl1 _ (by omega), nI_or, show nI (bitsOf (fun d => !(hungV V g d)) d) ||| (0 : Int32) = nI (bitsOf (fun d => !(hungV V g d)) d) from by rw [lit0', nI_or, Nat.or_zero]]
    cases q : hungV V g d with
    | false => rw [jf0]; rw [q, Bool.not_false, if_pos rfl] at ih1; exact ih1
    | true => rw [jt0]; rw [q, Bool.not_true, if_neg (by decide), Nat.or_zero] at ih1; exact ih1
theorem om_bears {σ : St} {V : VV} {P : Int32 → St → Prop} (hI : IM σ V) (v : Int32) (h : ∀ σ', IM σ' (S_bears V v) → P (R_bears V v) σ') : wm_bears σ v P := by
  have hI := hI.th 0
  have hg := hI.2.g
  refine ⟨V, hI, ?_⟩
  dsimp only
  unfold R_bears S_bears at h
  cases q : rngB v (vg V) with
  | false => rw [jf0]; rw [q, if_neg (by decide), if_neg (by decide)] at h; exact h _ hI
  | true =>
    rw [jt0]; rw [q, if_pos rfl, if_pos rfl] at h
    obtain ⟨g, hgl, rfl⟩ := rngB_of (by omega) q
    rw [cl (by omega)] at h
    exact ⟨_, bearsM_loop hI hgl h (vn V) 0 (by omega)⟩
