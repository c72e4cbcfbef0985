/-! tables by their step: the common value, and what is done of it -/
def fxv {α : Type} (step : Nat → Nat → (Nat → α) → α) (a : α) : Nat → Nat → Nat → α
  | 0, s, l => step s l (fun _ => a)
  | k + 1, s, l => step s l (fun d => fxv step a k (s ||| 2 ^ d) d)
def tabF {α : Type} (n : Nat) (step : Nat → Nat → (Nat → α) → α) (a : α) (s l : Nat) : α := fxv step a n s l
theorem full_no {n s d : Nat} (hn : n ≤ 10) (hs : s < 2 ^ n) (h : n ≤ pc s) (hd : d < n) : s.testBit d = true := Decidable.byContradiction fun z => by
  rw [Bool.not_eq_true] at z
  have h1 := pc_or2 z (show d < 11 by omega)
  have h2 := pc_le_n (or2_lt hs hd) (by omega)
  omega
theorem fxv_ir {α : Type} {n : Nat} {step : Nat → Nat → (Nat → α) → α} {a : α} (hn : n ≤ 10) (hc : stepC n step) : ∀ r r' s l, okS n s l → n ≤ pc s + r → n ≤ pc s + r' → fxv step a r s l = fxv step a r' s l := by
  intro r
  induction r with
  | zero =>
    intro r' s l hok h1 h2
    have no : ∀ d, d < n → s.testBit d = false → False := fun d hd hb => by rw [full_no hn hok.1 (by omega) hd] at hb; exact absurd hb (by decide)
    cases r' with
    | zero => rfl
    | succ r' => exact hc _ _ _ _ hok fun d hd hb => (no d hd hb).elim
  | succ r ih =>
    intro r' s l hok h1 h2
    cases r' with
    | zero => exact hc _ _ _ _ hok fun d hd hb => by rw [full_no hn hok.1 (by omega) hd] at hb; exact absurd hb (by decide)
    | succ r' =>
      refine hc _ _ _ _ hok fun d hd hb => ?_
      have := pc_or2 hb (show d < 11 by omega)
      exact ih _ _ _ (okS_step hok hd) (by omega) (by omega)
theorem tabF_fix {α : Type} {n : Nat} {step : Nat → Nat → (Nat → α) → α} {a : α} (hn : n ≤ 10) (hc : stepC n step) {s l : Nat} (hok : okS n s l) : tabF n step a s l = step s l (fun d => tabF n step a (s ||| 2 ^ d) d) := by
  have e : tabF n step a s l = fxv step a (n + 1) s l := fxv_ir hn hc _ _ _ _ hok (by omega) (by omega)
  rw [e]; rfl
theorem tabF_ind {α : Type} {n : Nat} {step : Nat → Nat → (Nat → α) → α} {a : α} (hn : n ≤ 10) (hc : stepC n step) (P : Nat → Nat → α → Prop) (h : ∀ s l f, okS n s l → (∀ d, d < n → s.testBit d = false → P (s ||| 2 ^ d) d (f d)) → P s l (step s l f)) :
    ∀ r s l, okS n s l → n ≤ pc s + r → P s l (tabF n step a s l) := by
  intro r
  induction r with
  | zero =>
    intro s l hok hr
    rw [tabF_fix hn hc hok]
    exact h _ _ _ hok fun d hd hb => by rw [full_no hn hok.1 (by omega) hd] at hb; exact absurd hb (by decide)
  | succ r ih =>
    intro s l hok hr
    rw [tabF_fix hn hc hok]
    refine h _ _ _ hok fun d hd hb => ?_
    have := pc_or2 hb (show d < 11 by omega)
    exact ih _ _ (okS_step hok hd) (by omega)
/-- p holds of every state that is done -/
def At (n s j : Nat) (p : Nat → Nat → Prop) : Prop := ∀ s' l', okS n s' l' → (s < s' ∨ (s' = s ∧ ordL l' < j)) → p s' l'
theorem At.step {n s j : Nat} {p p' : Nat → Nat → Prop} (hn : n ≤ 10) (h : At n s j p) (hpp : ∀ s' l', okS n s' l' → ¬ (s' = s ∧ l' = lOf j) → p s' l' → p' s' l') (hnew : okS n s (lOf j) → p' s (lOf j)) : At n s (j + 1) p' := by
  intro s' l' hok hle
  by_cases e : s' = s ∧ l' = lOf j
  · obtain ⟨rfl, rfl⟩ := e; exact hnew hok
  · refine hpp s' l' hok e (h s' l' hok ?_)
    have b := okS_le hn hok
    rcases hle with q | ⟨q1, q2⟩
    · exact Or.inl q
    · refine Or.inr ⟨q1, ?_⟩
      rcases Nat.lt_or_ge (ordL l') j with z | z
      · exact z
      · exact absurd ⟨q1, by rw [show j = ordL l' by omega, lOf_ord b.1]⟩ e
theorem At.skip {n s j : Nat} {p : Nat → Nat → Prop} (hn : n ≤ 10) (h : At n s j p) (hj : j ≤ n) (hs : s < 2 ^ n) (hl : stateB s (lOf j) = false) : At n s (j + 1) p :=
  h.step hn (fun _ _ _ _ q => q) fun hok => by rw [(okS_B hn hs (lOf_n hn (by omega))).mpr hok] at hl; exact absurd hl (by decide)
theorem At.next {n s : Nat} {p : Nat → Nat → Prop} (hn : n ≤ 10) (h : At n (s + 1) (n + 1) p) : At n s 0 p := fun s' l' hok hle => h s' l' hok (by
  have := ordL_lt hn hok
  rcases hle with q | q
  · rcases Nat.lt_or_ge (s + 1) s' with z | z
    · exact Or.inl z
    · exact Or.inr ⟨by omega, this⟩
  · exact absurd q.2 (by omega))
theorem At.start (n : Nat) (p : Nat → Nat → Prop) : At n (2 ^ n - 1) 0 p := fun s' l' hok hle => by
  have := hok.1
  rcases hle with q | q <;> omega
theorem At.fix {n : Nat} {p : Nat → Nat → Prop} (hn : n ≤ 10) (h : At n 0 (n + 1) p) : ∀ s l, okS n s l → p s l := fun s l hok => h s l hok (by
  have := ordL_lt hn hok
  by_cases q : s = 0
  · exact Or.inr ⟨q, this⟩
  · exact Or.inl (by omega))
theorem At.nx {n s j d : Nat} {p : Nat → Nat → Prop} (h : At n s j p) {l : Nat} (hok : okS n s l) (hd : d < n) (hb : s.testBit d = false) : p (s ||| 2 ^ d) d := h _ _ (okS_step hok hd) (Or.inl (or2_gt hb))
theorem At.mono {n s j : Nat} {p p' : Nat → Nat → Prop} (h : At n s j p) (hp : ∀ s l, okS n s l → p s l → p' s l) : At n s j p' := fun s' l' hok hle => hp _ _ hok (h s' l' hok hle)
/-! GAME -/
def cmbG (a f : Bool × Nat) : Bool × Nat :=
  if f.1 = true then (if a.1 = true then a else (false, max a.2 (1 + f.2))) else (if a.1 = true then (true, min a.2 (1 + f.2)) else (true, 1 + f.2))
def gFo (M : Nat → Nat → Nat → Bool) (s l : Nat) (f : Nat → Bool × Nat) (k : Nat) : Bool × Nat := foldN (fun d acc => if M s l d = true then cmbG acc (f d) else acc) (false, 0) k
theorem gFo_s (M : Nat → Nat → Nat → Bool) (s l : Nat) (f : Nat → Bool × Nat) (k : Nat) : gFo M s l f (k + 1) = if M s l k = true then cmbG (gFo M s l f k) (f k) else gFo M s l f k := rfl
def stG (M : Nat → Nat → Nat → Bool) (n : Nat) : Nat → Nat → (Nat → Bool × Nat) → Bool × Nat := fun s l f => gFo M s l f n
theorem stG_c {M : Nat → Nat → Nat → Bool} {n : Nat} (hM : newM n M) : stepC n (stG M n) := by
  intro s l f g _ h
  refine foldN_congr n fun d hd x => ?_
  by_cases q : M s l d = true
  · rw [if_pos q, if_pos q, h d hd (hM s l d hd q)]
  · rw [if_neg q, if_neg q]
def gmV (V : VV) (A s l : Nat) : Bool × Nat := tabF (vn V) (stG (mv V A) (vn V)) (false, 0) s l
def gmN (V : VV) (A s d : Nat) : Bool × Nat := gmV V A (s ||| 2 ^ d) d
theorem gmV_fix {V : VV} (hn : vn V ≤ 10) {A s l : Nat} (hok : okS (vn V) s l) : gmV V A s l = gFo (mv V A) s l (gmN V A s) (vn V) := tabF_fix hn (stG_c (mv_newM V A)) hok
theorem gFo_bd {M : Nat → Nat → Nat → Bool} {s l b : Nat} {f : Nat → Bool × Nat} : ∀ k, (∀ d, d < k → M s l d = true → (f d).2 + 1 ≤ b) → (gFo M s l f k).2 ≤ b := by
  intro k
  induction k with
  | zero => intro _; exact Nat.zero_le _
  | succ k ih =>
    intro h
    have h1 := ih fun d hd => h d (by omega)
    rw [gFo_s]
    by_cases q : M s l k = true
    · have h2 := h k (by omega) q
      rw [if_pos q]
      unfold cmbG
      split
      · split
        · exact h1
        · show max _ _ ≤ b; omega
      · split
        · show min _ _ ≤ b; omega
        · show 1 + _ ≤ b; omega
    · rw [if_neg q]; exact h1
theorem gmV_bd {V : VV} (hn : vn V ≤ 10) (A : Nat) {s l : Nat} (hok : okS (vn V) s l) : (gmV V A s l).2 + pc s ≤ vn V := by
  have hM := mv_newM V A
  refine tabF_ind hn (stG_c hM) (fun s l x => x.2 + pc s ≤ vn V) (fun s l f hok h => ?_) (vn V) s l hok (by omega)
  have h1 := pc_le_n hok.1 (by omega)
  have h2 : (gFo (mv V A) s l f (vn V)).2 ≤ vn V - pc s := gFo_bd _ fun d hd hm => by
    have h3 := h d hd (hM s l d hd hm)
    have h4 := pc_or2 (hM s l d hd hm) (show d < 11 by omega)
    omega
  show (gFo (mv V A) s l f (vn V)).2 + pc s ≤ vn V
  omega
theorem gmN_bd {V : VV} (hn : vn V ≤ 10) (A : Nat) {s l d : Nat} (hok : okS (vn V) s l) (hd : d < vn V) : (gmN V A s d).2 ≤ 10 := by
  have := gmV_bd hn A (okS_step hok hd)
  show (gmV V A (s ||| 2 ^ d) d).2 ≤ 10
  omega
theorem gFo_bd2 {V : VV} (hn : vn V ≤ 10) (A : Nat) {s l k : Nat} (hok : okS (vn V) s l) (hk : k ≤ vn V) : (gFo (mv V A) s l (gmN V A s) k).2 ≤ 11 := gFo_bd k fun d hd _ => by have := gmN_bd hn A hok (show d < vn V by omega); omega
/-! component: plays -/
def pGX (σ : St) (V : VV) (A s l : Nat) : Prop := gA σ 32 (11 * s + l) = (if (gmV V A s l).1 = true then 1 else 2) ∧ gA σ 33 (11 * s + l) = nI (gmV V A s l).2
theorem plyX_d {V : VV} {A s l : Nat} {P : St → Prop} {K : Int32 → Int32 → Int32 → Int32 → Int32 → St → Prop} {σ : St} (hG : GX σ V A) (hok : okS (vn V) s l) (hA : ∀ d, d < vn V → s.testBit d = false → pGX σ V A (s ||| 2 ^ d) d)
    (h : K (nI s) (lI l) (nI (gmV V A s l).2) (nI (11 * s + l)) (if (gmV V A s l).1 = true then 1 else 2) σ) :
    ∀ m d : Nat, d + m = vn V → wx_plays_l43 P K (m + 1) (nI s) (lI l) (nI (gFo (mv V A) s l (gmN V A s) d).2) (j01 (gFo (mv V A) s l (gmN V A s) d).1) (nI d) σ := by
  have hI := hG.1
  have hn := hI.2.n
  have hb := okS_le hn hok
  have hp := pow_le_1024 hn
  intro m
  induction m with
  | zero =>
    intro d hd
    rw [wx_plays_l43_s, show xI_dishes σ = _ from hI.n, if_pos (by rw [show d = vn V by omega]; exact Int32.le_refl _), show d = vn V by omega, ← gmV_fix hn hok]
    refine ⟨s, l, rfl, rfl, by omega, by omega, ?_⟩
    cases q : (gmV V A s l).1 with
    | false => rw [jf0]; rw [q, if_neg (by decide)] at h; exact h
    | true => rw [jt0]; rw [q, if_pos rfl] at h; exact h
  | succ m ih =>
    intro d hd
    have ih1 := ih (d + 1) (by omega)
    have hor := or2_lt hok.1 (show d < vn V by omega)
    have b1 := gmN_bd hn A hok (show d < vn V by omega)
    have b2 := gFo_bd2 hn A (k := d) hok (by omega)
    rw [gFo_s] at ih1
    rw [wx_plays_l43_s, show xI_dishes σ = _ from hI.n, if_neg (nI_ge (by omega) (by omega))]
    refine ox_goesOn hG hok.1 (by rcases hok.2 with q | q <;> omega) (by omega) ?_
    unfold wx_plays_j167
    rw [nI_1]
    cases q : mv V A s l d with
    | false => rw [jf0]; rw [q, if_neg (by decide)] at ih1; exact ih1
    | true =>
      rw [jt0]; rw [q, if_pos rfl] at ih1
      obtain ⟨t1, t2⟩ := hA d (by omega) (mv_new q)
      rw [nI_shl1 _ (by omega), nI_or]
      refine ⟨s ||| 2 ^ d, d, rfl, (lI_l (by omega)).symm, by omega, by omega, vp_in_nI (by omega) (by omega), ?_⟩
      rw [cl (by omega), show xA_value σ (11 * (s ||| 2 ^ d) + d) = _ from t1]
      generalize ha : gFo (mv V A) s l (gmN V A s) d = a at ih1 b2 ⊢
      have hf : gmV V A (s ||| 2 ^ d) d = gmN V A s d := rfl
      rw [hf] at t2 ⊢
      generalize gmN V A s d = f at ih1 b1 t2 ⊢
      obtain ⟨a1, a2⟩ := a
      obtain ⟨f1, f2⟩ := f
      have b1 : f2 ≤ 10 := b1
      have b2 : a2 ≤ 11 := b2
      unfold wx_plays_j95 wx_plays_j149 wx_plays_j160 wx_plays_j165 wx_plays_j167
      rw [cl (by omega), show xA_length σ (11 * (s ||| 2 ^ d) + d) = nI f2 from t2, nI_1, show (1 : Int32) + nI f2 = nI (1 + f2) from nI_add 1 f2]
      unfold cmbG at ih1
      have hv : vp_in (nI (11 * (s ||| 2 ^ d) + d)) 11264 := vp_in_nI (by omega) (by omega)
      have emax : jmax (nI a2) (nI (1 + f2)) = nI (max a2 (1 + f2)) := jmax_nI (by omega) (by omega)
      have emin : jmin (nI a2) (nI (1 + f2)) = nI (min a2 (1 + f2)) := jmin_nI (by omega) (by omega)
      cases f1 <;> cases a1
      · exact ⟨hv, ih1⟩
      · refine ⟨hv, ?_⟩
        show wx_plays_l43 P K (m + 1) (nI s) (lI l) (jmin (nI a2) (nI (1 + f2))) 1 (nI (d + 1)) σ
        rw [emin]; exact ih1
      · refine ⟨hv, ?_⟩
        show wx_plays_l43 P K (m + 1) (nI s) (lI l) (jmax (nI a2) (nI (1 + f2))) 0 (nI (d + 1)) σ
        rw [emax]; exact ih1
      · exact ⟨hv, ih1⟩
theorem plyX_l {V : VV} {A s : Nat} {P : St → Prop} {K : Int32 → St → Prop} (hw : WV V) (hs : s < 2 ^ vn V)
    (h : ∀ σ', GX σ' V A → At (vn V) s (vn V + 1) (pGX σ' V A) → K (nI s + (-1)) σ') :
    ∀ m j : Nat, j + m = vn V + 1 → ∀ σ, GX σ V A → At (vn V) s j (pGX σ V A) → wx_plays_l15 P K (m + 1) (nI s) (nI j - 1) σ := by
  have hn := hw.n
  have hp := pow_le_1024 hn
  intro m
  induction m with
  | zero =>
    intro j hj σ hG hD
    rw [wx_plays_l15_s, show xI_dishes σ = _ from hG.1.n, if_pos ((nIm_lt (by omega) (by omega)).mpr (by omega))]
    rw [show j = vn V + 1 by omega] at hD
    exact h σ hG hD
  | succ m ih =>
    intro j hj σ hG hD
    rw [wx_plays_l15_s, show xI_dishes σ = _ from hG.1.n, if_neg (fun z => by have := (nIm_lt (by omega) (by omega)).mp z; omega)]
    have hl := lOf_n (j := j) hn (by omega)
    refine ⟨s, lOf j, rfl, (lOf_lI (by omega)).symm, by omega, by omega, ?_⟩
    dsimp only
    cases q : stateB s (lOf j) with
    | false =>
      rw [jf0]
      unfold wx_plays_j204
      rw [nIm_s]
      exact ih (j + 1) (by omega) σ hG (hD.skip hn (by omega) hs q)
    | true =>
      rw [jt0]
      have hok := (okS_B hn hs hl).mp q
      rw [← lOf_lI (by omega)]
      refine ⟨vn V + 1, plyX_d hG hok (fun d hd hb => hD.nx hok hd hb) ?_ (vn V) 0 (by omega)⟩
      refine ⟨vp_in_nI (by omega) (by omega), s, lOf j, rfl, rfl, by omega, by omega, vp_in_nI (by omega) (by omega), ?_⟩
      unfold wx_plays_j204 xU_length xU_value uA
      rw [cl (by omega), lOf_lI (by omega), nIm_s]
      refine ih (j + 1) (by omega) _ ((hG.qA (by decide) _).qA (by decide) _) (hD.step hn (fun s' l' hok' hne hp' => ?_) fun _ => ?_)
      · have hb' := okS_le hn hok'
        have hb := okS_le hn hok
        have hne' : 11 * s' + l' ≠ 11 * s + lOf j := fun z => hne ⟨by omega, by omega⟩
        refine ⟨?_, ?_⟩
        · show upd (gA σ 32) _ _ _ = _
          rw [upd_n hne']; exact hp'.1
        · show upd (gA σ 33) _ _ _ = _
          rw [upd_n hne']; exact hp'.2
      · exact ⟨upd_s, upd_s⟩
theorem plyX_s {V : VV} {A : Nat} {P : St → Prop} (hw : WV V) (h : ∀ σ', GX σ' V A → (∀ s l, okS (vn V) s l → pGX σ' V A s l) → P σ') :
    ∀ m : Nat, m ≤ 2 ^ vn V → ∀ σ, GX σ V A → (0 < m → At (vn V) (m - 1) 0 (pGX σ V A)) → (m = 0 → ∀ s l, okS (vn V) s l → pGX σ V A s l) → wx_plays_l9 P (m + 1) (nI m - 1) σ := by
  have hn := hw.n
  have hp := pow_le_1024 hn
  intro m
  induction m with
  | zero =>
    intro hm σ hG _ hF
    rw [wx_plays_l9_s, if_pos (by decide)]
    exact h σ hG (hF rfl)
  | succ m ih =>
    intro hm σ hG hD _
    rw [wx_plays_l9_s, nI_pred, if_neg (nI_lt0 (by omega))]
    refine ⟨vn V + 2, plyX_l (K := wx_plays_l9 P (m + 1)) hw (show m < 2 ^ vn V by omega) (fun σ' hG' hD' => ?_) (vn V + 1) 0 (by omega) σ hG (hD (by omega))⟩
    rw [show nI m + (-1) = nI m - 1 from (Int32.sub_eq_add_neg _ _).symm]
    refine ih (by omega) σ' hG' (fun hpos => ?_) (fun h0 => ?_)
    · rw [show m = m - 1 + 1 by omega] at hD'
      exact hD'.next hn
    · rw [h0] at hD'; exact hD'.fix hn
theorem ox_plays {σ : St} {V : VV} {A : Nat} {P : St → Prop} (hG : GX σ V A) (h : ∀ σ', GX σ' V A → (∀ s l, okS (vn V) s l → pGX σ' V A s l) → P σ') : wx_plays σ P := by
  unfold wx_plays
  have hn := hG.1.2.n
  have h1 := Nat.one_le_two_pow (n := vn V)
  rw [show xI_dishes σ = _ from hG.1.n, nI_shl1 _ (by omega)]
  exact ⟨_, plyX_s hG.1.2 h (2 ^ vn V) (by omega) σ hG (fun _ => At.start _ _) (fun z => by omega)⟩
/-- the dish that wins soonest, the least -/
def gmD (V : VV) (A s l : Nat) : Nat := lst (fun d => mv V A s l d && (!(gmN V A s d).1 && decide (1 + (gmN V A s d).2 = (gmV V A s l).2))) (vn V)
theorem gFo_f {M : Nat → Nat → Nat → Bool} {s l : Nat} {f : Nat → Bool × Nat} : ∀ k, (gFo M s l f k).1 = anB (fun d => M s l d && !(f d).1) k := by
  intro k
  induction k with
  | zero => rfl
  | succ k ih =>
    rw [gFo_s, anB_s, ← ih]
    cases q : M s l k with
    | false => rw [if_neg (by decide), Bool.false_and, Bool.or_false]
    | true =>
      rw [if_pos rfl, Bool.true_and]
      unfold cmbG
      cases (f k).1 <;> cases z : (gFo M s l f k).1 <;> simp [z]
/-- a least of those that win is there -/
theorem gFo_min {M : Nat → Nat → Nat → Bool} {s l : Nat} {f : Nat → Bool × Nat} : ∀ k, (gFo M s l f k).1 = true → (∀ d, d < k → M s l d = true → (f d).1 = false → (gFo M s l f k).2 ≤ 1 + (f d).2) ∧ ∃ d, d < k ∧ M s l d = true ∧ (f d).1 = false ∧ 1 + (f d).2 = (gFo M s l f k).2 := by
  intro k
  induction k with
  | zero => intro h; have h : false = true := h; exact absurd h (by decide)
  | succ k ih =>
    rw [gFo_s]
    by_cases q : M s l k = true
    · rw [if_pos q]
      unfold cmbG
      by_cases q1 : (f k).1 = true
      · rw [if_pos q1]
        by_cases q2 : (gFo M s l f k).1 = true
        · rw [if_pos q2]
          intro _
          obtain ⟨a, d, hd, b⟩ := ih q2
          refine ⟨fun d hd hm hf => ?_, d, by omega, b⟩
          have : d ≠ k := fun z => by rw [z, q1] at hf; exact absurd hf (by decide)
          exact a d (by omega) hm hf
        · rw [if_neg q2]; intro h; have h : false = true := h; exact absurd h (by decide)
      · rw [if_neg q1]
        rw [Bool.not_eq_true] at q1
        by_cases q2 : (gFo M s l f k).1 = true
        · rw [if_pos q2]
          intro _
          obtain ⟨a, d, hd, b1, b2, b3⟩ := ih q2
          refine ⟨fun d hd hm hf => ?_, ?_⟩
          · show min _ _ ≤ _
            by_cases e : d = k
            · rw [e]; omega
            · have := a d (by omega) hm hf; omega
          · by_cases z : (gFo M s l f k).2 ≤ 1 + (f k).2
            · exact ⟨d, by omega, b1, b2, by show _ = min _ _; omega⟩
            · exact ⟨k, by omega, q, q1, by show _ = min _ _; omega⟩
        · rw [if_neg q2]
          intro _
          rw [gFo_f] at q2
          refine ⟨fun d hd hm hf => ?_, k, by omega, q, q1, rfl⟩
          by_cases e : d = k
          · rw [e]; exact Nat.le_refl _
          · exact absurd (anB_iff.mpr ⟨d, by omega, by rw [hm, hf]; rfl⟩) q2
    · rw [if_neg q]
      intro h
      obtain ⟨a, d, hd, b⟩ := ih h
      refine ⟨fun d hd hm hf => ?_, d, by omega, b⟩
      have : d ≠ k := fun z => by rw [z] at hm; exact q hm
      exact a d (by omega) hm hf
theorem gmD_spec {V : VV} (hn : vn V ≤ 10) {A s l : Nat} (hok : okS (vn V) s l) (h : (gmV V A s l).1 = true) : gmD V A s l < vn V ∧ mv V A s l (gmD V A s l) = true ∧ (gmN V A s (gmD V A s l)).1 = false ∧ 1 + (gmN V A s (gmD V A s l)).2 = (gmV V A s l).2 ∧
    ∀ d, d < gmD V A s l → mv V A s l d = true → (gmN V A s d).1 = false → 1 + (gmN V A s d).2 ≠ (gmV V A s l).2 := by
  have e := gmV_fix hn (A := A) hok
  obtain ⟨_, d, hd, h1, h2, h3⟩ := gFo_min (M := mv V A) (s := s) (l := l) (f := gmN V A s) (vn V) (by rw [← e]; exact h)
  rw [← e] at h3
  obtain ⟨a, b, c⟩ := lst_ex (p := fun d => mv V A s l d && (!(gmN V A s d).1 && decide (1 + (gmN V A s d).2 = (gmV V A s l).2))) hd (by rw [h1, h2, decide_eq_true h3]; rfl)
  rw [Bool.and_eq_true, Bool.and_eq_true, Bool.not_eq_true', decide_eq_true_eq] at b
  refine ⟨a, b.1, b.2.1, b.2.2, fun d hd hm hf he => ?_⟩
  have := c d hd
  rw [hm, hf, decide_eq_true he] at this
  exact absurd this (by decide)
def S_game (V : VV) : VV := vSRow V [if (gmV V (allA V) (s0V V) (l0V V)).1 = true then nI (gmD V (allA V) (s0V V) (l0V V)) else -1, nI (gmV V (allA V) (s0V V) (l0V V)).2]
def R_game (V : VV) : Int32 := j01 (gmV V (allA V) (s0V V) (l0V V)).1
theorem gamX_l {V : VV} {A s l : Nat} {P : Int32 → St → Prop} {K : Int32 → Int32 → St → Prop} {σ : St} (hG : GX σ V A) (hok : okS (vn V) s l) (hA : ∀ s l, okS (vn V) s l → pGX σ V A s l)
    (h : K (nI (11 * s + l)) (if (gmV V A s l).1 = true then nI (gmD V A s l) else -1) (xS_rowMany σ 0)) :
    ∀ k : Nat, k ≤ vn V → ∀ v : Int32, ((gmV V A s l).1 = true → k ≤ gmD V A s l → v = nI (gmD V A s l)) → wx_game_l35 P K (k + 1) (nI s) (lI l) (nI (11 * s + l)) v (nI k - 1) σ := by
  have hI := hG.1
  have hn := hI.2.n
  have hb := okS_le hn hok
  have hp := pow_le_1024 hn
  obtain ⟨t1, t2⟩ := hA s l hok
  intro k
  induction k with
  | zero =>
    intro hk v hv
    rw [wx_game_l35_s, if_pos (by decide), cl (by omega), show xA_value (xS_rowMany σ 0) (11 * s + l) = _ from t1]
    refine ⟨vp_in_nI (by omega) (by omega), ?_⟩
    cases q : (gmV V A s l).1 with
    | false => rw [q, if_neg (by decide)] at h; rw [if_neg (by decide)]; exact h
    | true => rw [q, if_pos rfl] at h; rw [if_pos (by decide), hv q (by omega)]; exact h
  | succ k ih =>
    intro hk v hv
    have hor := or2_lt hok.1 (show k < vn V by omega)
    rw [wx_game_l35_s, nI_pred, if_neg (nI_lt0 (by omega))]
    refine ox_goesOn hG hok.1 (by rcases hok.2 with q | q <;> omega) (by omega) ?_
    unfold wx_game_j106 wx_game_j108 wx_game_j110
    rw [show nI k + (-1) = nI k - 1 from (Int32.sub_eq_add_neg _ _).symm]
    -- not this dish
    have no : ((gmV V A s l).1 = true → gmD V A s l ≠ k) → wx_game_l35 P K (k + 1) (nI s) (lI l) (nI (11 * s + l)) v (nI k - 1) σ := fun z => ih (by omega) v fun q hle => hv q (by have := z q; omega)
    cases q : mv V A s l k with
    | false => rw [jf0]; exact no fun z e => by have := (gmD_spec hn hok z).2.1; rw [e, q] at this; exact absurd this (by decide)
    | true =>
      rw [jt0]
      obtain ⟨u1, u2⟩ := hA _ _ (okS_step hok (show k < vn V by omega))
      have c1 := gmN_bd hn A hok (show k < vn V by omega)
      have c2 := gmV_bd hn A hok
      rw [nI_shl1 _ (by omega), nI_or]
      refine ⟨s ||| 2 ^ k, k, rfl, (lI_l (by omega)).symm, by omega, by omega, vp_in_nI (by omega) (by omega), vp_in_nI (by omega) (by omega), ?_⟩
      rw [cl (by omega), cl (by omega), show xA_value σ (11 * (s ||| 2 ^ k) + k) = _ from u1, show xA_value σ (11 * s + l) = _ from t1, show xA_length σ (11 * (s ||| 2 ^ k) + k) = _ from u2, show xA_length σ (11 * s + l) = _ from t2]
      rw [show (1 : Int32) + nI (gmV V A (s ||| 2 ^ k) k).2 = nI (1 + (gmN V A s k).2) from nI_add 1 _]
      rw [show (gmV V A (s ||| 2 ^ k) k).1 = (gmN V A s k).1 from rfl]
      simp only [nI_eq (show 1 + (gmN V A s k).2 < 2 ^ 31 by omega) (show (gmV V A s l).2 < 2 ^ 31 by omega)]
      by_cases q2 : (gmN V A s k).1 = (gmV V A s l).1
      · rw [q2, if_pos rfl]
        exact no fun z e => by have := (gmD_spec hn hok z).2.2.1; rw [e, q2, z] at this; exact absurd this (by decide)
      · rw [if_neg (fun z => q2 (by cases a : (gmN V A s k).1 <;> cases b : (gmV V A s l).1 <;> rw [a, b] at z <;> first | rfl | exact absurd z (by decide)))]
        refine ⟨vp_in_nI (by omega) (by omega), vp_in_nI (by omega) (by omega), ?_⟩
        by_cases q3 : 1 + (gmN V A s k).2 = (gmV V A s l).2
        · rw [if_pos q3]
          refine ih (by omega) _ fun z hle => ?_
          obtain ⟨g1, g2, g3, g4, g5⟩ := gmD_spec hn hok z
          have hf : (gmN V A s k).1 = false := by rw [z] at q2; cases y : (gmN V A s k).1 with
            | false => rfl
            | true => exact absurd y q2
          by_cases e : gmD V A s l = k
          · rw [e]
          · exact absurd q3 (fun y => by
              rcases Nat.lt_or_ge k (gmD V A s l) with w | w
              · exact g5 k w q hf y
              · omega)
        · rw [if_neg q3]
          exact no fun z e => by have := (gmD_spec hn hok z).2.2.2.1; rw [e] at this; exact q3 this
theorem ox_game {σ : St} {V : VV} {P : Int32 → St → Prop} (hI : IX σ V) (h : ∀ σ', IX σ' (S_game V) → P (R_game V) σ') : wx_game σ P := by
  have hw := hI.2
  have hn := hw.n
  have hok := start_ok hw
  have hb := okS_le hn hok
  unfold R_game S_game at h
  refine ox_laysOut hI fun σ1 hG1 => ox_plays hG1 fun σ2 hG2 hA => ⟨V, hG2.1, V, hG2.1, s0V V, l0V V, rfl, rfl, by omega, by omega, vn V + 1, ?_⟩
  obtain ⟨t1, t2⟩ := hA _ _ hok
  rw [show xI_dishes σ2 = _ from hG2.1.n]
  refine gamX_l (A := allA V) hG2 hok hA ?_ (vn V) (Nat.le_refl _) _ (fun z hle => by have := (gmD_spec hn hok z).1; omega)
  have hr := hG2.row0.1
  refine ⟨_, hr, by show 0 < 12; omega, fun σ3 h3 k3 _ => ⟨vp_in_nI (by omega) (by omega), _, h3, by show 0 + 1 < 12; omega, fun σ4 h4 k4 _ => ⟨vp_in_nI (by omega) (by omega), ?_⟩⟩⟩
  have a33 : xA_length σ3 = gA σ2 33 := k3.2.1 33 (by decide)
  have a32 : xA_value σ4 = gA σ2 32 := (k4.2.1 32 (by decide)).trans (k3.2.1 32 (by decide))
  rw [cl (by omega), a33, t2] at h4
  rw [cl (by omega), a32, t1]
  have h9 := h σ4 h4
  cases q : (gmV V (allA V) (s0V V) (l0V V)).1 with
  | false => rw [q] at h9; rw [if_neg (by decide)]; exact h9
  | true => rw [q] at h9; rw [if_pos (by decide)]; exact h9
