/-! MEND: the least changes from a menu to a row that can be -/
def dFo (M : Nat → Nat → Nat → Bool) (c : Nat → Nat) (s l : Nat) (f : Nat → Nat) (k : Nat) : Nat := foldN (fun d acc => if M s l d = true then min acc (f d + c d) else acc) 1000000 k
theorem dFo_s (M : Nat → Nat → Nat → Bool) (c : Nat → Nat) (s l : Nat) (f : Nat → Nat) (k : Nat) : dFo M c s l f (k + 1) = if M s l k = true then min (dFo M c s l f k) (f k + c k) else dFo M c s l f k := rfl
theorem dFo_le {M : Nat → Nat → Nat → Bool} {c : Nat → Nat} {s l : Nat} {f : Nat → Nat} : ∀ k, dFo M c s l f k ≤ 1000000 ∧ (∀ d, d < k → M s l d = true → dFo M c s l f k ≤ f d + c d) ∧ (dFo M c s l f k = 1000000 ∨ ∃ d, d < k ∧ M s l d = true ∧ f d + c d = dFo M c s l f k) := by
  intro k
  induction k with
  | zero => exact ⟨Nat.le_refl _, fun d hd => absurd hd (by omega), Or.inl rfl⟩
  | succ k ih =>
    obtain ⟨a, b, e⟩ := ih
    rw [dFo_s]
    by_cases q : M s l k = true
    · rw [if_pos q]
      refine ⟨by omega, fun d hd hm => ?_, ?_⟩
      · by_cases z : d = k
        · rw [z]; omega
        · have := b d (by omega) hm; omega
      · by_cases z : dFo M c s l f k ≤ f k + c k
        · rcases e with y | ⟨d, hd, y1, y2⟩
          · exact Or.inl (by omega)
          · exact Or.inr ⟨d, by omega, y1, by omega⟩
        · exact Or.inr ⟨k, by omega, q, by omega⟩
    · rw [if_neg q]
      refine ⟨a, fun d hd hm => ?_, ?_⟩
      · have : d ≠ k := fun z => q (by rw [← z]; exact hm)
        exact b d (by omega) hm
      · rcases e with y | ⟨d, hd, y1, y2⟩
        · exact Or.inl y
        · exact Or.inr ⟨d, by omega, y1, y2⟩
theorem dFo_congr {M : Nat → Nat → Nat → Bool} {c : Nat → Nat} {s l n : Nat} {f g : Nat → Nat} (h : ∀ d, d < n → M s l d = true → f d = g d) : dFo M c s l f n = dFo M c s l g n :=
  foldN_congr n fun d hd x => by
    by_cases q : M s l d = true
    · rw [if_pos q, if_pos q, h d hd q]
    · rw [if_neg q, if_neg q]
def meC (mn : List Nat) (s d : Nat) : Nat := if mn.getD (pc s) 0 = d then 0 else 1
def stD (M : Nat → Nat → Nat → Bool) (mn : List Nat) (n : Nat) : Nat → Nat → (Nat → Nat) → Nat := fun s l f => if pc s = mn.length then 0 else dFo M (meC mn s) s l f n
theorem stD_c {M : Nat → Nat → Nat → Bool} {mn : List Nat} {n : Nat} (hM : newM n M) : stepC n (stD M mn n) := by
  intro s l f g _ h
  unfold stD
  split
  · rfl
  · exact dFo_congr fun d hd hm => h d hd (hM s l d hd hm)
def meF (M : Nat → Nat → Nat → Bool) (mn : List Nat) (n s l : Nat) : Nat := tabF n (stD M mn n) 0 s l
theorem meF_fix {M : Nat → Nat → Nat → Bool} {mn : List Nat} {n s l : Nat} (hn : n ≤ 10) (hM : newM n M) (hok : okS n s l) : meF M mn n s l = if pc s = mn.length then 0 else dFo M (meC mn s) s l (fun d => meF M mn n (s ||| 2 ^ d) d) n := tabF_fix hn (stD_c hM) hok
theorem meF_le {M : Nat → Nat → Nat → Bool} {mn : List Nat} {n s l : Nat} (hn : n ≤ 10) (hM : newM n M) (hok : okS n s l) : meF M mn n s l ≤ 1000000 := by
  rw [meF_fix hn hM hok]
  split
  · omega
  · exact (dFo_le n).1
/-- the least row of least changes -/
def wyD (M : Nat → Nat → Nat → Bool) (mn : List Nat) (n : Nat) : Nat → Nat → Nat → List Nat
  | 0, _, _ => []
  | k + 1, s, l => lst (fun d => M s l d && decide (meF M mn n (s ||| 2 ^ d) d + meC mn s d = meF M mn n s l)) n ::
      wyD M mn n k (s ||| 2 ^ lst (fun d => M s l d && decide (meF M mn n (s ||| 2 ^ d) d + meC mn s d = meF M mn n s l)) n) (lst (fun d => M s l d && decide (meF M mn n (s ||| 2 ^ d) d + meC mn s d = meF M mn n s l)) n)
theorem meF_next {M : Nat → Nat → Nat → Bool} {mn : List Nat} {n s l : Nat} (hn : n ≤ 10) (hM : newM n M) (hok : okS n s l) (hp : pc s < mn.length) (h : meF M mn n s l < 1000000) :
    ∃ d, d < n ∧ M s l d = true ∧ meF M mn n (s ||| 2 ^ d) d + meC mn s d = meF M mn n s l := by
  rw [meF_fix hn hM hok, if_neg (by omega)] at h ⊢
  rcases (dFo_le (M := M) (c := meC mn s) (s := s) (l := l) (f := fun d => meF M mn n (s ||| 2 ^ d) d) n).2.2 with y | y
  · omega
  · exact y
/-! where two ways to move agree, and what they lead to too, the tables agree -/
theorem meF_congr {M M' : Nat → Nat → Nat → Bool} {mn : List Nat} {n : Nat} {Q : Nat → Prop} (hQ : ∀ s l d, Q s → d < n → M s l d = M' s l d) (hN : ∀ s l d, Q s → d < n → M s l d = true → Q (s ||| 2 ^ d)) : ∀ s l, Q s → meF M mn n s l = meF M' mn n s l := by
  have key : ∀ r s l, Q s → fxv (stD M mn n) 0 r s l = fxv (stD M' mn n) 0 r s l := by
    have step : ∀ s l (f g : Nat → Nat), Q s → (∀ d, d < n → M s l d = true → f d = g d) → stD M mn n s l f = stD M' mn n s l g := by
      intro s l f g hq h
      unfold stD
      split
      · rfl
      · refine foldN_congr n fun d hd x => ?_
        rw [← hQ s l d hq hd]
        by_cases q : M s l d = true
        · rw [if_pos q, if_pos q, h d hd q]
        · rw [if_neg q, if_neg q]
    intro r
    induction r with
    | zero => intro s l hq; exact step _ _ _ _ hq fun _ _ _ => rfl
    | succ r ih => intro s l hq; exact step _ _ _ _ hq fun d hd hm => ih _ _ (hN s l d hq hd hm)
  exact fun s l hq => key n s l hq
theorem wyD_congr {M M' : Nat → Nat → Nat → Bool} {mn : List Nat} {n : Nat} {Q : Nat → Prop} (hn : n ≤ 10) (hM : newM n M) (hQ : ∀ s l d, Q s → d < n → M s l d = M' s l d) (hN : ∀ s l d, Q s → d < n → M s l d = true → Q (s ||| 2 ^ d)) :
    ∀ k s l, Q s → okS n s l → pc s + k = mn.length → meF M mn n s l < 1000000 → wyD M mn n k s l = wyD M' mn n k s l := by
  have hm := meF_congr (mn := mn) hQ hN
  intro k
  induction k with
  | zero => intro s l _ _ _ _; rfl
  | succ k ih =>
    intro s l hq hok hk hlt
    have e : lst (fun d => M s l d && decide (meF M mn n (s ||| 2 ^ d) d + meC mn s d = meF M mn n s l)) n = lst (fun d => M' s l d && decide (meF M' mn n (s ||| 2 ^ d) d + meC mn s d = meF M' mn n s l)) n := lst_congr n fun d hd => by
      rw [← hQ s l d hq hd, ← hm s l hq]
      cases q : M s l d with
      | false => rfl
      | true => rw [hm _ d (hN s l d hq hd q)]
    obtain ⟨d0, hd0, h1, h2⟩ := meF_next hn hM hok (by omega) hlt
    obtain ⟨a, b, _⟩ := lst_ex (p := fun d => M s l d && decide (meF M mn n (s ||| 2 ^ d) d + meC mn s d = meF M mn n s l)) hd0 (by rw [h1, decide_eq_true h2]; rfl)
    rw [Bool.and_eq_true, decide_eq_true_eq] at b
    unfold wyD
    rw [← e]
    congr 1
    refine ih _ _ (hN s l _ hq a b.1) (okS_step hok a) ?_ (by omega)
    rw [pc_or2 (hM s l _ a b.1) (by omega)]; omega
/-! component: mend -/
def mnX (σ : St) (V : VV) (A : Nat) (mn : List Nat) (s l : Nat) : Prop := pc s ≤ mn.length → gA σ 32 (11 * s + l) = nI (meF (mv V A) mn (vn V) s l)
theorem bV {p : Nat} (h : p < 11264) : vp_in (nI p) 11264 := vp_in_nI h (by omega)
theorem menX_by {V : VV} {A i s l d : Nat} {P : Int32 → St → Prop} {σ : St} (hG : GX σ V A) (hi : i < 3) (hok : okS (vn V) s l) (hd : d < vn V) (hm : mv V A s l d = true) (hp : pc s < (vme V i).length) (hA : mnX σ V A (vme V i) (s ||| 2 ^ d) d)
    (h : P (nI (min 1000000 (meF (mv V A) (vme V i) (vn V) (s ||| 2 ^ d) d + meC (vme V i) s d))) σ) : wx_mendBy σ (nI i) (nI s) (nI d) P := by
  have hI := hG.1
  have hn := hI.2.n
  have hb := okS_le hn hok
  have hp2 := pow_le_1024 hn
  have hor := or2_lt hok.1 hd
  have hme := me_lt hI.2 hp
  have hml := (hI.2.me i).1
  have hnx := okS_step hok hd
  have hle := meF_le (mn := vme V i) hn (mv_newM V A) hnx
  have ha := hA (by rw [pc_or2 (mv_new hm) (by omega)]; omega)
  refine ⟨V, i, pc s, hI, rfl, bitC_nI (by omega), hi, hp, ?_⟩
  dsimp only
  simp only [nI_eq (show (vme V i).getD (pc s) 0 < 2 ^ 31 by omega) (show d < 2 ^ 31 by omega)]
  unfold wx_mendBy_j21
  rw [nI_shl1 _ (by omega), nI_or]
  unfold meC at h
  by_cases q : (vme V i).getD (pc s) 0 = d
  · rw [if_pos q] at h ⊢
    refine ⟨s ||| 2 ^ d, d, rfl, (lI_l (by omega)).symm, by omega, by omega, bV (by omega), ?_⟩
    rw [cl (by omega), show xA_value σ (11 * (s ||| 2 ^ d) + d) = _ from ha, Int32.zero_add, show (1000000 : Int32) = nI 1000000 from rfl, jmin_nI (by omega) (by omega)]
    exact h
  · rw [if_neg q] at h ⊢
    refine ⟨s ||| 2 ^ d, d, rfl, (lI_l (by omega)).symm, by omega, by omega, bV (by omega), ?_⟩
    rw [cl (by omega), show xA_value σ (11 * (s ||| 2 ^ d) + d) = _ from ha, show (1 : Int32) + nI (meF (mv V A) (vme V i) (vn V) (s ||| 2 ^ d) d) = nI (1 + meF (mv V A) (vme V i) (vn V) (s ||| 2 ^ d) d) from nI_add 1 _, show (1000000 : Int32) = nI 1000000 from rfl, jmin_nI (by omega) (by omega), Nat.add_comm 1]
    exact h
theorem menX_d {V : VV} {A i s l : Nat} {P : Int32 → St → Prop} {K : Int32 → Int32 → Int32 → Int32 → Int32 → Int32 → St → Prop} {σ : St} (hG : GX σ V A) (hi : i < 3) (hok : okS (vn V) s l) (hp : pc s < (vme V i).length) (hA : ∀ d, d < vn V → s.testBit d = false → mnX σ V A (vme V i) (s ||| 2 ^ d) d)
    (h : K (nI i) (nI (vme V i).length) (nI s) (nI (pc s)) (lI l) (nI (dFo (mv V A) (meC (vme V i) s) s l (fun d => meF (mv V A) (vme V i) (vn V) (s ||| 2 ^ d) d) (vn V))) σ) :
    ∀ m d : Nat, d + m = vn V → wx_mend_l161 P K (m + 1) (nI i) (nI (vme V i).length) (nI s) (nI (pc s)) (lI l) (nI (dFo (mv V A) (meC (vme V i) s) s l (fun d => meF (mv V A) (vme V i) (vn V) (s ||| 2 ^ d) d) d)) (nI d) σ := by
  have hI := hG.1
  have hn := hI.2.n
  have hml := (hI.2.me i).1
  intro m
  induction m with
  | zero =>
    intro d hd
    rw [wx_mend_l161_s, show xI_dishes σ = _ from hI.n, if_pos (by rw [show d = vn V by omega]; exact Int32.le_refl _), show d = vn V by omega]
    exact h
  | succ m ih =>
    intro d hd
    have ih1 := ih (d + 1) (by omega)
    rw [dFo_s] at ih1
    rw [wx_mend_l161_s, show xI_dishes σ = _ from hI.n, if_neg (nI_ge (by omega) (by omega)), if_neg (nI_ge hp (by omega))]
    refine ox_goesOn hG hok.1 (by rcases hok.2 with q | q <;> omega) (by omega) ?_
    unfold wx_mend_j205
    rw [nI_1]
    cases q : mv V A s l d with
    | false => rw [jf0]; rw [q, if_neg (by decide)] at ih1; exact ih1
    | true =>
      rw [jt0]; rw [q, if_pos rfl] at ih1
      have hnx := okS_step hok (show d < vn V by omega)
      have hle := meF_le (mn := vme V i) hn (mv_newM V A) hnx
      have hfo := (dFo_le (M := mv V A) (c := meC (vme V i) s) (s := s) (l := l) (f := fun d => meF (mv V A) (vme V i) (vn V) (s ||| 2 ^ d) d) d).1
      refine menX_by hG hi hok (by omega) q hp (hA d (by omega) (mv_new q)) ?_
      rw [jmin_nI (by omega) (by omega), ← Nat.min_assoc, Nat.min_eq_left hfo]
      exact ih1
theorem menX_l {V : VV} {A i s : Nat} {P : Int32 → St → Prop} {K : Int32 → Int32 → Int32 → St → Prop} (hw : WV V) (hi : i < 3) (hs : s < 2 ^ vn V)
    (h : ∀ σ', GX σ' V A → At (vn V) s (vn V + 1) (mnX σ' V A (vme V i)) → K (nI i) (nI (vme V i).length) (nI s) σ') :
    ∀ m j : Nat, j + m = vn V + 1 → ∀ σ, GX σ V A → At (vn V) s j (mnX σ V A (vme V i)) → wx_mend_l114 P K (m + 1) (nI i) (nI (vme V i).length) (nI s) (nI (pc s)) (nI j - 1) σ := by
  have hn := hw.n
  have hp := pow_le_1024 hn
  have hml := (hw.me i).1
  have hpc := pc_le s
  intro m
  induction m with
  | zero =>
    intro j hj σ hG hD
    rw [wx_mend_l114_s, show xI_dishes σ = _ from hG.1.n, if_pos ((nIm_lt (by omega) (by omega)).mpr (by omega))]
    rw [show j = vn V + 1 by omega] at hD
    exact h σ hG hD
  | succ m ih =>
    intro j hj σ hG hD
    rw [wx_mend_l114_s, show xI_dishes σ = _ from hG.1.n, if_neg (fun z => by have := (nIm_lt (by omega) (by omega)).mp z; omega)]
    by_cases q0 : (vme V i).length < pc s
    · rw [if_pos (nI_lt q0 (by omega))]
      refine h σ hG fun s' l' hok' hle => ?_
      rcases hle with z | ⟨z, _⟩
      · exact hD s' l' hok' (Or.inl z)
      · intro y; rw [z] at y; omega
    · rw [if_neg (nI_nlt (by omega) (by omega))]
      have hl := lOf_n (j := j) hn (by omega)
      refine ⟨s, lOf j, rfl, (lOf_lI (by omega)).symm, by omega, by omega, ?_⟩
      dsimp only
      unfold wx_mend_j225
      rw [nIm_s]
      cases q : stateB s (lOf j) with
      | false => rw [jf0]; exact ih (j + 1) (by omega) σ hG (hD.skip hn (by omega) hs q)
      | true =>
        rw [jt0]
        have hok := (okS_B hn hs hl).mp q
        have hb := okS_le hn hok
        have hfix := meF_fix (M := mv V A) (mn := vme V i) hn (mv_newM V A) hok
        have fin : ∀ x, x = meF (mv V A) (vme V i) (vn V) s (lOf j) → wx_mend_j211 P (wx_mend_l114 P K (m + 1)) (nI i) (nI (vme V i).length) (nI s) (nI (pc s)) (lI (lOf j)) (nI x) σ := by
          intro x ex
          refine ⟨s, lOf j, rfl, rfl, by omega, by omega, bV (by omega), ?_⟩
          unfold wx_mend_j225 xU_value uA
          rw [cl (by omega), lOf_lI (by omega), nIm_s]
          refine ih (j + 1) (by omega) _ (hG.qA (by decide) _) (hD.step hn (fun s' l' hok' hne hp' => ?_) fun _ => ?_)
          · have hb' := okS_le hn hok'
            intro y
            show upd (gA σ 32) _ _ _ = _
            rw [upd_n (fun z => hne ⟨by omega, by omega⟩)]; exact hp' y
          · intro _
            show upd (gA σ 32) _ _ _ = _
            rw [upd_s, ex]
        simp only [nI_eq (show pc s < 2 ^ 31 by omega) (show (vme V i).length < 2 ^ 31 by omega)]
        unfold wx_mend_j156
        rw [← lOf_lI (by omega)]
        by_cases q1 : pc s = (vme V i).length
        · rw [if_pos q1]
          refine ⟨1, ?_⟩
          rw [wx_mend_l161_s]
          have hf := fin 0 (by rw [hfix, if_pos q1])
          split
          · exact hf
          · rw [if_pos (by rw [q1]; exact Int32.le_refl _)]; exact hf
        · rw [if_neg q1]
          rw [if_neg q1] at hfix
          exact ⟨vn V + 1, menX_d hG hi hok (by omega) (fun d hd hbt => hD.nx hok hd hbt) (fin _ hfix.symm) (vn V) 0 (by omega)⟩
/-! its row -/
theorem mpX_d {V : VV} {A i s l D : Nat} {x4 x7 : Int32} {P : Int32 → St → Prop} {K : Int32 → Int32 → Int32 → Int32 → Int32 → Int32 → St → Prop} {σ : St} (hG : GX σ V A) (hi : i < 3) (hok : okS (vn V) s l) (hpl : pc s < (vme V i).length) (hA : ∀ s l, okS (vn V) s l → mnX σ V A (vme V i) s l) (hlt : meF (mv V A) (vme V i) (vn V) s l < 1000000)
    (hD : D < vn V) (hm : mv V A s l D = true) (hT : meF (mv V A) (vme V i) (vn V) (s ||| 2 ^ D) D + meC (vme V i) s D = meF (mv V A) (vme V i) (vn V) s l)
    (hno : ∀ d, d < D → mv V A s l d = true → meF (mv V A) (vme V i) (vn V) (s ||| 2 ^ d) d + meC (vme V i) s d ≠ meF (mv V A) (vme V i) (vn V) s l) (hr : (vrow V).length < 12)
    (h : ∀ σ', GX σ' (vSRow V (vrow V ++ [nI D])) A → gA σ' 32 = gA σ 32 → K (nI i) (nI (vme V i).length) x4 (nI (s ||| 2 ^ D)) (nI D) (x7 + 1) σ') :
    ∀ m d : Nat, d + m = D → wx_mend_l283 P K (m + 1) (nI i) (nI (vme V i).length) x4 (nI s) (lI l) x7 (nI d) σ := by
  have hI := hG.1
  have hn := hI.2.n
  have hb := okS_le hn hok
  have hp := pow_le_1024 hn
  have hcur := hA s l hok (by omega)
  intro m
  induction m with
  | zero =>
    intro d hd
    have e : d = D := by omega
    subst e
    have hor := or2_lt hok.1 hD
    rw [wx_mend_l283_s]
    refine ox_goesOn hG hok.1 (by rcases hok.2 with q | q <;> omega) hD ?_
    rw [hm, jt0]
    refine menX_by hG hi hok hD hm hpl (hA _ _ (okS_step hok hD)) ⟨s, l, rfl, rfl, by omega, by omega, bV (by omega), ?_⟩
    rw [cl (by omega), show xA_value σ (11 * s + l) = _ from hcur, hT, Nat.min_eq_right (by omega), if_pos rfl, nI_shl1 _ (by omega), nI_or]
    exact ⟨V, hI, hr, fun σ' h' kp _ => h σ' (hG.row h' (kp.1 35 (by decide)) (kp.2.1 30 (by decide))) (kp.2.1 32 (by decide))⟩
  | succ m ih =>
    intro d hd
    have ih1 := ih (d + 1) (by omega)
    have hor := or2_lt hok.1 (show d < vn V by omega)
    rw [wx_mend_l283_s]
    refine ox_goesOn hG hok.1 (by rcases hok.2 with q | q <;> omega) (by omega) ?_
    unfold wx_mend_j320
    rw [nI_1]
    cases q : mv V A s l d with
    | false => rw [jf0]; exact ih1
    | true =>
      rw [jt0]
      have hle := meF_le (mn := vme V i) hn (mv_newM V A) (okS_step hok (show d < vn V by omega))
      have hne := hno d (by omega) q
      refine menX_by hG hi hok (by omega) q hpl (hA _ _ (okS_step hok (by omega))) ⟨s, l, rfl, rfl, by omega, by omega, bV (by omega), ?_⟩
      rw [cl (by omega), show xA_value σ (11 * s + l) = _ from hcur]
      have hc : meC (vme V i) s d ≤ 1 := by unfold meC; split <;> omega
      rw [if_neg (fun z => by have := (nI_eq (by omega) (by omega)).mp z; omega)]
      exact ih1
theorem mpX_k {V : VV} {A i : Nat} {x4 : Nat} {P : Int32 → St → Prop} {T : Nat → Int32} (hn : vn V ≤ 10) (hi : i < 3) (hml : (vme V i).length ≤ 10) (hT : ∀ s l, okS (vn V) s l → pc s ≤ (vme V i).length → T (11 * s + l) = nI (meF (mv V A) (vme V i) (vn V) s l)) :
    ∀ k s l, ∀ W, (∃ r, W = vSRow V r) → okS (vn V) s l → pc s + k = (vme V i).length → meF (mv V A) (vme V i) (vn V) s l < 1000000 → (vrow W).length + k ≤ 12 → ∀ σ, GX σ W A → gA σ 32 = T → (∀ σ', GX σ' (rowG W (wyD (mv V A) (vme V i) (vn V) k s l)) A → P (nI x4) σ') →
      wx_mend_l274 P (k + 1) (nI i) (nI (vme V i).length) (nI x4) (nI s) (lI l) (nI (pc s)) σ := by
  have hM := mv_newM V A
  intro k
  induction k with
  | zero =>
    intro s l W eW hok hk hlt hr σ hG hg h
    rw [wx_mend_l274_s, if_pos (by rw [show pc s = (vme V i).length by omega]; exact Int32.le_refl _)]
    refine h σ ?_
    show GX σ (rowG W []) A
    rw [rowG_nil]; exact hG
  | succ k ih =>
    intro s l W eW hok hk hlt hr σ hG hg h
    obtain ⟨r, rfl⟩ := eW
    rw [wx_mend_l274_s, if_neg (nI_ge (by omega) (by omega))]
    obtain ⟨d0, hd0, h1, h2⟩ := meF_next hn hM hok (by omega) hlt
    obtain ⟨a, b, c⟩ := lst_ex (p := fun d => mv V A s l d && decide (meF (mv V A) (vme V i) (vn V) (s ||| 2 ^ d) d + meC (vme V i) s d = meF (mv V A) (vme V i) (vn V) s l)) hd0 (by rw [h1, decide_eq_true h2]; rfl)
    rw [Bool.and_eq_true, decide_eq_true_eq] at b
    unfold wyD at h
    generalize lst (fun d => mv V A s l d && decide (meF (mv V A) (vme V i) (vn V) (s ||| 2 ^ d) d + meC (vme V i) s d = meF (mv V A) (vme V i) (vn V) s l)) (vn V) = D at a b c h
    have hlen : r.length + (k + 1) ≤ 12 := hr
    have hpcD := pc_or2 (hM s l D a b.1) (show D < 11 by omega)
    refine ⟨D + 1, mpX_d (V := vSRow V r) hG hi hok (show pc s < (vme V i).length by omega) (fun s l hok' y => by rw [hg]; exact hT s l hok' y) hlt a b.1 b.2 (fun d hd hm e => ?_) (by show r.length < 12; omega) (fun σ' hG' hg' => ?_) D 0 (by omega)⟩
    · have := c d hd
      rw [show mv V A s l d = true from hm, decide_eq_true (show meF (mv V A) (vme V i) (vn V) (s ||| 2 ^ d) d + meC (vme V i) s d = meF (mv V A) (vme V i) (vn V) s l from e)] at this
      exact absurd this (by decide)
    · have h9 := ih (s ||| 2 ^ D) D (vSRow V (r ++ [nI D])) ⟨_, rfl⟩ (okS_step hok a) (by omega) (by omega) (by show (r ++ [nI D]).length + k ≤ 12; rw [List.length_append]; show r.length + 1 + k ≤ 12; omega) σ' hG' (by rw [hg', hg]) (fun σ'' hG'' => h σ'' (by rw [← rowG_two]; exact hG''))
      rw [lI_l (by omega), hpcD] at h9
      rw [nI_1]
      exact h9
