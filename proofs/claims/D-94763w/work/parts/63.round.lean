/-! ROUND -/
def Er (V : VV) (d s l : Nat) : Bool := !(decide (l = 10)) && ((besV V d).testBit l && decide (3 ≤ pc s))
def exR (V : VV) (d k : Nat) : Bool := ex (mv V (allA V)) (vn V) (Er V d) k (2 ^ d) d
def rV (V : VV) (d : Nat) : Nat := if (fineV V (2 ^ d) && anB (exR V d) 11) = true then hiN (exR V d) 11 else 0
def bR (V : VV) : Nat → Nat
  | 0 => 10
  | k + 1 => if maxN (rV V) k < rV V k then k else bR V k
theorem besV_lt (V : VV) (d : Nat) : besV V d < 2 ^ vn V := bitsOf_lt _ _
theorem endX_r (V : VV) (d : Nat) : ∀ s l, okS (vn V) s l → vn V ≤ 10 → endX (nI (besV V d)) 3 s l = Er V d s l := by
  intro s l hok hn
  have hl := okS_le hn hok
  have h1 := besV_lt V d
  have h2 := pow_le_1024 hn
  unfold endX Er
  rw [decide_eq_false (nI_lt0 (show besV V d < 2 ^ 31 by omega)), Bool.false_or, hasB_nI (by omega) (by omega)]
theorem exR_3 {V : VV} {d k : Nat} (hn : vn V ≤ 10) (hd : d < vn V) (h : exR V d k = true) : 2 ≤ k ∧ k + 1 ≤ vn V := by
  have hM := mv_newM V (allA V)
  have hl := ex_len hn hM _ _ _ (ok1 hd) h
  obtain ⟨s', l', hok, hE, hc⟩ := ex_okS _ _ _ (ok1 hd) h
  have := cp_pc hn hM hc
  unfold Er at hE
  simp only [Bool.and_eq_true, decide_eq_true_eq] at hE
  rw [pc_2 d (by omega)] at this hl
  have := hE.2.2
  omega
theorem rV_le {V : VV} (hn : vn V ≤ 10) {d : Nat} (hd : d < vn V) : rV V d ≤ 10 := by
  unfold rV
  split
  · rename_i h
    obtain ⟨j, hj, hx⟩ := anB_iff.mp (Bool.and_eq_true _ _ ▸ h).2
    have := (hiN_spec hj hx).1
    omega
  · omega
theorem rV_pos {V : VV} {d : Nat} (h : 0 < rV V d) : fineV V (2 ^ d) = true ∧ exR V d (rV V d) = true := by
  unfold rV at h ⊢
  by_cases q : (fineV V (2 ^ d) && anB (exR V d) 11) = true
  · rw [if_pos q] at h ⊢
    obtain ⟨j, hj, hx⟩ := anB_iff.mp (Bool.and_eq_true _ _ ▸ q).2
    exact ⟨(Bool.and_eq_true _ _ ▸ q).1, (hiN_spec hj hx).2.1⟩
  · rw [if_neg q] at h; omega
theorem rV_ge {V : VV} (hn : vn V ≤ 10) {d k : Nat} (hd : d < vn V) (hf : fineV V (2 ^ d) = true) (hx : exR V d k = true) : k ≤ rV V d := by
  have hk := (exR_3 hn hd hx).2
  unfold rV
  rw [hf, Bool.true_and, anB_iff.mpr ⟨k, by omega, hx⟩, if_pos rfl]
  exact (hiN_spec (show k < 11 by omega) hx).2.2 k (by omega) hx
theorem bR_spec (V : VV) : ∀ k, k ≤ 10 → (maxN (rV V) k = 0 → bR V k = 10) ∧ (0 < maxN (rV V) k → bR V k < k ∧ rV V (bR V k) = maxN (rV V) k ∧ ∀ j, j < bR V k → rV V j < maxN (rV V) k) := by
  intro k
  induction k with
  | zero => intro _; exact ⟨fun _ => rfl, fun h => absurd h (by unfold maxN; omega)⟩
  | succ k ih =>
    intro hk
    obtain ⟨i1, i2⟩ := ih (by omega)
    rw [maxN_s]
    unfold bR
    by_cases q : maxN (rV V) k < rV V k
    · rw [if_pos q, show max (maxN (rV V) k) (rV V k) = rV V k by omega]
      refine ⟨fun h => by omega, fun _ => ⟨by omega, rfl, fun j hj => ?_⟩⟩
      have := (maxN_iff (f := rV V) (b := maxN (rV V) k) k).mp (Nat.le_refl _) j hj
      omega
    · rw [if_neg q, show max (maxN (rV V) k) (rV V k) = maxN (rV V) k by omega]
      exact ⟨i1, fun h => ⟨by have := (i2 h).1; omega, (i2 h).2⟩⟩
theorem bR_eq {V : VV} {f : Nat} (hn : vn V ≤ 10) (hf : f < vn V) (h1 : rV V f = maxN (rV V) (vn V)) (h0 : 0 < maxN (rV V) (vn V)) (h2 : ∀ j, j < f → rV V j < maxN (rV V) (vn V)) : bR V (vn V) = f := by
  obtain ⟨a, b, c⟩ := (bR_spec V (vn V) (by omega)).2 h0
  rcases Nat.lt_trichotomy (bR V (vn V)) f with q | q | q
  · have := h2 _ q; omega
  · exact q
  · have := c f q; omega
def R_round (V : VV) : Int32 := if maxN (rV V) (vn V) = 0 then -2 else nI (maxN (rV V) (vn V) + 1)
def S_round (V : VV) : VV := if maxN (rV V) (vn V) = 0 then V else rowG (vSRow V [nI (bR V (vn V))]) (way (mv V (allA V)) (vn V) (ex (mv V (allA V)) (vn V) (Er V (bR V (vn V)))) (maxN (rV V) (vn V)) (2 ^ bR V (vn V)) (bR V (vn V)))
theorem rndX_loop {V : VV} {P : Int32 → St → Prop} (hw : WV V) (h : ∀ σ', IX σ' (S_round V) → P (R_round V) σ') : ∀ m k : Nat, k + m = vn V → ∀ σ, GX σ V (allA V) → wx_round_l10 P (m + 1) (lI (bR V k)) (nI (maxN (rV V) k)) (nI k) σ := by
  have hn := hw.n
  have hp := pow_le_1024 hn
  have hM := mv_newM V (allA V)
  intro m
  induction m with
  | zero =>
    intro k hk σ hG
    rw [wx_round_l10_s, show xI_dishes σ = _ from hG.1.n, if_pos (by rw [show k = vn V by omega]; exact Int32.le_refl _), show k = vn V by omega]
    obtain ⟨s1, s2⟩ := bR_spec V (vn V) (by omega)
    unfold R_round S_round at h
    by_cases q : maxN (rV V) (vn V) = 0
    · rw [if_pos q, if_pos q] at h
      rw [s1 q, if_neg (by decide)]
      exact h σ hG.1
    · rw [if_neg q, if_neg q] at h
      obtain ⟨b1, b2, b3⟩ := s2 (by omega)
      generalize bR V (vn V) = d at h b1 b2 b3
      have hpd : 2 ^ d < 2 ^ vn V := Nat.pow_lt_pow_right (by decide) b1
      rw [← lI_n (by omega), if_pos (nI_ge0 (by omega))]
      refine ⟨V, d, hG.1, rfl, b1, ?_⟩
      refine ox_measures hG (by decide) (le := 3) fun σ2 hG2 hT0 => ?_
      have hT := fixE_congr (fun s l hok => endX_r V d s l hok hn) hT0
      have hG3 := hG2.row0
      have hrp := rV_pos (V := V) (d := d) (by omega)
      obtain ⟨t1, t2, t3⟩ := mes_top hn hM hT (ok1 b1) hrp.2
      have eh : hiN (fun k => ex (mv V (allA V)) (vn V) (Er V d) k (2 ^ d) d) 11 = rV V d := by
        have : anB (exR V d) 11 = true := anB_iff.mpr ⟨rV V d, by have := rV_le hn b1; omega, hrp.2⟩
        show hiN (exR V d) 11 = _
        unfold rV
        rw [hrp.1, this, if_pos (by decide)]
      change gA σ2 32 (11 * 2 ^ d + d) = nI (hiN (fun k => ex (mv V (allA V)) (vn V) (Er V d) k (2 ^ d) d) 11) at t1
      change hiN (fun k => ex (mv V (allA V)) (vn V) (Er V d) k (2 ^ d) d) 11 ≤ 10 at t2
      rw [eh, b2] at t1 t2
      refine ⟨_, hG3.1, by show 0 < 12; omega, fun σ3 h3 kp _ => ?_⟩
      have hG4 := hG3.row h3 (kp.1 35 (by decide)) (kp.2.1 30 (by decide))
      have e32 : gA σ3 32 = gA σ2 32 := kp.2.1 32 (by decide)
      rw [nI_shl1 _ (by omega), nI_1]
      have h9 := ox_tellsMost (P := fun σ' => P (nI (maxN (rV V) (vn V) + 1)) σ') hG4 (s := 2 ^ d) (l := d) (ok1 b1) (k := maxN (rV V) (vn V)) (by rw [e32]; exact t1) (fun k s l hk hok' hTk => by rw [e32] at hTk ⊢; exact mes_one hn hM hT (by omega) hok' hTk) (by show 1 + maxN (rV V) (vn V) ≤ 12; omega) fun σ4 hG5 _ => by
        refine h σ4 ?_
        have ew : way (mv V (allA V)) (vn V) (gT (gA σ2 32)) (maxN (rV V) (vn V)) (2 ^ d) d = way (mv V (allA V)) (vn V) (ex (mv V (allA V)) (vn V) (Er V d)) (maxN (rV V) (vn V)) (2 ^ d) d := mes_way hn hM hT t2 (ok1 b1) t1
        have h8 : IX σ4 (rowG (vSRow V [nI d]) (way (mv V (allA V)) (vn V) (gT (gA σ3 32)) (maxN (rV V) (vn V)) (2 ^ d) d)) := hG5.1
        rw [e32, ew] at h8
        exact h8
      rw [← lI_n (by omega)] at h9
      exact h9
  | succ m ih =>
    intro k hk σ hG
    have ih1 := ih (k + 1) (by omega)
    rw [maxN_s] at ih1
    have hpk : 2 ^ k < 2 ^ vn V := Nat.pow_lt_pow_right (by decide) (by omega)
    rw [wx_round_l10_s, show xI_dishes σ = _ from hG.1.n, if_neg (nI_ge (by omega) (by omega)), nI_shl1 _ (by omega), cl (by omega), show xA_fine σ (2 ^ k) = _ from hG.2.2.2 _ hpk]
    refine ⟨vp_in_nI (by omega) (by omega), ?_⟩
    unfold wx_round_j75 wx_round_j67 wx_round_j75
    rw [nI_1]
    have hmx : maxN (rV V) k ≤ 10 := maxN_le k fun j hj => rV_le hn (by omega)
    have keep : rV V k = 0 → wx_round_l10 P (m + 1) (lI (bR V k)) (nI (maxN (rV V) k)) (nI (k + 1)) = wx_round_l10 P (m + 1) (lI (bR V (k + 1))) (nI (max (maxN (rV V) k) (rV V k))) (nI (k + 1)) := fun z => by
      rw [show bR V (k + 1) = bR V k from if_neg (by omega), show max (maxN (rV V) k) (rV V k) = maxN (rV V) k by omega]
    cases y1 : fineV V (2 ^ k) with
    | false =>
      rw [jf0, keep (by unfold rV; rw [y1, Bool.false_and, if_neg (by decide)])]
      exact ih1 σ hG
    | true =>
      rw [jt0]
      refine ⟨V, k, hG.1, rfl, by omega, ?_⟩
      refine ox_measures hG (by decide) (le := 3) fun σ2 hG2 hT0 => ?_
      have hT := fixE_congr (fun s l hok => endX_r V k s l hok hn) hT0
      have hk2 : k < vn V := by omega
      refine ⟨2 ^ k, k, rfl, lI_n (by omega), by omega, by omega, vp_in_nI (by omega) (by omega), ?_⟩
      rw [cl (by omega)]
      obtain ⟨m1, m2, m3⟩ := mes_spec hn hM hT (vn V) _ _ (by omega) (ok1 hk2) (by omega)
      by_cases y2 : 0 ≤ (gA σ2 32 (11 * 2 ^ k + k)).toInt
      · obtain ⟨k0, hk0, ek0, hx0⟩ := m2 y2
        have er : rV V k = k0 := by
          have g1 := rV_ge hn hk2 y1 hx0
          have h3 := (exR_3 hn hk2 hx0).1
          have g2 := (rV_pos (V := V) (d := k) (by omega)).2
          have g3 := m1 _ g2
          rw [ek0, nI_toInt (by omega)] at g3
          omega
        rw [show xA_value σ2 (11 * 2 ^ k + k) = nI k0 from ek0, ← er, jmax_nI (by omega) (by rw [er]; omega)]
        have hrb := rV_le hn hk2
        simp only [nI_leI (show rV V k < 2 ^ 31 by omega) (show maxN (rV V) k < 2 ^ 31 by omega)]
        by_cases y3 : rV V k ≤ maxN (rV V) k
        · rw [if_pos y3]
          have := ih1 σ2 hG2
          rw [show bR V (k + 1) = bR V k from if_neg (by omega)] at this
          exact this
        · rw [if_neg y3]
          have := ih1 σ2 hG2
          rw [show bR V (k + 1) = k from if_pos (by omega), ← lI_n (by omega)] at this
          exact this
      · have er : rV V k = 0 := by
          rcases Nat.eq_zero_or_pos (rV V k) with z | z
          · exact z
          · have := m1 _ (rV_pos z).2; omega
        have hle : gA σ2 32 (11 * 2 ^ k + k) ≤ nI (maxN (rV V) k) := by
          rw [Int32.le_iff_toInt_le, nI_toInt (by omega)]; omega
        rw [if_pos hle, show jmax (nI (maxN (rV V) k)) (xA_value σ2 (11 * 2 ^ k + k)) = nI (maxN (rV V) k) from Int32.toInt_inj.mp (by
          rw [jmax_i, nI_toInt (by omega)]
          show max (maxN (rV V) k : Int) (gA σ2 32 (11 * 2 ^ k + k)).toInt = _
          omega), keep er]
        exact ih1 σ2 hG2
theorem ox_round {σ : St} {V : VV} {P : Int32 → St → Prop} (hI : IX σ V) (h : ∀ σ', IX σ' (S_round V) → P (R_round V) σ') : wx_round σ P :=
  ox_laysOut hI fun σ1 hG => ⟨_, rndX_loop hI.2 h (vn V) 0 (by omega) σ1 hG⟩
/-! the model's round -/
def ErM (V : VV) (f size s l : Nat) : Bool := !(decide (l = 10)) && ((besV V f).testBit l && decide (pc s = size))
theorem pairV_comm (V : VV) (a b : Nat) : pairV V a b = pairV V b a := by unfold pairV; rw [Nat.and_comm]
def qR (V : VV) (size k s l : Nat) : Prop := okS (vn V) s l ∧ l ≠ 10 ∧ pc s + k = size
theorem qR_next {V : VV} {size k s l d : Nat} (hn : vn V ≤ 10) (h : qR V size (k + 1) s l) (hd : d < vn V) (hm : mv V (allA V) s l d = true) : qR V size k (s ||| 2 ^ d) d :=
  ⟨okS_step h.1 hd, by omega, by rw [pc_or2 (mv_new hm) (by omega)]; have := h.2.2; omega⟩
theorem exRM {V : VV} {f size : Nat} (h3 : 3 ≤ size) (hn : vn V ≤ 10) : ∀ k s l, qR V size k s l → ex (mv V (allA V)) (vn V) (ErM V f size) k s l = ex (mv V (allA V)) (vn V) (Er V f) k s l :=
  ex_congr (Q := qR V size) (fun k' s l h d hd hm => qR_next hn h hd hm) (fun s l h => by
    have e : pc s = size := h.2.2
    unfold ErM Er
    rw [decide_eq_true e, decide_eq_true (show 3 ≤ pc s by omega)])
theorem qR_0 {V : VV} {f size : Nat} (hn : vn V ≤ 10) (h1 : 1 ≤ size) (hf : f < vn V) : qR V size (size - 1) (2 ^ f) f := ⟨ok1 hf, by omega, by rw [pc_2 f (by omega)]; omega⟩
theorem wayRM {V : VV} {f size : Nat} (h3 : 3 ≤ size) (hn : vn V ≤ 10) (hf : f < vn V) (hx : exR V f (size - 1) = true) : way (mv V (allA V)) (vn V) (ex (mv V (allA V)) (vn V) (ErM V f size)) (size - 1) (2 ^ f) f = way (mv V (allA V)) (vn V) (ex (mv V (allA V)) (vn V) (Er V f)) (size - 1) (2 ^ f) f := by
  refine way_congr (Q := fun k' s l => qR V size k' s l ∧ ex (mv V (allA V)) (vn V) (ErM V f size) k' s l = true) (fun k' s l h d hd hm => exRM h3 hn _ _ _ (qR_next hn h.1 hd hm)) (fun k' s l h d hd hm hg => ⟨qR_next hn h.1 hd hm, hg⟩) (fun k' s l h => ex_s.mp h.2) _ _ _ ⟨qR_0 hn (by omega) hf, by rw [exRM h3 hn _ _ _ (qR_0 hn (by omega) hf)]; exact hx⟩
def markR (V : VV) (f size c j : Nat) (F : Nat → Int32) : Prop := ∀ s l, okS (vn V) s l → F (11 * s + l) = j01 (ErM V f size s l && decide (s < c ∨ (s = c ∧ l < j)))
theorem rndM_in {V : VV} {f size s : Nat} {P : Int32 → St → Prop} {K : Int32 → Int32 → Int32 → St → Prop} {σ : St} (hI : IM σ V) (hf : f < vn V) (hsz : size ≤ 20) (hs : s < 2 ^ vn V)
    (h : ∀ F, markR V f size (s + 1) 0 F → K (nI size) (nI f) (nI (s + 1)) (sA σ 35 F)) : ∀ m l : Nat, l + m = vn V → ∀ F, markR V f size s l F → wm_round_l42 P K (m + 1) (nI size) (nI f) (nI s) (nI l) (sA σ 35 F) := by
  have hw := hI.2
  have hn := hw.n
  have hp := pow_le_1024 hn
  intro m
  induction m with
  | zero =>
    intro l hl F hF
    rw [wm_round_l42_s, show mI_dishes (sA σ 35 F) = _ from hI.n, if_pos (by rw [show l = vn V by omega]; exact Int32.le_refl _), nI_1]
    refine h F fun s' l' hok => ?_
    rw [hF s' l' hok]
    by_cases e : l' = 10
    · have : ErM V f size s' l' = false := by unfold ErM; rw [decide_eq_true e]; rfl
      rw [this, Bool.false_and, Bool.false_and]
    · congr 2
      have : l' < vn V := hok.2.elim (fun z => z.1) (fun z => absurd z.1 e)
      exact decide_eq_decide.mpr (by omega)
  | succ m ih =>
    intro l hl F hF
    have hpc := pc_le s
    rw [wm_round_l42_s, show mI_dishes (sA σ 35 F) = _ from hI.n, if_neg (nI_ge (by omega) (by omega))]
    unfold sm_has wm_round_j100
    dsimp only
    rw [hasB_nI (by omega) (by omega), nI_1, bitC_nI (by omega)]
    have same : ∀ s' l', ¬ (s' = s ∧ l' = l) → decide (s' < s ∨ (s' = s ∧ l' < l + 1)) = decide (s' < s ∨ (s' = s ∧ l' < l)) := fun s' l' hne => decide_eq_decide.mpr (by
      have : s' = s → l' ≠ l := fun e z => hne ⟨e, z⟩
      omega)
    have no : (s.testBit l = true → ErM V f size s l = false) → wm_round_l42 P K (m + 1) (nI size) (nI f) (nI s) (nI (l + 1)) (sA σ 35 F) := fun z => ih (l + 1) (by omega) F fun s' l' hok => by
      rw [hF s' l' hok]
      by_cases e : s' = s ∧ l' = l
      · obtain ⟨rfl, rfl⟩ := e
        have : s'.testBit l' = true := hok.2.elim (fun z => z.2) (fun z => by omega)
        rw [z this, Bool.false_and, Bool.false_and]
      · rw [same s' l' e]
    have hbt : (besV V f).testBit l = (decide (l ≠ f) && pairV V f l) := by unfold besV; rw [bitsOf_tb, decide_eq_true (show l < vn V by omega), Bool.true_and]
    have hEr : ErM V f size s l = ((decide (l ≠ f) && pairV V l f) && decide (pc s = size)) := by unfold ErM; rw [decide_eq_false (show ¬ l = 10 by omega), Bool.not_false, Bool.true_and, hbt, pairV_comm]
    simp only [nI_eq (show l < 2 ^ 31 by omega) (show f < 2 ^ 31 by omega), nI_eq (show pc s < 2 ^ 31 by omega) (show size < 2 ^ 31 by omega)]
    cases q1 : s.testBit l with
    | false => rw [jf0]; exact no fun z => by rw [q1] at z; exact absurd z (by decide)
    | true =>
      rw [jt0]
      by_cases q2 : l = f
      · rw [if_pos q2]; exact no fun _ => by rw [hEr, decide_eq_false (fun z => z q2), Bool.false_and, Bool.false_and]
      · rw [if_neg q2]
        by_cases q3 : pc s = size
        · rw [if_pos q3]
          refine sharedV (hI.qA (by decide) _) (show l < vn V by omega) hf ?_
          have hpp := pc_le (vst V l &&& vst V f)
          have hla := hw.la.2.1
          rw [show mI_share (sA σ 35 F) = _ from hI.l0]
          simp only [nI_ltI (show pc (vst V l &&& vst V f) < 2 ^ 31 by omega) (show vla V 0 < 2 ^ 31 by omega)]
          by_cases q4 : pc (vst V l &&& vst V f) < vla V 0
          · rw [if_pos q4]; exact no fun _ => by rw [hEr]; unfold pairV; rw [decide_eq_false (show ¬ vla V 0 ≤ pc (vst V l &&& vst V f) by omega), Bool.and_false, Bool.false_and]
          · rw [if_neg q4]
            have yes : ErM V f size s l = true := by rw [hEr, decide_eq_true q2, decide_eq_true q3]; unfold pairV; rw [decide_eq_true (show vla V 0 ≤ pc (vst V l &&& vst V f) by omega)]; rfl
            refine ⟨s, l, rfl, lI_n (by omega), by omega, by omega, vp_in_nI (by omega) (by omega), ?_⟩
            unfold mU_isEnd
            rw [uA_k, cl (by omega), nar_1]
            refine ih (l + 1) (by omega) _ fun s' l' hok => ?_
            have hb' := okS_le hn hok
            by_cases e : s' = s ∧ l' = l
            · obtain ⟨rfl, rfl⟩ := e
              rw [upd_s, yes, decide_eq_true (Or.inr ⟨rfl, Nat.lt_succ_self _⟩)]; rfl
            · rw [upd_n (fun y => e ⟨by omega, by omega⟩), hF s' l' hok, same s' l' e]
        · rw [if_neg q3]; exact no fun _ => by rw [hEr, decide_eq_false q3, Bool.and_false]
theorem rndM_s {V : VV} {f size : Nat} {P : Int32 → St → Prop} {K : Int32 → Int32 → St → Prop} {σ : St} (hI : IM σ V) (hf : f < vn V) (h3 : 3 ≤ size) (hsz : size ≤ 20)
    (h1 : fineV V (2 ^ f) = true → exR V f (size - 1) = true → ∀ σ', IM σ' (rowG (vSRow V [nI f]) (way (mv V (allA V)) (vn V) (ex (mv V (allA V)) (vn V) (Er V f)) (size - 1) (2 ^ f) f)) → P (nI size) σ')
    (h0 : ¬ (fineV V (2 ^ f) = true ∧ exR V f (size - 1) = true) → ∀ σ', IM σ' V → K (nI size) (nI (f + 1)) σ') :
    ∀ m s : Nat, s + m = 2 ^ vn V → ∀ F, markR V f size s 0 F → wm_round_l31 P K (m + 1) (nI size) (nI f) (nI s) (sA σ 35 F) := by
  have hw := hI.2
  have hn := hw.n
  have hp := pow_le_1024 hn
  have h2p := Nat.one_le_two_pow (n := vn V)
  have exe : ex (mv V (allA V)) (vn V) (ErM V f size) (size - 1) (2 ^ f) f = exR V f (size - 1) := exRM h3 hn _ _ _ (qR_0 hn (by omega) hf)
  intro m
  induction m with
  | zero =>
    intro s hs F hF
    rw [wm_round_l31_s]
    refine ⟨V, hI.qA (by decide) _, ?_⟩
    dsimp only
    rw [if_pos (nI_lt (by omega) (by omega))]
    refine om_tellFrom (E := ErM V f size) (size := size) (hI.qA (by decide) F) hf (by omega) (fun s' l hok => ?_) (fun s' l z => ?_) (fun a b σ' hI' => ?_) (fun a σ' hI' => ?_)
    · rw [gA_sAk, hF s' l hok, decide_eq_true (Or.inl (show s' < s by have := hok.1; omega)), Bool.and_true]
    · unfold ErM at z
      simp only [Bool.and_eq_true, decide_eq_true_eq] at z
      exact z.2.2
    · rw [if_neg (by decide)]
      rw [exe] at b
      rw [wayRM h3 hn hf b] at hI'
      exact h1 a b σ' hI'
    · rw [if_pos rfl, nI_1]
      rw [exe] at a
      exact h0 a σ' hI'
  | succ m ih =>
    intro s hs F hF
    rw [wm_round_l31_s]
    refine ⟨V, hI.qA (by decide) _, ?_⟩
    dsimp only
    rw [if_neg (nI_nlt (by omega) (by omega))]
    exact ⟨_, rndM_in hI hf hsz (by omega) (fun F' hF' => ih (s + 1) (by omega) F' hF') (vn V) 0 (by omega) F hF⟩
def fndR (V : VV) (size f : Nat) : Bool := fineV V (2 ^ f) && exR V f (size - 1)
theorem rndM_f {V : VV} {size : Nat} {P : Int32 → St → Prop} {K : Int32 → St → Prop} (h3 : 3 ≤ size) (hsz : size ≤ 20)
    (h1 : ∀ f, f < vn V → (∀ j, j < f → fndR V size j = false) → fndR V size f = true → ∀ σ', IM σ' (rowG (vSRow V [nI f]) (way (mv V (allA V)) (vn V) (ex (mv V (allA V)) (vn V) (Er V f)) (size - 1) (2 ^ f) f)) → P (nI size) σ')
    (h0 : (∀ j, j < vn V → fndR V size j = false) → ∀ σ', IM σ' V → K (nI size + (-1)) σ') :
    ∀ m f : Nat, f + m = vn V → (∀ j, j < f → fndR V size j = false) → ∀ σ, IM σ V → wm_round_l17 P (fun v1 σ => K v1 σ) (m + 1) (nI size) (nI f) σ := by
  intro m
  induction m with
  | zero =>
    intro f hf hno σ hI
    rw [wm_round_l17_s, show mI_dishes σ = _ from hI.n, if_pos (by rw [show f = vn V by omega]; exact Int32.le_refl _)]
    exact h0 (by rw [← show f = vn V by omega]; exact hno) σ hI
  | succ m ih =>
    intro f hf hno σ hI
    have hn := hI.2.n
    rw [wm_round_l17_s, show mI_dishes σ = _ from hI.n, if_neg (nI_ge (by omega) (by omega))]
    refine om_noEnds fun F hF => ⟨_, rndM_s hI (show f < vn V by omega) h3 hsz (fun a b σ' hI' => h1 f (by omega) hno (by unfold fndR; rw [a, b]; rfl) σ' hI') (fun a σ' hI' => ?_) (2 ^ vn V) 0 (by omega) F fun s l hok => ?_⟩
    · refine ih (f + 1) (by omega) (fun j hj => ?_) σ' hI'
      rcases Nat.lt_or_ge j f with q | q
      · exact hno j q
      · rw [show j = f by omega]
        unfold fndR
        cases y1 : fineV V (2 ^ f) with
        | false => rfl
        | true =>
          cases y2 : exR V f (size - 1) with
          | false => rfl
          | true => exact absurd ⟨y1, y2⟩ a
    · have hb := okS_le hn hok
      rw [hF _ (by omega), decide_eq_false (show ¬ (s < 0 ∨ (s = 0 ∧ l < 0)) by omega), Bool.and_false]; rfl
theorem rndM_z {V : VV} {P : Int32 → St → Prop} (hw : WV V) (h : ∀ σ', IM σ' (S_round V) → P (R_round V) σ') : ∀ size : Nat, size ≤ vn V → (∀ z, size < z → z ≤ vn V → ∀ j, j < vn V → fndR V z j = false) → ∀ σ, IM σ V → wm_round_l10 P (size + 1) (nI size) σ := by
  have hn := hw.n
  have rle : ∀ size, (∀ z, size < z → z ≤ vn V → ∀ j, j < vn V → fndR V z j = false) → ∀ j, j < vn V → 0 < rV V j → rV V j + 1 ≤ size := by
    intro size hno j hj hpos
    obtain ⟨a, b⟩ := rV_pos hpos
    have hx := exR_3 hn hj b
    rcases Nat.lt_or_ge size (rV V j + 1) with z | z
    · have := hno _ z (by omega) j hj
      unfold fndR at this
      rw [a, Nat.add_sub_cancel, b] at this
      exact absurd this (by decide)
    · exact z
  intro size
  induction size with
  | zero =>
    intro hle hno σ hI
    rw [wm_round_l10_s, if_pos (by decide)]
    have hz : maxN (rV V) (vn V) = 0 := Nat.le_zero.mp (maxN_le (vn V) fun j hj => by
      rcases Nat.eq_zero_or_pos (rV V j) with z | z
      · omega
      · have := rle 0 hno j hj z; omega)
    unfold R_round S_round at h
    rw [if_pos hz, if_pos hz] at h
    exact h σ hI
  | succ size ih =>
    intro hle hno σ hI
    rw [wm_round_l10_s, show (3 : Int32) = nI 3 from rfl]
    by_cases q : size + 1 < 3
    · rw [if_pos (nI_lt (by omega) (by omega))]
      have hz : maxN (rV V) (vn V) = 0 := Nat.le_zero.mp (maxN_le (vn V) fun j hj => by
        rcases Nat.eq_zero_or_pos (rV V j) with z | z
        · omega
        · have := rle _ hno j hj z
          have := (exR_3 hn hj (rV_pos z).2).1
          omega)
      unfold R_round S_round at h
      rw [if_pos hz, if_pos hz] at h
      exact h σ hI
    · rw [if_neg (nI_nlt (by omega) (by omega))]
      refine ⟨_, rndM_f (K := wm_round_l10 P (size + 1)) (by omega) (by omega) (fun f hf hnf hy σ' hI' => ?_) (fun hnf σ' hI' => ?_) (vn V) 0 (by omega) (fun j hj => absurd hj (by omega)) σ hI⟩
      · have y1 := (Bool.and_eq_true _ _ ▸ hy).1
        have y2 := (Bool.and_eq_true _ _ ▸ hy).2
        rw [Nat.add_sub_cancel] at y2 hI'
        have g1 := rV_ge hn hf y1 y2
        have g2 := rle _ hno f hf (by omega)
        have g3 : maxN (rV V) (vn V) ≤ size := maxN_le (vn V) fun j hj => by
          rcases Nat.eq_zero_or_pos (rV V j) with z | z
          · omega
          · have := rle _ hno j hj z; omega
        have g4 := (maxN_iff (f := rV V) (b := maxN (rV V) (vn V)) (vn V)).mp (Nat.le_refl _) f hf
        have em : maxN (rV V) (vn V) = size := by omega
        have eb : bR V (vn V) = f := bR_eq hn hf (by omega) (by omega) fun j hj => by
          have g5 := (maxN_iff (f := rV V) (b := maxN (rV V) (vn V)) (vn V)).mp (Nat.le_refl _) j (by omega)
          rcases Nat.lt_or_ge (rV V j) (maxN (rV V) (vn V)) with z | z
          · exact z
          · have er : rV V j = size := by omega
            obtain ⟨a, b⟩ := rV_pos (V := V) (d := j) (by omega)
            have := hnf j hj
            unfold fndR at this
            rw [er] at b
            rw [a, Nat.add_sub_cancel, b] at this
            exact absurd this (by decide)
        unfold R_round S_round at h
        rw [if_neg (by omega), if_neg (by omega), em, eb] at h
        exact h σ' hI'
      · rw [nI_m1 (by omega), Nat.add_sub_cancel]
        refine ih (by omega) (fun z hz hzn j hj => ?_) σ' hI'
        rcases Nat.lt_or_ge (size + 1) z with y | y
        · exact hno z y hzn j hj
        · rw [show z = size + 1 by omega]; exact hnf j hj
theorem om_round {σ : St} {V : VV} {P : Int32 → St → Prop} (hI : IM σ V) (h : ∀ σ', IM σ' (S_round V) → P (R_round V) σ') : wm_round σ P := by
  have hI := hI.th 0
  refine ⟨vn V + 1, ?_⟩
  rw [show mI_dishes (mS_thrown σ 0) = _ from hI.n]
  exact rndM_z hI.2 h (vn V) (Nat.le_refl _) (fun z hz hzn => absurd hz (by omega)) _ hI
