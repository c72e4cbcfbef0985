/-! WAYS: rows counted from the end and from the start -/
def np (M : Nat → Nat → Nat → Bool) (n : Nat) : Nat → Nat → Nat → Nat
  | 0, _, _ => 1
  | k + 1, s, l => sumN (fun d => if M s l d = true then np M n k (s ||| 2 ^ d) d else 0) n
def sumS (n : Nat) (f : Nat → Nat → Nat) : Nat := sumN (fun s => sumN (fun o => if stateB s (lOf o) = true then f s (lOf o) else 0) (n + 1)) (2 ^ n)
theorem sumS_cp {M : Nat → Nat → Nat → Bool} {n : Nat} (hn : n ≤ 10) : ∀ k s0 l0, okS n s0 l0 → sumS n (fun s l => cp M n k s0 l0 s l) = np M n k s0 l0 := by
  intro k
  induction k with
  | zero =>
    intro s0 l0 hok
    unfold sumS
    have hb := okS_le hn hok
    rw [sumN_single (a := s0) (2 ^ n) fun s _ hne => sumN_z _ fun o _ => by
      split
      · exact if_neg fun z => hne z.1
      · rfl, if_pos hok.1, sumN_single (a := ordL l0) (n + 1) fun o ho hne => by
      split
      · exact if_neg fun z => hne (by rw [← z.2, ord_lOf (by omega)])
      · rfl, if_pos (ordL_lt hn hok), lOf_ord hb.1, if_pos ((okS_B hn hok.1 (by rcases hok.2 with q | q <;> omega)).mpr hok)]
    show (if s0 = s0 ∧ l0 = l0 then 1 else 0) = 1
    exact if_pos ⟨rfl, rfl⟩
  | succ k ih =>
    intro s0 l0 hok
    unfold sumS
    have e1 : sumN (fun s => sumN (fun o => if stateB s (lOf o) = true then cp M n (k + 1) s0 l0 s (lOf o) else 0) (n + 1)) (2 ^ n) = sumN (fun s => sumN (fun o => sumN (fun d => if M s0 l0 d = true then (if stateB s (lOf o) = true then cp M n k (s0 ||| 2 ^ d) d s (lOf o) else 0) else 0) n) (n + 1)) (2 ^ n) :=
      sumN_congr _ fun s _ => sumN_congr _ fun o _ => by
        rw [cp_s]
        by_cases q : stateB s (lOf o) = true
        · rw [if_pos q]; exact sumN_congr n fun d _ => by rw [if_pos q]
        · rw [if_neg q]; exact (sumN_z n fun d _ => by rw [if_neg q, ite_self]).symm
    rw [e1]
    have e2 : sumN (fun s => sumN (fun o => sumN (fun d => if M s0 l0 d = true then (if stateB s (lOf o) = true then cp M n k (s0 ||| 2 ^ d) d s (lOf o) else 0) else 0) n) (n + 1)) (2 ^ n) = sumN (fun d => sumN (fun s => sumN (fun o => if M s0 l0 d = true then (if stateB s (lOf o) = true then cp M n k (s0 ||| 2 ^ d) d s (lOf o) else 0) else 0) (n + 1)) (2 ^ n)) n := by
      exact (sumN_congr _ fun s _ => sumN_swap _ _ _).trans (sumN_swap _ _ _)
    rw [e2]
    refine sumN_congr n fun d hd => ?_
    by_cases q : M s0 l0 d = true
    · rw [if_pos q, ← ih _ _ (okS_step hok hd)]
      exact sumN_congr _ fun s _ => sumN_congr _ fun o _ => by rw [if_pos q]
    · rw [if_neg q]
      exact sumN_z _ fun s _ => sumN_z _ fun o _ => by rw [if_neg q]
/-- the sum as the model adds it: sets of one size, rows from the start -/
theorem ways_sum {M : Nat → Nat → Nat → Bool} {n s0 l0 : Nat} (hn : n ≤ 10) (hM : newM n M) (h0 : okS n s0 l0) (k : Nat) :
    sumS n (fun s l => if pc s = pc s0 + k then cpT M n s0 l0 s l else 0) = np M n k s0 l0 := by
  rw [← sumS_cp hn k s0 l0 h0]
  refine sumN_congr _ fun s _ => sumN_congr _ fun o _ => ?_
  by_cases q : stateB s (lOf o) = true
  · rw [if_pos q, if_pos q]
    show (if pc s = pc s0 + k then cpT M n s0 l0 s (lOf o) else 0) = cp M n k s0 l0 s (lOf o)
    by_cases e : pc s = pc s0 + k
    · rw [if_pos e]
      unfold cpT
      rw [if_pos (by omega), show pc s - pc s0 = k by omega]
    · rw [if_neg e]
      rcases Nat.eq_zero_or_pos (cp M n k s0 l0 s (lOf o)) with z | z
      · exact z.symm
      · exact absurd (cp_pc hn hM z).symm e
  · rw [if_neg q, if_neg q]
def stW (M : Nat → Nat → Nat → Bool) (due n : Nat) : Nat → Nat → (Nat → Int64) → Int64 := fun s l f => foldN (fun d acc => if pc s < due ∧ M s l d = true then acc + f d else acc) (if pc s = due then 1 else 0) n
theorem stW_c {M : Nat → Nat → Nat → Bool} {due n : Nat} (hM : newM n M) : stepC n (stW M due n) := by
  intro s l f g _ h
  refine foldN_congr n fun d hd x => ?_
  by_cases q : pc s < due ∧ M s l d = true
  · rw [if_pos q, if_pos q, h d hd (hM s l d hd q.2)]
  · rw [if_neg q, if_neg q]
theorem foldL {c : Nat → Prop} [DecidablePred c] {g : Nat → Int64} {t : Nat → Nat} (a : Nat) : ∀ n, (∀ d, d < n → c d → g d = nL (t d)) → foldN (fun d acc => if c d then acc + g d else acc) (nL a) n = nL (a + sumN (fun d => if c d then t d else 0) n) := by
  intro n
  induction n with
  | zero => intro _; rfl
  | succ n ih =>
    intro h
    have e := ih fun d hd => h d (by omega)
    show (if c n then foldN (fun d acc => if c d then acc + g d else acc) (nL a) n + g n else foldN (fun d acc => if c d then acc + g d else acc) (nL a) n) = nL (a + (sumN (fun d => if c d then t d else 0) n + if c n then t n else 0))
    rw [e]
    by_cases q : c n
    · rw [if_pos q, if_pos q, h n (by omega) q, nL_add, Nat.add_assoc]
    · rw [if_neg q, if_neg q, Nat.add_zero]
theorem stW_spec {M : Nat → Nat → Nat → Bool} {due n : Nat} (hn : n ≤ 10) (hM : newM n M) {T : Nat → Int64} (hT : FixT n T (stW M due n)) : ∀ r s l, okS n s l → n ≤ pc s + r → T (11 * s + l) = nL (if pc s ≤ due then np M n (due - pc s) s l else 0) := by
  have one : ∀ b : Prop, [Decidable b] → (if b then (1 : Int64) else 0) = nL (if b then 1 else 0) := fun b _ => by split <;> rfl
  have key : ∀ s l, okS n s l → (∀ d, d < n → M s l d = true → T (11 * (s ||| 2 ^ d) + d) = nL (if pc (s ||| 2 ^ d) ≤ due then np M n (due - pc (s ||| 2 ^ d)) (s ||| 2 ^ d) d else 0)) → T (11 * s + l) = nL (if pc s ≤ due then np M n (due - pc s) s l else 0) := by
    intro s l hok h
    rw [hT s l hok]
    unfold stW
    rw [one, foldL (c := fun d => pc s < due ∧ M s l d = true) (t := fun d => if pc (s ||| 2 ^ d) ≤ due then np M n (due - pc (s ||| 2 ^ d)) (s ||| 2 ^ d) d else 0) _ n fun d hd hc => h d hd hc.2]
    congr 1
    by_cases q : pc s = due
    · rw [if_pos q, if_pos (by omega), show due - pc s = 0 by omega, sumN_z n fun d _ => by rw [if_neg (fun z => by omega)]]; rfl
    · rw [if_neg q, Nat.zero_add]
      by_cases q2 : pc s ≤ due
      · rw [if_pos q2, show due - pc s = due - pc s - 1 + 1 by omega]
        refine sumN_congr n fun d hd => ?_
        by_cases q3 : M s l d = true
        · have hpc := pc_or2 (hM s l d hd q3) (show d < 11 by omega)
          rw [if_pos ⟨by omega, q3⟩, if_pos q3, if_pos (by omega), show due - pc (s ||| 2 ^ d) = due - pc s - 1 by omega]
        · rw [if_neg (fun z => q3 z.2), if_neg q3]
      · rw [if_neg q2]
        exact sumN_z n fun d _ => by rw [if_neg (fun z => by omega)]
  intro r
  induction r with
  | zero =>
    intro s l hok hr
    refine key s l hok fun d hd hm => ?_
    have h1 := okS_step hok hd
    have h2 := pc_le_n h1.1 (by omega)
    rw [pc_or2 (hM s l d hd hm) (by omega)] at h2
    omega
  | succ r ih =>
    intro s l hok hr
    exact key s l hok fun d hd hm => ih _ _ (okS_step hok hd) (by rw [pc_or2 (hM s l d hd hm) (by omega)]; omega)
theorem wayX_d {V : VV} {A s l due : Nat} {ini : Int64} {P : Int64 → St → Prop} {K : Int32 → Int32 → Int32 → St → Prop} {σ : St} (hG : GX σ V A) (hok : okS (vn V) s l) (hdue : due < 2 ^ 20)
    (h : K (nI due) (nI s) (lI l) (sL σ 34 (vp_updL (gL σ 34) (11 * s + l) (foldN (fun d acc => if pc s < due ∧ mv V A s l d = true then acc + gL σ 34 (11 * (s ||| 2 ^ d) + d) else acc) ini (vn V))))) :
    ∀ m d : Nat, d + m = vn V → wx_ways_l83 P K (m + 1) (nI due) (nI s) (lI l) (foldN (fun d acc => if pc s < due ∧ mv V A s l d = true then acc + gL σ 34 (11 * (s ||| 2 ^ d) + d) else acc) ini d) (nI d) σ := by
  have hI := hG.1
  have hn := hI.2.n
  have hb := okS_le hn hok
  have hpc := pc_le s
  intro m
  induction m with
  | zero =>
    intro d hd
    rw [wx_ways_l83_s, show xI_dishes σ = _ from hI.n, if_pos (by rw [show d = vn V by omega]; exact Int32.le_refl _), show d = vn V by omega]
    refine ⟨s, l, rfl, rfl, by omega, by omega, vp_in_nI (by omega) (by omega), ?_⟩
    unfold xU_many uL
    rw [cl (by omega)]
    exact h
  | succ m ih =>
    intro d hd
    have ih1 := ih (d + 1) (by omega)
    have hor := or2_lt hok.1 (show d < vn V by omega)
    have hp := pow_le_1024 hn
    rw [show foldN (fun d acc => if pc s < due ∧ mv V A s l d = true then acc + gL σ 34 (11 * (s ||| 2 ^ d) + d) else acc) ini (d + 1) = if pc s < due ∧ mv V A s l d = true then foldN (fun d acc => if pc s < due ∧ mv V A s l d = true then acc + gL σ 34 (11 * (s ||| 2 ^ d) + d) else acc) ini d + gL σ 34 (11 * (s ||| 2 ^ d) + d) else foldN (fun d acc => if pc s < due ∧ mv V A s l d = true then acc + gL σ 34 (11 * (s ||| 2 ^ d) + d) else acc) ini d from rfl] at ih1
    rw [wx_ways_l83_s, show xI_dishes σ = _ from hI.n, if_neg (nI_ge (by omega) (by omega)), bitC_nI (by omega)]
    unfold wx_ways_j133
    rw [nI_1]
    simp only [nI_leI (show due < 2 ^ 31 by omega) (show pc s < 2 ^ 31 by omega)]
    by_cases q0 : due ≤ pc s
    · rw [if_pos q0]; rw [if_neg (fun z => by omega)] at ih1; exact ih1
    · rw [if_neg q0]
      refine ox_goesOn hG hok.1 (by rcases hok.2 with q | q <;> omega) (by omega) ?_
      cases q : mv V A s l d with
      | false => rw [jf0]; rw [q, if_neg (fun z => absurd z.2 (by decide))] at ih1; exact ih1
      | true =>
        rw [jt0]; rw [q, if_pos ⟨by omega, rfl⟩] at ih1
        rw [nI_shl1 _ (by omega), nI_or]
        refine ⟨s ||| 2 ^ d, d, rfl, (lI_l (by omega)).symm, by omega, by omega, vp_in_nI (by omega) (by omega), ?_⟩
        rw [cl (by omega)]
        exact ih1
theorem wayX_l {V : VV} {A s due : Nat} {P : Int64 → St → Prop} {K : Int32 → Int32 → St → Prop} (hw : WV V) (hs : s < 2 ^ vn V) (hdue : due < 2 ^ 20)
    (h : ∀ σ', GX σ' V A → Done (vn V) (gL σ' 34) (stW (mv V A) due (vn V)) s (vn V + 1) → K (nI due) (nI s + (-1)) σ') :
    ∀ m j : Nat, j + m = vn V + 1 → ∀ σ, GX σ V A → Done (vn V) (gL σ 34) (stW (mv V A) due (vn V)) s j → wx_ways_l43 P K (m + 1) (nI due) (nI s) (nI j - 1) σ := by
  have hn := hw.n
  intro m
  induction m with
  | zero =>
    intro j hj σ hG hD
    rw [wx_ways_l43_s, show xI_dishes σ = _ from hG.1.n, if_pos ((nIm_lt (by omega) (by omega)).mpr (by omega))]
    rw [show j = vn V + 1 by omega] at hD
    exact h σ hG hD
  | succ m ih =>
    intro j hj σ hG hD
    have hp := pow_le_1024 hn
    rw [wx_ways_l43_s, show xI_dishes σ = _ from hG.1.n, if_neg (fun z => by have := (nIm_lt (by omega) (by omega)).mp z; omega)]
    have hl := lOf_n (j := j) hn (by omega)
    refine ⟨s, lOf j, rfl, (lOf_lI (by omega)).symm, by omega, by omega, ?_⟩
    dsimp only
    cases q : stateB s (lOf j) with
    | false =>
      rw [jf0]
      unfold wx_ways_j152
      rw [nIm_s]
      exact ih (j + 1) (by omega) σ hG (hD.skip hn (by omega) hs q)
    | true =>
      rw [jt0]
      have hok := (okS_B hn hs hl).mp q
      have fin : ∀ ini, ini = (if pc s = due then 1 else 0) → wx_ways_j78 P (wx_ways_l43 P K (m + 1)) (nI due) (nI s) (nI j - 1) ini σ := by
        intro ini ei
        unfold wx_ways_j78
        rw [← lOf_lI (by omega)]
        refine ⟨_, wayX_d hG hok hdue ?_ (vn V) 0 (by omega)⟩
        unfold wx_ways_j152
        rw [lOf_lI (by omega), nIm_s]
        refine ih (j + 1) (by omega) _ (hG.qL _ _) (hD.write hn (stW_c (mv_newM V A)) (by omega) hs q (fun k hk => ?_) ?_)
        · rw [gL_sLk, updL_n hk]
        · rw [gL_sLk, updL_s, ei]; rfl
      have hpc := pc_le s
      rw [bitC_nI (by omega)]
      simp only [nI_eq (show pc s < 2 ^ 31 by omega) (show due < 2 ^ 31 by omega)]
      by_cases q1 : pc s = due
      · rw [if_pos q1]; exact fin 1 (by rw [if_pos q1])
      · rw [if_neg q1]; exact fin 0 (by rw [if_neg q1])
theorem wayX_s {V : VV} {A due : Nat} {P : Int64 → St → Prop} (hw : WV V) (hdue : due < 2 ^ 20) (h : ∀ σ', IX σ' V → FixT (vn V) (gL σ' 34) (stW (mv V A) due (vn V)) → P (gL σ' 34 (11 * s0V V + l0V V)) σ') :
    ∀ m : Nat, m ≤ 2 ^ vn V → ∀ σ, GX σ V A → (0 < m → Done (vn V) (gL σ 34) (stW (mv V A) due (vn V)) (m - 1) 0) → (m = 0 → FixT (vn V) (gL σ 34) (stW (mv V A) due (vn V))) → wx_ways_l36 P (m + 1) (nI due) (nI m - 1) σ := by
  have hn := hw.n
  have hp := pow_le_1024 hn
  have hb := okS_le hn (start_ok hw)
  intro m
  induction m with
  | zero =>
    intro hm σ hG _ hF
    rw [wx_ways_l36_s, if_pos (by decide)]
    refine ⟨V, hG.1, V, hG.1, s0V V, l0V V, rfl, rfl, by omega, by omega, vp_in_nI (by omega) (by omega), ?_⟩
    rw [cl (by omega)]
    exact h σ hG.1 (hF rfl)
  | succ m ih =>
    intro hm σ hG hD _
    rw [wx_ways_l36_s, nI_pred, if_neg (nI_lt0 (by omega))]
    refine ⟨vn V + 2, ?_⟩
    refine wayX_l hw (show m < 2 ^ vn V by omega) hdue (fun σ' hG' hD' => ?_) (vn V + 1) 0 (by omega) σ hG (hD (by omega))
    rw [show nI m + (-1) = nI m - 1 from (Int32.sub_eq_add_neg _ _).symm]
    refine ih (by omega) σ' hG' (fun hpos => ?_) (fun h0 => ?_)
    · rw [show m = m - 1 + 1 by omega] at hD'
      exact hD'.next hn
    · rw [h0] at hD'; exact hD'.fix hn
def R_ways (V : VV) (v : Int32) : Int64 := if rngB v 11 = true then nL (np (mv V (allA V)) (vn V) v.toNatClampNeg (s0V V) (l0V V)) else -1
theorem ox_ways {σ : St} {V : VV} {P : Int64 → St → Prop} (hI : IX σ V) (v : Int32) (h : ∀ σ', IX σ' V → P (R_ways V v) σ') : wx_ways σ v P := by
  have hw := hI.2
  have hn := hw.n
  have hsl := hw.svl
  have hps := pc_s0 hw
  unfold wx_ways sx_in
  rw [inB_lit (v := v) (x := 0) (y := 10) (by decide) (by decide), rngB_lt (v := v) (y := 10) (n := 11) (by decide)]
  dsimp only
  unfold R_ways at h
  cases q : rngB v 11 with
  | false => rw [jf0]; rw [q, if_neg (by decide)] at h; exact h σ hI
  | true =>
    rw [jt0]; rw [q, if_pos rfl] at h
    obtain ⟨k, hk, rfl⟩ := rngB_of (by omega) q
    rw [cl (by omega)] at h
    refine ox_laysOut hI fun σ1 hG => ⟨2 ^ vn V + 1, ?_⟩
    have h1 := Nat.one_le_two_pow (n := vn V)
    rw [show xI_dishes σ1 = _ from hG.1.n, nI_shl1 _ (by omega), show xI_servedMany σ1 = _ from hG.1.sm, nI_add]
    refine wayX_s (A := allA V) hw (by omega) (fun σ' hI' hT => ?_) (2 ^ vn V) (by omega) σ1 hG (fun _ => Done.start _ _) (fun z => by omega)
    have e := stW_spec hn (mv_newM V (allA V)) hT (vn V) (s0V V) (l0V V) (start_ok hw) (by omega)
    rw [hps, if_pos (by omega), show (vsv V).length + k - (vsv V).length = k by omega] at e
    rw [e]
    exact h σ' hI'
def waS (V : VV) (due S s j : Nat) : Nat := sumN (fun s => sumN (fun o => if stateB s (lOf o) = true then (if pc s = due then tabM V S s (lOf o) else 0) else 0) (vn V + 1)) s + sumN (fun o => if stateB s (lOf o) = true then (if pc s = due then tabM V S s (lOf o) else 0) else 0) j
theorem wayM_l {V : VV} {S s k : Nat} {R : Nat → Int64} {P : Int64 → St → Prop} {K : Int32 → Int64 → Int32 → St → Prop} {σ : St} (hI : IM σ V) (hs : s < 2 ^ vn V) (hk : k ≤ 10) (hR : ∀ s l, okS (vn V) s l → R (11 * s + l) = nL (tabM V S s l)) (hg : gL σ 37 = R)
    (h : K (nI k) (nL (waS V (pc (s0V V) + k) S (s + 1) 0)) (nI (s + 1)) σ) : ∀ m j : Nat, j + m = vn V + 1 → wm_ways_l52 P K (m + 1) (nI k) (nL (waS V (pc (s0V V) + k) S s j)) (nI s) (nI j - 1) σ := by
  have hw := hI.2
  have hn := hw.n
  have hp := pow_le_1024 hn
  have hsl := hw.svl
  have hps := pc_s0 hw
  have hpc := pc_le s
  intro m
  induction m with
  | zero =>
    intro j hj
    rw [wm_ways_l52_s, show mI_dishes σ = _ from hI.n, if_pos ((nIm_lt (by omega) (by omega)).mpr (by omega)), nI_1, show j = vn V + 1 by omega]
    exact h
  | succ m ih =>
    intro j hj
    have ih1 := ih (j + 1) (by omega)
    rw [show waS V (pc (s0V V) + k) S s (j + 1) = waS V (pc (s0V V) + k) S s j + (if stateB s (lOf j) = true then (if pc s = pc (s0V V) + k then tabM V S s (lOf j) else 0) else 0) from (Nat.add_assoc _ _ _).symm] at ih1
    rw [wm_ways_l52_s, show mI_dishes σ = _ from hI.n, if_neg (fun z => by have := (nIm_lt (by omega) (by omega)).mp z; omega)]
    have hl := lOf_n (j := j) hn (by omega)
    refine ⟨s, lOf j, rfl, (lOf_lI (by omega)).symm, by omega, by omega, ?_⟩
    unfold wm_ways_j100
    dsimp only
    rw [nIm_s]
    cases q : stateB s (lOf j) with
    | false => rw [jf0]; rw [q, if_neg (by decide), Nat.add_zero] at ih1; exact ih1
    | true =>
      rw [jt0]; rw [q, if_pos rfl] at ih1
      have hok := (okS_B hn hs hl).mp q
      rw [bitC_nI (by omega), show mI_servedMany σ = _ from hI.sm, nI_add, ← hps]
      simp only [nI_eq (show pc s < 2 ^ 31 by omega) (show pc (s0V V) + k < 2 ^ 31 by omega)]
      by_cases q2 : pc s = pc (s0V V) + k
      · rw [if_pos q2]; rw [if_pos q2] at ih1
        refine ⟨s, lOf j, rfl, (lOf_lI (by omega)).symm, by omega, by omega, vp_in_nI (by omega) (by omega), ?_⟩
        rw [cl (by omega), show mA_rows σ = R from hg, hR s (lOf j) hok, nL_add]
        exact ih1
      · rw [if_neg q2]; rw [if_neg q2, Nat.add_zero] at ih1; exact ih1
theorem wayM_s {V : VV} {S k : Nat} {R : Nat → Int64} {P : Int64 → St → Prop} {σ : St} (hI : IM σ V) (hk : k ≤ 10) (hR : ∀ s l, okS (vn V) s l → R (11 * s + l) = nL (tabM V S s l)) (hg : gL σ 37 = R)
    (h : P (nL (np (mv V S) (vn V) k (s0V V) (l0V V))) σ) : ∀ m s : Nat, s + m = 2 ^ vn V → wm_ways_l40 P (m + 1) (nI k) (nL (waS V (pc (s0V V) + k) S s 0)) (nI s) σ := by
  have hw := hI.2
  have hn := hw.n
  have hp := pow_le_1024 hn
  have h1 := Nat.one_le_two_pow (n := vn V)
  intro m
  induction m with
  | zero =>
    intro s hs
    rw [wm_ways_l40_s]
    refine ⟨V, hI, ?_⟩
    dsimp only
    rw [if_pos (nI_lt (by omega) (by omega)), show s = 2 ^ vn V by omega]
    have e : waS V (pc (s0V V) + k) S (2 ^ vn V) 0 = np (mv V S) (vn V) k (s0V V) (l0V V) := by
      rw [← ways_sum hn (mv_newM V S) (start_ok hw) k]
      rfl
    rw [e]
    exact h
  | succ m ih =>
    intro s hs
    rw [wm_ways_l40_s]
    refine ⟨V, hI, ?_⟩
    dsimp only
    rw [if_neg (nI_nlt (by omega) (by omega))]
    have ih1 := ih (s + 1) (by omega)
    exact ⟨_, wayM_l hI (by omega) hk hR hg ih1 (vn V + 1) 0 (by omega)⟩
theorem om_ways {σ : St} {V : VV} {P : Int64 → St → Prop} (hI : IM σ V) (v : Int32) (h : ∀ σ', IM σ' V → P (R_ways V v) σ') : wm_ways σ v P := by
  have hI := hI.th 0
  have hw := hI.2
  unfold wm_ways sm_in
  rw [inM_lit (v := v) (x := 0) (y := 10) (by decide) (by decide), rngB_lt (v := v) (y := 10) (n := 11) (by decide)]
  dsimp only
  unfold R_ways at h
  cases q : rngB v 11 with
  | false => rw [jf0]; rw [q, if_neg (by decide)] at h; exact h _ hI
  | true =>
    rw [jt0]; rw [q, if_pos rfl] at h
    obtain ⟨k, hk, rfl⟩ := rngB_of (by omega) q
    rw [cl (by omega)] at h
    refine ⟨V, hI, V, hI, V, hI, ?_⟩
    refine om_findRows hI (allA_lt V) (start_ok hw) fun R hR => ⟨_, wayM_s (S := allA V) (R := R) (hI.qL 37 R) (by omega) (fun s l hok => rows_eq hw.n (mv_newM V _) (start_ok hw) hR (s + 1) s l (by omega) hok) (gL_sLk _ _ _) (h _ (hI.qL _ _)) (2 ^ vn V) 0 (by omega)⟩
