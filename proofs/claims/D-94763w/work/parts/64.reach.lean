/-! component: reaches -/
def rchB (M : Nat → Nat → Nat → Bool) (n s0 l0 s l : Nat) : Prop := okS n s l ∧ 0 < cpT M n s0 l0 s l
def updN (f : Nat → Nat) (k x : Nat) : Nat → Nat := fun j => if j = k then x else f j
def pushB (M : Nat → Nat → Nat → Bool) (s l : Nat) (L : Nat → Nat) (i : Nat) : Nat → Nat := foldN (fun d L => if M s l d = true then updN L (s ||| 2 ^ d) (L (s ||| 2 ^ d) ||| 2 ^ d) else L) L i
theorem pushB_s (M : Nat → Nat → Nat → Bool) (s l : Nat) (L : Nat → Nat) (i : Nat) : pushB M s l L (i + 1) = if M s l i = true then updN (pushB M s l L i) (s ||| 2 ^ i) (pushB M s l L i (s ||| 2 ^ i) ||| 2 ^ i) else pushB M s l L i := rfl
theorem pushB_tb {M : Nat → Nat → Nat → Bool} {s l : Nat} {L : Nat → Nat} (s' l' : Nat) : ∀ i, (pushB M s l L i s').testBit l' = true ↔ (L s').testBit l' = true ∨ (l' < i ∧ M s l l' = true ∧ s' = s ||| 2 ^ l') := by
  intro i
  induction i with
  | zero => exact ⟨Or.inl, fun h => h.elim id fun z => absurd z.1 (by omega)⟩
  | succ i ih =>
    rw [pushB_s]
    by_cases q : M s l i = true
    · rw [if_pos q]
      by_cases e : s' = s ||| 2 ^ i
      · have : updN (pushB M s l L i) (s ||| 2 ^ i) (pushB M s l L i (s ||| 2 ^ i) ||| 2 ^ i) s' = pushB M s l L i s' ||| 2 ^ i := by unfold updN; rw [if_pos e, e]
        rw [this, tb_or2, Bool.or_eq_true, decide_eq_true_eq, ih]
        constructor
        · rintro ((h | h) | h)
          · exact Or.inl h
          · exact Or.inr ⟨by omega, h.2⟩
          · exact Or.inr ⟨by omega, by rw [h]; exact q, by rw [h]; exact e⟩
        · rintro (h | h)
          · exact Or.inl (Or.inl h)
          · by_cases z : l' = i
            · exact Or.inr z
            · exact Or.inl (Or.inr ⟨by omega, h.2⟩)
      · have : updN (pushB M s l L i) (s ||| 2 ^ i) (pushB M s l L i (s ||| 2 ^ i) ||| 2 ^ i) s' = pushB M s l L i s' := by unfold updN; rw [if_neg e]
        rw [this, ih]
        refine ⟨fun h => h.elim Or.inl fun z => Or.inr ⟨by omega, z.2⟩, fun h => h.elim Or.inl fun z => Or.inr ⟨?_, z.2⟩⟩
        have : l' ≠ i := fun y => e (by rw [← y]; exact z.2.2)
        omega
    · rw [if_neg q, ih]
      refine ⟨fun h => h.elim Or.inl fun z => Or.inr ⟨by omega, z.2⟩, fun h => h.elim Or.inl fun z => Or.inr ⟨?_, z.2⟩⟩
      have : l' ≠ i := fun y => q (by rw [← y]; exact z.2.1)
      omega
theorem pushB_lt {M : Nat → Nat → Nat → Bool} {s l : Nat} {L : Nat → Nat} (h : ∀ k, L k < 2 ^ 11) : ∀ i, i ≤ 11 → ∀ k, pushB M s l L i k < 2 ^ 11 := by
  intro i
  induction i with
  | zero => intro _ k; exact h k
  | succ i ih =>
    intro hi k
    rw [pushB_s]
    split
    · unfold updN
      split
      · exact or2_lt (ih (by omega) _) (by omega)
      · exact ih (by omega) k
    · exact ih (by omega) k
def RI (n : Nat) (M : Nat → Nat → Nat → Bool) (s0 l0 : Nat) (L : Nat → Nat) (s j : Nat) : Prop := (∀ k, L k < 2 ^ 11) ∧ ∀ s' l', s' < 2 ^ n → l' ≤ 10 → ((L s').testBit l' = true ↔ okS n s' l' ∧ ((s' = s0 ∧ l' = l0) ∨ (l' ≠ 10 ∧ ∃ o, o < bnd n s j (preS s' l') ∧ rchB M n s0 l0 (preS s' l') (lOf o) ∧ M (preS s' l') (lOf o) l' = true)))
theorem cpT_10 {M : Nat → Nat → Nat → Bool} {n s0 l0 : Nat} (h0 : okS n s0 l0) (hn : n ≤ 10) : 0 < cpT M n s0 l0 0 10 ↔ (0 = s0 ∧ 10 = l0) := by
  unfold cpT
  rw [pc_0]
  by_cases q : pc s0 ≤ 0
  · rw [if_pos q, show 0 - pc s0 = 0 by omega]
    show 0 < (if 0 = s0 ∧ 10 = l0 then 1 else 0) ↔ _
    by_cases z : 0 = s0 ∧ 10 = l0
    · rw [if_pos z]; exact ⟨fun _ => z, fun _ => by omega⟩
    · rw [if_neg z]; exact ⟨fun y => absurd y (by omega), fun y => absurd y z⟩
  · rw [if_neg q]
    exact ⟨fun y => absurd y (by omega), fun y => absurd (by rw [← y.1, pc_0]; omega : pc s0 ≤ 0) q⟩
theorem RI.at {n : Nat} {M : Nat → Nat → Nat → Bool} {s0 l0 s c j : Nat} {L : Nat → Nat} (hn : n ≤ 10) (hM : newM n M) (h0 : okS n s0 l0) (h : RI n M s0 l0 L c j) (hc : s ≤ c) {l : Nat} (hs : s < 2 ^ n) (hl : l ≤ 10) : (L s).testBit l = true ↔ rchB M n s0 l0 s l := by
  rw [h.2 s l hs hl]
  unfold rchB
  refine and_congr_right fun hok => ?_
  by_cases e : l = 10
  · have es : s = 0 := by rcases hok.2 with q | q; omega; exact q.2
    subst e; subst es
    rw [cpT_10 h0 hn]
    exact ⟨fun z => z.elim id fun y => absurd rfl y.1, Or.inl⟩
  · have hln : l < n := hok.2.elim (fun z => z.1) (fun z => absurd z.1 e)
    have hb : s.testBit l = true := hok.2.elim (fun z => z.2) (fun z => absurd z.1 e)
    have hlt := preS_lt hb
    rw [cpT_fwd hn hM h0 hs hln hb]
    have eb : bnd n c j (preS s l) = n + 1 := by unfold bnd; rw [if_pos (by omega)]
    rw [eb]
    constructor
    · rintro (z | ⟨_, o, ho, hr, hm⟩)
      · rw [if_pos z]; omega
      · have : 0 < sumN (fun o => if (stateB (preS s l) (lOf o) && M (preS s l) (lOf o) l) = true then cpT M n s0 l0 (preS s l) (lOf o) else 0) (n + 1) := by
          refine sumN_pos.mpr ⟨o, ho, ?_⟩
          rw [(okS_B hn hr.1.1 (lOf_n hn ho)).mpr hr.1, hm, if_pos (by decide)]
          exact hr.2
        omega
    · intro z
      by_cases y : s = s0 ∧ l = l0
      · exact Or.inl y
      · rw [if_neg y, Nat.zero_add] at z
        obtain ⟨o, ho, hp⟩ := sumN_pos.mp z
        by_cases c : (stateB (preS s l) (lOf o) && M (preS s l) (lOf o) l) = true
        · rw [if_pos c] at hp
          exact Or.inr ⟨e, o, ho, ⟨(okS_B hn (by omega) (lOf_n hn ho)).mp (Bool.and_eq_true _ _ ▸ c).1, hp⟩, (Bool.and_eq_true _ _ ▸ c).2⟩
        · rw [if_neg c] at hp; omega
theorem bnd_s {n s j p o : Nat} : o < bnd n s (j + 1) p ↔ o < bnd n s j p ∨ (p = s ∧ o = j) := by
  unfold bnd
  by_cases q : p < s
  · rw [if_pos q, if_pos q]; omega
  · rw [if_neg q, if_neg q]
    by_cases e : p = s
    · rw [if_pos e, if_pos e]; omega
    · rw [if_neg e, if_neg e]; omega
theorem RI.push {n : Nat} {M : Nat → Nat → Nat → Bool} {s0 l0 s j : Nat} {L : Nat → Nat} (hn : n ≤ 10) (hM : newM n M) (h0 : okS n s0 l0) (h : RI n M s0 l0 L s j) (hs : s < 2 ^ n) (hr : rchB M n s0 l0 s (lOf j)) : RI n M s0 l0 (pushB M s (lOf j) L n) s (j + 1) := by
  refine ⟨pushB_lt h.1 n (by omega), fun s' l' hs' hl' => ?_⟩
  rw [pushB_tb, h.2 s' l' hs' hl']
  constructor
  · rintro (⟨hok, z | ⟨h10, o, ho, h2⟩⟩ | ⟨hln, hm, e⟩)
    · exact ⟨hok, Or.inl z⟩
    · exact ⟨hok, Or.inr ⟨h10, o, bnd_s.mpr (Or.inl ho), h2⟩⟩
    · have hb := hM s (lOf j) l' hln hm
      have ep : preS s' l' = s := by rw [e]; exact preS_or hb
      exact ⟨by rw [e]; exact okS_step hr.1 hln, Or.inr ⟨by omega, j, bnd_s.mpr (Or.inr ⟨ep, rfl⟩), by rw [ep]; exact hr, by rw [ep]; exact hm⟩⟩
  · rintro ⟨hok, z | ⟨h10, o, ho, h2, h3⟩⟩
    · exact Or.inl ⟨hok, Or.inl z⟩
    · rcases bnd_s.mp ho with y | ⟨y1, y2⟩
      · exact Or.inl ⟨hok, Or.inr ⟨h10, o, y, h2, h3⟩⟩
      · have hln : l' < n := hok.2.elim (fun z => z.1) (fun z => absurd z.1 h10)
        have hb : s'.testBit l' = true := hok.2.elim (fun z => z.2) (fun z => absurd z.1 h10)
        refine Or.inr ⟨hln, by rw [← y1, ← y2]; exact h3, ?_⟩
        rw [← y1]; exact (or_preS hb).1.symm
theorem RI.skip {n : Nat} {M : Nat → Nat → Nat → Bool} {s0 l0 s j : Nat} {L : Nat → Nat} (h : RI n M s0 l0 L s j) (hr : ¬ rchB M n s0 l0 s (lOf j)) : RI n M s0 l0 L s (j + 1) := by
  refine ⟨h.1, fun s' l' hs' hl' => ?_⟩
  rw [h.2 s' l' hs' hl']
  refine and_congr_right fun hok => ?_
  constructor
  · rintro (z | ⟨h10, o, ho, h2⟩)
    · exact Or.inl z
    · exact Or.inr ⟨h10, o, bnd_s.mpr (Or.inl ho), h2⟩
  · rintro (z | ⟨h10, o, ho, h2, h3⟩)
    · exact Or.inl z
    · rcases bnd_s.mp ho with y | ⟨y1, y2⟩
      · exact Or.inr ⟨h10, o, y, h2, h3⟩
      · rw [y1, y2] at h2; exact absurd h2 hr
theorem RI.next {n : Nat} {M : Nat → Nat → Nat → Bool} {s0 l0 s : Nat} {L : Nat → Nat} (h : RI n M s0 l0 L s (n + 1)) : RI n M s0 l0 L (s + 1) 0 := by
  refine ⟨h.1, fun s' l' hs' hl' => ?_⟩
  rw [h.2 s' l' hs' hl']
  have : bnd n s (n + 1) (preS s' l') = bnd n (s + 1) 0 (preS s' l') := by
    unfold bnd
    by_cases e1 : preS s' l' < s
    · rw [if_pos e1, if_pos (by omega)]
    · rw [if_neg e1]
      by_cases e : preS s' l' = s
      · rw [if_pos e, if_pos (by omega)]
      · rw [if_neg e, if_neg (by omega)]; split <;> rfl
  rw [this]
def lasX (σ : St) (n : Nat) (L : Nat → Nat) : Prop := ∀ s, s < 2 ^ n → gA σ 31 s = nI (L s)
/-- the worths are kept too -/
def GQ (σ : St) (V : VV) (A : Nat) (W : Nat → Int32) : Prop := GX σ V A ∧ gA σ 36 = W
theorem GQ.q31 {σ : St} {V : VV} {A : Nat} {W : Nat → Int32} (h : GQ σ V A W) (f : Nat → Int32) : GQ (sA σ 31 f) V A W := ⟨h.1.qA (by decide) f, h.2⟩
theorem reaX_d {V : VV} {W : Nat → Int32} {A s l : Nat} {L : Nat → Nat} {P : St → Prop} {K : Int32 → Int32 → St → Prop} (hok : okS (vn V) s l) (hL : ∀ k, L k < 2 ^ 11)
    (h : ∀ σ', GQ σ' V A W → lasX σ' (vn V) (pushB (mv V A) s l L (vn V)) → K (nI s) (lI l) σ') :
    ∀ m d : Nat, d + m = vn V → ∀ σ, GQ σ V A W → lasX σ (vn V) (pushB (mv V A) s l L d) → wx_reaches_l99 P K (m + 1) (nI s) (lI l) (nI d) σ := by
  intro m
  induction m with
  | zero =>
    intro d hd σ hG hl
    rw [wx_reaches_l99_s, show xI_dishes σ = _ from hG.1.1.n, if_pos (by rw [show d = vn V by omega]; exact Int32.le_refl _)]
    rw [show d = vn V by omega] at hl
    exact h σ hG hl
  | succ m ih =>
    intro d hd σ hG hl
    have hn := hG.1.1.2.n
    have hp := pow_le_1024 hn
    have ih1 := ih (d + 1) (by omega)
    have hor := or2_lt hok.1 (show d < vn V by omega)
    have hb := okS_le hn hok
    rw [wx_reaches_l99_s, show xI_dishes σ = _ from hG.1.1.n, if_neg (nI_ge (by omega) (by omega))]
    refine ox_goesOn hG.1 hok.1 (by rcases hok.2 with q | q <;> omega) (by omega) ?_
    unfold wx_reaches_j138
    rw [nI_1]
    cases q : mv V A s l d with
    | false => rw [jf0]; exact ih1 σ hG (by rw [pushB_s, if_neg (by rw [q]; decide)]; exact hl)
    | true =>
      rw [jt0, nI_shl1 _ (by omega), nI_or]
      refine ⟨vp_in_nI (by omega) (by omega), vp_in_nI (by omega) (by omega), ?_⟩
      unfold xU_lasts uA
      rw [cl (by omega), show xA_lasts σ (s ||| 2 ^ d) = _ from hl _ hor, nI_or]
      refine ih1 _ (hG.q31 _) fun s' hs' => ?_
      rw [pushB_s, if_pos q]
      show upd (gA σ 31) (s ||| 2 ^ d) _ s' = nI (updN _ _ _ s')
      unfold updN
      by_cases e : s' = s ||| 2 ^ d
      · rw [e, upd_s, if_pos rfl]
      · rw [upd_n e, if_neg e]; exact hl s' hs'
theorem reaX_l {V : VV} {W : Nat → Int32} {A s s0 l0 : Nat} {P : St → Prop} {K : Int32 → St → Prop} (hw : WV V) (h0 : okS (vn V) s0 l0) (hs : s < 2 ^ vn V)
    (h : ∀ σ' L, GQ σ' V A W → lasX σ' (vn V) L → RI (vn V) (mv V A) s0 l0 L s (vn V + 1) → K (nI (s + 1)) σ') :
    ∀ m j : Nat, j + m = vn V + 1 → ∀ σ L, GQ σ V A W → lasX σ (vn V) L → RI (vn V) (mv V A) s0 l0 L s j → wx_reaches_l60 P K (m + 1) (nI s) (nI j - 1) σ := by
  have hn := hw.n
  have hp := pow_le_1024 hn
  intro m
  induction m with
  | zero =>
    intro j hj σ L hG hl hR
    rw [wx_reaches_l60_s, show xI_dishes σ = _ from hG.1.1.n, if_pos ((nIm_lt (by omega) (by omega)).mpr (by omega)), nI_1]
    rw [show j = vn V + 1 by omega] at hR
    exact h σ L hG hl hR
  | succ m ih =>
    intro j hj σ L hG hl hR
    rw [wx_reaches_l60_s, show xI_dishes σ = _ from hG.1.1.n, if_neg (fun z => by have := (nIm_lt (by omega) (by omega)).mp z; omega)]
    refine ⟨vp_in_nI (by omega) (by omega), ?_⟩
    rw [cl (by omega), show xA_lasts σ s = _ from hl s hs]
    have hlj := lOf_n (j := j) hn (by omega)
    have hLs := hR.1 s
    have hat := RI.at (l := lOf j) hn (mv_newM V A) h0 hR (Nat.le_refl _) hs (by omega)
    have go : wx_reaches_j87 P (wx_reaches_l60 P K (m + 1)) (nI s) (nI j - 1) (nI (L s)) (nI (lOf j)) σ := by
      unfold wx_reaches_j87 sx_has
      rw [hasB_nI (by omega) (by omega)]
      cases q : (L s).testBit (lOf j) with
      | false =>
        rw [jf0]
        unfold wx_reaches_j144
        rw [nIm_s]
        exact ih (j + 1) (by omega) σ L hG hl (hR.skip fun z => by rw [hat.mpr z] at q; exact absurd q (by decide))
      | true =>
        rw [jt0]
        have hr := hat.mp q
        rw [← lOf_lI (by omega)]
        refine ⟨_, reaX_d hr.1 hR.1 (fun σ' hG' hl' => ?_) (vn V) 0 (by omega) σ hG hl⟩
        unfold wx_reaches_j144
        rw [lOf_lI (by omega), nIm_s]
        exact ih (j + 1) (by omega) σ' _ hG' hl' (hR.push hn (mv_newM V A) h0 hs hr)
    by_cases q : j = 0
    · rw [if_neg (fun z => by have := Int32.not_lt.mpr z; exact this ((nIm_neg (by omega)).mpr q))]
      have : nI (lOf j) = 10 := by rw [q]; rfl
      rw [this] at go
      exact go
    · have e : nI j - 1 = nI (lOf j) := by
        rw [← lOf_lI (by omega)]
        exact lI_l (by unfold lOf; rw [if_neg q]; omega)
      rw [if_pos (by rw [e]; exact nI_ge0 (by omega))]
      have e2 : wx_reaches_j87 P (wx_reaches_l60 P K (m + 1)) (nI s) (nI j - 1) (nI (L s)) (nI (lOf j)) σ = wx_reaches_j87 P (wx_reaches_l60 P K (m + 1)) (nI s) (nI j - 1) (nI (L s)) (nI j - 1) σ := congrArg (fun x => wx_reaches_j87 P (wx_reaches_l60 P K (m + 1)) (nI s) (nI j - 1) (nI (L s)) x σ) e.symm
      rw [← e2]
      exact go
theorem reaX_s {V : VV} {W : Nat → Int32} {A s0 l0 : Nat} {P : St → Prop} (hw : WV V) (h0 : okS (vn V) s0 l0)
    (h : ∀ σ' L, GQ σ' V A W → lasX σ' (vn V) L → (∀ s l, s < 2 ^ vn V → l ≤ 10 → ((L s).testBit l = true ↔ rchB (mv V A) (vn V) s0 l0 s l)) → (∀ k, L k < 2 ^ 11) → P σ') :
    ∀ m s : Nat, s + m = 2 ^ vn V → ∀ σ L, GQ σ V A W → lasX σ (vn V) L → RI (vn V) (mv V A) s0 l0 L s 0 → wx_reaches_l47 P (m + 1) (nI s) σ := by
  have hn := hw.n
  have hp := pow_le_1024 hn
  intro m
  induction m with
  | zero =>
    intro s hs σ L hG hl hR
    rw [wx_reaches_l47_s, show xI_dishes σ = _ from hG.1.1.n, nI_shl1 _ (by omega), if_pos (by rw [show s = 2 ^ vn V by omega]; exact Int32.le_refl _)]
    rw [show s = 2 ^ vn V by omega] at hR
    refine h σ L hG hl (fun s' l' hs' hl' => ?_) hR.1
    exact RI.at hn (mv_newM V A) h0 hR (by omega) hs' hl'
  | succ m ih =>
    intro s hs σ L hG hl hR
    rw [wx_reaches_l47_s, show xI_dishes σ = _ from hG.1.1.n, nI_shl1 _ (by omega), if_neg (nI_ge (by omega) (by omega))]
    exact ⟨_, reaX_l hw h0 (show s < 2 ^ vn V by omega) (fun σ' L' hG' hl' hR' => ih (s + 1) (by omega) σ' L' hG' hl' hR'.next) (vn V + 1) 0 (by omega) σ L hG hl hR⟩
theorem reaX_0 {V : VV} {W : Nat → Int32} {A s0 l0 : Nat} {P : St → Prop} {K : Int32 → St → Prop} (hw : WV V) (h0 : okS (vn V) s0 l0) (h : ∀ σ' L, GQ σ' V A W → lasX σ' (vn V) L → RI (vn V) (mv V A) s0 l0 L 0 0 → K 0 σ') :
    ∀ m s : Nat, s + m = 2 ^ vn V → ∀ σ, GQ σ V A W → (∀ k, k < s → gA σ 31 k = nI (if k = s0 then 2 ^ l0 else 0)) → wx_reaches_l2 P K (m + 1) (nI s0) (lI l0) (nI s) σ := by
  have hn := hw.n
  have hp := pow_le_1024 hn
  have hb := okS_le hn h0
  have h2l : 2 ^ l0 < 2 ^ 11 := Nat.pow_lt_pow_right (by decide) (by omega)
  intro m
  induction m with
  | zero =>
    intro s hs σ hG hl
    rw [wx_reaches_l2_s, show xI_dishes σ = _ from hG.1.1.n, nI_shl1 _ (by omega), if_pos (by rw [show s = 2 ^ vn V by omega]; exact Int32.le_refl _)]
    refine h σ (fun k => if k = s0 then 2 ^ l0 else 0) hG (fun k hk => hl k (by omega)) ⟨fun k => ?_, fun s' l' hs' hl' => ?_⟩
    · show (if k = s0 then 2 ^ l0 else 0) < 2 ^ 11
      split <;> omega
    · show (if s' = s0 then 2 ^ l0 else 0).testBit l' = true ↔ _
      constructor
      · intro z
        by_cases e : s' = s0
        · rw [if_pos e] at z
          have e2 : l' = l0 := Decidable.byContradiction fun y => by rw [Nat.testBit_two_pow_of_ne (fun w => y w.symm)] at z; exact absurd z (by decide)
          exact ⟨by rw [e, e2]; exact h0, Or.inl ⟨e, e2⟩⟩
        · rw [if_neg e, Nat.zero_testBit] at z; exact absurd z (by decide)
      · rintro ⟨_, z | ⟨_, o, ho, _⟩⟩
        · rw [if_pos z.1, z.2, Nat.testBit_two_pow_self]
        · have : bnd (vn V) 0 0 (preS s' l') = 0 := by unfold bnd; rw [if_neg (by omega)]; split <;> rfl
          omega
  | succ m ih =>
    intro s hs σ hG hl
    rw [wx_reaches_l2_s, show xI_dishes σ = _ from hG.1.1.n, nI_shl1 _ (by omega), if_neg (nI_ge (by omega) (by omega))]
    have fin : ∀ x, x = nI (if s = s0 then 2 ^ l0 else 0) → wx_reaches_j38 P (wx_reaches_l2 P K (m + 1)) (nI s0) (lI l0) (nI s) (nI s) x σ := by
      intro x ex
      refine ⟨vp_in_nI (by omega) (by omega), ?_⟩
      unfold xU_lasts uA
      rw [cl (by omega), nI_1]
      refine ih (s + 1) (by omega) _ (hG.q31 _) fun k hk => ?_
      show upd (gA σ 31) s x k = _
      by_cases e : k = s
      · rw [e, upd_s, ex]
      · rw [upd_n e]; exact hl k (by omega)
    simp only [nI_eq (show s < 2 ^ 31 by omega) (show s0 < 2 ^ 31 by omega), lI_ge (show l0 ≤ 10 by omega)]
    unfold wx_reaches_j33
    by_cases e : s = s0
    · rw [if_pos e]
      by_cases e2 : l0 = 10
      · rw [if_neg (fun z => z e2)]; exact fin _ (by rw [if_pos e, e2]; rfl)
      · rw [if_pos e2, show (1 : Int32) <<< (lI l0 &&& 31) = nI (2 ^ l0) from by rw [lI_l e2, nI_shl1 _ (by omega)]]; exact fin _ (by rw [if_pos e])
    · rw [if_neg e]; exact fin 0 (by rw [if_neg e]; rfl)
theorem ox_reachesW {σ : St} {V : VV} {W : Nat → Int32} {A s0 l0 : Nat} {P : St → Prop} (hG : GQ σ V A W) (h0 : okS (vn V) s0 l0)
    (h : ∀ σ' L, GQ σ' V A W → lasX σ' (vn V) L → (∀ s l, s < 2 ^ vn V → l ≤ 10 → ((L s).testBit l = true ↔ rchB (mv V A) (vn V) s0 l0 s l)) → (∀ k, L k < 2 ^ 11) → P σ') : wx_reaches σ (nI s0) (lI l0) P :=
  ⟨_, reaX_0 hG.1.1.2 h0 (fun σ' L hG' hl hR => ⟨_, reaX_s hG.1.1.2 h0 h (2 ^ vn V) 0 (by omega) σ' L hG' hl hR⟩) (2 ^ vn V) 0 (by omega) σ hG fun k hk => absurd hk (by omega)⟩
theorem ox_reaches {σ : St} {V : VV} {A s0 l0 : Nat} {P : St → Prop} (hG : GX σ V A) (h0 : okS (vn V) s0 l0)
    (h : ∀ σ' L, GX σ' V A → lasX σ' (vn V) L → (∀ s l, s < 2 ^ vn V → l ≤ 10 → ((L s).testBit l = true ↔ rchB (mv V A) (vn V) s0 l0 s l)) → (∀ k, L k < 2 ^ 11) → P σ') : wx_reaches σ (nI s0) (lI l0) P :=
  ox_reachesW (W := gA σ 36) ⟨hG, rfl⟩ h0 fun σ' L a b c d => h σ' L a.1 b c d
