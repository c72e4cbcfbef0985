/-! findRows: how many rows lead to a state -/
theorem lg_le0 (x : Int64) : lg_cmp x 0 ≤ 0 ↔ ¬ 0 < x := by rw [← Int32.not_lt, lg_gt]
theorem updL_s {f : Nat → Int64} {k : Nat} {x : Int64} : vp_updL f k x k = x := if_pos rfl
theorem updL_n {f : Nat → Int64} {k j : Nat} {x : Int64} (h : j ≠ k) : vp_updL f k x j = f j := if_neg h
def pushF (M : Nat → Nat → Nat → Bool) (s l : Nat) (v : Int64) (R : Nat → Int64) (d : Nat) : Nat → Int64 := foldN (fun d R => if M s l d = true ∧ 0 < v then vp_updL R (11 * (s ||| 2 ^ d) + d) (R (11 * (s ||| 2 ^ d) + d) + v) else R) R d
theorem pushF_s (M : Nat → Nat → Nat → Bool) (s l : Nat) (v : Int64) (R : Nat → Int64) (d : Nat) : pushF M s l v R (d + 1) = if M s l d = true ∧ 0 < v then vp_updL (pushF M s l v R d) (11 * (s ||| 2 ^ d) + d) (pushF M s l v R d (11 * (s ||| 2 ^ d) + d) + v) else pushF M s l v R d := rfl
theorem pushF_0 (M : Nat → Nat → Nat → Bool) (s l : Nat) (R : Nat → Int64) {v : Int64} (hv : ¬ 0 < v) : ∀ d, pushF M s l v R d = R := by
  intro d
  induction d with
  | zero => rfl
  | succ d ih => rw [pushF_s, if_neg (fun z => hv z.2), ih]
theorem pushF_at {M : Nat → Nat → Nat → Bool} {n s l : Nat} (hn : n ≤ 10) (hM : newM n M) (v : Int64) (R : Nat → Int64) : ∀ i, i ≤ n → (∀ d, d < i → s.testBit d = false → pushF M s l v R i (11 * (s ||| 2 ^ d) + d) = if M s l d = true ∧ 0 < v then R (11 * (s ||| 2 ^ d) + d) + v else R (11 * (s ||| 2 ^ d) + d)) ∧ (∀ k, (∀ d, d < i → s.testBit d = false → k ≠ 11 * (s ||| 2 ^ d) + d) → pushF M s l v R i k = R k) := by
  intro i
  induction i with
  | zero => intro _; exact ⟨fun d hd => absurd hd (by omega), fun k _ => rfl⟩
  | succ i ih =>
    intro hi
    obtain ⟨h1, h2⟩ := ih (by omega)
    have hne : ∀ d, d < i → s.testBit i = false → 11 * (s ||| 2 ^ i) + i ≠ 11 * (s ||| 2 ^ d) + d := fun d hd _ => by omega
    rw [pushF_s]
    by_cases q : M s i.succ.pred i = true
    · refine ⟨fun d hd hb => ?_, fun k hk => ?_⟩
      all_goals skip
      · by_cases e : d = i
        · subst e
          have hR : pushF M s l v R d (11 * (s ||| 2 ^ d) + d) = R (11 * (s ||| 2 ^ d) + d) := h2 _ fun d' hd' _ => hne d' hd' hb
          by_cases c : M s l d = true ∧ 0 < v
          · rw [if_pos c, if_pos c, updL_s, hR]
          · rw [if_neg c, if_neg c, hR]
        · by_cases c : M s l i = true ∧ 0 < v
          · rw [if_pos c, updL_n (by omega)]; exact h1 d (by omega) hb
          · rw [if_neg c]; exact h1 d (by omega) hb
      · have hk2 : pushF M s l v R i k = R k := h2 k fun d hd hb => hk d (by omega) hb
        by_cases c : M s l i = true ∧ 0 < v
        · rw [if_pos c, updL_n (hk i (by omega) (hM s l i (by omega) c.1)), hk2]
        · rw [if_neg c, hk2]
    · refine ⟨fun d hd hb => ?_, fun k hk => ?_⟩
      · by_cases e : d = i
        · subst e
          have hR : pushF M s l v R d (11 * (s ||| 2 ^ d) + d) = R (11 * (s ||| 2 ^ d) + d) := h2 _ fun d' hd' _ => hne d' hd' hb
          by_cases c : M s l d = true ∧ 0 < v
          · rw [if_pos c, if_pos c, updL_s, hR]
          · rw [if_neg c, if_neg c, hR]
        · by_cases c : M s l i = true ∧ 0 < v
          · rw [if_pos c, updL_n (by omega)]; exact h1 d (by omega) hb
          · rw [if_neg c]; exact h1 d (by omega) hb
      · have hk2 : pushF M s l v R i k = R k := h2 k fun d hd hb => hk d (by omega) hb
        by_cases c : M s l i = true ∧ 0 < v
        · rw [if_pos c, updL_n (hk i (by omega) (hM s l i (by omega) c.1)), hk2]
        · rw [if_neg c, hk2]
/-- the set ahead of a state -/
def preS (s l : Nat) : Nat := s ^^^ 2 ^ l
theorem preS_or {s d : Nat} (h : s.testBit d = false) : preS (s ||| 2 ^ d) d = s := tb_ext fun j => by
  unfold preS
  rw [Nat.testBit_xor, tb_or2]
  by_cases q : j = d
  · subst q; rw [Nat.testBit_two_pow_self, h]; simp
  · rw [Nat.testBit_two_pow_of_ne (fun z => q z.symm)]; simp [q]
theorem or_preS {s l : Nat} (h : s.testBit l = true) : preS s l ||| 2 ^ l = s ∧ (preS s l).testBit l = false := by
  refine ⟨tb_ext fun j => ?_, ?_⟩
  · unfold preS
    rw [tb_or2, Nat.testBit_xor]
    by_cases q : j = l
    · subst q; rw [h]; simp
    · rw [Nat.testBit_two_pow_of_ne (fun z => q z.symm)]; simp [q]
  · unfold preS
    rw [Nat.testBit_xor, Nat.testBit_two_pow_self, h]; rfl
theorem preS_lt {s l : Nat} (h : s.testBit l = true) : preS s l < s := by
  obtain ⟨h1, h2⟩ := or_preS h
  have := or2_gt h2
  omega
def tmR (M : Nat → Nat → Nat → Bool) (R : Nat → Int64) (s l o : Nat) : Int64 := if (stateB (preS s l) (lOf o) && M (preS s l) (lOf o) l) = true ∧ 0 < R (11 * preS s l + lOf o) then R (11 * preS s l + lOf o) else 0
def pull (M : Nat → Nat → Nat → Bool) (s0 l0 : Nat) (R : Nat → Int64) (s l b : Nat) : Int64 := foldN (fun o acc => acc + tmR M R s l o) (if s = s0 ∧ l = l0 then 1 else 0) b
def bnd (n s j p : Nat) : Nat := if p < s then n + 1 else if p = s then j else 0
def PInv (n : Nat) (M : Nat → Nat → Nat → Bool) (s0 l0 : Nat) (R : Nat → Int64) (s j : Nat) : Prop := ∀ s' l', okS n s' l' → R (11 * s' + l') = pull M s0 l0 R s' l' (if l' = 10 then 0 else bnd n s j (preS s' l'))
def PullT (n : Nat) (M : Nat → Nat → Nat → Bool) (s0 l0 : Nat) (R : Nat → Int64) : Prop := ∀ s l, okS n s l → R (11 * s + l) = pull M s0 l0 R s l (if l = 10 then 0 else n + 1)
theorem pull_0 (M : Nat → Nat → Nat → Bool) (s0 l0 : Nat) (R : Nat → Int64) (s l : Nat) : pull M s0 l0 R s l 0 = if s = s0 ∧ l = l0 then 1 else 0 := rfl
theorem pull_s (M : Nat → Nat → Nat → Bool) (s0 l0 : Nat) (R : Nat → Int64) (s l b : Nat) : pull M s0 l0 R s l (b + 1) = pull M s0 l0 R s l b + tmR M R s l b := rfl
theorem pull_congr {M : Nat → Nat → Nat → Bool} {s0 l0 s l b : Nat} {R R' : Nat → Int64} (h : ∀ o, o < b → stateB (preS s l) (lOf o) = true → R (11 * preS s l + lOf o) = R' (11 * preS s l + lOf o)) : pull M s0 l0 R s l b = pull M s0 l0 R' s l b := by
  refine foldN_congr b fun o ho x => ?_
  unfold tmR
  by_cases q : stateB (preS s l) (lOf o) = true
  · rw [h o ho q]
  · rw [Bool.not_eq_true] at q; rw [q]; rfl
theorem bnd_le (n s j p : Nat) (hj : j ≤ n + 1) : bnd n s j p ≤ n + 1 := by unfold bnd; split; omega; split <;> omega
theorem PInv.push {n : Nat} {M : Nat → Nat → Nat → Bool} {s0 l0 s j : Nat} {R : Nat → Int64} (hn : n ≤ 10) (hM : newM n M) (h : PInv n M s0 l0 R s j) (hj : j ≤ n) (hs : s < 2 ^ n) (hl : stateB s (lOf j) = true) :
    PInv n M s0 l0 (pushF M s (lOf j) (R (11 * s + lOf j)) R n) s (j + 1) := by
  have hok := (okS_B hn hs (lOf_n hn (by omega))).mp hl
  have hb0 := okS_le hn hok
  obtain ⟨p1, p2⟩ := pushF_at (s := s) (l := lOf j) hn hM (R (11 * s + lOf j)) R n (Nat.le_refl _)
  have keep : ∀ p l', p ≤ s → l' ≤ 10 → pushF M s (lOf j) (R (11 * s + lOf j)) R n (11 * p + l') = R (11 * p + l') := fun p l' hp hl' => p2 _ fun d hd hb => by have := or2_gt hb; omega
  intro s' l' hok'
  have hb' := okS_le hn hok'
  by_cases e10 : l' = 10
  · rw [if_pos e10]
    have e0 : s' = 0 := by rcases hok'.2 with q | q; omega; exact q.2
    have h9 := h s' l' hok'
    rw [if_pos e10] at h9
    rw [show pushF M s (lOf j) (R (11 * s + lOf j)) R n (11 * s' + l') = R (11 * s' + l') from keep s' l' (by omega) (by omega), h9, pull_0, pull_0]
  · rw [if_neg e10]
    have hbit : s'.testBit l' = true := hok'.2.elim (fun z => z.2) (fun z => absurd z.1 e10)
    have hln : l' < n := hok'.2.elim (fun z => z.1) (fun z => absurd z.1 e10)
    have h9 := h s' l' hok'
    rw [if_neg e10] at h9
    have hpl := preS_lt hbit
    obtain ⟨ho1, ho2⟩ := or_preS hbit
    have pc1 : ∀ b, preS s' l' ≤ s → b ≤ n + 1 → pull M s0 l0 (pushF M s (lOf j) (R (11 * s + lOf j)) R n) s' l' b = pull M s0 l0 R s' l' b := fun b hp hb => pull_congr fun o ho _ => keep _ _ hp (by have := lOf_n (j := o) hn (by omega); omega)
    by_cases e : preS s' l' = s
    · have hk : pushF M s (lOf j) (R (11 * s + lOf j)) R n (11 * s' + l') = if M s (lOf j) l' = true ∧ 0 < R (11 * s + lOf j) then R (11 * s' + l') + R (11 * s + lOf j) else R (11 * s' + l') := by
        have := p1 l' hln (by rw [← e]; exact ho2)
        rw [show s ||| 2 ^ l' = s' by rw [← e]; exact ho1] at this
        exact this
      unfold bnd at h9 ⊢
      rw [if_neg (by omega), if_pos e] at h9 ⊢
      rw [hk, pc1 (j + 1) (by omega) (by omega), h9, pull_s]
      unfold tmR
      rw [e, hl, Bool.true_and]
      by_cases c : M s (lOf j) l' = true ∧ 0 < R (11 * s + lOf j)
      · rw [if_pos c, if_pos c]
      · rw [if_neg c, if_neg c, Int64.add_zero]
    · have hk : pushF M s (lOf j) (R (11 * s + lOf j)) R n (11 * s' + l') = R (11 * s' + l') := p2 _ fun d hd hb z => by
        have e1 : s' = s ||| 2 ^ d := by omega
        have e2 : l' = d := by omega
        rw [e1, e2, preS_or hb] at e
        exact e rfl
      rw [hk, h9]
      have eb : bnd n s (j + 1) (preS s' l') = bnd n s j (preS s' l') := by unfold bnd; rw [if_neg (show ¬ preS s' l' = s from e), if_neg (show ¬ preS s' l' = s from e)]
      rw [eb]
      by_cases hp : preS s' l' ≤ s
      · rw [pc1 _ hp (bnd_le _ _ _ _ (by omega))]
      · have : bnd n s j (preS s' l') = 0 := by unfold bnd; rw [if_neg (by omega), if_neg e]
        rw [this, pull_0, pull_0]
theorem PInv.skip {n : Nat} {M : Nat → Nat → Nat → Bool} {s0 l0 s j : Nat} {R : Nat → Int64} (h : PInv n M s0 l0 R s j) (hl : stateB s (lOf j) = false) : PInv n M s0 l0 R s (j + 1) := by
  intro s' l' hok'
  rw [h s' l' hok']
  by_cases e10 : l' = 10
  · rw [if_pos e10, if_pos e10]
  · rw [if_neg e10, if_neg e10]
    unfold bnd
    by_cases e1 : preS s' l' < s
    · rw [if_pos e1, if_pos e1]
    · rw [if_neg e1, if_neg e1]
      by_cases e : preS s' l' = s
      · rw [if_pos e, if_pos e]
        rw [pull_s]
        unfold tmR
        rw [e, hl, Bool.false_and, if_neg (fun z => absurd z.1 (by decide)), Int64.add_zero]
      · rw [if_neg e, if_neg e]
theorem PInv.next {n : Nat} {M : Nat → Nat → Nat → Bool} {s0 l0 s : Nat} {R : Nat → Int64} (h : PInv n M s0 l0 R s (n + 1)) : PInv n M s0 l0 R (s + 1) 0 := by
  intro s' l' hok'
  rw [h s' l' hok']
  by_cases e10 : l' = 10
  · rw [if_pos e10, if_pos e10]
  · rw [if_neg e10, if_neg e10]
    have : bnd n s (n + 1) (preS s' l') = bnd n (s + 1) 0 (preS s' l') := by
      unfold bnd
      by_cases e1 : preS s' l' < s
      · rw [if_pos e1, if_pos (by omega)]
      · rw [if_neg e1]
        by_cases e : preS s' l' = s
        · rw [if_pos e, if_pos (by omega)]
        · rw [if_neg e, if_neg (by omega)]; split <;> rfl
    rw [this]
theorem PInv.fin {n : Nat} {M : Nat → Nat → Nat → Bool} {s0 l0 : Nat} {R : Nat → Int64} (h : PInv n M s0 l0 R (2 ^ n) 0) : PullT n M s0 l0 R := by
  intro s' l' hok'
  rw [h s' l' hok']
  by_cases e10 : l' = 10
  · rw [if_pos e10, if_pos e10]
  · rw [if_neg e10, if_neg e10]
    have hbit : s'.testBit l' = true := hok'.2.elim (fun z => z.2) (fun z => absurd z.1 e10)
    have := preS_lt hbit
    have := hok'.1
    unfold bnd
    rw [if_pos (by omega)]
theorem finR_d {V : VV} {S s l : Nat} {v : Int64} {R : Nat → Int64} {P : St → Prop} {K : Int32 → Int32 → Int32 → St → Prop} {σ : St} (hI : IM σ V) (hS : S < 2 ^ vn V) (hok : okS (vn V) s l)
    (h : K (nI S) (nI s) (lI l) (sL σ 37 (pushF (mv V S) s l v R (vn V)))) :
    ∀ m d : Nat, d + m = vn V → wm_findRows_l91 P K (m + 1) (nI S) (nI s) (lI l) v (nI d) (sL σ 37 (pushF (mv V S) s l v R d)) := by
  have hn := hI.2.n
  have hb := okS_le hn hok
  have hp := pow_le_1024 hn
  intro m
  induction m with
  | zero =>
    intro d hd
    rw [wm_findRows_l91_s, show mI_dishes (sL σ 37 _) = nI (vn V) from hI.n, if_pos (by rw [show d = vn V by omega]; exact Int32.le_refl _), show d = vn V by omega]
    exact h
  | succ m ih =>
    intro d hd
    have ih1 := ih (d + 1) (by omega)
    have hor := or2_lt hok.1 (show d < vn V by omega)
    rw [wm_findRows_l91_s, show mI_dishes (sL σ 37 _) = nI (vn V) from hI.n, if_neg (nI_ge (by omega) (by omega))]
    simp only [lg_le0]
    by_cases q : 0 < v
    · rw [if_neg (fun z => z q)]
      unfold sm_has wm_findRows_j151
      rw [hasB_nI (by omega) (by omega), nI_1]
      rw [pushF_s] at ih1
      unfold mv at ih1
      cases q2 : S.testBit d with
      | false => rw [jf0]; rw [q2, Bool.and_false, if_neg (fun z => absurd z.1 (by decide))] at ih1; exact ih1
      | true =>
        rw [jt0]; rw [q2, Bool.and_true] at ih1
        refine ⟨V, s, l, d, hI.qL _ _, rfl, rfl, rfl, hok.1, okS_mlast hok, by omega, ?_⟩
        dsimp only
        cases q3 : mayV V s l d with
        | false => rw [jf0]; rw [q3, if_neg (fun z => absurd z.1 (by decide))] at ih1; exact ih1
        | true =>
          rw [jt0]; rw [q3, if_pos ⟨rfl, q⟩] at ih1
          rw [nI_shl1 _ (by omega), nI_or]
          refine ⟨s ||| 2 ^ d, d, rfl, (lI_l (by omega)).symm, by omega, by omega, vp_in_nI (by omega) (by omega), vp_in_nI (by omega) (by omega), ?_⟩
          unfold mU_rows
          rw [uL_k, cl (by omega), show mA_rows (sL σ 37 _) = _ from gL_sLk _ _ _]
          exact ih1
    · rw [if_pos q]
      rw [pushF_0 _ _ _ _ q] at h ⊢
      exact h
theorem finR_l {V : VV} {S s s0 l0 : Nat} {P : St → Prop} {K : Int32 → Int32 → St → Prop} {σ : St} (hI : IM σ V) (hS : S < 2 ^ vn V) (hs : s < 2 ^ vn V)
    (h : ∀ R, PInv (vn V) (mv V S) s0 l0 R s (vn V + 1) → K (nI S) (nI (s + 1)) (sL σ 37 R)) :
    ∀ m j : Nat, j + m = vn V + 1 → ∀ R, PInv (vn V) (mv V S) s0 l0 R s j → wm_findRows_l51 P K (m + 1) (nI S) (nI s) (nI j - 1) (sL σ 37 R) := by
  have hn := hI.2.n
  have hp := pow_le_1024 hn
  intro m
  induction m with
  | zero =>
    intro j hj R hD
    rw [wm_findRows_l51_s, show mI_dishes (sL σ 37 R) = _ from hI.n, if_pos ((nIm_lt (by omega) (by omega)).mpr (by omega)), nI_1]
    rw [show j = vn V + 1 by omega] at hD
    exact h R hD
  | succ m ih =>
    intro j hj R hD
    rw [wm_findRows_l51_s, show mI_dishes (sL σ 37 R) = _ from hI.n, if_neg (fun z => by have := (nIm_lt (by omega) (by omega)).mp z; omega)]
    have hl := lOf_n (j := j) hn (by omega)
    refine ⟨s, lOf j, rfl, (lOf_lI (by omega)).symm, by omega, by omega, ?_⟩
    dsimp only
    cases q : stateB s (lOf j) with
    | false =>
      rw [jf0]
      unfold wm_findRows_j86
      refine ⟨1, ?_⟩
      have hx : wm_findRows_j157 P (wm_findRows_l51 P K (m + 1)) (nI S) (nI s) (nI j - 1) (sL σ 37 R) := by
        unfold wm_findRows_j157
        rw [nIm_s]
        exact ih (j + 1) (by omega) R (hD.skip q)
      rw [wm_findRows_l91_s]
      split
      · exact hx
      · rw [if_pos (by decide)]; exact hx
    | true =>
      rw [jt0]
      have hok := (okS_B hn hs hl).mp q
      refine ⟨s, lOf j, rfl, (lOf_lI (by omega)).symm, by omega, by omega, vp_in_nI (by omega) (by omega), ?_⟩
      rw [cl (by omega), show mA_rows (sL σ 37 R) = R from gL_sLk _ _ _]
      unfold wm_findRows_j86
      have h9 := finR_d (P := P) (K := wm_findRows_j157 P (wm_findRows_l51 P K (m + 1))) (v := R (11 * s + lOf j)) (R := R) hI hS hok ?_ (vn V) 0 (by omega)
      · rw [lOf_lI (by omega)] at h9
        exact ⟨_, h9⟩
      · unfold wm_findRows_j157
        rw [lOf_lI (by omega), nIm_s]
        exact ih (j + 1) (by omega) _ (hD.push hn (mv_newM V S) (by omega) hs q)
theorem finR_s {V : VV} {S s0 l0 : Nat} {P : St → Prop} {σ : St} (hI : IM σ V) (hS : S < 2 ^ vn V) (h : ∀ R, PullT (vn V) (mv V S) s0 l0 R → P (sL σ 37 R)) :
    ∀ m s : Nat, s + m = 2 ^ vn V → ∀ R, PInv (vn V) (mv V S) s0 l0 R s 0 → wm_findRows_l39 P (m + 1) (nI S) (nI s) (sL σ 37 R) := by
  have hn := hI.2.n
  have hp := pow_le_1024 hn
  have h1 := Nat.one_le_two_pow (n := vn V)
  intro m
  induction m with
  | zero =>
    intro s hs R hD
    rw [wm_findRows_l39_s]
    refine ⟨V, hI.qL _ _, ?_⟩
    dsimp only
    rw [if_pos (nI_lt (by omega) (by omega))]
    rw [show s = 2 ^ vn V by omega] at hD
    exact h R hD.fin
  | succ m ih =>
    intro s hs R hD
    rw [wm_findRows_l39_s]
    refine ⟨V, hI.qL _ _, ?_⟩
    dsimp only
    rw [if_neg (nI_nlt (by omega) (by omega))]
    exact ⟨_, finR_l hI hS (by omega) (fun R' hR' => ih (s + 1) (by omega) R' hR'.next) (vn V + 1) 0 (by omega) R hD⟩
theorem finR_0 {σ : St} {S s l : Nat} {P : St → Prop} {K : Int32 → Int32 → St → Prop} (hs : s < 1024) (hl : l ≤ 10) (h : ∀ R : Nat → Int64, (∀ k, k < 11264 → R k = if k = 11 * s + l then 1 else 0) → K (nI S) 0 (sL σ 37 R)) : ∀ m k : Nat, k + m = 11264 → ∀ R : Nat → Int64, (∀ j, j < k → R j = 0) → wm_findRows_l3 P K (m + 1) (nI s) (lI l) (nI S) (nI k) (sL σ 37 R) := by
  intro m
  induction m with
  | zero =>
    intro k hk R hR
    rw [wm_findRows_l3_s, show k = 11264 by omega, if_pos (by decide)]
    refine ⟨s, l, rfl, rfl, by omega, hl, vp_in_nI (by omega) (by omega), ?_⟩
    unfold mU_rows
    rw [uL_k, cl (by omega)]
    refine h _ fun j hj => ?_
    by_cases q : j = 11 * s + l
    · rw [if_pos q, q, updL_s]
    · rw [if_neg q, updL_n q]; exact hR j (by omega)
  | succ m ih =>
    intro k hk R hR
    rw [wm_findRows_l3_s, show (11264 : Int32) = nI 11264 from rfl, if_neg (nI_ge (by omega) (by omega)), nI_1]
    unfold mU_rows
    rw [uL_k, cl (by omega)]
    refine ⟨vp_in_nI (by omega) (by omega), ih (k + 1) (by omega) _ fun j hj => ?_⟩
    by_cases q : j = k
    · rw [q, updL_s]
    · rw [updL_n q]; exact hR j (by omega)
theorem om_findRows {V : VV} {S s l : Nat} {P : St → Prop} {σ : St} (hI : IM σ V) (hS : S < 2 ^ vn V) (hok : okS (vn V) s l) (h : ∀ R, PullT (vn V) (mv V S) s l R → P (sL σ 37 R)) : wm_findRows σ (nI s) (lI l) (nI S) P := by
  have hn := hI.2.n
  have hb := okS_le hn hok
  have hp := pow_le_1024 hn
  have h9 := finR_0 (σ := σ) (S := S) (P := P) (K := fun v3 v4 σ => ∃ n39, wm_findRows_l39 P n39 v3 v4 σ) hb.2 hb.1 (fun R hR => ⟨_, finR_s hI hS h (2 ^ vn V) 0 (by omega) R ?_⟩) 11264 0 (by omega) (gL σ 37) (fun j hj => absurd hj (by omega))
  · rw [sL_id] at h9
    exact ⟨_, h9⟩
  · intro s' l' hok'
    have hb' := okS_le hn hok'
    rw [hR _ (by omega), show (if l' = 10 then 0 else bnd (vn V) 0 0 (preS s' l')) = 0 from by split; rfl; unfold bnd; rw [if_neg (by omega)]; split <;> rfl]
    show _ = if s' = s ∧ l' = l then 1 else 0
    by_cases q : s' = s ∧ l' = l
    · rw [if_pos q, if_pos (by omega)]
    · rw [if_neg q, if_neg (fun z => q ⟨by omega, by omega⟩)]
