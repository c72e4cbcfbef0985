/-! SURE: rows split by the dish at a place -/
def mrL (V : VV) (mn : List Nat) (s l d : Nat) : Bool := mfL V mn s l d && decide (pc s < mn.length)
theorem mrL_new (V : VV) (mn : List Nat) : newM (vn V) (mrL V mn) := fun s l d hd h => mfL_new V mn s l d hd (Bool.and_eq_true _ _ ▸ h).1
/-- rows with that dish at that place -/
def cnD (V : VV) (mn : List Nat) (k d : Nat) : Nat := if fitL mn k d = true then np (mfL V (mn.set k d)) (vn V) mn.length 0 10 else 0
theorem fit_ne {mn : List Nat} {k d j x : Nat} (hk : k < mn.length) (hj : j ≠ k) : fitL (mn.set k d) j x = fitL mn j x := by
  unfold fitL; rw [getD_set hk, if_neg hj]
theorem fit_at {mn : List Nat} {k d x : Nat} (hk : k < mn.length) (hd : d ≠ 99) : fitL (mn.set k d) k x = decide (d = x) := by
  unfold fitL; rw [getD_set hk, if_pos rfl, decide_eq_false hd, Bool.false_or]
/-- past the place the two count the same -/
theorem np_past {V : VV} (hn : vn V ≤ 10) {mn : List Nat} {k d : Nat} (hk : k < mn.length) : ∀ r s l, k < pc s → np (mfL V (mn.set k d)) (vn V) r s l = np (mfL V mn) (vn V) r s l := by
  intro r
  induction r with
  | zero => intro s l _; rfl
  | succ r ih =>
    intro s l h
    rw [np_s, np_s]
    refine sumN_congr _ fun x hx => ?_
    have e : mfL V (mn.set k d) s l x = mfL V mn s l x := by unfold mfL; rw [fit_ne hk (by omega)]
    rw [e]
    by_cases q : mfL V mn s l x = true
    · rw [if_pos q, if_pos q]
      refine ih _ _ ?_
      rw [pc_or2 (mfL_new V mn s l x hx q) (by omega)]; omega
    · rw [if_neg q, if_neg q]
theorem sumN_onl {f : Nat → Nat} {n a : Nat} (ha : a < n) (h : ∀ k, k < n → k ≠ a → f k = 0) : sumN f n = f a := by
  rw [sumN_single (a := a) n h, if_pos ha]
/-- all rows, split -/
theorem cn_sum {V : VV} (hn : vn V ≤ 10) {mn : List Nat} {k : Nat} (hk : k < mn.length) : ∀ j s l, pc s + j = k → sumN (fun d => if fitL mn k d = true then np (mfL V (mn.set k d)) (vn V) (mn.length - pc s) s l else 0) (vn V) = np (mfL V mn) (vn V) (mn.length - pc s) s l := by
  intro j
  induction j with
  | zero =>
    intro s l h
    rw [show mn.length - pc s = mn.length - pc s - 1 + 1 by omega, np_s]
    refine sumN_congr _ fun d hd => ?_
    have hat : ∀ x, mfL V (mn.set k d) s l x = (mv V (allA V) s l x && decide (d = x)) := fun x => by unfold mfL; rw [show pc s = k by omega, fit_at hk (by omega)]
    rw [np_s, sumN_onl (a := d) hd fun x hx hne => by rw [hat, decide_eq_false (fun z => hne z.symm), Bool.and_false, if_neg (by decide)]]
    rw [hat, decide_eq_true rfl, Bool.and_true]
    have e : mfL V mn s l d = (mv V (allA V) s l d && fitL mn k d) := by unfold mfL; rw [show pc s = k by omega]
    rw [e]
    cases q : mv V (allA V) s l d with
    | false => cases fitL mn k d <;> rfl
    | true =>
      rw [Bool.true_and, if_pos rfl]
      rw [np_past hn hk _ _ _ (by rw [pc_or2 (mv_new q) (by omega)]; omega)]
  | succ j ih =>
    intro s l h
    rw [show mn.length - pc s = mn.length - pc s - 1 + 1 by omega, np_s]
    have e : ∀ d, d < vn V → (if fitL mn k d = true then np (mfL V (mn.set k d)) (vn V) (mn.length - pc s - 1 + 1) s l else 0) = sumN (fun x => if mfL V mn s l x = true then (if fitL mn k d = true then np (mfL V (mn.set k d)) (vn V) (mn.length - pc s - 1) (s ||| 2 ^ x) x else 0) else 0) (vn V) := by
      intro d hd
      by_cases q : fitL mn k d = true
      · rw [if_pos q, np_s]
        refine sumN_congr _ fun x hx => ?_
        have e2 : mfL V (mn.set k d) s l x = mfL V mn s l x := by unfold mfL; rw [fit_ne hk (by omega)]
        rw [e2]
        by_cases q2 : mfL V mn s l x = true
        · rw [if_pos q2, if_pos q2, if_pos q]
        · rw [if_neg q2, if_neg q2]
      · rw [if_neg q]
        exact (sumN_z _ fun x _ => by rw [if_neg q, ite_self]).symm
    rw [sumN_congr _ e, sumN_swap]
    refine sumN_congr _ fun x hx => ?_
    by_cases q2 : mfL V mn s l x = true
    · have hpc := pc_or2 (mfL_new V mn s l x hx q2) (show x < 11 by omega)
      have h9 := ih (s ||| 2 ^ x) x (by omega)
      rw [show mn.length - pc (s ||| 2 ^ x) = mn.length - pc s - 1 by omega] at h9
      rw [if_pos q2, ← h9]
      exact sumN_congr _ fun d _ => by rw [if_pos q2]
    · rw [if_neg q2]
      exact sumN_z _ fun d _ => by rw [if_neg q2]
theorem cnD_sum {V : VV} (hn : vn V ≤ 10) {mn : List Nat} {k : Nat} (hk : k < mn.length) : sumN (cnD V mn k) (vn V) = np (mfL V mn) (vn V) mn.length 0 10 := by
  have h := cn_sum (V := V) hn hk k 0 10 (by rw [pc_0]; omega)
  rw [pc_0, Nat.sub_zero] at h
  exact h
/-- what the component looks for -/
def Ed (V : VV) (mn : List Nat) (k d s l : Nat) : Bool := decide (l = d) && decide (0 < np (mfL V mn) (vn V) (mn.length - pc s) s l)
theorem cn_ex {V : VV} (hn : vn V ≤ 10) {mn : List Nat} {k d : Nat} (hk : k < mn.length) (hd : d < vn V) : ∀ j s l, pc s + j = k → (ex (mrL V mn) (vn V) (Ed V mn k d) (j + 1) s l = true ↔ fitL mn k d = true ∧ 0 < np (mfL V (mn.set k d)) (vn V) (mn.length - pc s) s l) := by
  intro j
  induction j with
  | zero =>
    intro s l h
    have hat : ∀ x, mfL V (mn.set k d) s l x = (mv V (allA V) s l x && decide (d = x)) := fun x => by unfold mfL; rw [show pc s = k by omega, fit_at hk (by omega)]
    have e : ∀ x, mrL V mn s l x = (mv V (allA V) s l x && fitL mn k x) := fun x => by unfold mrL mfL; rw [show pc s = k by omega, decide_eq_true hk, Bool.and_true]
    rw [ex_s, show mn.length - pc s = mn.length - pc s - 1 + 1 by omega, np_pos]
    constructor
    · rintro ⟨x, hx, h1, h2⟩
      rw [e, Bool.and_eq_true] at h1
      have h2 : Ed V mn k d (s ||| 2 ^ x) x = true := h2
      unfold Ed at h2
      rw [Bool.and_eq_true, decide_eq_true_eq, decide_eq_true_eq] at h2
      obtain ⟨rfl, h3⟩ := h2
      have hpc := pc_or2 (mv_new h1.1) (show x < 11 by omega)
      refine ⟨h1.2, x, hx, by rw [hat, h1.1, decide_eq_true rfl]; rfl, ?_⟩
      rw [np_past hn hk _ _ _ (by omega), show mn.length - pc s - 1 = mn.length - pc (s ||| 2 ^ x) by omega]
      exact h3
    · rintro ⟨hf, x, hx, h1, h2⟩
      rw [hat, Bool.and_eq_true, decide_eq_true_eq] at h1
      obtain ⟨h1, rfl⟩ := h1
      have hpc := pc_or2 (mv_new h1) (show d < 11 by omega)
      refine ⟨d, hx, by rw [e, h1, hf]; rfl, ?_⟩
      show Ed V mn k d (s ||| 2 ^ d) d = true
      unfold Ed
      rw [np_past hn hk _ _ _ (by omega), show mn.length - pc s - 1 = mn.length - pc (s ||| 2 ^ d) by omega] at h2
      rw [decide_eq_true rfl, decide_eq_true h2]; rfl
  | succ j ih =>
    intro s l h
    have e2 : ∀ x, mfL V (mn.set k d) s l x = mfL V mn s l x := fun x => by unfold mfL; rw [fit_ne hk (by omega)]
    have e : ∀ x, mrL V mn s l x = mfL V mn s l x := fun x => by unfold mrL; rw [decide_eq_true (show pc s < mn.length by omega), Bool.and_true]
    rw [ex_s, show mn.length - pc s = mn.length - pc s - 1 + 1 by omega, np_pos]
    constructor
    · rintro ⟨x, hx, h1, h2⟩
      rw [e] at h1
      have hpc := pc_or2 (mfL_new V mn s l x hx h1) (show x < 11 by omega)
      obtain ⟨a, b⟩ := (ih _ _ (by omega)).mp h2
      refine ⟨a, x, hx, by rw [e2]; exact h1, ?_⟩
      rw [show mn.length - pc s - 1 = mn.length - pc (s ||| 2 ^ x) by omega]; exact b
    · rintro ⟨hf, x, hx, h1, h2⟩
      rw [e2] at h1
      have hpc := pc_or2 (mfL_new V mn s l x hx h1) (show x < 11 by omega)
      refine ⟨x, hx, by rw [e]; exact h1, (ih _ _ (by omega)).mpr ⟨hf, ?_⟩⟩
      rw [show mn.length - pc s - 1 = mn.length - pc (s ||| 2 ^ x) by omega] at h2; exact h2
/-- a set with that last one, reached, from which a row goes on -/
theorem cn_iff {V : VV} (hn : vn V ≤ 10) {mn : List Nat} {k d : Nat} (hk : k < mn.length) (hd : d < vn V) : (∃ s, s < 2 ^ vn V ∧ pc s = k + 1 ∧ rchB (mrL V mn) (vn V) 0 10 s d ∧ 0 < np (mfL V mn) (vn V) (mn.length - pc s) s d) ↔ 0 < cnD V mn k d := by
  have hM := mrL_new V mn
  have key := cn_ex (V := V) hn hk hd k 0 10 (by rw [pc_0]; omega)
  rw [pc_0, Nat.sub_zero] at key
  have e : 0 < cnD V mn k d ↔ fitL mn k d = true ∧ 0 < np (mfL V (mn.set k d)) (vn V) mn.length 0 10 := by
    unfold cnD
    by_cases q : fitL mn k d = true
    · rw [if_pos q]; exact ⟨fun z => ⟨q, z⟩, fun z => z.2⟩
    · rw [if_neg q]; exact ⟨fun z => absurd z (by omega), fun z => absurd z.1 q⟩
  rw [e, ← key]
  constructor
  · rintro ⟨s, hs, hp, hr, hnp⟩
    obtain ⟨a, b⟩ := cpT_ex hr.2
    rw [pc_0, Nat.sub_zero, hp] at b
    refine ex_mono (fun s' l' z => ?_) _ _ _ b
    have z := of_decide_eq_true z
    unfold Ed
    rw [← z.1, ← z.2, decide_eq_true rfl, decide_eq_true hnp]; rfl
  · intro hx
    obtain ⟨s', l', hok, hE, hc⟩ := ex_okS _ _ _ (okE _) hx
    have hpc := cp_pc hn hM hc
    rw [pc_0, Nat.zero_add] at hpc
    unfold Ed at hE
    rw [Bool.and_eq_true, decide_eq_true_eq, decide_eq_true_eq] at hE
    obtain ⟨rfl, hE⟩ := hE
    refine ⟨s', hok.1, hpc.symm, ⟨hok, ?_⟩, hE⟩
    unfold cpT
    rw [pc_0, if_pos (by omega), Nat.sub_zero, ← hpc]
    exact hc
/-! the two answers -/
def N1 (V : VV) (mn : List Nat) (k : Nat) : Nat := bitsOf (fun d => decide (0 < cnD V mn k d)) (vn V)
theorem pc_bits {p : Nat → Bool} {n : Nat} (hn : n ≤ 11) : pc (bitsOf p n) = cnt p n := by
  unfold pc
  have key : ∀ m, m ≤ 11 → cnt (fun k => (bitsOf p n).testBit k) m = cnt p (min m n) := by
    intro m
    induction m with
    | zero => intro _; rw [Nat.zero_min]; rfl
    | succ m ih =>
      intro hm
      rw [cnt_s, ih (by omega), bitsOf_tb]
      by_cases q : m < n
      · rw [decide_eq_true q, Bool.true_and, show min (m + 1) n = min m n + 1 by omega, cnt_s, show min m n = m by omega]
      · rw [decide_eq_false q, Bool.false_and, show min (m + 1) n = min m n by omega]; rfl
  rw [key 11 (by omega), show min 11 n = n by omega]
theorem cnt_two {p : Nat → Bool} {a b : Nat} (hab : a < b) : ∀ n, b < n → p a = true → p b = true → 2 ≤ cnt p n := by
  have one : ∀ n, a < n → p a = true → 1 ≤ cnt p n := by
    intro n
    induction n with
    | zero => intro h; omega
    | succ n ih =>
      intro h hp
      rw [cnt_s]
      by_cases q : a = n
      · rw [← q, hp, if_pos rfl]; omega
      · have := ih (by omega) hp; omega
  intro n
  induction n with
  | zero => intro h; omega
  | succ n ih =>
    intro h h1 h2
    rw [cnt_s]
    by_cases q : b = n
    · have := one n (by omega) h1
      rw [← q, h2, if_pos rfl]; rw [← q] at this; omega
    · have := ih (by omega) h1 h2; omega
theorem cnt_one {p : Nat → Bool} {n : Nat} (h : cnt p n = 1) : ∃ a, a < n ∧ p a = true ∧ ∀ b, b < n → p b = true → b = a := by
  have hx : ∃ a, a < n ∧ p a = true := Decidable.byContradiction fun z => by
    have : cnt p n = 0 := cnt_zero n fun k hk => by
      cases q : p k with
      | false => rfl
      | true => exact absurd ⟨k, hk, q⟩ z
    omega
  obtain ⟨a, ha, hp⟩ := hx
  refine ⟨a, ha, hp, fun b hb hq => ?_⟩
  rcases Nat.lt_trichotomy a b with z | z | z
  · have := cnt_two z n hb hp hq; omega
  · exact z.symm
  · have := cnt_two z n ha hq hp; omega
theorem sure_eq {c : Nat → Nat} {n N : Nat} (hn : n ≤ 11) (hs : sumN c n = N) (hN : 0 < N) : (if pc (bitsOf (fun d => decide (0 < c d)) n) = 1 then bitsOf (fun d => decide (0 < c d)) n else 0) = bitsOf (fun d => decide (c d = N)) n := by
  rw [pc_bits hn]
  by_cases q : cnt (fun d => decide (0 < c d)) n = 1
  · rw [if_pos q]
    obtain ⟨a, ha, hp, hu⟩ := cnt_one q
    have hz : ∀ k, k < n → k ≠ a → c k = 0 := fun k hk hne => Decidable.byContradiction fun z => hne (hu k hk (decide_eq_true (by omega)))
    have hca : c a = N := by rw [← hs, sumN_onl ha hz]
    refine tb_ext fun j => ?_
    rw [bitsOf_tb, bitsOf_tb]
    by_cases hj : j < n
    · rw [decide_eq_true hj, Bool.true_and, Bool.true_and]
      refine decide_eq_decide.mpr ⟨fun z => ?_, fun z => by omega⟩
      rw [hu j hj (decide_eq_true z)]; exact hca
    · rw [decide_eq_false hj, Bool.false_and, Bool.false_and]
  · rw [if_neg q]
    refine (bits_0.mpr (Bool.eq_false_iff.mpr fun z => ?_)).symm
    obtain ⟨a, ha, hp⟩ := anB_iff.mp z
    have hp := of_decide_eq_true hp
    refine q ?_
    have hz : ∀ k, k < n → k ≠ a → c k = 0 := fun k hk hne => by
      have h1 : ∀ m, (a < m → N ≤ sumN c m) ∧ (k < m → c k ≤ sumN c m) ∧ (a < m → k < m → N + c k ≤ sumN c m) := by
        intro m
        induction m with
        | zero => exact ⟨fun z => by omega, fun z => by omega, fun z => by omega⟩
        | succ m ih =>
          have e : sumN c (m + 1) = sumN c m + c m := rfl
          rw [e]
          refine ⟨fun z => ?_, fun z => ?_, fun z1 z2 => ?_⟩
          · by_cases y : a = m
            · rw [← y]; omega
            · have := ih.1 (by omega); omega
          · by_cases y : k = m
            · rw [← y]; omega
            · have := ih.2.1 (by omega); omega
          · by_cases y : a = m
            · have := ih.2.1 (by omega)
              rw [← y] at this ⊢; omega
            · by_cases y2 : k = m
              · have := ih.1 (by omega)
                rw [← y2] at this ⊢; omega
              · have := ih.2.2 (by omega) (by omega); omega
      have := (h1 n).2.2 ha hk
      omega
    have h3 : ∀ m, m ≤ n → cnt (fun d => decide (0 < c d)) m = if a < m then 1 else 0 := by
      intro m
      induction m with
      | zero => intro _; rfl
      | succ m ih =>
        intro hm
        rw [cnt_s, ih (by omega)]
        by_cases e : m = a
        · subst e
          rw [if_neg (Nat.lt_irrefl m), if_pos (Nat.lt_succ_self m), decide_eq_true (show 0 < c m by omega)]; rfl
        · rw [hz m (by omega) e, decide_eq_false (Nat.lt_irrefl 0)]
          by_cases y : a < m
          · rw [if_pos y, if_pos (show a < m + 1 by omega)]; rfl
          · rw [if_neg y, if_neg (show ¬ a < m + 1 by omega)]; rfl
    rw [h3 n (Nat.le_refl _), if_pos ha]
def R_sure (V : VV) (v1 v2 : Int32) : Int32 := if (laidV V v1 && rngB v2 (vme V v1.toNatClampNeg).length) = true then (if 0 < nFil V v1.toNatClampNeg then nI (bitsOf (fun d => decide (cnD V (vme V v1.toNatClampNeg) v2.toNatClampNeg d = nFil V v1.toNatClampNeg)) (vn V)) else 0) else -3
/-! component: reachesBy -/
def FQ (σ : St) (V : VV) (W : Nat → Int64) : Prop := GX σ V (allA V) ∧ gL σ 34 = W
theorem FQ.q31 {σ : St} {V : VV} {W : Nat → Int64} (h : FQ σ V W) (f : Nat → Int32) : FQ (sA σ 31 f) V W := ⟨h.1.qA (by decide) f, h.2⟩
theorem rbX_d {V : VV} {W : Nat → Int64} {i s l : Nat} {L : Nat → Nat} {P : St → Prop} {K : Int32 → Int32 → Int32 → Int32 → St → Prop} (hi : i < 3) (hok : okS (vn V) s l) (hpl : pc s < (vme V i).length) (hL : ∀ k, L k < 2 ^ 11)
    (h : ∀ σ', FQ σ' V W → lasX σ' (vn V) (pushB (mrL V (vme V i)) s l L (vn V)) → K (nI i) (nI s) (nI (pc s)) (lI l) σ') :
    ∀ m d : Nat, d + m = vn V → ∀ σ, FQ σ V W → lasX σ (vn V) (pushB (mrL V (vme V i)) s l L d) → wx_reachesBy_l104 P K (m + 1) (nI i) (nI s) (nI (pc s)) (lI l) (nI d) σ := by
  intro m
  induction m with
  | zero =>
    intro d hd σ hG hl
    rw [wx_reachesBy_l104_s, show xI_dishes σ = _ from hG.1.1.n, if_pos (by rw [show d = vn V by omega]; exact Int32.le_refl _)]
    rw [show d = vn V by omega] at hl
    exact h σ hG hl
  | succ m ih =>
    intro d hd σ hG hl
    have hn := hG.1.1.2.n
    have hp := pow_le_1024 hn
    have ih1 := ih (d + 1) (by omega)
    have hor := or2_lt hok.1 (show d < vn V by omega)
    have hb := okS_le hn hok
    have em : mrL V (vme V i) s l d = (mv V (allA V) s l d && fitL (vme V i) (pc s) d) := by unfold mrL mfL; rw [decide_eq_true hpl, Bool.and_true]
    rw [wx_reachesBy_l104_s, show xI_dishes σ = _ from hG.1.1.n, if_neg (nI_ge (by omega) (by omega))]
    refine ox_fits hG.1.1 hi hpl (by omega) ?_
    unfold wx_reachesBy_j154
    rw [nI_1]
    cases qf : fitL (vme V i) (pc s) d with
    | false => rw [jf0]; rw [qf, Bool.and_false] at em; exact ih1 σ hG (by rw [pushB_s, if_neg (by rw [em]; decide)]; exact hl)
    | true =>
      rw [jt0]; rw [qf, Bool.and_true] at em
      refine ox_goesOn hG.1 hok.1 (by rcases hok.2 with q | q <;> omega) (by omega) ?_
      cases q : mv V (allA V) s l d with
      | false => rw [jf0]; exact ih1 σ hG (by rw [pushB_s, if_neg (by rw [em, q]; decide)]; exact hl)
      | true =>
        rw [jt0, nI_shl1 _ (by omega), nI_or]
        refine ⟨vp_in_nI (by omega) (by omega), vp_in_nI (by omega) (by omega), ?_⟩
        unfold xU_lasts uA
        rw [cl (by omega), show xA_lasts σ (s ||| 2 ^ d) = _ from hl _ hor, nI_or]
        refine ih1 _ (hG.q31 _) fun s' hs' => ?_
        rw [pushB_s, if_pos (em.trans q)]
        show upd (gA σ 31) (s ||| 2 ^ d) _ s' = nI (updN _ _ _ s')
        unfold updN
        by_cases e : s' = s ||| 2 ^ d
        · rw [e, upd_s, if_pos rfl]
        · rw [upd_n e, if_neg e]; exact hl s' hs'
theorem pushB_no {M : Nat → Nat → Nat → Bool} {s l : Nat} {L : Nat → Nat} (h : ∀ d, M s l d = false) : ∀ n, pushB M s l L n = L := by
  intro n
  induction n with
  | zero => rfl
  | succ n ih => rw [pushB_s, if_neg (by rw [h n]; decide), ih]
theorem RI.idle {n : Nat} {M : Nat → Nat → Nat → Bool} {s0 l0 s j : Nat} {L : Nat → Nat} (hn : n ≤ 10) (hM : newM n M) (h0 : okS n s0 l0) (hs : s < 2 ^ n) (hno : ∀ l d, M s l d = false) : ∀ m j, RI n M s0 l0 L s j → RI n M s0 l0 L s (j + m) := by
  intro m
  induction m with
  | zero => intro j h; exact h
  | succ m ih =>
    intro j h
    rw [show j + (m + 1) = (j + 1) + m by omega]
    refine ih (j + 1) ?_
    by_cases q : rchB M n s0 l0 s (lOf j)
    · have := h.push hn hM h0 hs q
      rw [pushB_no (hno _)] at this
      exact this
    · exact h.skip q
theorem rbX_l {V : VV} {W : Nat → Int64} {i s : Nat} {P : St → Prop} {K : Int32 → Int32 → St → Prop} (hw : WV V) (hi : i < 3) (hs : s < 2 ^ vn V)
    (h : ∀ σ' L, FQ σ' V W → lasX σ' (vn V) L → RI (vn V) (mrL V (vme V i)) 0 10 L s (vn V + 1) → K (nI i) (nI s) σ') :
    ∀ m j : Nat, j + m = vn V + 1 → ∀ σ L, FQ σ V W → lasX σ (vn V) L → RI (vn V) (mrL V (vme V i)) 0 10 L s j → wx_reachesBy_l55 P K (m + 1) (nI i) (nI s) (nI (pc s)) (nI j - 1) σ := by
  have hn := hw.n
  have hp := pow_le_1024 hn
  have hml := (hw.me i).1
  have hpc := pc_le s
  have hM := mrL_new V (vme V i)
  intro m
  induction m with
  | zero =>
    intro j hj σ L hG hl hR
    rw [wx_reachesBy_l55_s, show xI_dishes σ = _ from hG.1.1.n, if_pos ((nIm_lt (by omega) (by omega)).mpr (by omega))]
    rw [show j = vn V + 1 by omega] at hR
    exact h σ L hG hl hR
  | succ m ih =>
    intro j hj σ L hG hl hR
    rw [wx_reachesBy_l55_s, show xI_dishes σ = _ from hG.1.1.n, if_neg (fun z => by have := (nIm_lt (by omega) (by omega)).mp z; omega)]
    refine ⟨vp_in_nI hi (by omega), ?_⟩
    rw [cl (by omega), show xA_menuMany σ i = _ from hG.1.1.ml hi]
    simp only [nI_leI (show (vme V i).length < 2 ^ 31 by omega) (show pc s < 2 ^ 31 by omega)]
    by_cases q0 : (vme V i).length ≤ pc s
    · rw [if_pos q0]
      refine h σ L hG hl ?_
      have := RI.idle (j := j) hn hM (okE _) hs (fun l d => by unfold mrL; rw [decide_eq_false (show ¬ pc s < (vme V i).length by omega), Bool.and_false]) (vn V + 1 - j) j hR
      rw [show j + (vn V + 1 - j) = vn V + 1 by omega] at this
      exact this
    · rw [if_neg q0]
      refine ⟨vp_in_nI (by omega) (by omega), ?_⟩
      rw [cl (by omega), show xA_lasts σ s = _ from hl s hs]
      have hlj := lOf_n (j := j) hn (by omega)
      have hLs := hR.1 s
      have hat := RI.at (l := lOf j) hn hM (okE _) hR (Nat.le_refl _) hs (by omega)
      have go : wx_reachesBy_j92 P (wx_reachesBy_l55 P K (m + 1)) (nI i) (nI s) (nI (pc s)) (nI j - 1) (nI (L s)) (nI (lOf j)) σ := by
        unfold wx_reachesBy_j92 sx_has
        rw [hasB_nI (by omega) (by omega)]
        cases q : (L s).testBit (lOf j) with
        | false =>
          rw [jf0]
          unfold wx_reachesBy_j160
          rw [nIm_s]
          exact ih (j + 1) (by omega) σ L hG hl (hR.skip fun z => by rw [hat.mpr z] at q; exact absurd q (by decide))
        | true =>
          rw [jt0]
          have hr := hat.mp q
          rw [← lOf_lI (by omega)]
          refine ⟨_, rbX_d hi hr.1 (by omega) hR.1 (fun σ' hG' hl' => ?_) (vn V) 0 (by omega) σ hG hl⟩
          unfold wx_reachesBy_j160
          rw [lOf_lI (by omega), nIm_s]
          exact ih (j + 1) (by omega) σ' _ hG' hl' (hR.push hn hM (okE _) hs hr)
      by_cases q : j = 0
      · rw [if_neg (fun z => by have := Int32.not_lt.mpr z; exact this ((nIm_neg (by omega)).mpr q))]
        have : nI (lOf j) = 10 := by rw [q]; rfl
        rw [this] at go
        exact go
      · have e : nI j - 1 = nI (lOf j) := by
          rw [← lOf_lI (by omega)]
          exact lI_l (by unfold lOf; rw [if_neg q]; omega)
        rw [if_pos (by rw [e]; exact nI_ge0 (by omega))]
        have e2 : wx_reachesBy_j92 P (wx_reachesBy_l55 P K (m + 1)) (nI i) (nI s) (nI (pc s)) (nI j - 1) (nI (L s)) (nI (lOf j)) σ = wx_reachesBy_j92 P (wx_reachesBy_l55 P K (m + 1)) (nI i) (nI s) (nI (pc s)) (nI j - 1) (nI (L s)) (nI j - 1) σ := congrArg (fun x => wx_reachesBy_j92 P (wx_reachesBy_l55 P K (m + 1)) (nI i) (nI s) (nI (pc s)) (nI j - 1) (nI (L s)) x σ) e.symm
        rw [← e2]
        exact go
theorem rbX_s {V : VV} {W : Nat → Int64} {i : Nat} {P : St → Prop} (hw : WV V) (hi : i < 3)
    (h : ∀ σ' L, FQ σ' V W → lasX σ' (vn V) L → (∀ s l, s < 2 ^ vn V → l ≤ 10 → ((L s).testBit l = true ↔ rchB (mrL V (vme V i)) (vn V) 0 10 s l)) → (∀ k, L k < 2 ^ 11) → P σ') :
    ∀ m s : Nat, s + m = 2 ^ vn V → ∀ σ L, FQ σ V W → lasX σ (vn V) L → RI (vn V) (mrL V (vme V i)) 0 10 L s 0 → wx_reachesBy_l37 P (m + 1) (nI i) (nI s) σ := by
  have hn := hw.n
  have hp := pow_le_1024 hn
  intro m
  induction m with
  | zero =>
    intro s hs σ L hG hl hR
    rw [wx_reachesBy_l37_s, show xI_dishes σ = _ from hG.1.1.n, nI_shl1 _ (by omega), if_pos (by rw [show s = 2 ^ vn V by omega]; exact Int32.le_refl _)]
    rw [show s = 2 ^ vn V by omega] at hR
    refine h σ L hG hl (fun s' l' hs' hl' => ?_) hR.1
    exact RI.at hn (mrL_new V (vme V i)) (okE _) hR (by omega) hs' hl'
  | succ m ih =>
    intro s hs σ L hG hl hR
    rw [wx_reachesBy_l37_s, show xI_dishes σ = _ from hG.1.1.n, nI_shl1 _ (by omega), if_neg (nI_ge (by omega) (by omega)), bitC_nI (by omega)]
    refine ⟨vn V + 2, rbX_l hw hi (show s < 2 ^ vn V by omega) (fun σ' L' hG' hl' hR' => ?_) (vn V + 1) 0 (by omega) σ L hG hl hR⟩
    unfold wx_reachesBy_j166
    rw [nI_1]
    exact ih (s + 1) (by omega) σ' L' hG' hl' hR'.next
theorem rbX_0 {V : VV} {W : Nat → Int64} {i : Nat} {P : St → Prop} {K : Int32 → Int32 → St → Prop} (hw : WV V) (h : ∀ σ' L, FQ σ' V W → lasX σ' (vn V) L → RI (vn V) (mrL V (vme V i)) 0 10 L 0 0 → K (nI i) 0 σ') :
    ∀ m s : Nat, s + m = 2 ^ vn V → ∀ σ, FQ σ V W → (∀ k, k < s → gA σ 31 k = nI (if k = 0 then 2 ^ 10 else 0)) → wx_reachesBy_l2 P K (m + 1) (nI i) (nI s) σ := by
  have hn := hw.n
  have hp := pow_le_1024 hn
  intro m
  induction m with
  | zero =>
    intro s hs σ hG hl
    rw [wx_reachesBy_l2_s, show xI_dishes σ = _ from hG.1.1.n, nI_shl1 _ (by omega), if_pos (by rw [show s = 2 ^ vn V by omega]; exact Int32.le_refl _)]
    refine h σ (fun k => if k = 0 then 2 ^ 10 else 0) hG (fun k hk => hl k (by omega)) ⟨fun k => ?_, fun s' l' hs' hl' => ?_⟩
    · show (if k = 0 then 2 ^ 10 else 0) < 2 ^ 11
      split <;> omega
    · show (if s' = 0 then 2 ^ 10 else 0).testBit l' = true ↔ _
      constructor
      · intro z
        by_cases e : s' = 0
        · rw [if_pos e] at z
          have e2 : l' = 10 := Decidable.byContradiction fun y => by rw [Nat.testBit_two_pow_of_ne (fun w => y w.symm)] at z; exact absurd z (by decide)
          exact ⟨by rw [e, e2]; exact okE _, Or.inl ⟨e, e2⟩⟩
        · rw [if_neg e, Nat.zero_testBit] at z; exact absurd z (by decide)
      · rintro ⟨_, z | ⟨_, o, ho, _⟩⟩
        · rw [if_pos z.1, z.2, Nat.testBit_two_pow_self]
        · have : bnd (vn V) 0 0 (preS s' l') = 0 := by unfold bnd; rw [if_neg (by omega)]; split <;> rfl
          omega
  | succ m ih =>
    intro s hs σ hG hl
    rw [wx_reachesBy_l2_s, show xI_dishes σ = _ from hG.1.1.n, nI_shl1 _ (by omega), if_neg (nI_ge (by omega) (by omega))]
    have fin : ∀ x, x = nI (if s = 0 then 2 ^ 10 else 0) → wx_reachesBy_j28 P (wx_reachesBy_l2 P K (m + 1)) (nI i) (nI s) (nI s) x σ := by
      intro x ex
      refine ⟨vp_in_nI (by omega) (by omega), ?_⟩
      unfold xU_lasts uA
      rw [cl (by omega), nI_1]
      refine ih (s + 1) (by omega) _ (hG.q31 _) fun k hk => ?_
      show upd (gA σ 31) s x k = _
      by_cases e : k = s
      · rw [e, upd_s, ex]
      · rw [upd_n e]; exact hl k (by omega)
    simp only [nI_eq0 (show s < 2 ^ 31 by omega)]
    by_cases e : s = 0
    · rw [if_pos e]; exact fin _ (by rw [if_pos e]; rfl)
    · rw [if_neg e]; exact fin _ (by rw [if_neg e]; rfl)
theorem ox_reachesBy {σ : St} {V : VV} {W : Nat → Int64} {i : Nat} {P : St → Prop} (hG : FQ σ V W) (hi : i < 3)
    (h : ∀ σ' L, FQ σ' V W → lasX σ' (vn V) L → (∀ s l, s < 2 ^ vn V → l ≤ 10 → ((L s).testBit l = true ↔ rchB (mrL V (vme V i)) (vn V) 0 10 s l)) → (∀ k, L k < 2 ^ 11) → P σ') : wx_reachesBy σ (nI i) P :=
  ⟨_, rbX_0 hG.1.1.2 (fun σ' L hG' hl hR => ⟨_, rbX_s hG.1.1.2 hi h (2 ^ vn V) 0 (by omega) σ' L hG' hl hR⟩) (2 ^ vn V) 0 (by omega) σ hG fun k hk => absurd hk (by omega)⟩
