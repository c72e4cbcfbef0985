/-! component: between -/
theorem endX_b {V : VV} {b : Nat} (hb : b < 10) : ∀ s l, okS (vn V) s l → vn V ≤ 10 → endX (nI (2 ^ b)) 0 s l = Eb b s l := by
  intro s l hok hn
  have hl := okS_le hn hok
  have h2 : 2 ^ b < 2 ^ 10 := Nat.pow_lt_pow_right (by decide) hb
  unfold endX Eb
  rw [decide_eq_false (nI_lt0 (show 2 ^ b < 2 ^ 31 by omega)), Bool.false_or, hasB_nI (by omega) (by omega), decide_eq_true (Nat.zero_le (pc s)), Bool.and_true]
  by_cases e : l = b
  · rw [decide_eq_true e, e, Nat.testBit_two_pow_self, decide_eq_false (show ¬ b = 10 by omega)]; rfl
  · rw [decide_eq_false e, Nat.testBit_two_pow_of_ne (fun z => e z.symm), Bool.and_false]
theorem fixE_congr {M : Nat → Nat → Nat → Bool} {E E' : Nat → Nat → Bool} {n : Nat} {T : Nat → Int32} (h : ∀ s l, okS n s l → E s l = E' s l) (hT : FixT n T (stM M E n)) : FixT n T (stM M E' n) := by
  intro s l hok
  rw [hT s l hok]
  unfold stM
  rw [h s l hok]
theorem lI_n {l : Nat} (h : l < 10) : nI l = lI l := (lI_l (by omega)).symm
theorem ox_between {σ : St} {V : VV} {P : Int32 → St → Prop} (hI : IX σ V) (v w : Int32) (h : ∀ σ', IX σ' (S_between V v w) → P (R_between V v w) σ') : wx_between σ v w P := by
  have hn := hI.2.n
  have hp := pow_le_1024 hn
  refine ⟨V, hI, ?_⟩
  dsimp only
  unfold R_between S_between at h
  cases q : rngB v (vn V) with
  | false => rw [jf0]; simp only [q, Bool.false_eq_true, false_and, if_false] at h; exact h _ hI
  | true =>
    rw [jt0]
    refine ⟨V, hI, ?_⟩
    dsimp only
    cases q2 : rngB w (vn V) with
    | false => rw [jf0]; simp only [q2, Bool.false_eq_true, and_false, false_and, if_false] at h; exact h _ hI
    | true =>
      rw [jt0]; simp only [q, q2, and_self, true_and, if_true] at h
      obtain ⟨f, hf, rfl⟩ := rngB_of (by omega) q
      obtain ⟨b, hb, rfl⟩ := rngB_of (by omega) q2
      rw [cl (show f < 2 ^ 31 by omega), cl (show b < 2 ^ 31 by omega)] at h
      have hM := mv_newM V (allA V)
      have hpf : 2 ^ f < 2 ^ vn V := Nat.pow_lt_pow_right (by decide) hf
      have hpb : 2 ^ b < 2 ^ vn V := Nat.pow_lt_pow_right (by decide) hb
      refine ox_laysOut hI fun σ1 hG => ?_
      rw [nI_shl1 _ (by omega), nI_shl1 _ (by omega), cl (by omega), show xA_fine σ1 (2 ^ f) = _ from hG.2.2.2 _ hpf]
      refine ⟨vp_in_nI (by omega) (by omega), ?_⟩
      have ec : canB V f b = (fineV V (2 ^ f) && anB (exB V f b) 11) := rfl
      cases y1 : fineV V (2 ^ f) with
      | false => rw [jf0]; rw [ec, y1, Bool.false_and, if_neg (by decide), if_neg (by decide)] at h; exact h _ hG.1
      | true =>
        rw [jt0]; rw [ec, y1, Bool.true_and] at h
        refine ox_measures hG (by decide) (le := 0) fun σ2 hG2 hT0 => ?_
        have hT := fixE_congr (fun s l hok => endX_b (V := V) (by omega) s l hok hn) hT0
        have hG3 := hG2.row0
        by_cases e : f = b
        · rw [if_pos (congrArg nI e)]
          unfold wx_between_j65 wx_between_j96
          rw [if_pos (by decide)]
          refine ⟨_, hG3.1, by show 0 < 12; omega, fun σ3 h3 _ _ => ?_⟩
          dsimp only
          rw [if_pos (congrArg nI e)]
          have ex0 : exB V f b 0 = true := by unfold exB; rw [show ex (mv V (allA V)) (vn V) (Eb b) 0 (2 ^ f) f = decide (f = b) from rfl, decide_eq_true e]; rfl
          have eK : bK V f b = 0 := hiN_eq 11 (by omega) ex0 fun j hj hx => by
            unfold exB at hx
            rw [decide_eq_true e, Bool.and_eq_true] at hx
            have := hx.2
            simp at this
            omega
          rw [anB_iff.mpr ⟨0, by omega, ex0⟩, eK, if_pos rfl, if_pos rfl] at h
          exact h σ3 h3
        · rw [if_neg (fun z => e ((nI_eq (by omega) (by omega)).mp z))]
          refine ⟨2 ^ f, f, rfl, lI_n (by omega), by omega, by omega, vp_in_nI (by omega) (by omega), ?_⟩
          rw [cl (by omega)]
          have exe : ∀ k, exB V f b k = ex (mv V (allA V)) (vn V) (Eb b) k (2 ^ f) f := fun k => by unfold exB; rw [decide_eq_false e]; exact Bool.and_true _
          have exf : exB V f b = fun k => ex (mv V (allA V)) (vn V) (Eb b) k (2 ^ f) f := funext exe
          obtain ⟨m1, m2, m3⟩ := mes_spec hn hM hT (vn V) _ _ (by omega) (ok1 hf) (by omega)
          unfold wx_between_j65 wx_between_j96
          by_cases y2 : 0 ≤ (gA σ2 32 (11 * 2 ^ f + f)).toInt
          · obtain ⟨k0, hk0, ek0, hx0⟩ := m2 y2
            obtain ⟨t1, t2, t3⟩ := mes_top hn hM hT (ok1 hf) hx0
            have ebK : bK V f b = hiN (fun k => ex (mv V (allA V)) (vn V) (Eb b) k (2 ^ f) f) 11 := by unfold bK; rw [exf]
            rw [← ebK] at t1 t2 t3
            rw [show xA_value σ2 (11 * 2 ^ f + f) = nI (bK V f b) from t1, if_pos (nI_ge0 (by omega))]
            refine ⟨_, hG3.1, by show 0 < 12; omega, fun σ3 h3 kp _ => ?_⟩
            dsimp only
            rw [if_neg (fun z => e ((nI_eq (by omega) (by omega)).mp z)), nI_1, nI_shl1 _ (by omega)]
            have hG4 := hG3.row h3 (kp.1 35 (by decide)) (kp.2.1 30 (by decide))
            have e32 : gA σ3 32 = gA σ2 32 := kp.2.1 32 (by decide)
            rw [anB_iff.mpr ⟨bK V f b, by omega, by rw [exe]; exact t3⟩, if_pos rfl, if_pos rfl] at h
            have h9 := ox_tellsMost (P := fun σ' => P (nI (bK V f b + 1)) σ') hG4 (s := 2 ^ f) (l := f) (ok1 hf) (k := bK V f b) (by rw [e32]; exact t1) (fun k s l hk hok' hTk => by rw [e32] at hTk ⊢; exact mes_one hn hM hT (by omega) hok' hTk) (by show 1 + bK V f b ≤ 12; omega) fun σ4 hG5 _ => by
              refine h σ4 ?_
              have ew : way (mv V (allA V)) (vn V) (gT (gA σ2 32)) (bK V f b) (2 ^ f) f = way (mv V (allA V)) (vn V) (ex (mv V (allA V)) (vn V) (Eb b)) (bK V f b) (2 ^ f) f := mes_way hn hM hT t2 (ok1 hf) t1
              have h8 : IX σ4 (rowG (vSRow V [nI f]) (way (mv V (allA V)) (vn V) (gT (gA σ3 32)) (bK V f b) (2 ^ f) f)) := hG5.1
              rw [e32, ew] at h8
              exact h8
            rw [← lI_n (by omega)] at h9
            exact h9
          · have ec2 : anB (exB V f b) 11 = false := by
              rw [Bool.eq_false_iff]
              intro z
              obtain ⟨j, hj, hx⟩ := anB_iff.mp z
              rw [exe] at hx
              have := m1 j hx
              omega
            rw [ec2, if_neg (by decide), if_neg (by decide)] at h
            rw [if_neg (fun z => y2 (by rw [Int32.le_iff_toInt_le] at z; exact z))]
            exact h _ hG2.1
/-! component: shortest -/
def stL (M : Nat → Nat → Nat → Bool) (b n : Nat) (c : Int32) : Nat → Nat → (Nat → Int32) → Int32 := fun s l f => if l = 10 then c else foldN (fun d acc => if acc ≤ 0 then acc else if M s l d = true then jmin acc (1 + f d) else acc) (if l = b then 0 else 1000000) n
theorem stL_c {M : Nat → Nat → Nat → Bool} {b n : Nat} {c : Int32} (hM : newM n M) : stepC n (stL M b n c) := by
  intro s l f g _ h
  unfold stL
  split
  · rfl
  · refine foldN_congr n fun d hd x => ?_
    by_cases q : M s l d = true
    · rw [if_pos q, if_pos q, h d hd (hM s l d hd q)]
    · rw [if_neg q, if_neg q]
theorem jmin_i (a b : Int32) : (jmin a b).toInt = min a.toInt b.toInt := by
  unfold jmin
  by_cases q : a ≤ b
  · split
    · rename_i z; rw [Int32.le_iff_toInt_le] at q; rw [Int32.lt_iff_toInt_lt] at z; omega
    · rw [Int32.le_iff_toInt_le] at q; omega
  · split
    · rename_i z; rw [Int32.lt_iff_toInt_lt] at z; omega
    · rename_i z; rw [Int32.lt_iff_toInt_lt] at z; rw [Int32.le_iff_toInt_le] at q; omega
/-- the fold, where all that comes is greater than none -/
theorem foldMin {c : Nat → Bool} {g : Nat → Int32} {a : Int32} (ha : 0 ≤ a.toInt) : ∀ n, (∀ d, d < n → c d = true → 1 ≤ (g d).toInt) →
    (0 ≤ (foldN (fun d acc => if acc ≤ 0 then acc else if c d = true then jmin acc (g d) else acc) a n).toInt ∧ (foldN (fun d acc => if acc ≤ 0 then acc else if c d = true then jmin acc (g d) else acc) a n).toInt ≤ a.toInt) ∧
    (∀ d, d < n → c d = true → (foldN (fun d acc => if acc ≤ 0 then acc else if c d = true then jmin acc (g d) else acc) a n).toInt ≤ (g d).toInt) ∧
    (foldN (fun d acc => if acc ≤ 0 then acc else if c d = true then jmin acc (g d) else acc) a n = a ∨ ∃ d, d < n ∧ c d = true ∧ foldN (fun d acc => if acc ≤ 0 then acc else if c d = true then jmin acc (g d) else acc) a n = g d) := by
  intro n
  induction n with
  | zero => intro _; exact ⟨⟨ha, by show a.toInt ≤ a.toInt; omega⟩, fun d hd => absurd hd (by omega), Or.inl rfl⟩
  | succ n ih =>
    intro hg
    obtain ⟨i1, i2, i3⟩ := ih fun d hd => hg d (by omega)
    have e : foldN (fun d acc => if acc ≤ 0 then acc else if c d = true then jmin acc (g d) else acc) a (n + 1) = (if foldN (fun d acc => if acc ≤ 0 then acc else if c d = true then jmin acc (g d) else acc) a n ≤ 0 then foldN (fun d acc => if acc ≤ 0 then acc else if c d = true then jmin acc (g d) else acc) a n else if c n = true then jmin (foldN (fun d acc => if acc ≤ 0 then acc else if c d = true then jmin acc (g d) else acc) a n) (g n) else foldN (fun d acc => if acc ≤ 0 then acc else if c d = true then jmin acc (g d) else acc) a n) := rfl
    rw [e]
    generalize foldN (fun d acc => if acc ≤ 0 then acc else if c d = true then jmin acc (g d) else acc) a n = x at i1 i2 i3
    have keep : x = a ∨ ∃ d, d < n + 1 ∧ c d = true ∧ x = g d := i3.elim Or.inl fun ⟨d, hd, hc, z⟩ => Or.inr ⟨d, by omega, hc, z⟩
    by_cases q0 : x ≤ 0
    · rw [if_pos q0]
      rw [Int32.le_iff_toInt_le] at q0
      have e0 : (0 : Int32).toInt = 0 := by decide
      refine ⟨i1, fun d hd hc => ?_, keep⟩
      have := hg d hd hc
      omega
    · rw [if_neg q0]
      by_cases q : c n = true
      · rw [if_pos q]
        have hm := jmin_i x (g n)
        have h1 := hg n (by omega) q
        refine ⟨by omega, fun d hd hc => ?_, ?_⟩
        · by_cases z : d = n
          · rw [z]; omega
          · have := i2 d (by omega) hc; omega
        · by_cases z : x.toInt ≤ (g n).toInt
          · have : jmin x (g n) = x := Int32.toInt_inj.mp (by omega)
            rw [this]; exact keep
          · have : jmin x (g n) = g n := Int32.toInt_inj.mp (by omega)
            exact Or.inr ⟨n, by omega, q, this⟩
      · rw [if_neg q]
        refine ⟨i1, fun d hd hc => ?_, keep⟩
        by_cases z : d = n
        · rw [z] at hc; exact absurd hc q
        · exact i2 d (by omega) hc
theorem min_spec {M : Nat → Nat → Nat → Bool} {b n : Nat} {c : Int32} (hn : n ≤ 10) (hM : newM n M) {T : Nat → Int32} (hT : FixT n T (stL M b n c)) :
    ∀ r s l, r ≤ 20 → okS n s l → l ≠ 10 → n ≤ pc s + r → (0 ≤ (T (11 * s + l)).toInt ∧ (T (11 * s + l)).toInt ≤ 1000000) ∧ (∀ k, ex M n (Eb b) k s l = true → (T (11 * s + l)).toInt ≤ k) ∧ ((T (11 * s + l)).toInt < 1000000 → ∃ k, k ≤ r ∧ T (11 * s + l) = nI k ∧ ex M n (Eb b) k s l = true) := by
  have e0 : (0 : Int32).toInt = 0 := by decide
  have em : (1000000 : Int32).toInt = 1000000 := by decide
  intro r
  induction r with
  | zero =>
    intro s l _ hok h10 hr
    have hno : ∀ d, d < n → M s l d = true → False := fun d hd hm => by
      have h1 := okS_step hok hd
      have h2 := pc_le_n h1.1 (by omega)
      rw [pc_or2 (hM s l d hd hm) (by omega)] at h2
      omega
    have e : T (11 * s + l) = foldN (fun d acc => if acc ≤ 0 then acc else if M s l d = true then jmin acc (1 + T (11 * (s ||| 2 ^ d) + d)) else acc) (if l = b then 0 else 1000000) n := by
      rw [hT s l hok]; unfold stL; rw [if_neg h10]
    have f := foldMin (c := fun d => M s l d) (g := fun d => 1 + T (11 * (s ||| 2 ^ d) + d)) (a := if l = b then 0 else 1000000) (by split <;> omega) n (fun d hd hc => (hno d hd hc).elim)
    obtain ⟨f1, f2, f3⟩ := f
    have f4 := f3.resolve_right (fun ⟨d, hd, hc, _⟩ => hno d hd hc)
    rw [e, f4]
    by_cases q : l = b
    · rw [if_pos q]
      exact ⟨by omega, fun k _ => by omega, fun _ => ⟨0, by omega, rfl, decide_eq_true q⟩⟩
    · rw [if_neg q]
      refine ⟨by omega, fun k hk => ?_, fun z => by omega⟩
      cases k with
      | zero => exact absurd (of_decide_eq_true hk) q
      | succ k => obtain ⟨d, hd, h1, _⟩ := ex_s.mp hk; exact (hno d hd h1).elim
  | succ r ih =>
    intro s l hr20 hok h10 hr
    have ihd := fun d (hd : d < n) (hm : M s l d = true) => ih (s ||| 2 ^ d) d (by omega) (okS_step hok hd) (by omega) (by rw [pc_or2 (hM s l d hd hm) (by omega)]; omega)
    have hx : ∀ d, d < n → M s l d = true → (1 + T (11 * (s ||| 2 ^ d) + d)).toInt = 1 + (T (11 * (s ||| 2 ^ d) + d)).toInt := fun d hd hm => by
      obtain ⟨h1, _⟩ := ihd d hd hm
      exact add1_i (by omega) (by omega)
    have e : T (11 * s + l) = foldN (fun d acc => if acc ≤ 0 then acc else if M s l d = true then jmin acc (1 + T (11 * (s ||| 2 ^ d) + d)) else acc) (if l = b then 0 else 1000000) n := by
      rw [hT s l hok]; unfold stL; rw [if_neg h10]
    have ini : (l = b ∧ (if l = b then (0 : Int32) else 1000000).toInt = 0) ∨ (¬ l = b ∧ (if l = b then (0 : Int32) else 1000000).toInt = 1000000) := by
      by_cases q : l = b
      · exact Or.inl ⟨q, by rw [if_pos q]; exact e0⟩
      · exact Or.inr ⟨q, by rw [if_neg q]; exact em⟩
    have f := foldMin (c := fun d => M s l d) (g := fun d => 1 + T (11 * (s ||| 2 ^ d) + d)) (a := if l = b then 0 else 1000000) (by omega) n (fun d hd hc => by rw [hx d hd hc]; have := (ihd d hd hc).1; omega)
    rw [e]
    generalize foldN (fun d acc => if acc ≤ 0 then acc else if M s l d = true then jmin acc (1 + T (11 * (s ||| 2 ^ d) + d)) else acc) (if l = b then 0 else 1000000) n = x at f
    obtain ⟨f1, f2, f3⟩ := f
    refine ⟨by omega, fun k hk => ?_, fun h0 => ?_⟩
    · cases k with
      | zero =>
        have : l = b := of_decide_eq_true hk
        omega
      | succ k =>
        obtain ⟨d, hd, h1, h2⟩ := ex_s.mp hk
        have h3 := f2 d hd h1
        have h4 := hx d hd h1
        have := (ihd d hd h1).2.1 k h2
        omega
    · rcases f3 with z | ⟨d, hd, hm, z⟩
      · rcases ini with ⟨q, w⟩ | ⟨q, w⟩
        · rw [if_pos q] at z; exact ⟨0, by omega, z, decide_eq_true q⟩
        · rw [z] at h0; omega
      · have h4 := hx d hd hm
        rw [z] at h0
        obtain ⟨k, hk, ek, hex⟩ := (ihd d hd hm).2.2 (by omega)
        exact ⟨k + 1, by omega, by rw [z, ek, Int32.add_comm, nI_1], ex_s.mpr ⟨d, hd, hm, hex⟩⟩
theorem min_next {M : Nat → Nat → Nat → Bool} {b n : Nat} {c : Int32} (hn : n ≤ 10) (hM : newM n M) {T : Nat → Int32} (hT : FixT n T (stL M b n c)) {s l k : Nat} (hk : k < 1000) (hok : okS n s l) (h10 : l ≠ 10) (hTk : T (11 * s + l) = nI (k + 1)) :
    ∀ d, d < n → M s l d = true → (T (11 * (s ||| 2 ^ d) + d) = nI k ↔ ex M n (Eb b) k (s ||| 2 ^ d) d = true) := by
  intro d hd hm
  obtain ⟨_, h1, h2⟩ := min_spec hn hM hT n s l (by omega) hok h10 (by omega)
  obtain ⟨g0, g1, g2⟩ := min_spec hn hM hT n _ _ (by omega) (okS_step hok hd) (by omega) (by omega)
  rw [hTk, nI_toInt (by omega)] at h1
  constructor
  · intro h
    obtain ⟨k', hk', e, hx⟩ := g2 (by rw [h, nI_toInt (by omega)]; omega)
    rw [h] at e
    rw [(nI_eq (by omega) (by omega)).mp e]
    exact hx
  · intro h
    have := g1 k h
    obtain ⟨k', hk', e, hx⟩ := g2 (by omega)
    have h3 := h1 (k' + 1) (ex_s.mpr ⟨d, hd, hm, hx⟩)
    rw [e, nI_toInt (by omega)] at this
    rw [e, show k' = k by omega]
theorem min_one {M : Nat → Nat → Nat → Bool} {b n : Nat} {c : Int32} (hn : n ≤ 10) (hM : newM n M) {T : Nat → Int32} (hT : FixT n T (stL M b n c)) {s l k : Nat} (hk : k < 1000) (hok : okS n s l) (h10 : l ≠ 10) (hTk : T (11 * s + l) = nI (k + 1)) :
    ∃ d, d < n ∧ M s l d = true ∧ T (11 * (s ||| 2 ^ d) + d) = nI k := by
  obtain ⟨_, h1, h2⟩ := min_spec hn hM hT n s l (by omega) hok h10 (by omega)
  obtain ⟨k', hk', e, hx⟩ := h2 (by rw [hTk, nI_toInt (by omega)]; omega)
  rw [hTk] at e
  rw [← (nI_eq (by omega) (by omega)).mp e] at hx
  obtain ⟨d, hd, hm, hx2⟩ := ex_s.mp hx
  exact ⟨d, hd, hm, (min_next hn hM hT hk hok h10 hTk d hd hm).mpr hx2⟩
