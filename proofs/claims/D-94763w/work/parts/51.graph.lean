/-! GRAPH of sets and last ones: states, moves, tables, paths -/
def mv (V : VV) (A s l d : Nat) : Bool := mayV V s l d && A.testBit d
def okS (n s l : Nat) : Prop := s < 2 ^ n ∧ ((l < n ∧ s.testBit l = true) ∨ (l = 10 ∧ s = 0))
theorem mv_new {V : VV} {A s l d : Nat} (h : mv V A s l d = true) : s.testBit d = false := by
  unfold mv at h
  rw [Bool.and_eq_true] at h
  exact why_new ((whyV_0 V s l d).mp h.1)
theorem okS_step {n s l d : Nat} (h : okS n s l) (hd : d < n) : okS n (s ||| 2 ^ d) d := ⟨or2_lt h.1 hd, Or.inl ⟨hd, by rw [tb_or2]; simp⟩⟩
theorem okS_le {n s l : Nat} (hn : n ≤ 10) (h : okS n s l) : l ≤ 10 ∧ s < 1024 := by
  have := pow_le_1024 hn
  have := h.1
  rcases h.2 with q | q <;> exact ⟨by omega, by omega⟩
theorem okS_B {n s l : Nat} (hn : n ≤ 10) (hs : s < 2 ^ n) (hl : l < n ∨ l = 10) : stateB s l = true ↔ okS n s l := by
  unfold stateB okS
  by_cases q : l = 10
  · rw [if_pos q, decide_eq_true_eq]
    exact ⟨fun h => ⟨hs, Or.inr ⟨q, h⟩⟩, fun h => h.2.elim (fun z => by omega) (fun z => z.2)⟩
  · rw [if_neg q]
    exact ⟨fun h => ⟨hs, Or.inl ⟨by omega, h⟩⟩, fun h => h.2.elim (fun z => z.2) (fun z => absurd z.1 q)⟩
def foldN {α : Type} (f : Nat → α → α) (a : α) : Nat → α
  | 0 => a
  | k + 1 => f k (foldN f a k)
theorem foldN_congr {α : Type} {f g : Nat → α → α} {a : α} : ∀ n, (∀ d, d < n → ∀ x, f d x = g d x) → foldN f a n = foldN g a n := by
  intro n
  induction n with
  | zero => intro _; rfl
  | succ n ih => intro h; unfold foldN; rw [ih fun d hd => h d (by omega), h n (by omega)]
/-- the last one by its turn in the loops: 0 is none -/
def lOf (j : Nat) : Nat := if j = 0 then 10 else j - 1
def ordL (l : Nat) : Nat := if l = 10 then 0 else l + 1
theorem lOf_lI {j : Nat} (hj : j ≤ 10) : lI (lOf j) = nI j - 1 := by
  unfold lOf
  by_cases q : j = 0
  · rw [if_pos q, q]; rfl
  · rw [if_neg q, lI_l (by omega)]
    obtain ⟨k, rfl⟩ : ∃ k, j = k + 1 := ⟨j - 1, by omega⟩
    rw [nI_pred]; rfl
theorem lOf_n {j n : Nat} (hn : n ≤ 10) (hj : j < n + 1) : lOf j < n ∨ lOf j = 10 := by unfold lOf; split <;> omega
theorem ord_lOf {j : Nat} (hj : j ≤ 10) : ordL (lOf j) = j := by unfold ordL lOf; split <;> split <;> omega
theorem lOf_ord {l : Nat} (hl : l ≤ 10) : lOf (ordL l) = l := by unfold ordL lOf; split <;> split <;> omega
theorem nIm_s (j : Nat) : nI j - 1 + 1 = nI (j + 1) - 1 := by
  rw [nI_pred, Int32.sub_add_cancel]
theorem nIm_lt {j n : Nat} (hj : j < 2 ^ 30) (hn : n < 2 ^ 30) : nI n ≤ nI j - 1 ↔ n + 1 ≤ j := by
  cases j with
  | zero => rw [show nI 0 - 1 = (-1 : Int32) from by decide]; refine ⟨fun h => ?_, fun h => by omega⟩
            rw [Int32.le_iff_toInt_le, nI_toInt (by omega)] at h
            have : (-1 : Int32).toInt = -1 := by decide
            omega
  | succ j => rw [nI_pred, nI_leI (by omega) (by omega)]; omega
theorem nIm_neg {j : Nat} (hj : j < 2 ^ 31) : nI j - 1 < 0 ↔ j = 0 := by
  cases j with
  | zero => exact ⟨fun _ => rfl, fun _ => by decide⟩
  | succ j => rw [nI_pred]; exact ⟨fun h => absurd h (nI_lt0 (by omega)), fun h => by omega⟩
theorem nIm_m1 (j : Nat) : nI (j + 1) - 1 + (-1) = nI j - 1 := by
  rw [nI_pred, ← Int32.sub_eq_add_neg]
/-- a table filled from the greatest set down: what is done satisfies its step -/
def Done {α : Type} (n : Nat) (T : Nat → α) (step : Nat → Nat → (Nat → α) → α) (s j : Nat) : Prop :=
  ∀ s' l', okS n s' l' → (s < s' ∨ (s' = s ∧ ordL l' < j)) → T (11 * s' + l') = step s' l' (fun d => T (11 * (s' ||| 2 ^ d) + d))
def FixT {α : Type} (n : Nat) (T : Nat → α) (step : Nat → Nat → (Nat → α) → α) : Prop := ∀ s l, okS n s l → T (11 * s + l) = step s l (fun d => T (11 * (s ||| 2 ^ d) + d))
def stepC {α : Type} (n : Nat) (step : Nat → Nat → (Nat → α) → α) : Prop := ∀ s l f g, okS n s l → (∀ d, d < n → s.testBit d = false → f d = g d) → step s l f = step s l g
theorem Done.write {α : Type} {n : Nat} {T T' : Nat → α} {step : Nat → Nat → (Nat → α) → α} {s j : Nat} (hn : n ≤ 10) (hc : stepC n step) (h : Done n T step s j) (hj : j ≤ n) (hs : s < 2 ^ n) (hl : stateB s (lOf j) = true)
    (hT : ∀ k, k ≠ 11 * s + lOf j → T' k = T k) (hv : T' (11 * s + lOf j) = step s (lOf j) (fun d => T (11 * (s ||| 2 ^ d) + d))) : Done n T' step s (j + 1) := by
  have hok := (okS_B hn hs (lOf_n hn (by omega))).mp hl
  have b := okS_le hn hok
  have key : ∀ s' l', okS n s' l' → (s < s' ∨ s' = s) → ∀ d, d < n → s'.testBit d = false → T' (11 * (s' ||| 2 ^ d) + d) = T (11 * (s' ||| 2 ^ d) + d) := by
    intro s' l' _ hle d hd hb
    have := or2_gt hb
    exact hT _ (by omega)
  intro s' l' hok' hle
  by_cases e : s' = s ∧ l' = lOf j
  · obtain ⟨rfl, rfl⟩ := e
    rw [hv]
    exact hc _ _ _ _ hok fun d hd hb => (key _ _ hok (Or.inr rfl) d hd hb).symm
  · have b' := okS_le hn hok'
    have ho : s < s' ∨ (s' = s ∧ ordL l' < j) := by
      rcases hle with q | ⟨q1, q2⟩
      · exact Or.inl q
      · refine Or.inr ⟨q1, ?_⟩
        rcases Nat.lt_or_ge (ordL l') j with z | z
        · exact z
        · have : ordL l' = j := by omega
          exact absurd ⟨q1, by rw [← this, lOf_ord b'.1]⟩ e
    have hne : 11 * s' + l' ≠ 11 * s + lOf j := fun z => e ⟨by omega, by omega⟩
    rw [hT _ hne, h s' l' hok' ho]
    exact hc _ _ _ _ hok' fun d hd hb => (key _ _ hok' (ho.elim Or.inl fun z => Or.inr z.1) d hd hb).symm
theorem Done.skip {α : Type} {n : Nat} {T : Nat → α} {step : Nat → Nat → (Nat → α) → α} {s j : Nat} (hn : n ≤ 10) (h : Done n T step s j) (hj : j ≤ n) (hs : s < 2 ^ n) (hl : stateB s (lOf j) = false) : Done n T step s (j + 1) := by
  intro s' l' hok' hle
  refine h s' l' hok' ?_
  rcases hle with q | ⟨q1, q2⟩
  · exact Or.inl q
  · refine Or.inr ⟨q1, ?_⟩
    rcases Nat.lt_or_ge (ordL l') j with z | z
    · exact z
    · have : ordL l' = j := by omega
      have b' := okS_le hn hok'
      have e : l' = lOf j := by rw [← this, lOf_ord b'.1]
      rw [q1, e] at hok'
      rw [(okS_B hn hs (lOf_n hn (by omega))).mpr hok'] at hl
      exact absurd hl (by decide)
theorem Done.next {α : Type} {n : Nat} {T : Nat → α} {step : Nat → Nat → (Nat → α) → α} {s : Nat} (hn : n ≤ 10) (h : Done n T step (s + 1) (n + 1)) : Done n T step s 0 := by
  intro s' l' hok' hle
  refine h s' l' hok' ?_
  have : ordL l' < n + 1 := by
    unfold ordL
    rcases hok'.2 with q | q
    · rw [if_neg (by omega)]; omega
    · rw [if_pos q.1]; omega
  rcases hle with q | q
  · rcases Nat.lt_or_ge (s + 1) s' with z | z
    · exact Or.inl z
    · exact Or.inr ⟨by omega, this⟩
  · exact absurd q.2 (by omega)
theorem Done.start {α : Type} {n : Nat} (T : Nat → α) (step : Nat → Nat → (Nat → α) → α) : Done n T step (2 ^ n - 1) 0 := by
  intro s' l' hok' hle
  have := hok'.1
  rcases hle with q | q
  · omega
  · omega
theorem Done.fix {α : Type} {n : Nat} {T : Nat → α} {step : Nat → Nat → (Nat → α) → α} (hn : n ≤ 10) (h : Done n T step 0 (n + 1)) : FixT n T step := by
  intro s l hok
  refine h s l hok ?_
  have : ordL l < n + 1 := by
    unfold ordL
    rcases hok.2 with q | q
    · rw [if_neg (by omega)]; omega
    · rw [if_pos q.1]; omega
  by_cases q : s = 0
  · exact Or.inr ⟨q, this⟩
  · exact Or.inl (by omega)
/-! paths -/
def ex (M : Nat → Nat → Nat → Bool) (n : Nat) (E : Nat → Nat → Bool) : Nat → Nat → Nat → Bool
  | 0, s, l => E s l
  | k + 1, s, l => anB (fun d => M s l d && ex M n E k (s ||| 2 ^ d) d) n
def newM (n : Nat) (M : Nat → Nat → Nat → Bool) : Prop := ∀ s l d, d < n → M s l d = true → s.testBit d = false
theorem ex_s {M : Nat → Nat → Nat → Bool} {n : Nat} {E : Nat → Nat → Bool} {k s l : Nat} : ex M n E (k + 1) s l = true ↔ ∃ d, d < n ∧ M s l d = true ∧ ex M n E k (s ||| 2 ^ d) d = true := by
  show anB _ n = true ↔ _
  rw [anB_iff]
  exact ⟨fun ⟨d, hd, h⟩ => ⟨d, hd, (Bool.and_eq_true _ _ ▸ h).1, (Bool.and_eq_true _ _ ▸ h).2⟩, fun ⟨d, hd, h1, h2⟩ => ⟨d, hd, by rw [h1, h2]; rfl⟩⟩
theorem pc_le_n {s n : Nat} (hs : s < 2 ^ n) (hn : n ≤ 11) : pc s ≤ n := by
  unfold pc
  have key : ∀ m, cnt (fun k => s.testBit k) (n + m) = cnt (fun k => s.testBit k) n := by
    intro m
    induction m with
    | zero => rfl
    | succ m ih => rw [← Nat.add_assoc, cnt_s, ih, tb_lt hs (by omega)]; rfl
  have := key (11 - n)
  rw [show n + (11 - n) = 11 by omega] at this
  rw [this]
  exact cnt_le _ _
theorem ex_len {M : Nat → Nat → Nat → Bool} {n : Nat} (hn : n ≤ 10) (hM : newM n M) {E : Nat → Nat → Bool} : ∀ k s l, okS n s l → ex M n E k s l = true → k + pc s ≤ n := by
  intro k
  induction k with
  | zero => intro s l h _; have := pc_le_n h.1 (by omega); omega
  | succ k ih =>
    intro s l h hx
    obtain ⟨d, hd, h1, h2⟩ := ex_s.mp hx
    have h3 := ih _ _ (okS_step h hd) h2
    rw [pc_or2 (hM s l d hd h1) (by omega)] at h3
    omega
/-- ends of one size alone: how long a path is follows -/
theorem ex_pc {M : Nat → Nat → Nat → Bool} {n c : Nat} (hn : n ≤ 10) (hM : newM n M) {E : Nat → Nat → Bool} (hE : ∀ s l, E s l = true → pc s = c) : ∀ k s l, ex M n E k s l = true → pc s + k = c := by
  intro k
  induction k with
  | zero => intro s l h; exact hE s l h
  | succ k ih =>
    intro s l hx
    obtain ⟨d, hd, h1, h2⟩ := ex_s.mp hx
    have h3 := ih _ _ h2
    rw [pc_or2 (hM s l d hd h1) (by omega)] at h3
    omega
/-- what moves from a state reach -/
theorem ex_congr {M : Nat → Nat → Nat → Bool} {n : Nat} {E E' : Nat → Nat → Bool} {Q : Nat → Nat → Nat → Prop} (hQ : ∀ k s l, Q (k + 1) s l → ∀ d, d < n → M s l d = true → Q k (s ||| 2 ^ d) d) (hE : ∀ s l, Q 0 s l → E s l = E' s l) :
    ∀ k s l, Q k s l → ex M n E k s l = ex M n E' k s l := by
  intro k
  induction k with
  | zero => intro s l h; exact hE s l h
  | succ k ih =>
    intro s l h
    rw [Bool.eq_iff_iff, ex_s, ex_s]
    refine ⟨fun ⟨d, hd, h1, h2⟩ => ⟨d, hd, h1, ?_⟩, fun ⟨d, hd, h1, h2⟩ => ⟨d, hd, h1, ?_⟩⟩
    · rw [← ih _ _ (hQ k s l h d hd h1)]; exact h2
    · rw [ih _ _ (hQ k s l h d hd h1)]; exact h2
/-- the least row of dishes: at each place the first that G lets be -/
def way (M : Nat → Nat → Nat → Bool) (n : Nat) (G : Nat → Nat → Nat → Bool) : Nat → Nat → Nat → List Nat
  | 0, _, _ => []
  | k + 1, s, l => lst (fun d => M s l d && G k (s ||| 2 ^ d) d) n :: way M n G k (s ||| 2 ^ lst (fun d => M s l d && G k (s ||| 2 ^ d) d) n) (lst (fun d => M s l d && G k (s ||| 2 ^ d) d) n)
theorem way_len (M : Nat → Nat → Nat → Bool) (n : Nat) (G : Nat → Nat → Nat → Bool) : ∀ k s l, (way M n G k s l).length = k := by
  intro k
  induction k with
  | zero => intro s l; rfl
  | succ k ih => intro s l; unfold way; rw [List.length_cons, ih]
theorem lst_congr {p q : Nat → Bool} : ∀ n, (∀ d, d < n → p d = q d) → lst p n = lst q n := by
  intro n
  induction n with
  | zero => intro _; rfl
  | succ n ih => intro h; unfold lst; rw [ih fun d hd => h d (by omega), h n (by omega)]
theorem lst_ex {p : Nat → Bool} {n d : Nat} (hd : d < n) (h : p d = true) : lst p n < n ∧ p (lst p n) = true ∧ ∀ j, j < lst p n → p j = false := by
  obtain ⟨a, b, c⟩ := lst_spec p n
  have : lst p n < n := by
    rcases Nat.lt_or_ge (lst p n) n with q | q
    · exact q
    · have := b d (by omega); rw [h] at this; exact absurd this (by decide)
  exact ⟨this, c this, b⟩
theorem way_congr {M : Nat → Nat → Nat → Bool} {n : Nat} {G G' : Nat → Nat → Nat → Bool} {Q : Nat → Nat → Nat → Prop}
    (hG : ∀ k s l, Q (k + 1) s l → ∀ d, d < n → M s l d = true → G k (s ||| 2 ^ d) d = G' k (s ||| 2 ^ d) d)
    (hQ : ∀ k s l, Q (k + 1) s l → ∀ d, d < n → M s l d = true → G k (s ||| 2 ^ d) d = true → Q k (s ||| 2 ^ d) d)
    (hx : ∀ k s l, Q (k + 1) s l → ∃ d, d < n ∧ M s l d = true ∧ G k (s ||| 2 ^ d) d = true) :
    ∀ k s l, Q k s l → way M n G k s l = way M n G' k s l := by
  intro k
  induction k with
  | zero => intro s l _; rfl
  | succ k ih =>
    intro s l h
    have e : lst (fun d => M s l d && G k (s ||| 2 ^ d) d) n = lst (fun d => M s l d && G' k (s ||| 2 ^ d) d) n := lst_congr n fun d hd => by
      cases q : M s l d with
      | false => rfl
      | true => rw [hG k s l h d hd q]
    obtain ⟨d, hd, h1, h2⟩ := hx k s l h
    obtain ⟨a, b, _⟩ := lst_ex (p := fun d => M s l d && G k (s ||| 2 ^ d) d) hd (by rw [h1, h2]; rfl)
    have b1 := (Bool.and_eq_true _ _ ▸ b).1
    have b2 := (Bool.and_eq_true _ _ ▸ b).2
    unfold way
    rw [ih _ _ (hQ k s l h _ a b1 b2), e]
/-! the most dishes more: what its table says -/
def stM (M : Nat → Nat → Nat → Bool) (E : Nat → Nat → Bool) (n : Nat) : Nat → Nat → (Nat → Int32) → Int32 := fun s l f => foldN (fun d acc => if M s l d = true then jmax acc (1 + f d) else acc) (if E s l = true then 0 else -1000000) n
theorem jmax_i (a b : Int32) : (jmax a b).toInt = max a.toInt b.toInt := by
  unfold jmax
  by_cases q : b ≤ a
  · split
    · rw [Int32.le_iff_toInt_le] at q; rename_i z; rw [Int32.lt_iff_toInt_lt] at z; omega
    · rw [Int32.le_iff_toInt_le] at q; omega
  · split
    · rename_i z; rw [Int32.lt_iff_toInt_lt] at z; omega
    · rename_i z; rw [Int32.lt_iff_toInt_lt] at z; rw [Int32.le_iff_toInt_le] at q; omega
theorem add1_i {x : Int32} (h1 : -2000000 ≤ x.toInt) (h2 : x.toInt ≤ 2000000) : (1 + x).toInt = 1 + x.toInt := by
  rw [Int32.toInt_add]
  have : (1 : Int32).toInt = 1 := by decide
  rw [this]
  exact Int.bmod_eq_of_le (by omega) (by omega)
theorem foldMax {c : Nat → Bool} {g : Nat → Int32} {a : Int32} : ∀ n, a.toInt ≤ (foldN (fun d acc => if c d = true then jmax acc (g d) else acc) a n).toInt ∧ (∀ d, d < n → c d = true → (g d).toInt ≤ (foldN (fun d acc => if c d = true then jmax acc (g d) else acc) a n).toInt) ∧
    (foldN (fun d acc => if c d = true then jmax acc (g d) else acc) a n = a ∨ ∃ d, d < n ∧ c d = true ∧ foldN (fun d acc => if c d = true then jmax acc (g d) else acc) a n = g d) := by
  intro n
  induction n with
  | zero => exact ⟨by show a.toInt ≤ a.toInt; omega, fun d hd => absurd hd (by omega), Or.inl rfl⟩
  | succ n ih =>
    obtain ⟨i1, i2, i3⟩ := ih
    have e : foldN (fun d acc => if c d = true then jmax acc (g d) else acc) a (n + 1) = if c n = true then jmax (foldN (fun d acc => if c d = true then jmax acc (g d) else acc) a n) (g n) else foldN (fun d acc => if c d = true then jmax acc (g d) else acc) a n := rfl
    rw [e]
    generalize foldN (fun d acc => if c d = true then jmax acc (g d) else acc) a n = x at i1 i2 i3
    by_cases q : c n = true
    · rw [if_pos q]
      have hm := jmax_i x (g n)
      refine ⟨by omega, fun d hd hc => ?_, ?_⟩
      · by_cases z : d = n
        · rw [z]; omega
        · have := i2 d (by omega) hc; omega
      · by_cases z : (g n).toInt ≤ x.toInt
        · have : jmax x (g n) = x := Int32.toInt_inj.mp (by omega)
          rw [this]
          rcases i3 with y | ⟨d, hd, hc, y⟩
          · exact Or.inl y
          · exact Or.inr ⟨d, by omega, hc, y⟩
        · have : jmax x (g n) = g n := Int32.toInt_inj.mp (by omega)
          exact Or.inr ⟨n, by omega, q, this⟩
    · rw [if_neg q]
      refine ⟨i1, fun d hd hc => ?_, ?_⟩
      · by_cases z : d = n
        · rw [z] at hc; exact absurd hc q
        · exact i2 d (by omega) hc
      · rcases i3 with y | ⟨d, hd, hc, y⟩
        · exact Or.inl y
        · exact Or.inr ⟨d, by omega, hc, y⟩
theorem stM_c {M : Nat → Nat → Nat → Bool} {E : Nat → Nat → Bool} {n : Nat} (hM : newM n M) : stepC n (stM M E n) := by
  intro s l f g _ h
  refine foldN_congr n fun d hd x => ?_
  by_cases q : M s l d = true
  · rw [if_pos q, if_pos q, h d hd (hM s l d hd q)]
  · rw [if_neg q, if_neg q]
theorem mes_spec {M : Nat → Nat → Nat → Bool} {E : Nat → Nat → Bool} {n : Nat} (hn : n ≤ 10) (hM : newM n M) {T : Nat → Int32} (hT : FixT n T (stM M E n)) :
    ∀ r s l, r ≤ 20 → okS n s l → n ≤ pc s + r → (∀ k, ex M n E k s l = true → (k : Int) ≤ (T (11 * s + l)).toInt) ∧ (0 ≤ (T (11 * s + l)).toInt → ∃ k, k ≤ r ∧ T (11 * s + l) = nI k ∧ ex M n E k s l = true) ∧ -1000000 ≤ (T (11 * s + l)).toInt ∧ (T (11 * s + l)).toInt ≤ (r : Int) ∧ ((T (11 * s + l)).toInt < 0 → (T (11 * s + l)).toInt ≤ -1000000 + (r : Int)) := by
  have e0 : (0 : Int32).toInt = 0 := by decide
  have em : (-1000000 : Int32).toInt = -1000000 := by decide
  intro r
  induction r with
  | zero =>
    intro s l _ hok hr
    have hno : ∀ d, d < n → M s l d = true → False := fun d hd hm => by
      have h1 := okS_step hok hd
      have h2 := pc_le_n h1.1 (by omega)
      rw [pc_or2 (hM s l d hd hm) (by omega)] at h2
      omega
    have e := hT s l hok
    have f := foldMax (c := fun d => M s l d) (g := fun d => 1 + T (11 * (s ||| 2 ^ d) + d)) (a := if E s l = true then 0 else -1000000) n
    rw [show T (11 * s + l) = foldN (fun d acc => if M s l d = true then jmax acc (1 + T (11 * (s ||| 2 ^ d) + d)) else acc) (if E s l = true then 0 else -1000000) n from e]
    obtain ⟨f1, f2, f3⟩ := f
    have f4 := f3.resolve_right (fun ⟨d, hd, hc, _⟩ => hno d hd hc)
    rw [f4]
    by_cases q : E s l = true
    · rw [if_pos q]
      refine ⟨fun k hk => ?_, fun _ => ⟨0, by omega, rfl, q⟩, by omega, by omega, by omega⟩
      cases k with
      | zero => omega
      | succ k => obtain ⟨d, hd, h1, _⟩ := ex_s.mp hk; exact (hno d hd h1).elim
    · rw [if_neg q]
      refine ⟨fun k hk => ?_, fun h => absurd h (by omega), by omega, by omega, by omega⟩
      cases k with
      | zero => exact absurd hk q
      | succ k => obtain ⟨d, hd, h1, _⟩ := ex_s.mp hk; exact (hno d hd h1).elim
  | succ r ih =>
    intro s l hr20 hok hr
    have e := hT s l hok
    have f := foldMax (c := fun d => M s l d) (g := fun d => 1 + T (11 * (s ||| 2 ^ d) + d)) (a := if E s l = true then 0 else -1000000) n
    rw [show T (11 * s + l) = foldN (fun d acc => if M s l d = true then jmax acc (1 + T (11 * (s ||| 2 ^ d) + d)) else acc) (if E s l = true then 0 else -1000000) n from e]
    generalize foldN (fun d acc => if M s l d = true then jmax acc (1 + T (11 * (s ||| 2 ^ d) + d)) else acc) (if E s l = true then 0 else -1000000) n = x at f
    obtain ⟨f1, f2, f3⟩ := f
    have ihd := fun d (hd : d < n) (hm : M s l d = true) => ih (s ||| 2 ^ d) d (by omega) (okS_step hok hd) (by rw [pc_or2 (hM s l d hd hm) (by omega)]; omega)
    have hx : ∀ d, d < n → M s l d = true → (1 + T (11 * (s ||| 2 ^ d) + d)).toInt = 1 + (T (11 * (s ||| 2 ^ d) + d)).toInt := fun d hd hm => by
      obtain ⟨_, _, h7, h8, _⟩ := ihd d hd hm
      exact add1_i (by omega) (by omega)
    have ini : (E s l = true ∧ (if E s l = true then (0 : Int32) else -1000000).toInt = 0) ∨ (¬ E s l = true ∧ (if E s l = true then (0 : Int32) else -1000000).toInt = -1000000) := by
      by_cases q : E s l = true
      · exact Or.inl ⟨q, by rw [if_pos q]; exact e0⟩
      · exact Or.inr ⟨q, by rw [if_neg q]; exact em⟩
    have ub : x.toInt ≤ (r : Int) + 1 ∧ (x.toInt < 0 → x.toInt ≤ -1000000 + ((r : Int) + 1)) := by
      rcases f3 with z | ⟨d, hd, hm, z⟩
      · rw [z]; omega
      · obtain ⟨h5, h6, h7, h8, h9⟩ := ihd d hd hm
        have := hx d hd hm
        rw [z]; omega
    refine ⟨fun k hk => ?_, fun h0 => ?_, by omega, by omega, by omega⟩
    · cases k with
      | zero =>
        rcases ini with ⟨q, w⟩ | ⟨q, w⟩
        · omega
        · exact absurd hk q
      | succ k =>
        obtain ⟨d, hd, h1, h2⟩ := ex_s.mp hk
        have h3 := f2 d hd h1
        have h4 := hx d hd h1
        have := (ihd d hd h1).1 k h2
        omega
    · rcases f3 with z | ⟨d, hd, hm, z⟩
      · rcases ini with ⟨q, w⟩ | ⟨q, w⟩
        · rw [if_pos q] at z; exact ⟨0, by omega, z, q⟩
        · rw [z] at h0; omega
      · obtain ⟨h5, h6, h7, h8, h9⟩ := ihd d hd hm
        have h4 := hx d hd hm
        rw [z] at h0
        obtain ⟨k, hk, ek, hex⟩ := h6 (by omega)
        exact ⟨k + 1, by omega, by rw [z, ek, Int32.add_comm, nI_1], ex_s.mpr ⟨d, hd, hm, hex⟩⟩
