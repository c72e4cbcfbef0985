/-! PLAIN MATHEMATICS: bits of numbers, counting, sums, greatest ones; Int32 by numbers -/
theorem nI_bv (n : Nat) : (nI n).toBitVec = BitVec.ofNat 32 n := rfl
theorem nI_tn {n : Nat} (h : n < 2 ^ 32) : (nI n).toBitVec.toNat = n := by rw [nI_bv, BitVec.toNat_ofNat, Nat.mod_eq_of_lt h]
theorem nI_inj32 {x y : Int32} (h : x.toBitVec = y.toBitVec) : x = y := Int32.toBitVec_inj.mp h
theorem nI_and (a b : Nat) : nI a &&& nI b = nI (a &&& b) := nI_inj32 (by rw [Int32.toBitVec_and, nI_bv, nI_bv, nI_bv, BitVec.ofNat_and])
theorem nI_or (a b : Nat) : nI a ||| nI b = nI (a ||| b) := nI_inj32 (by rw [Int32.toBitVec_or, nI_bv, nI_bv, nI_bv, BitVec.ofNat_or])
theorem nI_xor (a b : Nat) : nI a ^^^ nI b = nI (a ^^^ b) := nI_inj32 (by rw [Int32.toBitVec_xor, nI_bv, nI_bv, nI_bv, BitVec.ofNat_xor])
theorem nI_shl1 : ∀ d, d < 32 → (1 : Int32) <<< (nI d &&& 31) = nI (2 ^ d) := by decide +kernel
theorem nI_sh31 : ∀ d, d < 32 → ((nI d &&& 31).toBitVec.smod 32).toNat = d := by decide +kernel
theorem nI_shr {n d : Nat} (h : n < 2 ^ 31) (hd : d < 32) : nI n >>> (nI d &&& 31) = nI (n / 2 ^ d) := pk_shrN h _ d (nI_sh31 d hd)
theorem nI_shl {n d : Nat} (hd : d < 32) (h : n * 2 ^ d < 2 ^ 32) : nI n <<< (nI d &&& 31) = nI (n * 2 ^ d) := pk_shlN _ d (nI_sh31 d hd) h
theorem nI_lit0 : (0 : Int32) = nI 0 := rfl
theorem nI_lit1 : (1 : Int32) = nI 1 := rfl
theorem nI_eqI {a b : Nat} (ha : a < 2 ^ 31) (hb : b < 2 ^ 31) : nI a = nI b ↔ a = b := nI_eq ha hb
theorem nI_eq0 {a : Nat} (ha : a < 2 ^ 31) : nI a = 0 ↔ a = 0 := by rw [nI_lit0]; exact nI_eq ha (by omega)
theorem nI_eq1 {a : Nat} (ha : a < 2 ^ 31) : nI a = 1 ↔ a = 1 := by rw [nI_lit1]; exact nI_eq ha (by omega)
theorem nI_lt0 {a : Nat} (ha : a < 2 ^ 31) : ¬ nI a < 0 := nI_pos ha
theorem nI_ge0 {a : Nat} (ha : a < 2 ^ 31) : (0 : Int32) ≤ nI a := nI_pos' ha
theorem nI_add1 (a : Nat) : nI a + (1 : Int32) = nI (a + 1) := nI_1 a
theorem nI_m1 {a : Nat} (h : 0 < a) : nI a + (-1 : Int32) = nI (a - 1) := by
  obtain ⟨b, rfl⟩ : ∃ b, a = b + 1 := ⟨a - 1, by omega⟩
  exact pk_m1 b
/-- a bit as the code asks it -/
def hasB (b k : Int32) : Bool := decide (((b >>> (k &&& 31)) &&& (1 : Int32)) = (1 : Int32))
def j01 (b : Bool) : Int32 := if b then 1 else 0
theorem j01_t : j01 true = 1 := rfl
theorem j01_f : j01 false = 0 := rfl
theorem j01_eq0 (b : Bool) : j01 b = 0 ↔ b = false := by cases b <;> decide
theorem j01_eq1 (b : Bool) : j01 b = 1 ↔ b = true := by cases b <;> decide
theorem j01_ne0 (b : Bool) : ¬ j01 b = 0 ↔ b = true := by cases b <;> decide
theorem j01_nz (b : Bool) : nzB (j01 b) := by cases b <;> rfl
theorem j01_inj {a b : Bool} : j01 a = j01 b ↔ a = b := by cases a <;> cases b <;> decide
theorem hasB_nI {s k : Nat} (hs : s < 2 ^ 31) (hk : k < 31) : hasB (nI s) (nI k) = s.testBit k := by
  unfold hasB
  rw [nI_shr hs (by omega), nI_lit1, nI_and]
  have h2 : s / 2 ^ k &&& 1 = s / 2 ^ k % 2 := Nat.and_one_is_mod _
  rw [h2]
  have h3 : s / 2 ^ k % 2 < 2 := Nat.mod_lt _ (by decide)
  have h4 : s.testBit k = decide (s / 2 ^ k % 2 = 1) := Nat.testBit_eq_decide_div_mod_eq
  rw [h4]
  exact decide_eq_decide.mpr (nI_eq (by omega) (by omega))
/-- counting, all, some, the bits of a property, sums -/
def cnt (p : Nat → Bool) : Nat → Nat
  | 0 => 0
  | k + 1 => cnt p k + (if p k then 1 else 0)
def alB (p : Nat → Bool) : Nat → Bool
  | 0 => true
  | k + 1 => alB p k && p k
def anB (p : Nat → Bool) : Nat → Bool
  | 0 => false
  | k + 1 => anB p k || p k
def bitsOf (p : Nat → Bool) : Nat → Nat
  | 0 => 0
  | k + 1 => bitsOf p k ||| (if p k then 2 ^ k else 0)
def sumN (f : Nat → Nat) : Nat → Nat
  | 0 => 0
  | k + 1 => sumN f k + f k
def sumI (f : Nat → Int32) : Nat → Int32
  | 0 => 0
  | k + 1 => sumI f k + f k
def maxN (f : Nat → Nat) : Nat → Nat
  | 0 => 0
  | k + 1 => max (maxN f k) (f k)
theorem cnt_le (p : Nat → Bool) (n : Nat) : cnt p n ≤ n := by
  induction n with
  | zero => exact Nat.le_refl _
  | succ n ih => unfold cnt; split <;> omega
theorem cnt_congr {p q : Nat → Bool} {n : Nat} (h : ∀ k, k < n → p k = q k) : cnt p n = cnt q n := by
  induction n with
  | zero => rfl
  | succ n ih => unfold cnt; rw [ih fun k hk => h k (by omega), h n (by omega)]
theorem alB_iff {p : Nat → Bool} {n : Nat} : alB p n = true ↔ ∀ k, k < n → p k = true := by
  induction n with
  | zero => exact ⟨fun _ k hk => absurd hk (by omega), fun _ => rfl⟩
  | succ n ih =>
    unfold alB
    rw [Bool.and_eq_true, ih]
    refine ⟨fun h k hk => ?_, fun h => ⟨fun k hk => h k (by omega), h n (by omega)⟩⟩
    rcases Nat.lt_or_ge k n with q | q
    · exact h.1 k q
    · rw [show k = n by omega]; exact h.2
theorem anB_iff {p : Nat → Bool} {n : Nat} : anB p n = true ↔ ∃ k, k < n ∧ p k = true := by
  induction n with
  | zero => exact ⟨fun h => (by cases h), fun ⟨k, hk, _⟩ => absurd hk (by omega)⟩
  | succ n ih =>
    unfold anB
    rw [Bool.or_eq_true, ih]
    refine ⟨fun h => ?_, fun ⟨k, hk, h⟩ => ?_⟩
    · rcases h with ⟨k, hk, h⟩ | h
      · exact ⟨k, by omega, h⟩
      · exact ⟨n, by omega, h⟩
    · rcases Nat.lt_or_ge k n with q | q
      · exact Or.inl ⟨k, q, h⟩
      · rw [show k = n by omega] at h; exact Or.inr h
theorem bitsOf_lt (p : Nat → Bool) (n : Nat) : bitsOf p n < 2 ^ n := by
  induction n with
  | zero => exact Nat.one_pos
  | succ n ih =>
    unfold bitsOf
    have h1 : 2 ^ n < 2 ^ (n + 1) := Nat.pow_lt_pow_right (by decide) (by omega)
    split
    · exact Nat.or_lt_two_pow (by omega) h1
    · rw [Nat.or_zero]; omega
theorem bitsOf_tb (p : Nat → Bool) (n j : Nat) : (bitsOf p n).testBit j = (decide (j < n) && p j) := by
  induction n with
  | zero => simp [bitsOf]
  | succ n ih =>
    unfold bitsOf
    rw [Nat.testBit_or, ih]
    by_cases hj : j = n
    · subst hj
      by_cases hp : p j = true
      · simp [hp, Nat.testBit_two_pow_self]
      · simp [hp]
    · have h0 : (if p n = true then 2 ^ n else 0).testBit j = false := by
        split
        · exact Nat.testBit_two_pow_of_ne (fun q => hj q.symm)
        · exact Nat.zero_testBit j
      rw [h0, Bool.or_false]
      congr 1
      exact decide_eq_decide.mpr (by omega)
/-- the number of bits -/
def pc (s : Nat) : Nat := cnt (fun k => s.testBit k) 11
theorem pc_le (s : Nat) : pc s ≤ 11 := cnt_le _ _
theorem tb_or2 {s d j : Nat} : (s ||| 2 ^ d).testBit j = (s.testBit j || decide (j = d)) := by
  rw [Nat.testBit_or]
  by_cases h : j = d
  · subst h; simp [Nat.testBit_two_pow_self]
  · rw [Nat.testBit_two_pow_of_ne (fun q => h q.symm)]; simp [h]
theorem or2_lt {s d n : Nat} (hs : s < 2 ^ n) (hd : d < n) : s ||| 2 ^ d < 2 ^ n := Nat.or_lt_two_pow hs (Nat.pow_lt_pow_right (by decide) hd)
theorem or2_gt {s d : Nat} (h : s.testBit d = false) : s < s ||| 2 ^ d := by
  refine Nat.lt_of_le_of_ne Nat.left_le_or fun q => ?_
  rw [q, tb_or2] at h
  simp at h
theorem cnt_or2 {s d : Nat} (h : s.testBit d = false) : ∀ n, cnt (fun k => (s ||| 2 ^ d).testBit k) n = cnt (fun k => s.testBit k) n + (if d < n then 1 else 0) := by
  intro n
  induction n with
  | zero => rfl
  | succ n ih =>
    unfold cnt
    rw [ih, tb_or2]
    by_cases hd : n = d
    · subst hd
      simp [h]
    · simp only [hd, decide_false, Bool.or_false]
      by_cases h1 : d < n
      · rw [if_pos h1, if_pos (show d < n + 1 by omega)]; omega
      · rw [if_neg h1, if_neg (show ¬ d < n + 1 by omega)]; omega
theorem pc_or2 {s d : Nat} (h : s.testBit d = false) (hd : d < 11) : pc (s ||| 2 ^ d) = pc s + 1 := by
  unfold pc; rw [cnt_or2 h, if_pos hd]
theorem pc_0 : pc 0 = 0 := by decide +kernel
theorem pc_2 : ∀ d, d < 11 → pc (2 ^ d) = 1 := by decide +kernel
set_option maxRecDepth 100000 in
theorem bitC_all : (List.range 2048).all (fun s => decide (bitC (nI s) = nI (pc s))) = true := by decide +kernel
theorem bitC_nI {s : Nat} (h : s < 2048) : bitC (nI s) = nI (pc s) := by
  have h1 := List.all_eq_true.mp bitC_all s (List.mem_range.mpr h)
  exact of_decide_eq_true h1
theorem tb_lt {s n k : Nat} (hs : s < 2 ^ n) (hk : n ≤ k) : s.testBit k = false := Nat.testBit_lt_two_pow (Nat.lt_of_lt_of_le hs (Nat.pow_le_pow_right (by decide) hk))
theorem tb_ext {a b : Nat} (h : ∀ j, a.testBit j = b.testBit j) : a = b := Nat.eq_of_testBit_eq h
