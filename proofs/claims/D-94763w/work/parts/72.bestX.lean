/-! component: the set of most worth, and the least row to it -/
def rchT (V : VV) (A s : Nat) : Bool := anB (fun o => stateB s (lOf o) && decide (0 < tabM V A s (lOf o))) (vn V + 1)
theorem rchT_iff {V : VV} (hn : vn V ≤ 10) {A s : Nat} (hs : s < 2 ^ vn V) : rchT V A s = true ↔ ∃ l, l ≤ 10 ∧ rchB (mv V A) (vn V) (s0V V) (l0V V) s l := by
  unfold rchT
  rw [anB_iff]
  constructor
  · rintro ⟨o, ho, h⟩
    have hl := lOf_n hn ho
    exact ⟨lOf o, by omega, (okS_B hn hs hl).mp (Bool.and_eq_true _ _ ▸ h).1, of_decide_eq_true (Bool.and_eq_true _ _ ▸ h).2⟩
  · rintro ⟨l, hl, hok, hr⟩
    refine ⟨ordL l, ordL_lt hn hok, ?_⟩
    rw [lOf_ord hl, (okS_B hn hs (by rcases hok.2 with q | q <;> omega)).mpr hok]
    exact decide_eq_true hr
def candV (V : VV) (A due s : Nat) : Bool := rchT V A s && decide (pc s = due)
def bestW (V : VV) (A due : Nat) (w : Nat → Int32) (c : Nat) : Int32 := foldN (fun s acc => if candV V A due s = true then jmax acc (w s) else acc) (-1000000) c
theorem bestW_s (V : VV) (A due : Nat) (w : Nat → Int32) (c : Nat) : bestW V A due w (c + 1) = if candV V A due c = true then jmax (bestW V A due w c) (w c) else bestW V A due w c := rfl
def Ew (w : Nat → Int32) (b : Int32) (due s _l : Nat) : Bool := decide (pc s = due) && decide (w s = b)
def stB (M : Nat → Nat → Nat → Bool) (w : Nat → Int32) (b : Int32) (due n : Nat) : Nat → Nat → (Nat → Int32) → Int32 := fun s l f => if pc s = due then (if w s = b then 1 else 0) else foldN (fun d acc => if M s l d = true then acc ||| f d else acc) 0 n
theorem stB_c {M : Nat → Nat → Nat → Bool} {w : Nat → Int32} {b : Int32} {due n : Nat} (hM : newM n M) : stepC n (stB M w b due n) := by
  intro s l f g _ h
  unfold stB
  split
  · rfl
  · refine foldN_congr n fun d hd x => ?_
    by_cases q : M s l d = true
    · rw [if_pos q, if_pos q, h d hd (hM s l d hd q)]
    · rw [if_neg q, if_neg q]
theorem j01_or (a b : Bool) : j01 a ||| j01 b = j01 (a || b) := by cases a <;> cases b <;> decide
theorem foldOr {c : Nat → Bool} {t : Nat → Bool} {g : Nat → Int32} : ∀ n, (∀ d, d < n → c d = true → g d = j01 (t d)) → foldN (fun d acc => if c d = true then acc ||| g d else acc) 0 n = j01 (anB (fun d => c d && t d) n) := by
  intro n
  induction n with
  | zero => intro _; rfl
  | succ n ih =>
    intro h
    have e := ih fun d hd => h d (by omega)
    show (if c n = true then foldN (fun d acc => if c d = true then acc ||| g d else acc) 0 n ||| g n else foldN (fun d acc => if c d = true then acc ||| g d else acc) 0 n) = _
    rw [e, anB_s]
    by_cases q : c n = true
    · rw [if_pos q, h n (by omega) q, q, j01_or, Bool.true_and]
    · rw [if_neg q]
      rw [Bool.not_eq_true] at q
      rw [q, Bool.false_and, Bool.or_false]
theorem stB_spec {M : Nat → Nat → Nat → Bool} {w : Nat → Int32} {b : Int32} {due n : Nat} (hn : n ≤ 10) (hM : newM n M) {T : Nat → Int32} (hT : FixT n T (stB M w b due n)) : ∀ r s l, okS n s l → n ≤ pc s + r → T (11 * s + l) = j01 (decide (pc s ≤ due) && ex M n (Ew w b due) (due - pc s) s l) := by
  have key : ∀ s l, okS n s l → (∀ d, d < n → M s l d = true → T (11 * (s ||| 2 ^ d) + d) = j01 (decide (pc (s ||| 2 ^ d) ≤ due) && ex M n (Ew w b due) (due - pc (s ||| 2 ^ d)) (s ||| 2 ^ d) d)) → T (11 * s + l) = j01 (decide (pc s ≤ due) && ex M n (Ew w b due) (due - pc s) s l) := by
    intro s l hok h
    rw [hT s l hok]
    unfold stB
    by_cases q : pc s = due
    · rw [if_pos q, decide_eq_true (show pc s ≤ due by omega), Bool.true_and, show due - pc s = 0 by omega]
      show _ = j01 (Ew w b due s l)
      unfold Ew
      rw [decide_eq_true q, Bool.true_and]
      by_cases z : w s = b
      · rw [if_pos z, decide_eq_true z]; rfl
      · rw [if_neg z, decide_eq_false z]; rfl
    · rw [if_neg q, foldOr (t := fun d => decide (pc (s ||| 2 ^ d) ≤ due) && ex M n (Ew w b due) (due - pc (s ||| 2 ^ d)) (s ||| 2 ^ d) d) n h]
      congr 1
      rw [Bool.eq_iff_iff, anB_iff]
      constructor
      · rintro ⟨d, hd, hx⟩
        have h1 := (Bool.and_eq_true _ _ ▸ hx).1
        have h2 := (Bool.and_eq_true _ _ ▸ hx).2
        have h3 := of_decide_eq_true (Bool.and_eq_true _ _ ▸ h2).1
        have h4 := (Bool.and_eq_true _ _ ▸ h2).2
        have hpc := pc_or2 (hM s l d hd h1) (show d < 11 by omega)
        rw [decide_eq_true (show pc s ≤ due by omega), Bool.true_and, show due - pc s = due - pc (s ||| 2 ^ d) + 1 by omega]
        exact ex_s.mpr ⟨d, hd, h1, h4⟩
      · intro hx
        have h3 := of_decide_eq_true (Bool.and_eq_true _ _ ▸ hx).1
        have h4 := (Bool.and_eq_true _ _ ▸ hx).2
        rw [show due - pc s = due - pc s - 1 + 1 by omega] at h4
        obtain ⟨d, hd, h1, h2⟩ := ex_s.mp h4
        have hpc := pc_or2 (hM s l d hd h1) (show d < 11 by omega)
        refine ⟨d, hd, ?_⟩
        rw [h1, decide_eq_true (show pc (s ||| 2 ^ d) ≤ due by omega), show due - pc (s ||| 2 ^ d) = due - pc s - 1 by omega, h2]; rfl
  intro r
  induction r with
  | zero =>
    intro s l hok hr
    refine key s l hok fun d hd hm => ?_
    have h1 := okS_step hok hd
    have h2 := pc_le_n h1.1 (by omega)
    rw [pc_or2 (hM s l d hd hm) (by omega)] at h2
    omega
  | succ r ih =>
    intro s l hok hr
    exact key s l hok fun d hd hm => ih _ _ (okS_step hok hd) (by rw [pc_or2 (hM s l d hd hm) (by omega)]; omega)
