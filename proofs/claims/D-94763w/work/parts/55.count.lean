/-! COUNTING rows of dishes -/
def nL (n : Nat) : Int64 := Int64.ofNat n
theorem nL_add (a b : Nat) : nL a + nL b = nL (a + b) := (Int64.ofNat_add a b).symm
theorem nL_toInt {n : Nat} (h : n < 2 ^ 63) : (nL n).toInt = n := Int64.toInt_ofNat_of_lt h
theorem nL_pos {n : Nat} (h : n < 2 ^ 63) : 0 < nL n ↔ 0 < n := by
  rw [Int64.lt_iff_toInt_lt, nL_toInt h]
  show (0 : Int) < n ↔ _
  omega
theorem sumN_z {f : Nat → Nat} : ∀ n, (∀ k, k < n → f k = 0) → sumN f n = 0 := by
  intro n
  induction n with
  | zero => intro _; rfl
  | succ n ih => intro h; unfold sumN; rw [ih fun k hk => h k (by omega), h n (by omega)]
theorem sumN_congr {f g : Nat → Nat} : ∀ n, (∀ k, k < n → f k = g k) → sumN f n = sumN g n := by
  intro n
  induction n with
  | zero => intro _; rfl
  | succ n ih => intro h; unfold sumN; rw [ih fun k hk => h k (by omega), h n (by omega)]
theorem sumN_single {f : Nat → Nat} {a : Nat} : ∀ n, (∀ k, k < n → k ≠ a → f k = 0) → sumN f n = if a < n then f a else 0 := by
  intro n
  induction n with
  | zero => intro _; rw [if_neg (by omega)]; rfl
  | succ n ih =>
    intro h
    unfold sumN
    rw [ih fun k hk => h k (by omega)]
    by_cases q : n = a
    · subst q; rw [if_neg (by omega), if_pos (by omega), Nat.zero_add]
    · rw [h n (by omega) q, Nat.add_zero]
      by_cases z : a < n
      · rw [if_pos z, if_pos (by omega)]
      · rw [if_neg z, if_neg (by omega)]
theorem sumN_add (f g : Nat → Nat) : ∀ n, sumN (fun k => f k + g k) n = sumN f n + sumN g n := by
  intro n
  induction n with
  | zero => rfl
  | succ n ih => unfold sumN; rw [ih]; omega
theorem sumN_swap (f : Nat → Nat → Nat) : ∀ n m, sumN (fun a => sumN (fun b => f a b) m) n = sumN (fun b => sumN (fun a => f a b) n) m := by
  intro n
  induction n with
  | zero => intro m; exact (sumN_z m fun _ _ => rfl).symm
  | succ n ih =>
    intro m
    show sumN (fun a => sumN (fun b => f a b) m) n + sumN (fun b => f n b) m = sumN (fun b => sumN (fun a => f a b) n + f n b) m
    rw [ih, sumN_add]
theorem sumN_if {c : Prop} [Decidable c] (f : Nat → Nat) (n : Nat) : (if c then sumN f n else 0) = sumN (fun k => if c then f k else 0) n := by
  by_cases q : c
  · rw [if_pos q]; exact sumN_congr n fun k _ => by rw [if_pos q]
  · rw [if_neg q, sumN_z n fun k _ => by rw [if_neg q]]
theorem sumN_pos {f : Nat → Nat} {n : Nat} : 0 < sumN f n ↔ ∃ k, k < n ∧ 0 < f k := by
  induction n with
  | zero => exact ⟨fun h => absurd h (by unfold sumN; omega), fun ⟨k, hk, _⟩ => absurd hk (by omega)⟩
  | succ n ih =>
    unfold sumN
    refine ⟨fun h => ?_, fun ⟨k, hk, hf⟩ => ?_⟩
    · by_cases q : 0 < f n
      · exact ⟨n, by omega, q⟩
      · obtain ⟨k, hk, hf⟩ := ih.mp (by omega); exact ⟨k, by omega, hf⟩
    · by_cases q : k = n
      · rw [q] at hf; omega
      · have := ih.mpr ⟨k, by omega, hf⟩; omega
/-- rows of k dishes from one state to another -/
def cp (M : Nat → Nat → Nat → Bool) (n : Nat) : Nat → Nat → Nat → Nat → Nat → Nat
  | 0, s0, l0, s, l => if s = s0 ∧ l = l0 then 1 else 0
  | k + 1, s0, l0, s, l => sumN (fun d => if M s0 l0 d = true then cp M n k (s0 ||| 2 ^ d) d s l else 0) n
theorem cp_s (M : Nat → Nat → Nat → Bool) (n k s0 l0 s l : Nat) : cp M n (k + 1) s0 l0 s l = sumN (fun d => if M s0 l0 d = true then cp M n k (s0 ||| 2 ^ d) d s l else 0) n := rfl
theorem ordL_lt {n s l : Nat} (hn : n ≤ 10) (h : okS n s l) : ordL l < n + 1 := by
  unfold ordL
  rcases h.2 with q | q
  · rw [if_neg (by omega)]; omega
  · rw [if_pos q.1]; omega
theorem cp_fwd {M : Nat → Nat → Nat → Bool} {n : Nat} (hn : n ≤ 10) (hM : newM n M) {s l : Nat} (hl : l < n) (hb : s.testBit l = true) : ∀ k s0 l0, okS n s0 l0 →
    cp M n (k + 1) s0 l0 s l = sumN (fun o => if (stateB (preS s l) (lOf o) && M (preS s l) (lOf o) l) = true then cp M n k s0 l0 (preS s l) (lOf o) else 0) (n + 1) := by
  obtain ⟨ho1, ho2⟩ := or_preS hb
  intro k
  induction k with
  | zero =>
    intro s0 l0 hok
    have hb0 := okS_le hn hok
    rw [cp_s, sumN_single (a := l) n fun d hd hne => by
      by_cases q : M s0 l0 d = true
      · rw [if_pos q]; exact if_neg fun z => hne z.2.symm
      · rw [if_neg q], if_pos hl, sumN_single (a := ordL l0) (n + 1) fun o ho hne => by
      by_cases q : (stateB (preS s l) (lOf o) && M (preS s l) (lOf o) l) = true
      · rw [if_pos q]
        exact if_neg fun z => hne (by rw [← z.2, ord_lOf (by omega)])
      · rw [if_neg q], if_pos (ordL_lt hn hok), lOf_ord hb0.1]
    have st : stateB s0 l0 = true := (okS_B hn hok.1 (by rcases hok.2 with q | q <;> omega)).mpr hok
    show (if M s0 l0 l = true then (if s = s0 ||| 2 ^ l ∧ l = l then 1 else 0) else 0) = if (stateB (preS s l) l0 && M (preS s l) l0 l) = true then (if preS s l = s0 ∧ l0 = l0 then 1 else 0) else 0
    by_cases e : preS s l = s0
    · rw [e, st, Bool.true_and]
      have : s = s0 ||| 2 ^ l := by rw [← e]; exact ho1.symm
      by_cases q : M s0 l0 l = true
      · rw [if_pos q, if_pos q, if_pos ⟨this, rfl⟩, if_pos ⟨rfl, rfl⟩]
      · rw [if_neg q, if_neg q]
    · have r0 : (if (stateB (preS s l) l0 && M (preS s l) l0 l) = true then (if preS s l = s0 ∧ l0 = l0 then 1 else 0) else 0) = 0 := by
        split
        · exact if_neg fun z => e z.1
        · rfl
      rw [r0]
      by_cases q : M s0 l0 l = true
      · rw [if_pos q, if_neg fun z => e (by rw [z.1]; exact preS_or (hM s0 l0 l hl q))]
      · rw [if_neg q]
  | succ k ih =>
    intro s0 l0 hok
    rw [cp_s]
    have e1 : sumN (fun d => if M s0 l0 d = true then cp M n (k + 1) (s0 ||| 2 ^ d) d s l else 0) n = sumN (fun d => sumN (fun o => if M s0 l0 d = true then (if (stateB (preS s l) (lOf o) && M (preS s l) (lOf o) l) = true then cp M n k (s0 ||| 2 ^ d) d (preS s l) (lOf o) else 0) else 0) (n + 1)) n :=
      sumN_congr n fun d hd => by
        rw [← sumN_if]
        by_cases q : M s0 l0 d = true
        · rw [if_pos q, if_pos q, ih _ _ (okS_step hok hd)]
        · rw [if_neg q, if_neg q]
    rw [e1, sumN_swap]
    refine sumN_congr (n + 1) fun o ho => ?_
    by_cases q : (stateB (preS s l) (lOf o) && M (preS s l) (lOf o) l) = true
    · rw [if_pos q, cp_s]
      exact sumN_congr n fun d _ => by rw [if_pos q]
    · rw [if_neg q]
      exact sumN_z n fun d _ => by rw [if_neg q]; split <;> rfl
theorem cp_pos {M : Nat → Nat → Nat → Bool} {n : Nat} {s l : Nat} : ∀ k s0 l0, 0 < cp M n k s0 l0 s l ↔ ex M n (fun s' l' => decide (s = s' ∧ l = l')) k s0 l0 = true := by
  intro k
  induction k with
  | zero =>
    intro s0 l0
    show 0 < (if s = s0 ∧ l = l0 then 1 else 0) ↔ decide (s = s0 ∧ l = l0) = true
    rw [decide_eq_true_eq]
    by_cases q : s = s0 ∧ l = l0
    · rw [if_pos q]; exact ⟨fun _ => q, fun _ => by omega⟩
    · rw [if_neg q]; exact ⟨fun z => absurd z (by omega), fun z => absurd z q⟩
  | succ k ih =>
    intro s0 l0
    rw [cp_s, sumN_pos, ex_s]
    refine ⟨fun ⟨d, hd, h⟩ => ?_, fun ⟨d, hd, h1, h2⟩ => ⟨d, hd, by rw [if_pos h1]; exact (ih _ _).mpr h2⟩⟩
    by_cases q : M s0 l0 d = true
    · rw [if_pos q] at h; exact ⟨d, hd, q, (ih _ _).mp h⟩
    · rw [if_neg q] at h; exact absurd h (by omega)
theorem cp_pc {M : Nat → Nat → Nat → Bool} {n : Nat} (hn : n ≤ 10) (hM : newM n M) {s l : Nat} {k s0 l0 : Nat} (h : 0 < cp M n k s0 l0 s l) : pc s0 + k = pc s :=
  ex_pc hn hM (fun s' l' z => by rw [(of_decide_eq_true z).1]) k s0 l0 ((cp_pos k s0 l0).mp h)
theorem cp_le {M : Nat → Nat → Nat → Bool} {n : Nat} (hn : n ≤ 10) {s l : Nat} : ∀ k s0 l0, cp M n k s0 l0 s l ≤ 10 ^ k := by
  intro k
  induction k with
  | zero => intro s0 l0; show (if _ then 1 else 0) ≤ 1; split <;> omega
  | succ k ih =>
    intro s0 l0
    rw [cp_s]
    have h1 := sumN_le (f := fun d => if M s0 l0 d = true then cp M n k (s0 ||| 2 ^ d) d s l else 0) (b := 10 ^ k) n fun d _ => by
      by_cases q : M s0 l0 d = true
      · show (if M s0 l0 d = true then _ else 0) ≤ _; rw [if_pos q]; exact ih _ _
      · show (if M s0 l0 d = true then _ else 0) ≤ _; rw [if_neg q]; exact Nat.zero_le _
    have h2 : n * 10 ^ k ≤ 10 * 10 ^ k := Nat.mul_le_mul_right _ hn
    rw [Nat.pow_succ]
    omega
/-- how many rows lead from the start to a state -/
def cpT (M : Nat → Nat → Nat → Bool) (n s0 l0 s l : Nat) : Nat := if pc s0 ≤ pc s then cp M n (pc s - pc s0) s0 l0 s l else 0
theorem cpT_lt {M : Nat → Nat → Nat → Bool} {n s0 l0 s l : Nat} (hn : n ≤ 10) : cpT M n s0 l0 s l < 2 ^ 63 := by
  unfold cpT
  split
  · have h1 := cp_le (M := M) hn (s := s) (l := l) (pc s - pc s0) s0 l0
    have h2 := pc_le s
    have h3 : 10 ^ (pc s - pc s0) ≤ 10 ^ 11 := Nat.pow_le_pow_right (by decide) (by omega)
    have h4 : (10 : Nat) ^ 11 < 2 ^ 63 := by decide
    omega
  · decide
theorem cpT_fwd {M : Nat → Nat → Nat → Bool} {n s0 l0 s l : Nat} (hn : n ≤ 10) (hM : newM n M) (h0 : okS n s0 l0) (hs : s < 2 ^ n) (hl : l < n) (hb : s.testBit l = true) :
    cpT M n s0 l0 s l = (if s = s0 ∧ l = l0 then 1 else 0) + sumN (fun o => if (stateB (preS s l) (lOf o) && M (preS s l) (lOf o) l) = true then cpT M n s0 l0 (preS s l) (lOf o) else 0) (n + 1) := by
  obtain ⟨ho1, ho2⟩ := or_preS hb
  have hpc : pc s = pc (preS s l) + 1 := by
    have := pc_or2 ho2 (show l < 11 by omega)
    rw [ho1] at this
    exact this
  unfold cpT
  by_cases q : pc s0 ≤ pc (preS s l)
  · have hne : ¬ (s = s0 ∧ l = l0) := fun z => by
      have : pc s = pc s0 := by rw [z.1]
      omega
    rw [if_pos (show pc s0 ≤ pc s by omega), if_neg hne, Nat.zero_add, show pc s - pc s0 = pc (preS s l) - pc s0 + 1 by omega, cp_fwd hn hM hl hb _ _ _ h0]
    exact sumN_congr _ fun o _ => by rw [if_pos q]
  · simp only [if_neg q, ite_self]
    rw [sumN_z (n + 1) fun _ _ => rfl, Nat.add_zero]
    by_cases q2 : pc s0 ≤ pc s
    · rw [if_pos q2, show pc s - pc s0 = 0 by omega]; rfl
    · rw [if_neg q2, if_neg (fun z => q2 (by rw [z.1]; omega))]
theorem rows_eq {M : Nat → Nat → Nat → Bool} {n s0 l0 : Nat} {R : Nat → Int64} (hn : n ≤ 10) (hM : newM n M) (h0 : okS n s0 l0) (hR : PullT n M s0 l0 R) : ∀ b s l, s < b → okS n s l → R (11 * s + l) = nL (cpT M n s0 l0 s l) := by
  intro b
  induction b with
  | zero => intro s l h _; omega
  | succ b ih =>
    intro s l hs hok
    rw [hR s l hok]
    by_cases e : l = 10
    · rw [if_pos e, pull_0]
      have es : s = 0 := by rcases hok.2 with q | q; omega; exact q.2
      unfold cpT
      rw [es, pc_0]
      by_cases q : pc s0 ≤ 0
      · rw [if_pos q, show 0 - pc s0 = 0 by omega]
        show _ = nL (if 0 = s0 ∧ l = l0 then 1 else 0)
        by_cases z : 0 = s0 ∧ l = l0
        · rw [if_pos z, if_pos z]; rfl
        · rw [if_neg z, if_neg z]; rfl
      · rw [if_neg q, if_neg (fun z => q (by rw [← z.1, pc_0]; omega))]; rfl
    · rw [if_neg e]
      have hl : l < n := hok.2.elim (fun z => z.1) (fun z => absurd z.1 e)
      have hb := hok.2.elim (fun z => z.2) (fun z => absurd z.1 e)
      have hlt := preS_lt hb
      rw [cpT_fwd hn hM h0 hok.1 hl hb]
      have key : ∀ c, c ≤ n + 1 → pull M s0 l0 R s l c = nL ((if s = s0 ∧ l = l0 then 1 else 0) + sumN (fun o => if (stateB (preS s l) (lOf o) && M (preS s l) (lOf o) l) = true then cpT M n s0 l0 (preS s l) (lOf o) else 0) c) := by
        intro c
        induction c with
        | zero =>
          intro _
          rw [pull_0]
          show _ = nL ((if s = s0 ∧ l = l0 then 1 else 0) + 0)
          split <;> rfl
        | succ c ihc =>
          intro hc
          rw [pull_s, ihc (by omega)]
          show nL _ + tmR M R s l c = nL ((if s = s0 ∧ l = l0 then 1 else 0) + (sumN _ c + (if (stateB (preS s l) (lOf c) && M (preS s l) (lOf c) l) = true then cpT M n s0 l0 (preS s l) (lOf c) else 0)))
          have ht : tmR M R s l c = nL (if (stateB (preS s l) (lOf c) && M (preS s l) (lOf c) l) = true then cpT M n s0 l0 (preS s l) (lOf c) else 0) := by
            unfold tmR
            by_cases q : (stateB (preS s l) (lOf c) && M (preS s l) (lOf c) l) = true
            · have q1 := (Bool.and_eq_true _ _ ▸ q).1
              have hokp := (okS_B hn (s := preS s l) (by have := hok.1; omega) (lOf_n hn (show c < n + 1 by omega))).mp q1
              have e1 := ih _ _ (by omega) hokp
              have hp := nL_pos (cpT_lt (M := M) (n := n) (s0 := s0) (l0 := l0) (s := preS s l) (l := lOf c) hn)
              rw [e1, if_pos q]
              by_cases z : 0 < cpT M n s0 l0 (preS s l) (lOf c)
              · rw [if_pos ⟨q, hp.mpr z⟩]
              · rw [if_neg (fun y => z (hp.mp y.2)), show cpT M n s0 l0 (preS s l) (lOf c) = 0 by omega]; rfl
            · rw [if_neg q, if_neg (fun y => q y.1)]; rfl
          rw [ht, nL_add, Nat.add_assoc]
      exact key (n + 1) (by omega)
/-- a state comes from the start -/
theorem cpT_ex {M : Nat → Nat → Nat → Bool} {n s0 l0 s l : Nat} (h : 0 < cpT M n s0 l0 s l) : pc s0 ≤ pc s ∧ ex M n (fun s' l' => decide (s = s' ∧ l = l')) (pc s - pc s0) s0 l0 = true := by
  unfold cpT at h
  by_cases q : pc s0 ≤ pc s
  · rw [if_pos q] at h; exact ⟨q, (cp_pos _ _ _).mp h⟩
  · rw [if_neg q] at h; omega
theorem ex_mono {M : Nat → Nat → Nat → Bool} {n : Nat} {E E' : Nat → Nat → Bool} (h : ∀ s l, E s l = true → E' s l = true) : ∀ k s l, ex M n E k s l = true → ex M n E' k s l = true := by
  intro k
  induction k with
  | zero => intro s l hx; exact h s l hx
  | succ k ih => intro s l hx; obtain ⟨d, hd, h1, h2⟩ := ex_s.mp hx; exact ex_s.mpr ⟨d, hd, h1, ih _ _ h2⟩
theorem ex_okS {M : Nat → Nat → Nat → Bool} {n : Nat} {E : Nat → Nat → Bool} : ∀ k s l, okS n s l → ex M n E k s l = true → ∃ s' l', okS n s' l' ∧ E s' l' = true ∧ 0 < cp M n k s l s' l' := by
  intro k
  induction k with
  | zero => intro s l hok h; exact ⟨s, l, hok, h, by show 0 < (if s = s ∧ l = l then 1 else 0); rw [if_pos ⟨rfl, rfl⟩]; omega⟩
  | succ k ih =>
    intro s l hok h
    obtain ⟨d, hd, h1, h2⟩ := ex_s.mp h
    obtain ⟨s', l', a, b, c⟩ := ih _ _ (okS_step hok hd) h2
    exact ⟨s', l', a, b, by rw [cp_s]; exact sumN_pos.mpr ⟨d, hd, by rw [if_pos h1]; exact c⟩⟩
theorem cpT_step {M : Nat → Nat → Nat → Bool} {n s0 l0 s l d : Nat} (hn : n ≤ 10) (hM : newM n M) (h0 : okS n s0 l0) (hok : okS n s l) (hd : d < n) (hm : M s l d = true) (h : 0 < cpT M n s0 l0 s l) : 0 < cpT M n s0 l0 (s ||| 2 ^ d) d := by
  have hb := hM s l d hd hm
  have hok2 := okS_step hok hd
  rw [cpT_fwd hn hM h0 hok2.1 hd (hok2.2.elim (fun z => z.2) (fun z => by omega)), preS_or hb]
  have : 0 < sumN (fun o => if (stateB s (lOf o) && M s (lOf o) d) = true then cpT M n s0 l0 s (lOf o) else 0) (n + 1) := by
    refine sumN_pos.mpr ⟨ordL l, ordL_lt hn hok, ?_⟩
    rw [lOf_ord (okS_le hn hok).1, (okS_B hn hok.1 (by rcases hok.2 with q | q <;> omega)).mpr hok, hm, if_pos (by decide)]
    exact h
  omega
theorem cpT_start {M : Nat → Nat → Nat → Bool} {n s0 l0 : Nat} : 0 < cpT M n s0 l0 s0 l0 := by
  unfold cpT
  rw [if_pos (Nat.le_refl _), Nat.sub_self]
  show 0 < (if s0 = s0 ∧ l0 = l0 then 1 else 0)
  rw [if_pos ⟨rfl, rfl⟩]; omega
