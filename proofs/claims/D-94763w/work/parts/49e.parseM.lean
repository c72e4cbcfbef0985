/-! the model reads a text: where it stands and where it went wrong -/
def rN (σ : St) (a w : Int32) : St := sI (sI σ 24 a) 25 w
theorem rN_at (σ : St) (a w b : Int32) : sI (rN σ a w) 24 b = rN σ b w := by
  unfold rN sI
  refine congrArg (fun f => (f, σ.2)) (funext fun j => ?_)
  show (if j = 24 then b else if j = 25 then w else if j = 24 then a else σ.1 j) = if j = 25 then w else if j = 24 then b else σ.1 j
  by_cases q : j = 24
  · subst q; rfl
  · rw [if_neg q, if_neg q, if_neg q]
theorem rN_wr (σ : St) (a w b : Int32) : sI (rN σ a w) 25 b = rN σ a b := by
  unfold rN sI
  refine congrArg (fun f => (f, σ.2)) (funext fun j => ?_)
  show (if j = 25 then b else if j = 25 then w else if j = 24 then a else σ.1 j) = if j = 25 then b else if j = 24 then a else σ.1 j
  by_cases q : j = 25
  · rw [if_pos q, if_pos q]
  · rw [if_neg q, if_neg q, if_neg q]
theorem m1_nI {k : Nat} (hk : k < 2 ^ 31) : ¬ nI k = -1 := fun y => absurd (congrArg Int32.toInt y) (by rw [nI_toInt hk, show (-1 : Int32).toInt = -1 from by decide]; omega)
theorem sI_cm (σ : St) {k j : Nat} (h : k ≠ j) (v w : Int32) : sI (sI σ k v) j w = sI (sI σ j w) k v := by
  unfold sI
  refine congrArg (fun f => (f, σ.2)) (funext fun i => ?_)
  show (if i = j then w else if i = k then v else σ.1 i) = if i = k then v else if i = j then w else σ.1 i
  by_cases q : i = j
  · rw [if_pos q, if_neg (fun z => h (z.symm.trans q)), if_pos q]
  · rw [if_neg q, if_neg q]
theorem rN_ot (σ : St) (a w : Int32) {k : Nat} (h1 : k ≠ 24) (h2 : k ≠ 25) (v : Int32) : sI (rN σ a w) k v = rN (sI σ k v) a w := by
  unfold rN
  rw [sI_cm (sI σ 24 a) (fun z => h2 z.symm) w v, sI_cm σ (fun z => h1 z.symm) a v]
theorem rN_24 (σ : St) (a w : Int32) : gI (rN σ a w) 24 = a := rfl
theorem rN_25 (σ : St) (a w : Int32) : gI (rN σ a w) 25 = w := rfl
theorem rN_IM {σ : St} {V : VV} (h : IM σ V) (a w : Int32) : IM (rN σ a w) V := (h.qI (by decide) a).qI (by decide) w
/-- what it reads -/
def RD (σ : St) (bs : List Nat) : Prop := (∃ sz tp : Nat, gI σ 22 = nI sz ∧ gI σ 23 = nI tp ∧ bs.length = min sz tp ∧ sz ≤ 80 ∧ tp ≤ 80) ∧ (∀ b ∈ bs, b < 256) ∧
  ((gI σ 21 = 1 ∧ ∀ k, k < bs.length → gA σ 16 k = byM (bs.getD k 0)) ∨ (gI σ 21 = 2 ∧ bs.length ≤ 40 ∧ ∀ k, k < bs.length → gA σ 26 k = byM (bs.getD k 0)))
theorem RD.len {σ : St} {bs : List Nat} (h : RD σ bs) : bs.length ≤ 80 := by obtain ⟨⟨sz, tp, _, _, h1, h2, h3⟩, _⟩ := h; omega
def hV (bs : List Nat) (p : Nat) : Int32 := if p < bs.length then byM (bs.getD p 0) else -1
theorem byM_i {b : Nat} (h : b < 256) : (byM b).toInt = if b < 128 then (b : Int) else (b : Int) - 256 := by
  have key : ∀ b : Fin 256, (byM b).toInt = if b.val < 128 then (b.val : Int) else (b.val : Int) - 256 := by decide +kernel
  exact key ⟨b, h⟩
theorem chA_lt {bs : List Nat} {p : Nat} (h : p < bs.length) : chA bs p = bs.getD p 0 := by
  unfold chA
  rw [List.getD_eq_getElem?_getD, List.getD_eq_getElem?_getD, List.getElem?_eq_getElem h]; rfl
theorem chA_ge {bs : List Nat} {p : Nat} (h : bs.length ≤ p) : chA bs p = 1000 := by
  unfold chA
  rw [List.getD_eq_getElem?_getD, List.getElem?_eq_none h]; rfl
theorem chA_in {bs : List Nat} {p : Nat} (h : chA bs p ≠ 1000) : p < bs.length := Decidable.byContradiction fun z => h (chA_ge (by omega))
theorem hV_i {bs : List Nat} (hb : ∀ b ∈ bs, b < 256) (p : Nat) : (hV bs p).toInt = if chA bs p < 128 then (chA bs p : Int) else if p < bs.length then (chA bs p : Int) - 256 else -1 := by
  unfold hV
  by_cases q : p < bs.length
  · rw [if_pos q, if_pos q, chA_lt q, byM_i (hb _ (getD_mem q))]
  · rw [if_neg q, if_neg q, chA_ge (by omega), if_neg (by omega)]; decide
theorem chA_b {bs : List Nat} (hb : ∀ b ∈ bs, b < 256) {p : Nat} (h : p < bs.length) : chA bs p < 256 := by rw [chA_lt h]; exact hb _ (getD_mem h)
theorem hV_eq {bs : List Nat} (hb : ∀ b ∈ bs, b < 256) (p : Nat) {c : Nat} (hc : c < 128) : hV bs p = nI c ↔ chA bs p = c := by
  rw [← Int32.toInt_inj, hV_i hb, nI_toInt (by omega)]
  by_cases q : chA bs p < 128
  · rw [if_pos q]; omega
  · rw [if_neg q]
    by_cases q2 : p < bs.length
    · have := chA_b hb q2
      rw [if_pos q2]; omega
    · rw [if_neg q2]; omega
theorem hV_rng {bs : List Nat} (hb : ∀ b ∈ bs, b < 256) (p : Nat) {a b : Int32} {lo hi : Nat} (ha : a.toInt = lo) (hbb : b.toInt = hi) (hhi : hi < 128) : inM (hV bs p) a b = (decide (lo ≤ chA bs p) && decide (chA bs p ≤ hi)) := by
  rw [inM_lit ha hbb, hV_i hb, Bool.eq_iff_iff, Bool.and_eq_true, Bool.and_eq_true, decide_eq_true_eq, decide_eq_true_eq, decide_eq_true_eq, decide_eq_true_eq]
  by_cases q : chA bs p < 128
  · rw [if_pos q]; omega
  · rw [if_neg q]
    by_cases q2 : p < bs.length
    · have := chA_b hb q2
      rw [if_pos q2]; omega
    · rw [if_neg q2]; omega
theorem hV_dg {bs : List Nat} (hb : ∀ b ∈ bs, b < 256) (p : Nat) : inM (hV bs p) 48 57 = isDg (chA bs p) := hV_rng hb p (lo := 48) (hi := 57) (by decide) (by decide) (by omega)
theorem b_fine1 {σ : St} {a : Int32} {P : Int32 → St → Prop} (h : P 1 (rN σ a (-1))) : wm_fine (rN σ a (-1)) P := by
  unfold wm_fine
  rw [show mI_wrong (rN σ a (-1)) = -1 from rfl, if_pos rfl]
  exact ⟨rfl, h⟩
theorem b_fine0 {σ : St} {a : Int32} {q : Nat} (hq : q < 2 ^ 31) {P : Int32 → St → Prop} (h : P 0 (rN σ a (nI q))) : wm_fine (rN σ a (nI q)) P := by
  unfold wm_fine
  rw [show mI_wrong (rN σ a (nI q)) = nI q from rfl, if_neg (m1_nI hq)]
  exact ⟨rfl, h⟩
theorem b_here {σ : St} {bs : List Nat} (hR : RD σ bs) {p : Nat} (hp : p < 2 ^ 30) {w : Int32} {P : Int32 → St → Prop} (h : P (hV bs p) (rN σ (nI p) w)) : sm_here (rN σ (nI p) w) P := by
  obtain ⟨⟨sz, tp, h1, h2, h3, h4, h5⟩, _, h6⟩ := hR
  unfold sm_here
  rw [show mI_at (rN σ (nI p) w) = nI p from rfl, show mI_size (rN σ (nI p) w) = nI sz from h1, show mI_top (rN σ (nI p) w) = nI tp from h2]
  simp only [nI_ltI (show p < 2 ^ 31 by omega) (show sz < 2 ^ 31 by omega), nI_ltI (show p < 2 ^ 31 by omega) (show tp < 2 ^ 31 by omega)]
  unfold hV at h
  by_cases q1 : p < sz
  · rw [if_pos q1]
    by_cases q2 : p < tp
    · rw [if_pos q2]
      have hl : p < bs.length := by omega
      rw [if_pos hl] at h
      rcases h6 with ⟨a, b⟩ | ⟨a, a2, b⟩
      · refine Or.inl ⟨a, vp_in_nI (by omega) (by omega), ?_⟩
        rw [cl (by omega), show mA_text (rN σ (nI p) w) p = _ from b p hl]; exact h
      · refine Or.inr ⟨a, vp_in_nI (by omega) (by omega), ?_⟩
        rw [cl (by omega), show mA_rule (rN σ (nI p) w) p = _ from b p hl]; exact h
    · rw [if_neg q2]; rw [if_neg (show ¬ p < bs.length by omega)] at h; exact h
  · rw [if_neg q1]; rw [if_neg (show ¬ p < bs.length by omega)] at h; exact h
theorem b_pass {σ : St} {bs : List Nat} (hR : RD σ bs) {p c : Nat} (hp : p < 2 ^ 30) (hc : c < 128) {P : Int32 → St → Prop} (h : if chA bs p = c then P 1 (rN σ (nI (p + 1)) (-1)) else P 0 (rN σ (nI p) (-1))) : wm_passes (rN σ (nI p) (-1)) (nI c) P := by
  refine b_fine1 ?_
  rw [if_neg (by decide)]
  refine b_here hR hp ?_
  have e := hV_eq hR.2.1 p hc
  by_cases q : chA bs p = c
  · rw [if_pos (e.mpr q)]; rw [if_pos q] at h
    rw [show mI_at (rN σ (nI p) (-1)) = nI p from rfl, nI_1]
    show P 1 (sI (rN σ (nI p) (-1)) 24 (nI (p + 1)))
    rw [rN_at]; exact h
  · rw [if_neg (fun z => q (e.mp z))]; rw [if_neg q] at h; exact h
theorem b_pass0 {σ : St} {a c : Int32} {q : Nat} (hq : q < 2 ^ 31) {P : Int32 → St → Prop} (h : P 0 (rN σ a (nI q))) : wm_passes (rN σ a (nI q)) c P := by
  refine b_fine0 hq ?_
  rw [if_pos rfl]; exact h
theorem b_fault {σ : St} {a v : Int32} {P : St → Prop} (h : P (rN σ a v)) : wm_fault (rN σ a (-1)) v P := by
  refine b_fine1 ?_
  rw [if_neg (by decide)]
  show P (sI (rN σ a (-1)) 25 v)
  rw [rN_wr]; exact h
theorem b_fault0 {σ : St} {a v : Int32} {q : Nat} (hq : q < 2 ^ 31) {P : St → Prop} (h : P (rN σ a (nI q))) : wm_fault (rN σ a (nI q)) v P := by
  refine b_fine0 hq ?_
  rw [if_pos rfl]; exact h
/-! numbers -/
theorem pNum_bd (bs : List Nat) : ∀ k v p, p ≤ (pNum bs k v p).2 ∧ (p ≤ bs.length → (pNum bs k v p).2 ≤ bs.length) ∧ ((pNum bs k v p).1 + 1 ≤ (v + 1) * 10 ^ k) := by
  intro k
  induction k with
  | zero => intro v p; exact ⟨Nat.le_refl _, fun h => h, by show v + 1 ≤ (v + 1) * 1; omega⟩
  | succ k ih =>
    intro v p
    unfold pNum
    by_cases q : isDg (chA bs p) = true
    · rw [if_pos q]
      have hl : p < bs.length := chA_in fun z => by rw [z] at q; exact absurd q (by decide)
      unfold isDg at q
      rw [Bool.and_eq_true, decide_eq_true_eq, decide_eq_true_eq] at q
      obtain ⟨a, b, c⟩ := ih (10 * v + (chA bs p - 48)) (p + 1)
      refine ⟨by omega, fun _ => b (by omega), Nat.le_trans c ?_⟩
      rw [Nat.pow_succ, Nat.mul_comm (10 ^ k) 10, ← Nat.mul_assoc]
      exact Nat.mul_le_mul_right _ (by omega)
    · rw [if_neg q]
      refine ⟨Nat.le_refl _, fun h => h, ?_⟩
      have : 1 ≤ 10 ^ (k + 1) := Nat.pow_pos (by decide : 0 < 10)
      calc v + 1 = (v + 1) * 1 := by omega
        _ ≤ _ := Nat.mul_le_mul_left _ this
theorem num_loop {σ : St} {bs : List Nat} (hR : RD σ bs) {k p : Nat} (hp : p ≤ 80) (hk : k ≤ 3) {P : Int32 → St → Prop} :
    ∀ m i v : Nat, i + m = k → v + 1 ≤ 10 ^ i → wm_number_j66 P (nI p) (nI (pNum bs m v (p + i)).1) (rN σ (nI (pNum bs m v (p + i)).2) (-1)) → wm_number_l16 P (wm_number_j66 P) (m + 1) (nI k) (nI p) (nI v) (rN σ (nI (p + i)) (-1)) := by
  intro m
  induction m with
  | zero =>
    intro i v hi hv h
    rw [wm_number_l16_s, show mI_at (rN σ (nI (p + i)) (-1)) = nI (p + i) from rfl, nI_add, if_pos (by rw [show i = k by omega]; exact Int32.le_refl _)]
    exact h
  | succ m ih =>
    intro i v hi hv h
    have h10 : 10 ^ i ≤ 1000 := Nat.pow_le_pow_right (n := 10) (by decide) (show i ≤ 3 by omega)
    rw [wm_number_l16_s, show mI_at (rN σ (nI (p + i)) (-1)) = nI (p + i) from rfl, nI_add, if_neg (nI_ge (by omega) (by omega))]
    refine b_here hR (by omega) ?_
    unfold sm_in
    dsimp only
    rw [hV_dg hR.2.1]
    unfold pNum at h
    cases q : isDg (chA bs (p + i)) with
    | false => rw [jf0]; rw [q, if_neg (by decide)] at h; exact h
    | true =>
      rw [jt0]; rw [q, if_pos rfl] at h
      unfold isDg at q
      rw [Bool.and_eq_true, decide_eq_true_eq, decide_eq_true_eq] at q
      refine b_here hR (by omega) ?_
      rw [(hV_eq hR.2.1 (p + i) (show chA bs (p + i) < 128 by omega)).mpr rfl, mul10, nI_add, show (48 : Int32) = nI 48 from rfl, pk_sub (by omega), show mI_at (rN σ (nI (p + i)) (-1)) = nI (p + i) from rfl, nI_1, show 10 * v + chA bs (p + i) - 48 = 10 * v + (chA bs (p + i) - 48) by omega]
      show wm_number_l16 P (wm_number_j66 P) (m + 1) (nI k) (nI p) _ (sI (rN σ (nI (p + i)) (-1)) 24 (nI (p + i + 1)))
      rw [rN_at]
      exact ih (i + 1) _ (by omega) (by rw [Nat.pow_succ]; omega) h
theorem b_num {σ : St} {bs : List Nat} (hR : RD σ bs) {k p : Nat} (hp : p ≤ 80) (hk : 1 ≤ k ∧ k ≤ 3) {P : Int32 → St → Prop} (h : if isDg (chA bs p) = true then P (nI (pNum bs k 0 p).1) (rN σ (nI (pNum bs k 0 p).2) (-1)) else P 0 (rN σ (nI p) (nI p))) : wm_number (rN σ (nI p) (-1)) (nI k) P := by
  refine b_fine1 ?_
  rw [if_neg (by decide)]
  refine ⟨k + 1, num_loop hR hp hk.2 k 0 0 (by omega) (by decide) ?_⟩
  rw [Nat.add_zero]
  unfold wm_number_j66 wm_number_j82
  rw [show mI_at (rN σ (nI (pNum bs k 0 p).2) (-1)) = nI (pNum bs k 0 p).2 from rfl]
  by_cases q : isDg (chA bs p) = true
  · rw [if_pos q] at h
    obtain ⟨k', rfl⟩ : ∃ k', k = k' + 1 := ⟨k - 1, by omega⟩
    have e : pNum bs (k' + 1) 0 p = pNum bs k' (10 * 0 + (chA bs p - 48)) (p + 1) := by show (if isDg (chA bs p) = true then _ else _) = _; rw [if_pos q]
    have hl : p < bs.length := chA_in fun z => by rw [z] at q; exact absurd q (by decide)
    have hb := pNum_bd bs k' (10 * 0 + (chA bs p - 48)) (p + 1)
    rw [← e] at hb
    have hn := hR.len
    rw [if_neg (fun z => by have := (nI_eq (show (pNum bs (k' + 1) 0 p).2 < 2 ^ 31 by have := hb.2.1 (by omega); omega) (by omega)).mp z; omega)]
    exact h
  · rw [if_neg q] at h
    obtain ⟨k', rfl⟩ : ∃ k', k = k' + 1 := ⟨k - 1, by omega⟩
    have e : pNum bs (k' + 1) 0 p = (0, p) := by show (if isDg (chA bs p) = true then _ else _) = _; rw [if_neg q]
    rw [e, if_pos rfl]
    exact b_fault h
/-! the rule -/
theorem pP_bd (bs : List Nat) : ∀ k r deep A p, p ≤ bs.length → p ≤ (pP bs k r deep A p).2 ∧ (pP bs k r deep A p).2 ≤ bs.length := by
  intro k
  induction k with
  | zero => intro r deep A p h; exact ⟨Nat.le_refl _, h⟩
  | succ k ih =>
    intro r deep A p h
    have inl : ∀ c, chA bs p = c → c ≠ 1000 → p < bs.length := fun c e hc => chA_in (by rw [e]; exact hc)
    unfold pP
    by_cases r3 : r < 3
    · rw [if_pos r3]
      have a := ih (r + 1) deep A p h
      cases e : pP bs k (r + 1) deep A p with
      | mk o q =>
        rw [e] at a
        cases o with
        | none => exact a
        | some D =>
          have b := ih (4 + r) deep D q a.2
          exact ⟨Nat.le_trans a.1 b.1, b.2⟩
    · rw [if_neg r3]
      by_cases re : r = 3
      · rw [if_pos re]
        by_cases c1 : chA bs p = 45
        · rw [if_pos c1]
          have hl := inl 45 c1 (by decide)
          have a := ih 3 deep A (p + 1) hl
          cases e : pP bs k 3 deep A (p + 1) with
          | mk o q =>
            rw [e] at a
            have a1 : p + 1 ≤ q := a.1
            have a2 : q ≤ bs.length := a.2
            cases o with
            | none => exact ⟨by show p ≤ q; omega, a2⟩
            | some D => exact ⟨by show p ≤ q; omega, a2⟩
        · rw [if_neg c1]
          by_cases c2 : isDg (chA bs p) = true
          · rw [if_pos c2]
            have := pNum_bd bs 3 0 p
            exact ⟨this.1, this.2.1 h⟩
          · rw [if_neg c2]
            by_cases c3 : isLt (chA bs p) = true
            · rw [if_pos c3]
              have hl : p < bs.length := chA_in fun z => by rw [z] at c3; exact absurd c3 (by decide)
              exact ⟨by show p ≤ p + 1; omega, hl⟩
            · rw [if_neg c3]
              by_cases c4 : chA bs p = 40 ∧ deep < 4
              · rw [if_pos c4]
                have hl := inl 40 c4.1 (by decide)
                have a := ih 0 (deep + 1) A (p + 1) hl
                cases e : pP bs k 0 (deep + 1) A (p + 1) with
                | mk o q =>
                  rw [e] at a
                  have a1 : p + 1 ≤ q := a.1
                  have a2 : q ≤ bs.length := a.2
                  cases o with
                  | none => exact ⟨by show p ≤ q; omega, a2⟩
                  | some D =>
                    show p ≤ (if chA bs q = 41 then (some D, q + 1) else (none, q)).2 ∧ (if chA bs q = 41 then (some D, q + 1) else (none, q)).2 ≤ bs.length
                    by_cases c5 : chA bs q = 41
                    · have hl2 : q < bs.length := chA_in (by rw [c5]; decide)
                      rw [if_pos c5]; exact ⟨by show p ≤ q + 1; omega, hl2⟩
                    · rw [if_neg c5]; exact ⟨by show p ≤ q; omega, a2⟩
              · rw [if_neg c4]; exact ⟨Nat.le_refl _, h⟩
      · rw [if_neg re]
        by_cases c1 : isOp (r - 4) (chA bs p) = true
        · rw [if_pos c1]
          have hl : p < bs.length := chA_in fun z => by
            rw [z] at c1
            unfold isOp at c1
            split at c1
            · exact absurd c1 (by decide)
            · split at c1 <;> exact absurd c1 (by decide)
          have a := ih (r - 3) deep A (p + 1) hl
          cases e : pP bs k (r - 3) deep A (p + 1) with
          | mk o q =>
            rw [e] at a
            have a1 : p + 1 ≤ q := a.1
            have a2 : q ≤ bs.length := a.2
            cases o with
            | none => exact ⟨by show p ≤ q; omega, a2⟩
            | some D =>
              show p ≤ (if r = 4 then _ else _ : Option ((Int32 → Int32) → Int32) × Nat).2 ∧ (if r = 4 then _ else _ : Option ((Int32 → Int32) → Int32) × Nat).2 ≤ bs.length
              by_cases r4 : r = 4
              · rw [if_pos r4]; exact ⟨by show p ≤ q; omega, a2⟩
              · rw [if_neg r4]
                have b := ih r deep (fun e => actI (nI (chA bs p)) (A e) (D e)) q a2
                exact ⟨by omega, b.2⟩
        · rw [if_neg c1]; exact ⟨Nat.le_refl _, h⟩
