/-! the model's rule: held, sum, product and thing follow the grammar -/
def okR (e : Int32 → Int32) (σ : St) (R : Option ((Int32 → Int32) → Int32) × Nat) (Q : Int32 → St → Prop) : Prop :=
  match R with
  | (some D, q) => Q (D e) (rN σ (nI q) (-1))
  | (none, q) => ∀ v a, Q v (rN σ a (nI q))
theorem okR_sub {e : Int32 → Int32} {σ : St} {R : Option ((Int32 → Int32) → Int32) × Nat} {Q : Int32 → St → Prop} (h1 : ∀ D, R.1 = some D → Q (D e) (rN σ (nI R.2) (-1))) (h0 : R.1 = none → ∀ v a, Q v (rN σ a (nI R.2))) : okR e σ R Q := by
  obtain ⟨o, q⟩ := R
  cases o with
  | none => exact h0 rfl
  | some D => exact h1 D rfl
/-- the letters answer e -/
def LT_ (σ : St) (e : Int32 → Int32) : Prop := ∀ (FT FH : PM) (c p : Nat) (Q : Int32 → St → Prop), isLt c = true → p < 2 ^ 30 → Q (e (nI c)) (rN σ (nI (p + 1)) (-1)) → wm_thing_j153 FT FH Q (nI c) (rN σ (nI p) (-1))
/-- what is behind a product in a sum's loop, a thing in a product's, a sum in held -/
def L6 (e : Int32 → Int32) (σ : St) (bs : List Nat) (k : Nat) : Prop := ∀ deep p j m A Q, deep ≤ 4 → p ≤ bs.length → bs.length + 1 ≤ j + p → 5 * bs.length + 1 ≤ k + 5 * p → bs.length < m + p → okR e σ (pP bs k 6 deep A p) Q → wm_product_l6 (smT j) Q (wm_product_j91 (smT j) Q) m (nI deep) (A e) (rN σ (nI p) (-1))
def L5 (e : Int32 → Int32) (σ : St) (bs : List Nat) (k : Nat) : Prop := ∀ deep p j m A Q, deep ≤ 4 → p ≤ bs.length → bs.length + 1 ≤ j + p → 5 * bs.length + 1 ≤ k + 5 * p → bs.length < m + p → okR e σ (pP bs k 5 deep A p) Q → wm_sum_l6 (smQ j) Q (wm_sum_j82 (smQ j) Q) m (nI deep) (A e) (rN σ (nI p) (-1))
def heldT (F : PM) (Q : Int32 → St → Prop) (v1 r2 : Int32) (σ2 : St) : Prop :=
  sm_passes σ2 (60) (fun r9 σ9 => if r9 = 0 then (sm_passes σ9 (62) (fun r33 σ33 => if r33 = 0 then (sm_passes σ33 (61) (fun r57 σ57 => if r57 = 0 then (Q r2 σ57) else (F σ57 v1 (fun r66 σ66 => if r2 = r66 then (wm_held_j77 F Q (1) σ66) else (wm_held_j77 F Q (0) σ66))))) else (F σ33 v1 (fun r42 σ42 => if r2 ≤ r42 then (wm_held_j53 F Q (0) σ42) else (wm_held_j53 F Q (1) σ42))))) else (F σ9 v1 (fun r18 σ18 => if r18 ≤ r2 then (wm_held_j29 F Q (0) σ18) else (wm_held_j29 F Q (1) σ18))))
def L4 (e : Int32 → Int32) (σ : St) (bs : List Nat) (k : Nat) : Prop := ∀ deep p j A Q, deep ≤ 4 → p ≤ bs.length → bs.length + 1 ≤ j + p → 5 * bs.length + 1 ≤ k + 5 * p → okR e σ (pP bs k 4 deep A p) Q → heldT (smS j) Q (nI deep) (A e) (rN σ (nI p) (-1))
def R3 (e : Int32 → Int32) (σ : St) (bs : List Nat) (k : Nat) : Prop := ∀ deep p j A Q, deep ≤ 4 → p ≤ bs.length → bs.length + 1 ≤ j + p → 5 * bs.length + 1 ≤ k + 5 * p → okR e σ (pP bs k 3 deep A p) Q → smT j (rN σ (nI p) (-1)) (nI deep) Q
def R2 (e : Int32 → Int32) (σ : St) (bs : List Nat) (k : Nat) : Prop := ∀ deep p j A Q, deep ≤ 4 → p ≤ bs.length → bs.length + 1 ≤ j + p → 5 * bs.length + 2 ≤ k + 5 * p → okR e σ (pP bs k 2 deep A p) Q → smQ j (rN σ (nI p) (-1)) (nI deep) Q
def R1 (e : Int32 → Int32) (σ : St) (bs : List Nat) (k : Nat) : Prop := ∀ deep p j A Q, deep ≤ 4 → p ≤ bs.length → bs.length + 1 ≤ j + p → 5 * bs.length + 3 ≤ k + 5 * p → okR e σ (pP bs k 1 deep A p) Q → smS j (rN σ (nI p) (-1)) (nI deep) Q
def R0 (e : Int32 → Int32) (σ : St) (bs : List Nat) (k : Nat) : Prop := ∀ deep p j A Q, deep ≤ 4 → p ≤ bs.length → bs.length + 1 ≤ j + p → 5 * bs.length + 4 ≤ k + 5 * p → okR e σ (pP bs k 0 deep A p) Q → smH j (rN σ (nI p) (-1)) (nI deep) Q
/-- when it went wrong, the loops end -/
theorem l6_bad {σ : St} {F : PM} {Q : Int32 → St → Prop} {m : Nat} {v a : Int32} {d : Int32} {q : Nat} (hq : q < 2 ^ 31) (h : ∀ v a, Q v (rN σ a (nI q))) : wm_product_l6 F Q (wm_product_j91 F Q) (m + 1) d v (rN σ a (nI q)) := by
  rw [wm_product_l6_s]
  refine b_fine0 hq ?_
  rw [if_pos rfl]
  exact h v a
theorem l5_bad {σ : St} {F : PM} {Q : Int32 → St → Prop} {m : Nat} {v a : Int32} {d : Int32} {q : Nat} (hq : q < 2 ^ 31) (h : ∀ v a, Q v (rN σ a (nI q))) : wm_sum_l6 F Q (wm_sum_j82 F Q) (m + 1) d v (rN σ a (nI q)) := by
  rw [wm_sum_l6_s]
  refine b_fine0 hq ?_
  rw [if_pos rfl]
  exact h v a
theorem l4_bad {σ : St} {F : PM} {Q : Int32 → St → Prop} {v a : Int32} {d : Int32} {q : Nat} (hq : q < 2 ^ 31) (h : ∀ v a, Q v (rN σ a (nI q))) : heldT F Q d v (rN σ a (nI q)) := by
  unfold heldT
  refine b_pass0 hq ?_
  rw [if_pos rfl]
  refine b_pass0 hq ?_
  rw [if_pos rfl]
  refine b_pass0 hq ?_
  rw [if_pos rfl]
  exact h v a
/-- one more dish of an operand, in a loop: good or bad -/
theorem pP_op {bs : List Nat} {k r deep : Nat} {A : (Int32 → Int32) → Int32} {p : Nat} (hr : 4 ≤ r) (h : isOp (r - 4) (chA bs p) = true) : pP bs (k + 1) r deep A p = match pP bs k (r - 3) deep A (p + 1) with
    | (none, q) => (none, q)
    | (some D2, q) => if r = 4 then (some (fun e => actI (nI (chA bs p)) (A e) (D2 e)), q) else pP bs k r deep (fun e => actI (nI (chA bs p)) (A e) (D2 e)) q := by
  show (if r < 3 then _ else _) = _
  rw [if_neg (by omega), if_neg (by omega), if_pos h]
  cases pP bs k (r - 3) deep A (p + 1) with
  | mk o q => cases o <;> rfl
theorem pP_no {bs : List Nat} {k r deep : Nat} {A : (Int32 → Int32) → Int32} {p : Nat} (hr : 4 ≤ r) (h : isOp (r - 4) (chA bs p) = false) : pP bs (k + 1) r deep A p = (some A, p) := by
  show (if r < 3 then _ else _) = _
  rw [if_neg (by omega), if_neg (by omega), if_neg (by rw [h]; decide)]
theorem op_in {bs : List Nat} {r p : Nat} (h : isOp r (chA bs p) = true) : p < bs.length := chA_in fun z => by
  rw [z] at h
  unfold isOp at h
  split at h
  · exact absurd h (by decide)
  · split at h <;> exact absurd h (by decide)
theorem isOp6 (c : Nat) : isOp 2 c = (decide (c = 42) || decide (c = 47)) := by
  unfold isOp
  simp
theorem isOp5 (c : Nat) : isOp 1 c = (decide (c = 43) || decide (c = 45)) := by
  unfold isOp
  simp
theorem isOp4 (c : Nat) : isOp 0 c = (decide (c = 60) || (decide (c = 62) || decide (c = 61))) := by
  unfold isOp
  simp
theorem stepL6 {e : Int32 → Int32} {σ : St} {bs : List Nat} (hR : RD σ bs) {k : Nat} (h6 : L6 e σ bs k) (h3 : R3 e σ bs k) : L6 e σ bs (k + 1) := by
  intro deep p j m A Q hdp hp hj hk hm h
  have hn := hR.len
  obtain ⟨m, rfl⟩ : ∃ m', m = m' + 1 := ⟨m - 1, by omega⟩
  have e42 := hV_eq hR.2.1 p (c := 42) (by omega)
  have e47 := hV_eq hR.2.1 p (c := 47) (by omega)
  have k42 : (42 : Int32) = nI 42 := rfl
  have k47 : (47 : Int32) = nI 47 := rfl
  rw [wm_product_l6_s]
  refine b_fine1 ?_
  rw [if_neg (by decide)]
  refine b_here hR (by omega) ?_
  -- an operand is read
  have go : ∀ c, (c = 42 ∨ c = 47) → chA bs p = c → wm_product_j31 (smT j) Q (wm_product_l6 (smT j) Q (wm_product_j91 (smT j) Q) m) (nI deep) (A e) (rN σ (nI p) (-1)) := by
    intro c hc ec
    have hop : isOp (6 - 4) (chA bs p) = true := by rw [isOp6, ec]; rcases hc with rfl | rfl <;> rfl
    have hlt := op_in hop
    rw [pP_op (by omega) hop] at h
    have hbd := pP_bd bs k 3 deep A (p + 1) hlt
    have inner : ∀ b : Int32, (b = 1 ∧ c = 42) ∨ (b = 0 ∧ c = 47) → wm_product_j45 (smT j) Q (wm_product_l6 (smT j) Q (wm_product_j91 (smT j) Q) m) (nI deep) (A e) b (rN σ (nI p) (-1)) := by
      intro b hb
      unfold wm_product_j45 wm_product_j87
      rw [show mI_at (rN σ (nI p) (-1)) = nI p from rfl, nI_1]
      show smT j (sI (rN σ (nI p) (-1)) 24 (nI (p + 1))) (nI deep) _
      rw [rN_at]
      refine h3 deep (p + 1) j A _ hdp hlt (by omega) (by omega) ?_
      cases hpp : pP bs k (6 - 3) deep A (p + 1) with
      | mk o q =>
        rw [hpp] at h
        rw [show pP bs k 3 deep A (p + 1) = (o, q) from hpp] at hbd
        have q1 : p + 1 ≤ q := hbd.1
        have q2 : q ≤ bs.length := hbd.2
        obtain ⟨m, rfl⟩ : ∃ m', m = m' + 1 := ⟨m - 1, by omega⟩
        cases o with
        | none =>
          intro v a
          have bad : ∀ x, wm_product_l6 (smT j) Q (wm_product_j91 (smT j) Q) (m + 1) (nI deep) x (rN σ a (nI q)) := fun x => l6_bad (by omega) h
          split
          · split
            · exact bad _
            · rename_i z; exact ⟨z, bad _⟩
          · exact bad _
        | some D =>
          have h : okR e σ (pP bs k 6 deep (fun e => actI (nI (chA bs p)) (A e) (D e)) q) Q := h
          have fin := h6 deep q j (m + 1) _ Q hdp q2 (by omega) (by omega) (by omega) h
          show if b = 0 then (if D e = 0 then _ else _) else _
          rcases hb with ⟨rfl, hc2⟩ | ⟨rfl, hc2⟩
          · rw [if_neg (by decide)]
            have ea : actI (nI (chA bs p)) (A e) (D e) = A e * D e := by rw [ec, hc2]; rfl
            rw [ea] at fin; exact fin
          · rw [if_pos rfl]
            have ea : actI (nI (chA bs p)) (A e) (D e) = if D e = 0 then 0 else A e / D e := by rw [ec, hc2]; rfl
            rw [ea] at fin
            by_cases z : D e = 0
            · rw [if_pos z]; rw [if_pos z] at fin; exact fin
            · rw [if_neg z]; rw [if_neg z] at fin; exact ⟨z, fin⟩
    unfold wm_product_j31
    refine b_here hR (by omega) ?_
    rw [k42]
    rcases hc with hc2 | hc2
    · rw [if_pos (e42.mpr (by rw [ec, hc2]))]; exact inner 1 (Or.inl ⟨rfl, hc2⟩)
    · rw [if_neg (fun z => by have := e42.mp z; omega)]; exact inner 0 (Or.inr ⟨rfl, hc2⟩)
  rw [k42]
  by_cases q1 : chA bs p = 42
  · rw [if_pos (e42.mpr q1)]; exact go 42 (Or.inl rfl) q1
  · rw [if_neg (fun z => q1 (e42.mp z))]
    refine b_here hR (by omega) ?_
    rw [k47]
    by_cases q2 : chA bs p = 47
    · rw [if_pos (e47.mpr q2)]; exact go 47 (Or.inr rfl) q2
    · rw [if_neg (fun z => q2 (e47.mp z))]
      rw [pP_no (by omega) (by rw [isOp6, decide_eq_false q1, decide_eq_false q2]; rfl)] at h
      exact h
theorem stepL5 {e : Int32 → Int32} {σ : St} {bs : List Nat} (hR : RD σ bs) {k : Nat} (h6 : L5 e σ bs k) (h3 : R2 e σ bs k) : L5 e σ bs (k + 1) := by
  intro deep p j m A Q hdp hp hj hk hm h
  have hn := hR.len
  obtain ⟨m, rfl⟩ : ∃ m', m = m' + 1 := ⟨m - 1, by omega⟩
  have e43 := hV_eq hR.2.1 p (c := 43) (by omega)
  have e45 := hV_eq hR.2.1 p (c := 45) (by omega)
  have k43 : (43 : Int32) = nI 43 := rfl
  have k45 : (45 : Int32) = nI 45 := rfl
  rw [wm_sum_l6_s]
  refine b_fine1 ?_
  rw [if_neg (by decide)]
  refine b_here hR (by omega) ?_
  -- an operand is read
  have go : ∀ c, (c = 43 ∨ c = 45) → chA bs p = c → wm_sum_j31 (smQ j) Q (wm_sum_l6 (smQ j) Q (wm_sum_j82 (smQ j) Q) m) (nI deep) (A e) (rN σ (nI p) (-1)) := by
    intro c hc ec
    have hop : isOp (5 - 4) (chA bs p) = true := by rw [isOp5, ec]; rcases hc with rfl | rfl <;> rfl
    have hlt := op_in hop
    rw [pP_op (by omega) hop] at h
    have hbd := pP_bd bs k 2 deep A (p + 1) hlt
    have inner : ∀ b : Int32, (b = 1 ∧ c = 43) ∨ (b = 0 ∧ c = 45) → wm_sum_j45 (smQ j) Q (wm_sum_l6 (smQ j) Q (wm_sum_j82 (smQ j) Q) m) (nI deep) (A e) b (rN σ (nI p) (-1)) := by
      intro b hb
      unfold wm_sum_j45 wm_sum_j78
      rw [show mI_at (rN σ (nI p) (-1)) = nI p from rfl, nI_1]
      show smQ j (sI (rN σ (nI p) (-1)) 24 (nI (p + 1))) (nI deep) _
      rw [rN_at]
      refine h3 deep (p + 1) j A _ hdp hlt (by omega) (by omega) ?_
      cases hpp : pP bs k (5 - 3) deep A (p + 1) with
      | mk o q =>
        rw [hpp] at h
        rw [show pP bs k 2 deep A (p + 1) = (o, q) from hpp] at hbd
        have q1 : p + 1 ≤ q := hbd.1
        have q2 : q ≤ bs.length := hbd.2
        obtain ⟨m, rfl⟩ : ∃ m', m = m' + 1 := ⟨m - 1, by omega⟩
        cases o with
        | none =>
          intro v a
          have bad : ∀ x, wm_sum_l6 (smQ j) Q (wm_sum_j82 (smQ j) Q) (m + 1) (nI deep) x (rN σ a (nI q)) := fun x => l5_bad (by omega) h
          split
          · exact bad _
          · exact bad _
        | some D =>
          have h : okR e σ (pP bs k 5 deep (fun e => actI (nI (chA bs p)) (A e) (D e)) q) Q := h
          have fin := h6 deep q j (m + 1) _ Q hdp q2 (by omega) (by omega) (by omega) h
          show if b = 0 then _ else _
          rcases hb with ⟨rfl, hc2⟩ | ⟨rfl, hc2⟩
          · rw [if_neg (by decide)]
            have ea : actI (nI (chA bs p)) (A e) (D e) = A e + D e := by rw [ec, hc2]; rfl
            rw [ea] at fin; exact fin
          · rw [if_pos rfl]
            have ea : actI (nI (chA bs p)) (A e) (D e) = A e - D e := by rw [ec, hc2]; rfl
            rw [ea] at fin; exact fin
    unfold wm_sum_j31
    refine b_here hR (by omega) ?_
    rw [k43]
    rcases hc with hc2 | hc2
    · rw [if_pos (e43.mpr (by rw [ec, hc2]))]; exact inner 1 (Or.inl ⟨rfl, hc2⟩)
    · rw [if_neg (fun z => by have := e43.mp z; omega)]; exact inner 0 (Or.inr ⟨rfl, hc2⟩)
  rw [k43]
  by_cases q1 : chA bs p = 43
  · rw [if_pos (e43.mpr q1)]; exact go 43 (Or.inl rfl) q1
  · rw [if_neg (fun z => q1 (e43.mp z))]
    refine b_here hR (by omega) ?_
    rw [k45]
    by_cases q2 : chA bs p = 45
    · rw [if_pos (e45.mpr q2)]; exact go 45 (Or.inr rfl) q2
    · rw [if_neg (fun z => q2 (e45.mp z))]
      rw [pP_no (by omega) (by rw [isOp5, decide_eq_false q1, decide_eq_false q2]; rfl)] at h
      exact h
theorem stepL4 {e : Int32 → Int32} {σ : St} {bs : List Nat} (hR : RD σ bs) {k : Nat} (h1 : R1 e σ bs k) : L4 e σ bs (k + 1) := by
  intro deep p j A Q hdp hp hj hk h
  have hn := hR.len
  -- the other side is read
  have go : ∀ c, isOp 0 c = true → chA bs p = c → ∀ T : Int32 → St → Prop, (∀ r σ', Q (actI (nI c) (A e) r) σ' → T r σ') → (∀ r σ', (∀ v, Q v σ') → T r σ') → smS j (rN σ (nI (p + 1)) (-1)) (nI deep) T := by
    intro c hc ec T hT hT0
    have hop : isOp (4 - 4) (chA bs p) = true := by rw [ec]; exact hc
    have hlt := op_in hop
    rw [pP_op (by omega) hop] at h
    refine h1 deep (p + 1) j A _ hdp hlt (by omega) (by omega) ?_
    cases hpp : pP bs k (4 - 3) deep A (p + 1) with
    | mk o q =>
      rw [hpp] at h
      cases o with
      | none => exact fun v a => hT0 v _ fun v => h v a
      | some D =>
        have h : Q (actI (nI (chA bs p)) (A e) (D e)) (rN σ (nI q) (-1)) := h
        rw [ec] at h
        exact hT _ _ h
  unfold heldT wm_held_j29 wm_held_j53 wm_held_j77
  rw [show (60 : Int32) = nI 60 from rfl, show (62 : Int32) = nI 62 from rfl, show (61 : Int32) = nI 61 from rfl]
  refine b_pass hR (by omega) (by omega) ?_
  by_cases c1 : chA bs p = 60
  · rw [if_pos c1, if_neg (by decide)]
    refine go 60 rfl c1 _ (fun r σ' hq => ?_) (fun r σ' hq => ?_)
    · have ea : actI (nI 60) (A e) r = j01 (decide (A e < r)) := rfl
      rw [ea] at hq
      by_cases z : r ≤ A e
      · rw [if_pos z]; rw [decide_eq_false (Int32.not_lt.mpr z)] at hq; exact hq
      · rw [if_neg z]; rw [decide_eq_true (Int32.not_le.mp z)] at hq; exact hq
    · split <;> exact hq _
  · rw [if_neg c1, if_pos rfl]
    refine b_pass hR (by omega) (by omega) ?_
    by_cases c2 : chA bs p = 62
    · rw [if_pos c2, if_neg (by decide)]
      refine go 62 rfl c2 _ (fun r σ' hq => ?_) (fun r σ' hq => ?_)
      · have ea : actI (nI 62) (A e) r = j01 (decide (r < A e)) := rfl
        rw [ea] at hq
        by_cases z : A e ≤ r
        · rw [if_pos z]; rw [decide_eq_false (Int32.not_lt.mpr z)] at hq; exact hq
        · rw [if_neg z]; rw [decide_eq_true (Int32.not_le.mp z)] at hq; exact hq
      · split <;> exact hq _
    · rw [if_neg c2, if_pos rfl]
      refine b_pass hR (by omega) (by omega) ?_
      by_cases c3 : chA bs p = 61
      · rw [if_pos c3, if_neg (by decide)]
        refine go 61 rfl c3 _ (fun r σ' hq => ?_) (fun r σ' hq => ?_)
        · have ea : actI (nI 61) (A e) r = j01 (decide (A e = r)) := rfl
          rw [ea] at hq
          by_cases z : A e = r
          · rw [if_pos z]; rw [decide_eq_true z] at hq; exact hq
          · rw [if_neg z]; rw [decide_eq_false z] at hq; exact hq
        · split <;> exact hq _
      · rw [if_neg c3, if_pos rfl]
        rw [pP_no (by omega) (by rw [isOp4, decide_eq_false c1, decide_eq_false c2, decide_eq_false c3]; rfl)] at h
        exact h
theorem chain8 {v : Int32} {X Y : Prop} (b : Bool) (hb : b = true ↔ (v = 108 ∨ v = 98 ∨ v = 110 ∨ v = 99 ∨ v = 104 ∨ v = 111 ∨ v = 103 ∨ v = 100)) (h : if b = true then X else Y) :
    if v = 108 then X else if v = 98 then X else if v = 110 then X else if v = 99 then X else if v = 104 then X else if v = 111 then X else if v = 103 then X else if v = 100 then X else Y := by
  by_cases q : b = true
  · rw [if_pos q] at h
    repeat' split
    all_goals first | exact h | (exfalso; have := hb.mp q; simp_all)
  · rw [if_neg q] at h
    have hn := fun z => q (hb.mpr z)
    repeat' split
    all_goals first | exact h | (exfalso; apply hn; simp_all)
theorem isLt_iff (c : Nat) : isLt c = true ↔ (c = 108 ∨ c = 98 ∨ c = 110 ∨ c = 99 ∨ c = 104 ∨ c = 111 ∨ c = 103 ∨ c = 100) := by
  unfold isLt
  simp
theorem stepR2 {e : Int32 → Int32} {σ : St} {bs : List Nat} (hR : RD σ bs) {k : Nat} (h6 : L6 e σ bs k) (h3 : R3 e σ bs k) : R2 e σ bs (k + 1) := by
  intro deep p j A Q hdp hp hj hk h
  have hn := hR.len
  refine h3 deep p j A _ hdp hp hj (by omega) ?_
  have hbd := pP_bd bs k 3 deep A p hp
  have e0 : pP bs (k + 1) 2 deep A p = match pP bs k 3 deep A p with | (none, q) => (none, q) | (some D, q) => pP bs k 6 deep D q := by
    show (if 2 < 3 then _ else _) = _
    rw [if_pos (by omega)]
    show (match pP bs k (2 + 1) deep A p with | (none, q) => _ | (some D, q) => _) = _
    cases pP bs k 3 deep A p with
    | mk o q => cases o <;> rfl
  rw [e0] at h
  cases hpp : pP bs k 3 deep A p with
  | mk o q =>
    rw [hpp] at h hbd
    have q1 : p ≤ q := hbd.1
    have q2 : q ≤ bs.length := hbd.2
    cases o with
    | none => exact fun v a => ⟨1, l6_bad (m := 0) (by omega) h⟩
    | some D => exact ⟨bs.length + 1, h6 deep q j (bs.length + 1) D Q hdp q2 (by omega) (by omega) (by omega) h⟩
theorem stepR1 {e : Int32 → Int32} {σ : St} {bs : List Nat} (hR : RD σ bs) {k : Nat} (h6 : L5 e σ bs k) (h3 : R2 e σ bs k) : R1 e σ bs (k + 1) := by
  intro deep p j A Q hdp hp hj hk h
  have hn := hR.len
  refine h3 deep p j A _ hdp hp hj (by omega) ?_
  have hbd := pP_bd bs k 2 deep A p hp
  have e0 : pP bs (k + 1) 1 deep A p = match pP bs k 2 deep A p with | (none, q) => (none, q) | (some D, q) => pP bs k 5 deep D q := by
    show (if 1 < 3 then _ else _) = _
    rw [if_pos (by omega)]
    show (match pP bs k (1 + 1) deep A p with | (none, q) => _ | (some D, q) => _) = _
    cases pP bs k 2 deep A p with
    | mk o q => cases o <;> rfl
  rw [e0] at h
  cases hpp : pP bs k 2 deep A p with
  | mk o q =>
    rw [hpp] at h hbd
    have q1 : p ≤ q := hbd.1
    have q2 : q ≤ bs.length := hbd.2
    cases o with
    | none => exact fun v a => ⟨1, l5_bad (m := 0) (by omega) h⟩
    | some D => exact ⟨bs.length + 1, h6 deep q j (bs.length + 1) D Q hdp q2 (by omega) (by omega) (by omega) h⟩
theorem stepR0 {e : Int32 → Int32} {σ : St} {bs : List Nat} (hR : RD σ bs) {k : Nat} (h4 : L4 e σ bs k) (h1 : R1 e σ bs k) : R0 e σ bs (k + 1) := by
  intro deep p j A Q hdp hp hj hk h
  have hn := hR.len
  have hbd := pP_bd bs k 1 deep A p hp
  have e0 : pP bs (k + 1) 0 deep A p = match pP bs k 1 deep A p with | (none, q) => (none, q) | (some D, q) => pP bs k 4 deep D q := by
    show (if 0 < 3 then _ else _) = _
    rw [if_pos (by omega)]
    show (match pP bs k (0 + 1) deep A p with | (none, q) => _ | (some D, q) => _) = _
    cases pP bs k 1 deep A p with
    | mk o q => cases o <;> rfl
  rw [e0] at h
  show smS j (rN σ (nI p) (-1)) (nI deep) (fun r2 σ2 => heldT (smS j) Q (nI deep) r2 σ2)
  refine h1 deep p j A _ hdp hp hj (by omega) ?_
  cases hpp : pP bs k 1 deep A p with
  | mk o q =>
    rw [hpp] at h hbd
    have q1 : p ≤ q := hbd.1
    have q2 : q ≤ bs.length := hbd.2
    cases o with
    | none => exact fun v a => l4_bad (by omega) h
    | some D => exact h4 deep q j D Q hdp q2 (by omega) (by omega) h
theorem stepR3 {e : Int32 → Int32} {σ : St} {bs : List Nat} (hR : RD σ bs) (hL : LT_ σ e) {k : Nat} (h3 : R3 e σ bs k) (h0 : R0 e σ bs k) : R3 e σ bs (k + 1) := by
  intro deep p j A Q hdp hp hj hk h
  have hn := hR.len
  obtain ⟨j, rfl⟩ : ∃ j', j = j' + 1 := ⟨j - 1, by omega⟩
  rw [smT_s]
  unfold pP at h
  rw [if_neg (show ¬ 3 < 3 by omega), if_pos rfl] at h
  unfold wm_thing
  rw [show (45 : Int32) = nI 45 from rfl]
  refine b_pass hR (by omega) (by omega) ?_
  by_cases c1 : chA bs p = 45
  · rw [if_pos c1, if_neg (by decide)]
    rw [if_pos c1] at h
    have hlt : p < bs.length := chA_in (by rw [c1]; decide)
    refine h3 deep (p + 1) j A _ hdp hlt (by omega) (by omega) ?_
    cases hpp : pP bs k 3 deep A (p + 1) with
    | mk o q =>
      rw [hpp] at h
      cases o with
      | none => exact fun v a => h _ a
      | some D => exact h
  · rw [if_neg c1, if_pos rfl]
    rw [if_neg c1] at h
    refine b_fine1 ?_
    rw [if_neg (by decide)]
    refine b_here hR (by omega) ?_
    have e40 := hV_eq hR.2.1 p (c := 40) (by omega)
    have j78 : ¬ (chA bs p = 40 ∧ deep < 4) → wm_thing_j78 (smT j) (smH j) Q (hV bs p) (rN σ (nI p) (-1)) := by
      intro hnp
      unfold wm_thing_j78 sm_in
      dsimp only
      rw [hV_dg hR.2.1]
      cases qd : isDg (chA bs p) with
      | true =>
        rw [jt0]
        rw [qd, if_pos rfl] at h
        exact b_num hR (by omega) (k := 3) ⟨by omega, by omega⟩ (by rw [if_pos qd]; exact h)
      | false =>
        rw [jf0]
        rw [qd, if_neg (by decide)] at h
        refine chain8 (isLt (chA bs p)) ?_ ?_
        · rw [isLt_iff, show (108 : Int32) = nI 108 from rfl, show (98 : Int32) = nI 98 from rfl, show (110 : Int32) = nI 110 from rfl, show (99 : Int32) = nI 99 from rfl, show (104 : Int32) = nI 104 from rfl, show (111 : Int32) = nI 111 from rfl, show (103 : Int32) = nI 103 from rfl, show (100 : Int32) = nI 100 from rfl,
            hV_eq hR.2.1 p (c := 108) (by omega), hV_eq hR.2.1 p (c := 98) (by omega), hV_eq hR.2.1 p (c := 110) (by omega), hV_eq hR.2.1 p (c := 99) (by omega), hV_eq hR.2.1 p (c := 104) (by omega), hV_eq hR.2.1 p (c := 111) (by omega), hV_eq hR.2.1 p (c := 103) (by omega), hV_eq hR.2.1 p (c := 100) (by omega)]
        · by_cases ql : isLt (chA bs p) = true
          · rw [if_pos ql]; rw [if_pos ql] at h
            have hlt : chA bs p < 128 := by have := (isLt_iff _).mp ql; omega
            rw [(hV_eq hR.2.1 p hlt).mpr rfl]
            exact hL _ _ _ _ _ ql (by omega) h
          · rw [if_neg ql]; rw [if_neg ql, if_neg hnp] at h
            exact b_fault (h _ _)
    rw [show (40 : Int32) = nI 40 from rfl, show (4 : Int32) = nI 4 from rfl]
    by_cases c2 : chA bs p = 40
    · rw [if_pos (e40.mpr c2)]
      simp only [nI_leI (show 4 < 2 ^ 31 by omega) (show deep < 2 ^ 31 by omega)]
      by_cases c3 : 4 ≤ deep
      · rw [if_pos c3]
        have := j78 (fun z => by omega)
        exact this
      · rw [if_neg c3]
        have hlt : p < bs.length := chA_in (by rw [c2]; decide)
        rw [if_neg (by rw [c2]; decide), if_neg (by rw [c2]; decide), if_pos ⟨c2, by omega⟩] at h
        rw [show mI_at (rN σ (nI p) (-1)) = nI p from rfl, nI_1, nI_1]
        show smH j (sI (rN σ (nI p) (-1)) 24 (nI (p + 1))) (nI (deep + 1)) _
        rw [rN_at]
        have hbd := pP_bd bs k 0 (deep + 1) A (p + 1) hlt
        refine h0 (deep + 1) (p + 1) j A _ (by omega) hlt (by omega) (by omega) ?_
        cases hpp : pP bs k 0 (deep + 1) A (p + 1) with
        | mk o q =>
          rw [hpp] at h hbd
          have q2 : q ≤ bs.length := hbd.2
          cases o with
          | none =>
            intro v a
            refine b_pass0 (by omega) ?_
            rw [if_pos rfl]
            exact b_fault0 (by omega) (h v a)
          | some D =>
            have h : okR e σ (if chA bs q = 41 then (some D, q + 1) else (none, q)) Q := h
            unfold okR
            dsimp only
            rw [show (41 : Int32) = nI 41 from rfl]
            refine b_pass hR (by omega) (by omega) ?_
            by_cases c4 : chA bs q = 41
            · rw [if_pos c4] at h ⊢
              rw [if_neg (by decide)]
              exact h
            · rw [if_neg c4] at h ⊢
              rw [if_pos rfl]
              exact b_fault (h _ _)
    · rw [if_neg (fun z => c2 (e40.mp z))]
      exact j78 (fun z => c2 z.1)
theorem rule_all {e : Int32 → Int32} {σ : St} {bs : List Nat} (hR : RD σ bs) (hL : LT_ σ e) : ∀ k, L6 e σ bs k ∧ L5 e σ bs k ∧ L4 e σ bs k ∧ R3 e σ bs k ∧ R2 e σ bs k ∧ R1 e σ bs k ∧ R0 e σ bs k := by
  intro k
  induction k with
  | zero =>
    refine ⟨fun deep p j m A Q _ h1 _ h2 => ?_, fun deep p j m A Q _ h1 _ h2 => ?_, fun deep p j A Q _ h1 _ h2 => ?_, fun deep p j A Q _ h1 _ h2 => ?_, fun deep p j A Q _ h1 _ h2 => ?_, fun deep p j A Q _ h1 _ h2 => ?_, fun deep p j A Q _ h1 _ h2 => ?_⟩ <;> omega
  | succ k ih =>
    obtain ⟨a6, a5, a4, a3, a2, a1, a0⟩ := ih
    exact ⟨stepL6 hR a6 a3, stepL5 hR a5 a2, stepL4 hR a1, stepR3 hR hL a3 a0, stepR2 hR a6 a3, stepR1 hR a5 a2, stepR0 hR a4 a1⟩
theorem om_held {e : Int32 → Int32} {σ : St} {bs : List Nat} {Q : Int32 → St → Prop} (hR : RD σ bs) (hL : LT_ σ e) (h40 : bs.length ≤ 40) (h : okR e σ (pRule bs) Q) : sm_held (rN σ 0 (-1)) 0 Q :=
  (rule_all hR hL 400).2.2.2.2.2.2 0 0 42 _ Q (by omega) (by omega) (by omega) (by omega) h
