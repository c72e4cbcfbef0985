/-! the model's parts -/
set_option maxRecDepth 100000 in
theorem low_all : (List.range 1024).all (fun s => decide (s = 0 ∨ nI s &&& (-(nI s)) = nI (2 ^ lst (fun j => s.testBit j) 10))) = true := by decide +kernel
theorem low_bit {s : Nat} (h : s < 1024) (h0 : s ≠ 0) : nI s &&& (-(nI s)) = nI (2 ^ lst (fun j => s.testBit j) 10) := by
  have h1 := List.all_eq_true.mp low_all s (List.mem_range.mpr h)
  exact (of_decide_eq_true h1).resolve_left h0
def complV (V : VV) (b : Nat) : Nat := bitsOf (fun j => !(b.testBit j)) (vn V)
theorem paS_skip {V : VV} {d : Nat} : ∀ i, (∀ j, d ≤ j → j < d + i → (paS V d).1.testBit j = true) → paS V (d + i) = paS V d := by
  intro i
  induction i with
  | zero => intro _; rfl
  | succ i ih =>
    intro h
    have e := ih fun j h1 h2 => h j h1 (by omega)
    show paS V (d + i + 1) = _
    rw [paS_s1 (by rw [e]; exact h (d + i) (by omega) (by omega)), e]
theorem paM_d {V : VV} {left n0 p : Nat} {P : Int32 → St → Prop} {K : Int32 → Int32 → Int32 → Int32 → St → Prop} {σ : St} (hI : IM σ V) (hp : p < 2 ^ vn V) (h : K (nI left) (nI n0) (nI (rdM V p p (vn V))) (nI p) σ) :
    ∀ m d : Nat, d + m = vn V → wm_parts_l41 P K (m + 1) (nI left) (nI n0) (nI (rdM V p p d)) (nI p) (nI d) σ := by
  have hn := hI.2.n
  have hpw := pow_le_1024 hn
  intro m
  induction m with
  | zero =>
    intro d hd
    rw [wm_parts_l41_s, show mI_dishes σ = _ from hI.n, if_pos (by rw [show d = vn V by omega]; exact Int32.le_refl _), show d = vn V by omega]
    exact h
  | succ m ih =>
    intro d hd
    have ih1 := ih (d + 1) (by omega)
    rw [rdM_s] at ih1
    rw [wm_parts_l41_s, show mI_dishes σ = _ from hI.n, if_neg (nI_ge (by omega) (by omega))]
    unfold sm_has wm_parts_j69
    dsimp only
    rw [hasB_nI (by omega) (by omega), nI_1]
    cases q : p.testBit d with
    | false => rw [jf0]; rw [q, if_neg (by decide)] at ih1; exact ih1
    | true =>
      rw [jt0]; rw [q, if_pos rfl] at ih1
      refine ⟨V, d, hI, rfl, by omega, ?_⟩
      dsimp only
      rw [nI_or]
      exact ih1
theorem paM_w {V : VV} {left n0 D : Nat} {P : Int32 → St → Prop} {K : Int32 → Int32 → St → Prop} {σ : St} (hI : IM σ V) (hD : D < vn V) (hr : (vrow V).length < 12)
    (h : ∀ σ', IM σ' (vSRow V (vrow V ++ [nI (partV V D)])) → K (nI left &&& (nI (partV V D) ^^^ (-1))) (nI (n0 + 1)) σ') :
    ∀ m p w : Nat, p < 2 ^ vn V → w < 2 ^ vn V → p.testBit D = true → (∀ c, closB V c → c.testBit D = true → subB p c) → (p = w → closB V p) → (vn V + 2 ≤ pc p + m ∨ (p = w ∧ 1 ≤ m)) → wm_parts_l29 P K m (nI left) (nI n0) (nI p) (nI w) σ := by
  have hn := hI.2.n
  have hpw := pow_le_1024 hn
  intro m
  induction m with
  | zero =>
    intro p w hp _ _ _ _ hm
    have := pc_le_n hp (by omega)
    omega
  | succ m ih =>
    intro p w hp hw hD1 hs hc hm
    have hpc := pc_le_n hp (by omega)
    rw [wm_parts_l29_s]
    simp only [nI_eq (show p < 2 ^ 31 by omega) (show w < 2 ^ 31 by omega)]
    by_cases q : p = w
    · rw [if_pos q]
      have sp := partV_spec hn hD
      have e : p = partV V D := subB_anti (hs _ sp.2.2.1 sp.2.1) (sp.2.2.2 p (hc q) hD1)
      rw [e, nI_1]
      exact ⟨V, hI, hr, fun σ' h' _ _ => h σ' h'⟩
    · rw [if_neg q]
      obtain ⟨r1, r2, r3⟩ := rdM_props V p hp (vn V) (Nat.le_refl _)
      refine ⟨_, paM_d hI hp ?_ (vn V) 0 (by omega)⟩
      refine ih _ p r1 hp (r2 D hD1) (fun c hcl hcd => r3 c hcl (hs c hcl hcd)) (fun e => by rw [e]; exact rdM_fix hp e) ?_
      by_cases e : rdM V p p (vn V) = p
      · exact Or.inr ⟨e, by omega⟩
      · have := subB_pc r2 (fun y => e y.symm) (show rdM V p p (vn V) < 2 ^ 11 by omega)
        exact Or.inl (by omega)
theorem closB_row (V : VV) (r : List Int32) (b : Nat) : closB (vSRow V r) b = closB V b := rfl
theorem paM_loop {V : VV} {P : Int32 → St → Prop} (hw : WV V) (h : ∀ σ', IM σ' (S_parts V) → P (R_parts V) σ') : ∀ m d : Nat, vn V ≤ d + m → d ≤ vn V → ∀ σ, IM σ (rowG (vSRow V []) (paS V d).2) → wm_parts_l17 P (m + 1) (nI (complV V (paS V d).1)) (nI (paS V d).2.length) σ := by
  have hn := hw.n
  have hpw := pow_le_1024 hn
  have fin : ∀ d, d ≤ vn V → complV V (paS V d).1 = 0 → ∀ σ, IM σ (rowG (vSRow V []) (paS V d).2) → P (nI (paS V d).2.length) σ := by
    intro d hd hz σ hI
    have e : paS V (vn V) = paS V d := by
      have := paS_skip (V := V) (d := d) (vn V - d) fun j h1 h2 => by
        have hb := bitsOf_tb (fun j => !((paS V d).1.testBit j)) (vn V) j
        unfold complV at hz
        rw [hz, Nat.zero_testBit, decide_eq_true (show j < vn V by omega), Bool.true_and] at hb
        cases q : (paS V d).1.testBit j with
        | true => rfl
        | false => rw [q] at hb; exact absurd hb (by decide)
      rw [show d + (vn V - d) = vn V by omega] at this
      exact this
    unfold S_parts R_parts at h
    rw [e] at h
    exact h σ hI
  intro m
  induction m with
  | zero =>
    intro d hd hd2 σ hI
    have hz : complV V (paS V d).1 = 0 := tb_ext fun j => by
      unfold complV
      rw [bitsOf_tb, Nat.zero_testBit]
      by_cases q : j < vn V
      · rw [(paS_b hn d hd2).2.2 j (by omega), Bool.not_true, Bool.and_false]
      · rw [decide_eq_false q, Bool.false_and]
    rw [wm_parts_l17_s, hz, if_pos (show nI 0 = 0 from rfl)]
    exact fin d hd2 hz σ hI
  | succ m ih =>
    intro d hd hd2 σ hI
    have hcl : complV V (paS V d).1 < 2 ^ vn V := bitsOf_lt _ _
    rw [wm_parts_l17_s]
    simp only [nI_eq0 (show complV V (paS V d).1 < 2 ^ 31 by omega)]
    by_cases q : complV V (paS V d).1 = 0
    · rw [if_pos q]; exact fin d hd2 q σ hI
    · rw [if_neg q, low_bit (by omega) q]
      have hbit : ∀ j, (complV V (paS V d).1).testBit j = (decide (j < vn V) && !((paS V d).1.testBit j)) := fun j => bitsOf_tb _ _ _
      obtain ⟨j0, hj0⟩ := Nat.exists_testBit_of_ne_zero q
      have hj0n : j0 < vn V := Decidable.byContradiction fun y => by rw [tb_lt hcl (by omega)] at hj0; exact absurd hj0 (by decide)
      obtain ⟨a, b, c⟩ := lst_ex (p := fun j => (complV V (paS V d).1).testBit j) (n := 10) (show j0 < 10 by omega) hj0
      generalize lst (fun j => (complV V (paS V d).1).testBit j) 10 = D at a b c
      have b' : (complV V (paS V d).1).testBit D = true := b
      rw [hbit, Bool.and_eq_true, decide_eq_true_eq] at b'
      have hD := b'.1
      have hDn : (paS V d).1.testBit D = false := by
        cases z : (paS V d).1.testBit D with
        | false => rfl
        | true => rw [z] at b'; exact absurd b'.2 (by decide)
      have hdD : d ≤ D := Decidable.byContradiction fun y => by rw [(paS_b hn d hd2).2.2 D (by omega)] at hDn; exact absurd hDn (by decide)
      have eD : paS V D = paS V d := by
        have := paS_skip (V := V) (d := d) (D - d) fun j h1 h2 => by
          have hj := c j (by omega)
          have hj' : (complV V (paS V d).1).testBit j = false := hj
          rw [hbit, decide_eq_true (show j < vn V by omega), Bool.true_and] at hj'
          cases z : (paS V d).1.testBit j with
          | true => rfl
          | false => rw [z] at hj'; exact absurd hj' (by decide)
        rw [show d + (D - d) = D by omega] at this
        exact this
      have hs := paS_s0 (V := V) (d := D) (by rw [eD]; exact hDn)
      rw [eD] at hs
      have ih1 := ih (D + 1) (by omega) (by omega)
      rw [hs] at ih1
      have hlen : (vrow (rowG (vSRow V []) (paS V d).2)).length = (paS V d).2.length := by
        show ([] ++ (paS V d).2.map nI).length = _
        rw [List.nil_append, List.length_map]
      have hle := (paS_b (V := V) hn d hd2).2.1
      have h2D : 2 ^ D < 2 ^ vn V := Nat.pow_lt_pow_right (by decide) hD
      refine ⟨vn V + 1, ?_⟩
      rw [lit0']
      refine paM_w (V := rowG (vSRow V []) (paS V d).2) hI hD (by rw [hlen]; omega) (fun σ' h' => ?_) (vn V + 1) (2 ^ D) 0 h2D (Nat.two_pow_pos _) Nat.testBit_two_pow_self (fun x _ hx j hj => ?_) (fun e => ?_) (Or.inl ?_)
      · have ep : partV (rowG (vSRow V []) (paS V d).2) D = partV V D := partV_row V _ _
        rw [ep] at h' ⊢
        have e : vSRow (rowG (vSRow V []) (paS V d).2) (vrow (rowG (vSRow V []) (paS V d).2) ++ [nI (partV V D)]) = rowG (vSRow V []) ((paS V d).2 ++ [partV V D]) := by
          show vSRow V (([] ++ (paS V d).2.map nI) ++ [nI (partV V D)]) = vSRow V ([] ++ ((paS V d).2 ++ [partV V D]).map nI)
          rw [List.map_append, List.append_assoc]; rfl
        rw [e] at h'
        have h9 := ih1 σ' h'
        rw [show (((paS V d).1 ||| partV V D, (paS V d).2 ++ [partV V D]) : Nat × List Nat).2.length = (paS V d).2.length + 1 from by show ((paS V d).2 ++ [partV V D]).length = _; rw [List.length_append]; rfl] at h9
        have ea : nI (complV V (paS V d).1) &&& (nI (partV V D) ^^^ (-1)) = nI (complV V ((paS V d).1 ||| partV V D)) := and_not hn (partV_spec hn hD).1
        rw [ea]
        exact h9
      · have : j = D := Decidable.byContradiction fun y => by rw [Nat.testBit_two_pow_of_ne (fun w => y w.symm)] at hj; exact absurd hj (by decide)
        rw [this]; exact hx
      · have := Nat.two_pow_pos D; omega
      · rw [pc_2 D (by omega)]
        show vn V + 2 ≤ 1 + (vn V + 1)
        omega
theorem om_parts {σ : St} {V : VV} {P : Int32 → St → Prop} (hI : IM σ V) (h : ∀ σ', IM σ' (S_parts V) → P (R_parts V) σ') : wm_parts σ P := by
  have hI := hI.th 0
  refine ⟨V, hI, vn V + 1, ?_⟩
  have h9 := paM_loop hI.2 h (vn V) 0 (by omega) (by omega) (mS_rowMany (mS_thrown σ 0) 0) (by show IM _ (rowG (vSRow V []) []); rw [rowG_nil]; exact hI.row0)
  have e : complV V (paS V 0).1 = 2 ^ vn V - 1 := tb_ext fun j => by
    unfold complV
    rw [bitsOf_tb, Nat.testBit_two_pow_sub_one, show (paS V 0).1 = 0 from rfl, Nat.zero_testBit, Bool.not_false, Bool.and_true]
  rw [e] at h9
  exact h9
