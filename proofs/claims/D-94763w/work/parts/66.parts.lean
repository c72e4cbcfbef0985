/-! PARTS -/
theorem cnt_mono {p q : Nat → Bool} : ∀ n, (∀ k, k < n → p k = true → q k = true) → cnt p n ≤ cnt q n := by
  intro n
  induction n with
  | zero => intro _; exact Nat.le_refl _
  | succ n ih =>
    intro h
    rw [cnt_s, cnt_s]
    have h1 := ih fun k hk => h k (by omega)
    have h2 := h n (by omega)
    by_cases q1 : p n = true
    · rw [if_pos q1, if_pos (h2 q1)]; omega
    · rw [if_neg q1]; omega
theorem cnt_lt {p q : Nat → Bool} {j : Nat} : ∀ n, (∀ k, k < n → p k = true → q k = true) → j < n → p j = false → q j = true → cnt p n < cnt q n := by
  intro n
  induction n with
  | zero => intro _ h; omega
  | succ n ih =>
    intro h hj hp hq
    rw [cnt_s, cnt_s]
    by_cases e : j = n
    · subst e
      rw [hp, hq, if_neg (by decide), if_pos rfl]
      have := cnt_mono (p := p) (q := q) j fun k hk => h k (by omega)
      omega
    · have h1 := ih (fun k hk => h k (by omega)) (by omega) hp hq
      have h2 := h n (by omega)
      by_cases q1 : p n = true
      · rw [if_pos q1, if_pos (h2 q1)]; omega
      · rw [if_neg q1]; omega
def subB (a b : Nat) : Prop := ∀ j, a.testBit j = true → b.testBit j = true
theorem subB_pc {a b : Nat} (h : subB a b) (hne : a ≠ b) (hb : b < 2 ^ 11) : pc a < pc b := by
  have : ∃ j, a.testBit j = false ∧ b.testBit j = true := Classical.byContradiction fun z => hne (tb_ext fun j => by
    cases q1 : a.testBit j with
    | true => exact (h j q1).symm
    | false =>
      cases q2 : b.testBit j with
      | false => rfl
      | true => exact absurd ⟨j, q1, q2⟩ z)
  obtain ⟨j, h1, h2⟩ := this
  have hj : j < 11 := Decidable.byContradiction fun y => by rw [tb_lt hb (by omega)] at h2; exact absurd h2 (by decide)
  exact cnt_lt 11 (fun k _ => h k) hj h1 h2
def closB (V : VV) (b : Nat) : Prop := ∀ e, e < vn V → b.testBit e = true → subB (besV V e) b
/-- one round; c: the set that is asked (itself, or what was) -/
def rdX (V : VV) (b : Nat) : Nat → Nat := foldN (fun d b => if b.testBit d = true then b ||| besV V d else b) b
def rdM (V : VV) (c b : Nat) : Nat → Nat := foldN (fun d b => if c.testBit d = true then b ||| besV V d else b) b
theorem rdX_s (V : VV) (b k : Nat) : rdX V b (k + 1) = if (rdX V b k).testBit k = true then rdX V b k ||| besV V k else rdX V b k := rfl
theorem rdM_s (V : VV) (c b k : Nat) : rdM V c b (k + 1) = if c.testBit k = true then rdM V c b k ||| besV V k else rdM V c b k := rfl
theorem subB_or {a b : Nat} : subB a (a ||| b) := fun j h => by rw [Nat.testBit_or, h]; rfl
theorem or_subB {a b c : Nat} (h1 : subB a c) (h2 : subB b c) : subB (a ||| b) c := fun j h => by
  rw [Nat.testBit_or, Bool.or_eq_true] at h
  exact h.elim (h1 j) (h2 j)
theorem or_of_sub {a b : Nat} (h : subB b a) : a ||| b = a := tb_ext fun j => by
  rw [Nat.testBit_or]
  cases q : b.testBit j with
  | false => rw [Bool.or_false]
  | true => rw [h j q]; rfl
theorem subB_anti {a b : Nat} (h1 : subB a b) (h2 : subB b a) : a = b := tb_ext fun j => by
  cases q : a.testBit j with
  | true => exact (h1 j q).symm
  | false =>
    cases q2 : b.testBit j with
    | false => rfl
    | true => rw [h2 j q2] at q; exact absurd q (by decide)
theorem rdX_props (V : VV) (b : Nat) (hb : b < 2 ^ vn V) : ∀ k, k ≤ vn V → rdX V b k < 2 ^ vn V ∧ subB b (rdX V b k) ∧ (∀ c, closB V c → subB b c → subB (rdX V b k) c) := by
  intro k
  induction k with
  | zero => intro _; exact ⟨hb, fun j h => h, fun c _ h => h⟩
  | succ k ih =>
    intro hk
    obtain ⟨i1, i2, i3⟩ := ih (by omega)
    rw [rdX_s]
    by_cases q : (rdX V b k).testBit k = true
    · rw [if_pos q]
      exact ⟨Nat.or_lt_two_pow i1 (besV_lt V k), fun j h => subB_or j (i2 j h), fun c hc hs => or_subB (i3 c hc hs) (hc k (by omega) (i3 c hc hs k q))⟩
    · rw [if_neg q]; exact ⟨i1, i2, i3⟩
theorem rdM_props (V : VV) (b : Nat) (hb : b < 2 ^ vn V) : ∀ k, k ≤ vn V → rdM V b b k < 2 ^ vn V ∧ subB b (rdM V b b k) ∧ (∀ c, closB V c → subB b c → subB (rdM V b b k) c) := by
  intro k
  induction k with
  | zero => intro _; exact ⟨hb, fun j h => h, fun c _ h => h⟩
  | succ k ih =>
    intro hk
    obtain ⟨i1, i2, i3⟩ := ih (by omega)
    rw [rdM_s]
    by_cases q : b.testBit k = true
    · rw [if_pos q]
      exact ⟨Nat.or_lt_two_pow i1 (besV_lt V k), fun j h => subB_or j (i2 j h), fun c hc hs => or_subB (i3 c hc hs) (hc k (by omega) (hs k q))⟩
    · rw [if_neg q]; exact ⟨i1, i2, i3⟩
theorem rdX_mono (V : VV) (b : Nat) : ∀ i k, subB (rdX V b k) (rdX V b (k + i)) := by
  intro i
  induction i with
  | zero => intro k j h; exact h
  | succ i ih =>
    intro k j h
    show (rdX V b (k + i + 1)).testBit j = true
    rw [rdX_s]
    split
    · exact subB_or j (ih k j h)
    · exact ih k j h
theorem rdM_mono (V : VV) (c b : Nat) : ∀ i k, subB (rdM V c b k) (rdM V c b (k + i)) := by
  intro i
  induction i with
  | zero => intro k j h; exact h
  | succ i ih =>
    intro k j h
    show (rdM V c b (k + i + 1)).testBit j = true
    rw [rdM_s]
    split
    · exact subB_or j (ih k j h)
    · exact ih k j h
theorem rdX_fix {V : VV} {b : Nat} (hb : b < 2 ^ vn V) (h : rdX V b (vn V) = b) : closB V b := by
  intro e he hbit
  obtain ⟨_, i2, _⟩ := rdX_props V b hb e (by omega)
  have h1 : rdX V b e = b := subB_anti (by have := rdX_mono V b (vn V - e) e; rw [show e + (vn V - e) = vn V by omega, h] at this; exact this) i2
  have h2 : subB (rdX V b (e + 1)) b := by have := rdX_mono V b (vn V - (e + 1)) (e + 1); rw [show e + 1 + (vn V - (e + 1)) = vn V by omega, h] at this; exact this
  rw [rdX_s, h1, if_pos hbit] at h2
  intro j hj
  exact h2 j (by rw [Nat.testBit_or, hj, Bool.or_true])
theorem rdM_fix {V : VV} {b : Nat} (hb : b < 2 ^ vn V) (h : rdM V b b (vn V) = b) : closB V b := by
  intro e he hbit
  have h2 : subB (rdM V b b (e + 1)) b := by have := rdM_mono V b b (vn V - (e + 1)) (e + 1); rw [show e + 1 + (vn V - (e + 1)) = vn V by omega, h] at this; exact this
  rw [rdM_s, if_pos hbit] at h2
  intro j hj
  exact h2 j (by rw [Nat.testBit_or, hj, Bool.or_true])
theorem rdX_clos {V : VV} {b : Nat} (hb : b < 2 ^ vn V) (h : closB V b) : rdX V b (vn V) = b := by
  obtain ⟨_, i2, i3⟩ := rdX_props V b hb (vn V) (Nat.le_refl _)
  exact subB_anti (i3 b h fun j z => z) i2
def itX (V : VV) (b : Nat) : Nat → Nat
  | 0 => b
  | k + 1 => rdX V (itX V b k) (vn V)
theorem itX_props {V : VV} {b : Nat} (hn : vn V ≤ 10) (hb : b < 2 ^ vn V) (h0 : 1 ≤ pc b) : ∀ k, itX V b k < 2 ^ vn V ∧ subB b (itX V b k) ∧ (∀ c, closB V c → subB b c → subB (itX V b k) c) ∧ (closB V (itX V b k) ∨ k + 1 ≤ pc (itX V b k)) := by
  intro k
  induction k with
  | zero => exact ⟨hb, fun j h => h, fun c _ h => h, Or.inr (by show 0 + 1 ≤ pc b; omega)⟩
  | succ k ih =>
    obtain ⟨i1, i2, i3, i4⟩ := ih
    obtain ⟨r1, r2, r3⟩ := rdX_props V (itX V b k) i1 (vn V) (Nat.le_refl _)
    refine ⟨r1, fun j h => r2 j (i2 j h), fun c hc hs => r3 c hc (i3 c hc hs), ?_⟩
    show closB V (rdX V (itX V b k) (vn V)) ∨ k + 1 + 1 ≤ pc (rdX V (itX V b k) (vn V))
    by_cases e : rdX V (itX V b k) (vn V) = itX V b k
    · rw [e]; exact Or.inl (rdX_fix i1 e)
    · rcases i4 with z | z
      · exact absurd (rdX_clos i1 z) e
      · have hp := pow_le_1024 hn
        have := subB_pc r2 (fun y => e y.symm) (show rdX V (itX V b k) (vn V) < 2 ^ 11 by omega)
        exact Or.inr (by omega)
/-- the part of a dish -/
def partV (V : VV) (d : Nat) : Nat := itX V (2 ^ d) (vn V)
theorem besV_row (V : VV) (r : List Int32) (d : Nat) : besV (vSRow V r) d = besV V d := rfl
theorem rdX_row (V : VV) (r : List Int32) (b : Nat) : ∀ k, rdX (vSRow V r) b k = rdX V b k := by
  intro k
  induction k with
  | zero => rfl
  | succ k ih => rw [rdX_s, rdX_s, ih, besV_row]
theorem itX_row (V : VV) (r : List Int32) (b : Nat) : ∀ k, itX (vSRow V r) b k = itX V b k := by
  intro k
  induction k with
  | zero => rfl
  | succ k ih =>
    show rdX (vSRow V r) (itX (vSRow V r) b k) (vn V) = rdX V (itX V b k) (vn V)
    rw [ih, rdX_row]
theorem partV_row (V : VV) (r : List Int32) (d : Nat) : partV (vSRow V r) d = partV V d := itX_row V r _ _
theorem partV_spec {V : VV} (hn : vn V ≤ 10) {d : Nat} (hd : d < vn V) : partV V d < 2 ^ vn V ∧ (partV V d).testBit d = true ∧ closB V (partV V d) ∧ (∀ c, closB V c → c.testBit d = true → subB (partV V d) c) := by
  obtain ⟨a, b, c, e⟩ := itX_props hn (show 2 ^ d < 2 ^ vn V from Nat.pow_lt_pow_right (by decide) hd) (by rw [pc_2 d (by omega)]; omega) (vn V)
  refine ⟨a, b d Nat.testBit_two_pow_self, e.resolve_right fun z => by have := pc_le_n a (by omega); omega, fun x hx hb => c x hx fun j hj => ?_⟩
  have : j = d := Decidable.byContradiction fun y => by rw [Nat.testBit_two_pow_of_ne (fun w => y w.symm)] at hj; exact absurd hj (by decide)
  rw [this]; exact hb
theorem prX_d {V : VV} {b : Nat} {t : Int32} {P : Int32 → St → Prop} {K : Int32 → Int32 → St → Prop} {σ : St} (hI : IX σ V) (hb : b < 2 ^ vn V) (h : K (nI (rdX V b (vn V))) (t + 1) σ) :
    ∀ m d : Nat, d + m = vn V → wx_partOf_l17 P K (m + 1) (nI (rdX V b d)) t (nI d) σ := by
  have hn := hI.2.n
  have hp := pow_le_1024 hn
  intro m
  induction m with
  | zero =>
    intro d hd
    rw [wx_partOf_l17_s, show xI_dishes σ = _ from hI.n, if_pos (by rw [show d = vn V by omega]; exact Int32.le_refl _), show d = vn V by omega]
    exact h
  | succ m ih =>
    intro d hd
    have ih1 := ih (d + 1) (by omega)
    rw [rdX_s] at ih1
    have hl := (rdX_props V b hb d (by omega)).1
    rw [wx_partOf_l17_s, show xI_dishes σ = _ from hI.n, if_neg (nI_ge (by omega) (by omega))]
    unfold sx_has wx_partOf_j46
    dsimp only
    rw [hasB_nI (by omega) (by omega), nI_1]
    cases q : (rdX V b d).testBit d with
    | false => rw [jf0, lit0', nI_or, Nat.or_zero]; rw [q, if_neg (by decide)] at ih1; exact ih1
    | true =>
      rw [jt0]; rw [q, if_pos rfl] at ih1
      refine ⟨V, d, hI, rfl, by omega, ?_⟩
      dsimp only
      rw [nI_or]
      exact ih1
theorem ox_partOf {V : VV} {d : Nat} {P : Int32 → St → Prop} {σ : St} (hI : IX σ V) (hd : d < vn V) (h : P (nI (partV V d)) σ) : wx_partOf σ (nI d) P := by
  have hn := hI.2.n
  have key : ∀ m k : Nat, k + m = vn V → wx_partOf_l6 P (m + 1) (nI (itX V (2 ^ d) k)) (nI k) σ := by
    intro m
    induction m with
    | zero =>
      intro k hk
      rw [wx_partOf_l6_s, show xI_dishes σ = _ from hI.n, if_pos (by rw [show k = vn V by omega]; exact Int32.le_refl _), show k = vn V by omega]
      exact h
    | succ m ih =>
      intro k hk
      rw [wx_partOf_l6_s, show xI_dishes σ = _ from hI.n, if_neg (nI_ge (by omega) (by omega))]
      refine ⟨_, prX_d hI (itX_props hn (Nat.pow_lt_pow_right (by decide) hd) (by rw [pc_2 d (by omega)]; omega) k).1 ?_ (vn V) 0 (by omega)⟩
      rw [nI_1]
      exact ih (k + 1) (by omega)
  unfold wx_partOf
  rw [nI_shl1 _ (by omega)]
  exact ⟨_, key (vn V) 0 (by omega)⟩
/-- seen so far, and what was told -/
def paS (V : VV) : Nat → Nat × List Nat
  | 0 => (0, [])
  | d + 1 => if (paS V d).1.testBit d = true then paS V d else ((paS V d).1 ||| partV V d, (paS V d).2 ++ [partV V d])
theorem paS_s1 {V : VV} {d : Nat} (h : (paS V d).1.testBit d = true) : paS V (d + 1) = paS V d := if_pos h
theorem paS_s0 {V : VV} {d : Nat} (h : (paS V d).1.testBit d = false) : paS V (d + 1) = ((paS V d).1 ||| partV V d, (paS V d).2 ++ [partV V d]) := if_neg (by rw [h]; decide)
theorem paS_b {V : VV} (hn : vn V ≤ 10) : ∀ d, d ≤ vn V → (paS V d).1 < 2 ^ vn V ∧ (paS V d).2.length ≤ d ∧ ∀ j, j < d → (paS V d).1.testBit j = true := by
  intro d
  induction d with
  | zero => intro _; exact ⟨Nat.two_pow_pos _, Nat.le_refl _, fun j hj => absurd hj (by omega)⟩
  | succ d ih =>
    intro hd
    obtain ⟨a, b, c⟩ := ih (by omega)
    cases q : (paS V d).1.testBit d with
    | true =>
      rw [paS_s1 q]
      refine ⟨a, by omega, fun j hj => ?_⟩
      by_cases e : j = d
      · rw [e]; exact q
      · exact c j (by omega)
    | false =>
      rw [paS_s0 q]
      have hp := partV_spec hn (show d < vn V by omega)
      refine ⟨Nat.or_lt_two_pow a hp.1, by show ((paS V d).2 ++ [partV V d]).length ≤ _; rw [List.length_append]; show _ + 1 ≤ _; omega, fun j hj => ?_⟩
      show ((paS V d).1 ||| partV V d).testBit j = true
      rw [Nat.testBit_or]
      by_cases e : j = d
      · rw [e, hp.2.1, Bool.or_true]
      · rw [c j (by omega)]; rfl
def S_parts (V : VV) : VV := rowG (vSRow V []) (paS V (vn V)).2
def R_parts (V : VV) : Int32 := nI (paS V (vn V)).2.length
theorem paX_loop {V : VV} {P : Int32 → St → Prop} (hw : WV V) (h : ∀ σ', IX σ' (S_parts V) → P (R_parts V) σ') : ∀ m d : Nat, d + m = vn V → ∀ σ, IX σ (rowG (vSRow V []) (paS V d).2) → wx_parts_l9 P (m + 1) (nI (paS V d).1) (nI d) σ := by
  have hn := hw.n
  have hp := pow_le_1024 hn
  intro m
  induction m with
  | zero =>
    intro d hd σ hI
    rw [wx_parts_l9_s, show xI_dishes σ = nI (vn V) from hI.n, if_pos (by rw [show d = vn V by omega]; exact Int32.le_refl _)]
    rw [show d = vn V by omega] at hI
    have e : xI_rowMany σ = R_parts V := by
      rw [show xI_rowMany σ = _ from hI.rm]
      show nI ([] ++ (paS V (vn V)).2.map nI).length = _
      rw [List.nil_append, List.length_map]; rfl
    rw [e]
    exact h σ hI
  | succ m ih =>
    intro d hd σ hI
    obtain ⟨a, b, c⟩ := paS_b (V := V) hn d (by omega)
    rw [wx_parts_l9_s, show xI_dishes σ = nI (vn V) from hI.n, if_neg (nI_ge (by omega) (by omega))]
    unfold sx_has wx_parts_j45
    dsimp only
    rw [hasB_nI (by omega) (by omega), nI_1]
    have ih1 := ih (d + 1) (by omega)
    cases q : (paS V d).1.testBit d with
    | true =>
      rw [jt0]
      rw [paS_s1 q] at ih1
      exact ih1 σ hI
    | false =>
      rw [jf0]
      rw [paS_s0 q] at ih1
      have hlen : (vrow (rowG (vSRow V []) (paS V d).2)).length = (paS V d).2.length := by
        show ([] ++ (paS V d).2.map nI).length = _
        rw [List.nil_append, List.length_map]
      refine ox_partOf hI (show d < vn V by omega) (ox_partOf hI (show d < vn V by omega) ⟨_, hI, by rw [hlen]; omega, fun σ' h' _ _ => ?_⟩)
      have ep : partV (rowG (vSRow V []) (paS V d).2) d = partV V d := partV_row V _ _
      rw [ep, nI_or]
      rw [ep] at h'
      refine ih1 σ' ?_
      have e : vSRow (rowG (vSRow V []) (paS V d).2) (vrow (rowG (vSRow V []) (paS V d).2) ++ [nI (partV V d)]) = rowG (vSRow V []) ((paS V d).2 ++ [partV V d]) := by
        show vSRow V (([] ++ (paS V d).2.map nI) ++ [nI (partV V d)]) = vSRow V ([] ++ ((paS V d).2 ++ [partV V d]).map nI)
        rw [List.map_append, List.append_assoc]; rfl
      rw [← e]
      exact h'
theorem ox_parts {σ : St} {V : VV} {P : Int32 → St → Prop} (hI : IX σ V) (h : ∀ σ', IX σ' (S_parts V) → P (R_parts V) σ') : wx_parts σ P :=
  ⟨_, paX_loop hI.2 h (vn V) 0 (by omega) _ (by show IX _ (rowG (vSRow V []) []); rw [rowG_nil]; exact hI.row0)⟩
