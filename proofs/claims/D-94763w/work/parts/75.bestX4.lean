theorem besX_s {V : VV} {A k : Nat} {x2 x3 b : Int32} {w : Nat → Int32} {P : Int32 → St → Prop} {K : Int32 → Int32 → Int32 → St → Prop} (hw : WV V) (hk : k ≤ 10)
    (h : ∀ σ', GW σ' V A w → FixT (vn V) (gA σ' 32) (stB (mv V A) w b ((vsv V).length + k) (vn V)) → (if x2 = 0 then K (nI k) x3 b (xS_rowMany σ' 0) else sx_tells (xS_rowMany σ' 0) b (fun σ271 => K (nI k) x3 b σ271))) :
    ∀ m : Nat, m ≤ 2 ^ vn V → ∀ σ, GW σ V A w → (0 < m → Done (vn V) (gA σ 32) (stB (mv V A) w b ((vsv V).length + k) (vn V)) (m - 1) 0) → (m = 0 → FixT (vn V) (gA σ 32) (stB (mv V A) w b ((vsv V).length + k) (vn V))) → wx_bestSet_l99 P K (m + 1) (nI k) x2 x3 b (nI m - 1) σ := by
  have hn := hw.n
  have hp := pow_le_1024 hn
  intro m
  induction m with
  | zero =>
    intro hm σ hG _ hF
    rw [wx_bestSet_l99_s, if_pos (by decide)]
    exact h σ hG (hF rfl)
  | succ m ih =>
    intro hm σ hG hD _
    rw [wx_bestSet_l99_s, nI_pred, if_neg (nI_lt0 (by omega))]
    refine ⟨vn V + 2, ?_⟩
    refine besX_l hw hk (show m < 2 ^ vn V by omega) (fun σ' hG' hD' => ?_) (vn V + 1) 0 (by omega) σ hG (hD (by omega))
    rw [show nI m + (-1) = nI m - 1 from (Int32.sub_eq_add_neg _ _).symm]
    refine ih (by omega) σ' hG' (fun hpos => ?_) (fun h0 => ?_)
    · rw [show m = m - 1 + 1 by omega] at hD'
      exact hD'.next hn
    · rw [h0] at hD'; exact hD'.fix hn
/-! the row to the best set is told -/
theorem pthX_d {V : VV} {A s l D : Nat} {x1 x4 x6 : Int32} {P : Int32 → St → Prop} {K : Int32 → Int32 → Int32 → Int32 → Int32 → St → Prop} {σ : St} (hG : GX σ V A) (hok : okS (vn V) s l) (hD : D < vn V) (hm : mv V A s l D = true) (hT : gA σ 32 (11 * (s ||| 2 ^ D) + D) ≠ 0)
    (hno : ∀ d, d < D → mv V A s l d = true → gA σ 32 (11 * (s ||| 2 ^ d) + d) = 0) (hr : (vrow V).length < 12)
    (h : ∀ σ', GX σ' (vSRow V (vrow V ++ [nI D])) A → gA σ' 32 = gA σ 32 → K x1 (nI (s ||| 2 ^ D)) x4 (nI D) (x6 + 1) σ') :
    ∀ m d : Nat, d + m = D → wx_bestSet_l292 P K (m + 1) x1 (nI s) x4 (lI l) x6 (nI d) σ := by
  have hI := hG.1
  have hn := hI.2.n
  have hb := okS_le hn hok
  have hp := pow_le_1024 hn
  intro m
  induction m with
  | zero =>
    intro d hd
    have e : d = D := by omega
    subst e
    have hor := or2_lt hok.1 hD
    rw [wx_bestSet_l292_s]
    refine ox_goesOn hG hok.1 (by rcases hok.2 with q | q <;> omega) hD ?_
    rw [hm, jt0, nI_shl1 _ (by omega), nI_or]
    refine ⟨s ||| 2 ^ d, d, rfl, (lI_l (by omega)).symm, by omega, by omega, vp_in_nI (by omega) (by omega), ?_⟩
    rw [cl (by omega), if_neg hT]
    exact ⟨V, hI, hr, fun σ' h' kp _ => h σ' (hG.row h' (kp.1 35 (by decide)) (kp.2.1 30 (by decide))) (kp.2.1 32 (by decide))⟩
  | succ m ih =>
    intro d hd
    have ih1 := ih (d + 1) (by omega)
    have hor := or2_lt hok.1 (show d < vn V by omega)
    rw [wx_bestSet_l292_s]
    refine ox_goesOn hG hok.1 (by rcases hok.2 with q | q <;> omega) (by omega) ?_
    unfold wx_bestSet_j323
    rw [nI_1]
    cases q : mv V A s l d with
    | false => rw [jf0]; exact ih1
    | true =>
      rw [jt0, nI_shl1 _ (by omega), nI_or]
      refine ⟨s ||| 2 ^ d, d, rfl, (lI_l (by omega)).symm, by omega, by omega, vp_in_nI (by omega) (by omega), ?_⟩
      rw [cl (by omega), show xA_value σ (11 * (s ||| 2 ^ d) + d) = 0 from hno d (by omega) q, if_pos rfl]
      exact ih1
theorem pthX_k {V : VV} {A N due : Nat} {b : Int32} {w : Nat → Int32} {P : Int32 → St → Prop} {T : Nat → Int32} (hn : vn V ≤ 10) (hN : N ≤ 10) (hT : FixT (vn V) T (stB (mv V A) w b due (vn V))) :
    ∀ k s l, ∀ W, (∃ r, W = vSRow V r) → k ≤ N → okS (vn V) s l → pc s + k = due → ex (mv V A) (vn V) (Ew w b due) k s l = true → (vrow W).length + k ≤ 12 → ∀ σ, GX σ W A → gA σ 32 = T → (∀ σ', GX σ' (rowG W (way (mv V A) (vn V) (ex (mv V A) (vn V) (Ew w b due)) k s l)) A → P b σ') → wx_bestSet_l283 P (k + 1) (nI N) (nI s) b (lI l) (nI (N - k)) σ := by
  have hM := mv_newM V A
  intro k
  induction k with
  | zero =>
    intro s l W eW hkN hok hd hx hr σ hG hg h
    rw [wx_bestSet_l283_s, if_pos (by rw [Nat.sub_zero]; exact Int32.le_refl _)]
    refine h σ ?_
    show GX σ (rowG W []) A
    rw [rowG_nil]; exact hG
  | succ k ih =>
    intro s l W eW hkN hok hd hx hr σ hG hg h
    obtain ⟨r, rfl⟩ := eW
    rw [wx_bestSet_l283_s, if_neg (nI_ge (by omega) (by omega))]
    have can : ∀ d, d < vn V → mv V A s l d = true → (T (11 * (s ||| 2 ^ d) + d) ≠ 0 ↔ ex (mv V A) (vn V) (Ew w b due) k (s ||| 2 ^ d) d = true) := by
      intro d hd' hm
      have hpc := pc_or2 (hM s l d hd' hm) (show d < 11 by omega)
      rw [stB_spec hn hM hT (vn V) _ _ (okS_step hok hd') (by omega), ne_eq, j01_ne0, decide_eq_true (show pc (s ||| 2 ^ d) ≤ due by omega), Bool.true_and, show due - pc (s ||| 2 ^ d) = k by omega]
    obtain ⟨d0, hd0, hm0, hx0⟩ := ex_s.mp hx
    obtain ⟨a, b1', c'⟩ := lst_ex (p := fun d => mv V A s l d && ex (mv V A) (vn V) (Ew w b due) k (s ||| 2 ^ d) d) hd0 (by rw [hm0, hx0]; rfl)
    have b1 := (Bool.and_eq_true _ _ ▸ b1').1
    have b2 := (Bool.and_eq_true _ _ ▸ b1').2
    unfold way at h
    generalize lst (fun d => mv V A s l d && ex (mv V A) (vn V) (Ew w b due) k (s ||| 2 ^ d) d) (vn V) = D at a b1' b1 b2 c' h
    have hlen : r.length + (k + 1) ≤ 12 := hr
    have hpcD := pc_or2 (hM s l D a b1) (show D < 11 by omega)
    refine ⟨D + 1, pthX_d (V := vSRow V r) hG hok a b1 (by rw [hg]; exact (can D a b1).mpr b2) (fun d hd' hm => ?_) (by show r.length < 12; omega) (fun σ' hG' hg' => ?_) D 0 (by omega)⟩
    · have := c' d hd'
      rw [show mv V A s l d = true from hm, Bool.true_and] at this
      rw [hg]
      exact Decidable.byContradiction fun z => by rw [(can d (by omega) hm).mp z] at this; exact absurd this (by decide)
    · have h9 := ih (s ||| 2 ^ D) D (vSRow V (r ++ [nI D])) ⟨_, rfl⟩ (by omega) (okS_step hok a) (by omega) b2 (by show (r ++ [nI D]).length + k ≤ 12; rw [List.length_append]; show r.length + 1 + k ≤ 12; omega) σ' hG' (by rw [hg', hg]) (fun σ'' hG'' => h σ'' (by rw [← rowG_two]; exact hG''))
      rw [lI_l (by omega)] at h9
      rw [nI_1, show N - (k + 1) + 1 = N - k by omega]
      exact h9
