/-! MEND: the component's op -/
/-- the dishes without the stuff that fails -/
def cutP (V : VV) (v : Int32) (d : Nat) : Bool := decide (v < 0) || !((vst V d).testBit v.toNatClampNeg)
def cutA (V : VV) (v : Int32) : Nat := bitsOf (cutP V v) (vn V)
def meR (V : VV) (i : Nat) (v : Int32) : Nat := meF (mv V (cutA V v)) (vme V i) (vn V) 0 10
def okM (v : Int32) : Bool := decide (-1 ≤ v.toInt) && decide (v.toInt ≤ 7)
def R_mend (V : VV) (v1 v2 : Int32) : Int32 := if okM v2 = true then (if wholeV V v1 = true then (if meR V v1.toNatClampNeg v2 < 1000000 then nI (meR V v1.toNatClampNeg v2) else -2) else -3) else -1
def S_mend (V : VV) (v1 v2 : Int32) : VV := if okM v2 = true then (if wholeV V v1 = true then (if meR V v1.toNatClampNeg v2 < 1000000 then rowG (vSRow V []) (wyD (mv V (cutA V v2)) (vme V v1.toNatClampNeg) (vn V) (vme V v1.toNatClampNeg).length 0 10) else V) else V) else V
theorem okE (n : Nat) : okS n 0 10 := ⟨Nat.two_pow_pos _, Or.inr ⟨rfl, rfl⟩⟩
theorem menX_s {V : VV} {A i : Nat} {P : Int32 → St → Prop} (hw : WV V) (hi : i < 3)
    (h1 : meF (mv V A) (vme V i) (vn V) 0 10 < 1000000 → ∀ σ', IX σ' (rowG (vSRow V []) (wyD (mv V A) (vme V i) (vn V) (vme V i).length 0 10)) → P (nI (meF (mv V A) (vme V i) (vn V) 0 10)) σ')
    (h0 : ¬ meF (mv V A) (vme V i) (vn V) 0 10 < 1000000 → ∀ σ', IX σ' V → P (-2) σ') :
    ∀ m : Nat, m ≤ 2 ^ vn V → ∀ σ, GX σ V A → (0 < m → At (vn V) (m - 1) 0 (mnX σ V A (vme V i))) → (m = 0 → ∀ s l, okS (vn V) s l → mnX σ V A (vme V i) s l) →
      wx_mend_l99 P (fun v1 v3 v4 v5 v6 v7 σ => ∃ n274, wx_mend_l274 P n274 v1 v3 v4 v5 v6 v7 σ) (m + 1) (nI i) (nI (vme V i).length) (nI m - 1) σ := by
  have hn := hw.n
  have hp := pow_le_1024 hn
  have hml := (hw.me i).1
  intro m
  induction m with
  | zero =>
    intro hm σ hG _ hF
    have hA := hF rfl
    have hle := meF_le (mn := vme V i) hn (mv_newM V A) (okE (vn V))
    rw [wx_mend_l99_s, if_pos (by decide)]
    refine ⟨0, 10, rfl, rfl, by omega, by omega, bV (by omega), ?_⟩
    rw [cl (by omega), show xA_value σ (11 * 0 + 10) = _ from hA 0 10 (okE _) (by rw [pc_0]; omega), show (1000000 : Int32) = nI 1000000 from rfl]
    simp only [nI_ltI (show meF (mv V A) (vme V i) (vn V) 0 10 < 2 ^ 31 by omega) (show 1000000 < 2 ^ 31 by omega)]
    by_cases q : meF (mv V A) (vme V i) (vn V) 0 10 < 1000000
    · rw [if_pos q]
      have hr := hG.row0
      refine ⟨(vme V i).length + 1, ?_⟩
      have h9 := mpX_k (V := V) (A := A) (i := i) (x4 := meF (mv V A) (vme V i) (vn V) 0 10) (P := P) (T := gA σ 32) hn hi hml (fun s l hok y => hA s l hok y) (vme V i).length 0 10 (vSRow V []) ⟨[], rfl⟩ (okE _) (by rw [pc_0]; omega) q (by show 0 + (vme V i).length ≤ 12; omega) _ hr rfl (fun σ' hG' => h1 q σ' hG'.1)
      rw [pc_0] at h9
      exact h9
    · rw [if_neg q]; exact h0 q σ hG.1
  | succ m ih =>
    intro hm σ hG hD _
    rw [wx_mend_l99_s, nI_pred, if_neg (nI_lt0 (by omega)), bitC_nI (by omega)]
    refine ⟨vn V + 2, menX_l hw hi (show m < 2 ^ vn V by omega) (fun σ' hG' hD' => ?_) (vn V + 1) 0 (by omega) σ hG (hD (by omega))⟩
    unfold wx_mend_j231
    rw [show nI m + (-1) = nI m - 1 from (Int32.sub_eq_add_neg _ _).symm]
    refine ih (by omega) σ' hG' (fun hpos => ?_) (fun h0 => ?_)
    · rw [show m = m - 1 + 1 by omega] at hD'
      exact hD'.next hn
    · rw [h0] at hD'; exact hD'.fix hn
theorem menX_a {V : VV} {i : Nat} {v : Int32} {P : Int32 → St → Prop} {K : Int32 → Int32 → Int32 → St → Prop} (hi : i < 3) (hv : okM v = true) (h : ∀ σ, GX σ V (cutA V v) → K (nI i) (nI (vme V i).length) (nI (2 ^ vn V) - 1) σ) :
    ∀ m d : Nat, d + m = vn V → ∀ σ, GX σ V (lowB (cutP V v) (vn V) d) → wx_mend_l33 P K (m + 1) (nI i) v (nI d) σ := by
  intro m
  induction m with
  | zero =>
    intro d hd σ hG
    have hn := hG.1.2.n
    rw [wx_mend_l33_s, show xI_dishes σ = _ from hG.1.n, if_pos (by rw [show d = vn V by omega]; exact Int32.le_refl _)]
    rw [show d = vn V by omega, lowB_n] at hG
    refine ⟨vp_in_nI hi (by omega), ?_⟩
    rw [cl (by omega), show xA_menuMany σ i = _ from hG.1.ml hi, nI_shl1 _ (by omega)]
    exact h σ hG
  | succ m ih =>
    intro d hd σ hG
    have hn := hG.1.2.n
    have hp := pow_le_1024 hn
    have hA := hG.2.2.1
    have ih1 := ih (d + 1) (by omega)
    rw [lowB_s (by omega)] at ih1
    rw [wx_mend_l33_s, show xI_dishes σ = _ from hG.1.n, if_neg (nI_ge (by omega) (by omega))]
    unfold wx_mend_j71 wx_mend_j72
    rw [nI_1, show xI_allowed σ = _ from hG.2.1, and_m1, nI_shl1 _ (by omega), and_compl (by omega) (by omega), lowB_tbk (by omega), if_pos rfl]
    by_cases q : v < 0
    · rw [if_pos q]
      rw [show cutP V v d = true from by unfold cutP; rw [decide_eq_true q, Bool.true_or], if_pos rfl] at ih1
      exact ih1 _ (hG.al hA)
    · rw [if_neg q]
      have hs := (hG.1.2.d (d := d) (by omega)).2.1
      have hv7 : v.toNatClampNeg < 8 ∧ v = nI v.toNatClampNeg := by
        unfold okM at hv
        rw [Bool.and_eq_true, decide_eq_true_eq, decide_eq_true_eq] at hv
        have h0 : 0 ≤ v.toInt := by
          rw [Int32.lt_iff_toInt_lt, show (0 : Int32).toInt = 0 from by decide] at q; omega
        have e : (v.toNatClampNeg : Int) = v.toInt := Int.toNat_of_nonneg h0
        refine ⟨by omega, Int32.toInt_inj.mp ?_⟩
        rw [nI_toInt (by omega)]; omega
      refine ⟨vp_in_nI (by omega) (by omega), ?_⟩
      rw [cl (by omega), show xA_stuffs σ d = _ from hG.1.st (by omega)]
      unfold sx_has
      dsimp only
      rw [hv7.2, hasB_nI (by omega) (by omega), ← hv7.2]
      cases q2 : (vst V d).testBit v.toNatClampNeg with
      | false =>
        rw [jf0]
        rw [show cutP V v d = true from by unfold cutP; rw [q2, decide_eq_false q]; rfl, if_pos rfl] at ih1
        exact ih1 _ (hG.al hA)
      | true =>
        rw [jt0]
        rw [show cutP V v d = false from by unfold cutP; rw [q2, decide_eq_false q]; rfl, if_neg (by decide)] at ih1
        exact ih1 _ (hG.al (Nat.xor_lt_two_pow hA (Nat.pow_lt_pow_right (by decide) (by omega))))
theorem ox_mend {σ : St} {V : VV} {P : Int32 → St → Prop} (hI : IX σ V) (v1 v2 : Int32) (h : ∀ σ', IX σ' (S_mend V v1 v2) → P (R_mend V v1 v2) σ') : wx_mend σ v1 v2 P := by
  unfold R_mend S_mend at h
  unfold wx_mend sx_in
  dsimp only
  rw [inB_lit (x := -1) (y := 7) (by decide) (by decide), show (decide (-1 ≤ v2.toInt) && decide (v2.toInt ≤ 7)) = okM v2 from rfl]
  cases q : okM v2 with
  | false => rw [jf0]; rw [q, if_neg (by decide), if_neg (by decide)] at h; exact h σ hI
  | true =>
    rw [jt0]; rw [q, if_pos rfl, if_pos rfl] at h
    refine ⟨V, hI, ?_⟩
    dsimp only
    cases q2 : wholeV V v1 with
    | false => rw [jf0]; rw [q2, if_neg (by decide), if_neg (by decide)] at h; exact h σ hI
    | true =>
      rw [jt0]; rw [q2, if_pos rfl, if_pos rfl] at h
      obtain ⟨i, hi, rfl, _⟩ := wholeV_of q2
      rw [cl (by omega)] at h
      refine ox_laysOut hI fun σ1 hG => ⟨vn V + 1, menX_a (V := V) (v := v2) (K := fun v1 v3 v4 σ => ∃ n99, wx_mend_l99 P (fun v1 v3 v4 v5 v6 v7 σ => ∃ n274, wx_mend_l274 P n274 v1 v3 v4 v5 v6 v7 σ) n99 v1 v3 v4 σ) hi q (fun σ2 hG2 => ⟨2 ^ vn V + 1, ?_⟩) (vn V) 0 (by omega) σ1 (by rw [lowB_0]; exact hG)⟩
      have h1 := Nat.one_le_two_pow (n := vn V)
      refine menX_s hI.2 hi (fun z σ' h' => ?_) (fun z σ' h' => ?_) (2 ^ vn V) (Nat.le_refl _) σ2 hG2 (fun _ => At.start _ _) (fun z => by omega)
      · rw [if_pos (show meR V i v2 < 1000000 from z), if_pos (show meR V i v2 < 1000000 from z)] at h; exact h σ' h'
      · rw [if_neg (show ¬ meR V i v2 < 1000000 from z), if_neg (show ¬ meR V i v2 < 1000000 from z)] at h; exact h σ' h'
