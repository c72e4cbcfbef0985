/-! component: measuresLeast, shortest -/
theorem mleX_d {V : VV} {A s l b : Nat} {ini : Int32} {P : St → Prop} {K : Int32 → Int32 → Int32 → Int32 → St → Prop} {σ : St} (hG : GX σ V A) (hok : okS (vn V) s l) (h10 : l ≠ 10)
    (h : K (nI b) (nI s) (nI l) (foldN (fun d acc => if acc ≤ 0 then acc else if mv V A s l d = true then jmin acc (1 + gA σ 32 (11 * (s ||| 2 ^ d) + d)) else acc) ini (vn V)) σ) :
    ∀ m d : Nat, d + m = vn V → wx_measuresLeast_l51 P K (m + 1) (nI b) (nI s) (nI l) (foldN (fun d acc => if acc ≤ 0 then acc else if mv V A s l d = true then jmin acc (1 + gA σ 32 (11 * (s ||| 2 ^ d) + d)) else acc) ini d) (nI d) σ := by
  have hI := hG.1
  have hn := hI.2.n
  have hb := okS_le hn hok
  have stop : ∀ k d, foldN (fun d acc => if acc ≤ 0 then acc else if mv V A s l d = true then jmin acc (1 + gA σ 32 (11 * (s ||| 2 ^ d) + d)) else acc) ini d ≤ 0 → foldN (fun d acc => if acc ≤ 0 then acc else if mv V A s l d = true then jmin acc (1 + gA σ 32 (11 * (s ||| 2 ^ d) + d)) else acc) ini (d + k) = foldN (fun d acc => if acc ≤ 0 then acc else if mv V A s l d = true then jmin acc (1 + gA σ 32 (11 * (s ||| 2 ^ d) + d)) else acc) ini d := by
    intro k d hle
    induction k with
    | zero => rfl
    | succ k ih =>
      show (if foldN _ ini (d + k) ≤ 0 then foldN _ ini (d + k) else _) = _
      rw [ih, if_pos hle]
  intro m
  induction m with
  | zero =>
    intro d hd
    rw [wx_measuresLeast_l51_s, show xI_dishes σ = _ from hI.n, if_pos (by rw [show d = vn V by omega]; exact Int32.le_refl _), show d = vn V by omega]
    exact h
  | succ m ih =>
    intro d hd
    have ih1 := ih (d + 1) (by omega)
    have hor := or2_lt hok.1 (show d < vn V by omega)
    have hp := pow_le_1024 hn
    rw [wx_measuresLeast_l51_s, show xI_dishes σ = _ from hI.n, if_neg (nI_ge (by omega) (by omega))]
    by_cases q0 : foldN (fun d acc => if acc ≤ 0 then acc else if mv V A s l d = true then jmin acc (1 + gA σ 32 (11 * (s ||| 2 ^ d) + d)) else acc) ini d ≤ 0
    · rw [if_pos q0]
      have := stop (m + 1) d q0
      rw [show d + (m + 1) = vn V by omega] at this
      rw [this] at h
      exact h
    · rw [if_neg q0]
      rw [show foldN (fun d acc => if acc ≤ 0 then acc else if mv V A s l d = true then jmin acc (1 + gA σ 32 (11 * (s ||| 2 ^ d) + d)) else acc) ini (d + 1) = if foldN (fun d acc => if acc ≤ 0 then acc else if mv V A s l d = true then jmin acc (1 + gA σ 32 (11 * (s ||| 2 ^ d) + d)) else acc) ini d ≤ 0 then foldN (fun d acc => if acc ≤ 0 then acc else if mv V A s l d = true then jmin acc (1 + gA σ 32 (11 * (s ||| 2 ^ d) + d)) else acc) ini d else if mv V A s l d = true then jmin (foldN (fun d acc => if acc ≤ 0 then acc else if mv V A s l d = true then jmin acc (1 + gA σ 32 (11 * (s ||| 2 ^ d) + d)) else acc) ini d) (1 + gA σ 32 (11 * (s ||| 2 ^ d) + d)) else foldN (fun d acc => if acc ≤ 0 then acc else if mv V A s l d = true then jmin acc (1 + gA σ 32 (11 * (s ||| 2 ^ d) + d)) else acc) ini d from rfl, if_neg q0] at ih1
      have hl : l < vn V := hok.2.elim (fun z => z.1) (fun z => absurd z.1 h10)
      rw [show nI l = lI l from lI_n (by omega)]
      refine ox_goesOn hG hok.1 (Or.inl hl) (by omega) ?_
      unfold wx_measuresLeast_j101
      rw [nI_1, ← show nI l = lI l from lI_n (by omega)]
      cases q : mv V A s l d with
      | false => rw [jf0]; rw [q, if_neg (by decide)] at ih1; exact ih1
      | true =>
        rw [jt0]; rw [q, if_pos rfl] at ih1
        rw [nI_shl1 _ (by omega), nI_or]
        refine ⟨s ||| 2 ^ d, d, rfl, lI_n (by omega), by omega, by omega, vp_in_nI (by omega) (by omega), ?_⟩
        rw [cl (by omega)]
        exact ih1
theorem mleX_l {V : VV} {A s b : Nat} {c : Int32} {P : St → Prop} {K : Int32 → Int32 → St → Prop} (hw : WV V) (hb : b < vn V) (hs : s < 2 ^ vn V) (hs0 : 0 < s)
    (h : ∀ σ', GX σ' V A → gA σ' 32 10 = c → Done (vn V) (gA σ' 32) (stL (mv V A) b (vn V) c) s (vn V + 1) → K (nI b) (nI s + (-1)) σ') :
    ∀ m l : Nat, l + m = vn V → ∀ σ, GX σ V A → gA σ 32 10 = c → Done (vn V) (gA σ 32) (stL (mv V A) b (vn V) c) s (l + 1) → wx_measuresLeast_l15 P K (m + 1) (nI b) (nI s) (nI l) σ := by
  have hn := hw.n
  intro m
  induction m with
  | zero =>
    intro l hl σ hG hc hD
    rw [wx_measuresLeast_l15_s, show xI_dishes σ = _ from hG.1.n, if_pos (by rw [show l = vn V by omega]; exact Int32.le_refl _)]
    rw [show l = vn V by omega] at hD
    exact h σ hG hc hD
  | succ m ih =>
    intro l hl σ hG hc hD
    have hp := pow_le_1024 hn
    have hlo : lOf (l + 1) = l := if_neg (by omega)
    rw [wx_measuresLeast_l15_s, show xI_dishes σ = _ from hG.1.n, if_neg (nI_ge (by omega) (by omega))]
    unfold sx_has
    dsimp only
    rw [hasB_nI (by omega) (by omega)]
    have sb : stateB s l = s.testBit l := by unfold stateB; rw [if_neg (by omega)]
    cases q : s.testBit l with
    | false =>
      rw [jf0]
      unfold wx_measuresLeast_j119
      rw [nI_1]
      exact ih (l + 1) (by omega) σ hG hc (hD.skip hn (by omega) hs (by rw [hlo, sb, q]))
    | true =>
      rw [jt0]
      have hok : okS (vn V) s l := ⟨hs, Or.inl ⟨by omega, q⟩⟩
      have fin : ∀ ini, ini = (if l = b then 0 else 1000000) → wx_measuresLeast_j46 P (wx_measuresLeast_l15 P K (m + 1)) (nI b) (nI s) (nI l) ini σ := by
        intro ini ei
        refine ⟨_, mleX_d hG hok (by omega) ?_ (vn V) 0 (by omega)⟩
        refine ⟨s, l, rfl, lI_n (by omega), by omega, by omega, vp_in_nI (by omega) (by omega), ?_⟩
        unfold wx_measuresLeast_j119 xU_value uA
        rw [nI_1, cl (by omega)]
        have hlt := pow_le_1024 hn
        refine ih (l + 1) (by omega) _ (hG.qA (by decide) _) ?_ (hD.write hn (stL_c (mv_newM V A)) (by omega) hs (by rw [hlo, sb, q]) (fun k hk => ?_) ?_)
        · show upd (gA σ 32) (11 * s + l) _ 10 = c
          rw [upd_n (by omega), hc]
        · show upd (gA σ 32) (11 * s + l) _ k = _
          rw [upd_n (by rw [hlo] at hk; exact hk)]
        · rw [hlo]
          show upd (gA σ 32) (11 * s + l) _ (11 * s + l) = _
          rw [upd_s, ei]
          unfold stL
          rw [if_neg (show ¬ l = 10 by omega)]
      simp only [nI_eq (show l < 2 ^ 31 by omega) (show b < 2 ^ 31 by omega)]
      by_cases q1 : l = b
      · rw [if_pos q1]; exact fin 0 (by rw [if_pos q1])
      · rw [if_neg q1]; exact fin 1000000 (by rw [if_neg q1])
theorem mleX_s {V : VV} {A b : Nat} {c : Int32} {P : St → Prop} (hw : WV V) (hb : b < vn V) (h : ∀ σ', GX σ' V A → FixT (vn V) (gA σ' 32) (stL (mv V A) b (vn V) c) → P σ') :
    ∀ m : Nat, m < 2 ^ vn V → ∀ σ, GX σ V A → gA σ 32 10 = c → Done (vn V) (gA σ 32) (stL (mv V A) b (vn V) c) m 0 → wx_measuresLeast_l9 P (m + 1) (nI b) (nI m) σ := by
  have hn := hw.n
  have hp := pow_le_1024 hn
  intro m
  induction m with
  | zero =>
    intro hm σ hG hc hD
    rw [wx_measuresLeast_l9_s, if_pos (by decide)]
    refine h σ hG fun s l hok => ?_
    by_cases e : s = 0
    · have e10 : l = 10 := by
        rcases hok.2 with q | q
        · rw [e, Nat.zero_testBit] at q; exact absurd q.2 (by decide)
        · exact q.1
      rw [e, e10]
      show gA σ 32 10 = _
      rw [hc]; rfl
    · exact hD s l hok (Or.inl (by omega))
  | succ m ih =>
    intro hm σ hG hc hD
    rw [wx_measuresLeast_l9_s, if_neg (fun z => by have := (nI_le0 (by omega)).mp z; omega)]
    refine ⟨vn V + 1, ?_⟩
    refine mleX_l hw hb hm (by omega) (fun σ' hG' hc' hD' => ?_) (vn V) 0 (by omega) σ hG hc (hD.skip hn (by omega) hm (by show stateB (m + 1) 10 = false; unfold stateB; rw [if_pos rfl]; exact decide_eq_false (by omega)))
    rw [nI_m1 (by omega), Nat.add_sub_cancel]
    exact ih (by omega) σ' hG' hc' (hD'.next hn)
theorem ox_measuresLeast {σ : St} {V : VV} {A b : Nat} {P : St → Prop} (hG : GX σ V A) (hb : b < vn V) (h : ∀ σ' c, GX σ' V A → FixT (vn V) (gA σ' 32) (stL (mv V A) b (vn V) c) → P σ') : wx_measuresLeast σ (nI b) P := by
  have hn := hG.1.2.n
  have h1 := Nat.one_le_two_pow (n := vn V)
  unfold wx_measuresLeast
  rw [show xI_dishes σ = _ from hG.1.n, two_n (by omega)]
  exact ⟨_, mleX_s (c := gA σ 32 10) hG.1.2 hb (fun σ' hG' hT => h σ' _ hG' hT) (2 ^ vn V - 1) (by omega) σ hG rfl (Done.start _ _)⟩
theorem ox_shortest {σ : St} {V : VV} {P : Int32 → St → Prop} (hI : IX σ V) (v w : Int32) (h : ∀ σ', IX σ' (S_shortest V v w) → P (R_shortest V v w) σ') : wx_shortest σ v w P := by
  have hn := hI.2.n
  have hp := pow_le_1024 hn
  refine ⟨V, hI, ?_⟩
  dsimp only
  unfold R_shortest S_shortest at h
  cases q : rngB v (vn V) with
  | false => rw [jf0]; simp only [q, Bool.false_eq_true, false_and, if_false] at h; exact h _ hI
  | true =>
    rw [jt0]
    refine ⟨V, hI, ?_⟩
    dsimp only
    cases q2 : rngB w (vn V) with
    | false => rw [jf0]; simp only [q2, Bool.false_eq_true, and_false, false_and, if_false] at h; exact h _ hI
    | true =>
      rw [jt0]; simp only [q, q2, and_self, true_and, if_true] at h
      obtain ⟨f, hf, rfl⟩ := rngB_of (by omega) q
      obtain ⟨b, hb, rfl⟩ := rngB_of (by omega) q2
      rw [cl (show f < 2 ^ 31 by omega), cl (show b < 2 ^ 31 by omega)] at h
      have hM := mv_newM V (allA V)
      have hpf : 2 ^ f < 2 ^ vn V := Nat.pow_lt_pow_right (by decide) hf
      refine ox_laysOut hI fun σ1 hG => ?_
      rw [nI_shl1 _ (by omega), cl (by omega), show xA_fine σ1 (2 ^ f) = _ from hG.2.2.2 _ hpf]
      refine ⟨vp_in_nI (by omega) (by omega), ?_⟩
      have ec : canB V f b = (fineV V (2 ^ f) && anB (exB V f b) 11) := rfl
      cases y1 : fineV V (2 ^ f) with
      | false => rw [jf0]; rw [ec, y1, Bool.false_and, if_neg (by decide), if_neg (by decide)] at h; exact h _ hG.1
      | true =>
        rw [jt0]; rw [ec, y1, Bool.true_and] at h
        refine ox_measuresLeast hG hb fun σ2 c hG2 hT => ?_
        have hG3 := hG2.row0
        refine ⟨2 ^ f, f, rfl, lI_n (by omega), by omega, by omega, vp_in_nI (by omega) (by omega), ?_⟩
        rw [cl (by omega)]
        obtain ⟨m0, m1, m2⟩ := min_spec hn hM hT (vn V) _ _ (by omega) (ok1 hf) (by omega) (by omega)
        have em : (1000000 : Int32).toInt = 1000000 := by decide
        by_cases y2 : (gA σ2 32 (11 * 2 ^ f + f)).toInt < 1000000
        · obtain ⟨k0, hk0, ek0, hx0⟩ := m2 y2
          have hxB : exB V f b k0 = true := by
            unfold exB
            rw [show ex (mv V (allA V)) (vn V) (Eb b) k0 (2 ^ f) f = true from hx0, Bool.true_and]
            by_cases e : f = b
            · have := m1 0 (show decide (f = b) = true from decide_eq_true e)
              rw [ek0, nI_toInt (by omega)] at this
              rw [decide_eq_true (show k0 = 0 by omega), Bool.or_true]
            · rw [decide_eq_false e]; rfl
          have esK : sK V f b = k0 := lst_eq (by omega) (fun j hj => by
            rw [Bool.eq_false_iff]
            intro z
            unfold exB at z
            have := m1 j (Bool.and_eq_true _ _ ▸ z).1
            rw [ek0, nI_toInt (by omega)] at this
            omega) (fun _ => hxB)
          rw [show xA_value σ2 (11 * 2 ^ f + f) = nI k0 from ek0, if_pos (by rw [show (1000000 : Int32) = nI 1000000 from rfl]; exact nI_lt (by omega) (by omega))]
          refine ⟨_, hG3.1, by show 0 < 12; omega, fun σ3 h3 kp _ => ?_⟩
          rw [nI_1]
          have hG4 := hG3.row h3 (kp.1 35 (by decide)) (kp.2.1 30 (by decide))
          have e32 : gA σ3 32 = gA σ2 32 := kp.2.1 32 (by decide)
          rw [anB_iff.mpr ⟨k0, by omega, hxB⟩, if_pos rfl, if_pos rfl, esK] at h
          -- the states along the row are not the empty one
          have hx' : ∀ k s l, k < 12 → okS (vn V) s l → gA σ3 32 (11 * s + l) = nI (k + 1) → l ≠ 10 → ∃ d, d < vn V ∧ mv V (allA V) s l d = true ∧ gA σ3 32 (11 * (s ||| 2 ^ d) + d) = nI k := fun k s l hk hok' hTk h10 => by rw [e32] at hTk ⊢; exact min_one hn hM hT (by omega) hok' h10 hTk
          have h9 := ox_tellsMost' (P := fun σ' => P (nI (k0 + 1)) σ') hG4 (s := 2 ^ f) (l := f) (ok1 hf) (show f ≠ 10 by omega) (k := k0) (by rw [e32]; exact ek0) hx' (by show 1 + k0 ≤ 12; omega) fun σ4 hG5 _ => by
            refine h σ4 ?_
            have ew : way (mv V (allA V)) (vn V) (gT (gA σ2 32)) k0 (2 ^ f) f = way (mv V (allA V)) (vn V) (ex (mv V (allA V)) (vn V) (Eb b)) k0 (2 ^ f) f := by
              refine way_congr (Q := fun k s l => k ≤ 10 ∧ l ≠ 10 ∧ okS (vn V) s l ∧ gA σ2 32 (11 * s + l) = nI k) (fun k s l q d hd hm => ?_) (fun k s l q d hd hm hg => ⟨by omega, by omega, okS_step q.2.2.1 hd, of_decide_eq_true hg⟩) (fun k s l q => ?_) k0 _ _ ⟨by omega, by omega, ok1 hf, ek0⟩
              · have := min_next hn hM hT (show k < 1000 by omega) q.2.2.1 q.2.1 q.2.2.2 d hd hm
                unfold gT
                rw [Bool.eq_iff_iff, decide_eq_true_eq]
                exact this
              · obtain ⟨d, hd, hm, hz⟩ := min_one hn hM hT (show k < 1000 by omega) q.2.2.1 q.2.1 q.2.2.2
                exact ⟨d, hd, hm, decide_eq_true hz⟩
            have h8 : IX σ4 (rowG (vSRow V [nI f]) (way (mv V (allA V)) (vn V) (gT (gA σ3 32)) k0 (2 ^ f) f)) := hG5.1
            rw [e32, ew] at h8
            exact h8
          rw [← lI_n (by omega)] at h9
          exact h9
        · have ec2 : anB (exB V f b) 11 = false := by
            rw [Bool.eq_false_iff]
            intro z
            obtain ⟨j, hj, hx⟩ := anB_iff.mp z
            unfold exB at hx
            have := m1 j (Bool.and_eq_true _ _ ▸ hx).1
            omega
          rw [ec2, if_neg (by decide), if_neg (by decide)] at h
          rw [if_neg (fun z => y2 (by rw [Int32.lt_iff_toInt_lt] at z; rw [← em]; exact z))]
          exact h _ hG2.1
