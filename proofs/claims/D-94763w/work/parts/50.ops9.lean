/-! what a guest eats of a menu -/
def eatA (V : VV) (i g k : Nat) : Nat := if hungV V g ((vme V i).getD k 0) = true then 0 else vst V ((vme V i).getD k 0)
def eatV (V : VV) (i g : Nat) : Nat := orN (eatA V i g) (vme V i).length
theorem orN_s (f : Nat → Nat) (k : Nat) : orN f (k + 1) = orN f k ||| f k := rfl
theorem bits_has {V : VV} (h : WV V) {g d : Nat} (hg : g < vg V) : hasB (nI (bitsOf (fun g => hungV V g d) (vg V))) (nI g) = hungV V g d := by
  have h1 := bitsOf_lt (fun g => hungV V g d) (vg V)
  have h2 : (2 : Nat) ^ vg V ≤ 2 ^ 6 := Nat.pow_le_pow_right (by decide) h.g
  have h3 := h.g
  rw [hasB_nI (by omega) (by omega), bitsOf_tb, decide_eq_true hg, Bool.true_and]
theorem eatX_loop {V : VV} {i g : Nat} {P : Int32 → St → Prop} {σ : St} (hI : IX σ V) (hi : i < 3) (hg : g < vg V) (h99 : ∀ k, k < (vme V i).length → (vme V i).getD k 0 ≠ 99) (h : P (nI (eatV V i g)) σ) :
    ∀ m k : Nat, k + m = (vme V i).length → wx_eatenBy_l5 P (m + 1) (nI i) (nI g) (nI (orN (eatA V i g) k)) (nI k) σ := by
  have hn := hI.2.n
  have hm := (hI.2.me i).1
  intro m
  induction m with
  | zero =>
    intro k hk
    rw [wx_eatenBy_l5_s]
    refine ⟨vp_in_nI hi (by omega), ?_⟩
    rw [cl (by omega), show xA_menuMany σ i = _ from hI.ml hi, if_pos (by rw [show k = (vme V i).length by omega]; exact Int32.le_refl _), show k = (vme V i).length by omega]
    exact h
  | succ m ih =>
    intro k hk
    have ih1 := ih (k + 1) (by omega)
    rw [orN_s] at ih1
    have hlt := whole_lt hI.2 h99 (k := k) (by omega)
    rw [wx_eatenBy_l5_s]
    refine ⟨vp_in_nI hi (by omega), ?_⟩
    rw [cl (by omega), show xA_menuMany σ i = _ from hI.ml hi, if_neg (nI_ge (by omega) (by omega))]
    refine ⟨V, i, k, hI, rfl, rfl, hi, by omega, V, _, hI, rfl, hlt, ?_⟩
    unfold sx_has
    dsimp only
    rw [bits_has hI.2 hg]
    unfold wx_eatenBy_j51
    rw [nI_1]
    cases q : hungV V g ((vme V i).getD k 0) with
    | true =>
      rw [jt0, lit0', nI_or]
      rw [show eatA V i g k = 0 from if_pos q] at ih1
      exact ih1
    | false =>
      rw [jf0]
      rw [show eatA V i g k = vst V ((vme V i).getD k 0) from if_neg (by rw [q]; decide)] at ih1
      refine ⟨V, i, k, hI, rfl, rfl, hi, by omega, vp_in_nI (by omega) (by omega), ?_⟩
      rw [cl (by omega), show xA_stuffs σ ((vme V i).getD k 0) = _ from hI.st hlt, nI_or]
      exact ih1
theorem ox_eatenBy {V : VV} {i g : Nat} {P : Int32 → St → Prop} {σ : St} (hI : IX σ V) (hi : i < 3) (hg : g < vg V) (h99 : ∀ k, k < (vme V i).length → (vme V i).getD k 0 ≠ 99) (h : P (nI (eatV V i g)) σ) : wx_eatenBy σ (nI i) (nI g) P := ⟨_, eatX_loop hI hi hg h99 h (vme V i).length 0 (by omega)⟩
theorem eatM_loop {V : VV} {i g : Nat} {P : Int32 → St → Prop} {σ : St} (hI : IM σ V) (hi : i < 3) (hg : g < vg V) (h99 : ∀ k, k < (vme V i).length → (vme V i).getD k 0 ≠ 99) (h : P (nI (eatV V i g)) σ) :
    ∀ m k : Nat, k + m = (vme V i).length → wm_ateOf_l5 P (m + 1) (nI i) (nI g) (nI (orN (eatA V i g) k)) (nI k) σ := by
  have hn := hI.2.n
  have hm := (hI.2.me i).1
  intro m
  induction m with
  | zero =>
    intro k hk
    rw [wm_ateOf_l5_s]
    refine ⟨vp_in_nI hi (by omega), ?_⟩
    rw [cl (by omega), show mA_menuLong σ i = _ from hI.ml hi, if_pos (by rw [show k = (vme V i).length by omega]; exact Int32.le_refl _), show k = (vme V i).length by omega]
    exact h
  | succ m ih =>
    intro k hk
    have ih1 := ih (k + 1) (by omega)
    rw [orN_s] at ih1
    have hlt := whole_lt hI.2 h99 (k := k) (by omega)
    rw [wm_ateOf_l5_s]
    refine ⟨vp_in_nI hi (by omega), ?_⟩
    rw [cl (by omega), show mA_menuLong σ i = _ from hI.ml hi, if_neg (nI_ge (by omega) (by omega)), mul10, nI_add, cl (by omega), show mA_menus σ (10 * i + k) = _ from hI.me hi (by omega)]
    refine ⟨vp_in_nI (by omega) (by omega), V, g, _, hI, rfl, rfl, hg, hlt, ?_⟩
    unfold wm_ateOf_j58
    rw [nI_1]
    cases q : hungV V g ((vme V i).getD k 0) with
    | true =>
      rw [jt0, lit0', nI_or]
      rw [show eatA V i g k = 0 from if_pos q] at ih1
      exact ih1
    | false =>
      rw [jf0]
      rw [show eatA V i g k = vst V ((vme V i).getD k 0) from if_neg (by rw [q]; decide)] at ih1
      rw [show mA_menus σ (10 * i + k) = _ from hI.me hi (by omega), cl (by omega), show mA_stuffs σ ((vme V i).getD k 0) = _ from hI.st hlt, nI_or]
      exact ⟨vp_in_nI (by omega) (by omega), vp_in_nI (by omega) (by omega), ih1⟩
theorem om_ateOf {V : VV} {i g : Nat} {P : Int32 → St → Prop} {σ : St} (hI : IM σ V) (hi : i < 3) (hg : g < vg V) (h99 : ∀ k, k < (vme V i).length → (vme V i).getD k 0 ≠ 99) (h : P (nI (eatV V i g)) σ) : wm_ateOf σ (nI i) (nI g) P := ⟨_, eatM_loop hI hi hg h99 h (vme V i).length 0 (by omega)⟩
/-! poison -/
def poI (V : VV) (i : Nat) (died : Int32) : Nat → Int32
  | 0 => 255
  | g + 1 => poI V i died g &&& (if hasB died (nI g) = true then nI (eatV V i g) else nI (eatV V i g) ^^^ (-1))
def R_poison (V : VV) (v w : Int32) : Int32 := if rngB w (2 ^ vg V) = true then (if wholeV V v = true then poI V v.toNatClampNeg w (vg V) else -3) else -1
theorem poX_loop {V : VV} {i : Nat} {w : Int32} {P : Int32 → St → Prop} {σ : St} (hI : IX σ V) (hi : i < 3) (h99 : ∀ k, k < (vme V i).length → (vme V i).getD k 0 ≠ 99) (h : P (poI V i w (vg V)) σ) :
    ∀ m g : Nat, g + m = vg V → wx_poison_l38 P (m + 1) (nI i) w (poI V i w g) (nI g) σ := by
  have hg := hI.2.g
  intro m
  induction m with
  | zero =>
    intro g hk
    rw [wx_poison_l38_s, show xI_guests σ = _ from hI.g, if_pos (by rw [show g = vg V by omega]; exact Int32.le_refl _), show g = vg V by omega]
    exact h
  | succ m ih =>
    intro g hk
    have ih1 := ih (g + 1) (by omega)
    rw [show poI V i w (g + 1) = poI V i w g &&& (if hasB w (nI g) = true then nI (eatV V i g) else nI (eatV V i g) ^^^ (-1)) from rfl] at ih1
    rw [wx_poison_l38_s, show xI_guests σ = _ from hI.g, if_neg (nI_ge (by omega) (by omega))]
    unfold sx_has wx_poison_j76
    rw [nI_1]
    cases q : hasB w (nI g) with
    | true => rw [jt0]; rw [q, if_pos rfl] at ih1; exact ox_eatenBy hI hi (by omega) h99 ih1
    | false => rw [jf0]; rw [q, if_neg (by decide)] at ih1; exact ox_eatenBy hI hi (by omega) h99 ih1
theorem two_pow_rng {V : VV} (h : WV V) : 2 ^ vg V - 1 < 2 ^ 31 ∧ 1 ≤ 2 ^ vg V := by
  have h2 : (2 : Nat) ^ vg V ≤ 2 ^ 6 := Nat.pow_le_pow_right (by decide) h.g
  have h1 := Nat.one_le_two_pow (n := vg V)
  exact ⟨by omega, h1⟩
theorem ox_poison {σ : St} {V : VV} {P : Int32 → St → Prop} (hI : IX σ V) (v w : Int32) (h : ∀ σ', IX σ' V → P (R_poison V v w) σ') : wx_poison σ v w P := by
  have hg := hI.2.g
  have tp := two_pow_rng hI.2
  unfold wx_poison sx_in
  rw [show xI_guests σ = _ from hI.g, two_n (by omega), inB_len (by omega), show 2 ^ vg V - 1 + 1 = 2 ^ vg V by omega]
  dsimp only
  unfold R_poison at h
  cases q0 : rngB w (2 ^ vg V) with
  | false => rw [jf0]; rw [q0, if_neg (by decide)] at h; exact h σ hI
  | true =>
    rw [jt0]; rw [q0, if_pos rfl] at h
    refine ⟨V, hI, ?_⟩
    dsimp only
    cases q : wholeV V v with
    | false => rw [jf0]; rw [q, if_neg (by decide)] at h; exact h σ hI
    | true =>
      rw [jt0]; rw [q, if_pos rfl] at h
      obtain ⟨i, hi, rfl, hl, h99⟩ := wholeV_of q
      rw [cl (by omega)] at h
      exact ⟨_, poX_loop hI hi h99 (h σ hI) (vg V) 0 (by omega)⟩
theorem poM_loop {V : VV} {i : Nat} {w : Int32} {P : Int32 → St → Prop} {σ : St} (hI : IM σ V) (hi : i < 3) (h99 : ∀ k, k < (vme V i).length → (vme V i).getD k 0 ≠ 99) (h : P (poI V i w (vg V)) σ) :
    ∀ m g : Nat, g + m = vg V → wm_poison_l41 P (m + 1) (nI i) w (poI V i w g) (nI g) σ := by
  have hg := hI.2.g
  intro m
  induction m with
  | zero =>
    intro g hk
    rw [wm_poison_l41_s, show mI_guests σ = _ from hI.g, if_pos (by rw [show g = vg V by omega]; exact Int32.le_refl _), show g = vg V by omega]
    exact h
  | succ m ih =>
    intro g hk
    have ih1 := ih (g + 1) (by omega)
    rw [show poI V i w (g + 1) = poI V i w g &&& (if hasB w (nI g) = true then nI (eatV V i g) else nI (eatV V i g) ^^^ (-1)) from rfl] at ih1
    rw [wm_poison_l41_s, show mI_guests σ = _ from hI.g, if_neg (nI_ge (by omega) (by omega))]
    unfold sm_has wm_poison_j79
    rw [nI_1]
    cases q : hasB w (nI g) with
    | true => rw [jt0]; rw [q, if_pos rfl] at ih1; exact om_ateOf hI hi (by omega) h99 ih1
    | false => rw [jf0]; rw [q, if_neg (by decide)] at ih1; exact om_ateOf hI hi (by omega) h99 ih1
theorem om_poison {σ : St} {V : VV} {P : Int32 → St → Prop} (hI : IM σ V) (v w : Int32) (h : ∀ σ', IM σ' V → P (R_poison V v w) σ') : wm_poison σ v w P := by
  have hI := hI.th 0
  have hg := hI.2.g
  have tp := two_pow_rng hI.2
  unfold wm_poison sm_in
  rw [show mI_guests (mS_thrown σ 0) = _ from hI.g, two_n (by omega), inM_len (by omega), show 2 ^ vg V - 1 + 1 = 2 ^ vg V by omega]
  dsimp only
  unfold R_poison at h
  cases q0 : rngB w (2 ^ vg V) with
  | false => rw [jf0]; rw [q0, if_neg (by decide)] at h; exact h _ hI
  | true =>
    rw [jt0]; rw [q0, if_pos rfl] at h
    refine ⟨V, hI, ?_⟩
    dsimp only
    cases q : wholeV V v with
    | false => rw [jf0]; rw [q, if_neg (by decide)] at h; exact h _ hI
    | true =>
      rw [jt0]; rw [q, if_pos rfl] at h
      obtain ⟨i, hi, rfl, hl, h99⟩ := wholeV_of q
      rw [cl (by omega)] at h
      exact ⟨_, poM_loop hI hi h99 (h _ hI) (vg V) 0 (by omega)⟩
/-! eats -/
def eaB (V : VV) (i g k : Nat) : Bool := !(hungV V g ((vme V i).getD k 0))
def eaJ (V : VV) (i g k : Nat) : Int32 := if eaB V i g k = true then joyV V g ((vme V i).getD k 0) else 0
theorem sumI_s (f : Nat → Int32) (k : Nat) : sumI f (k + 1) = sumI f k + f k := rfl
def R_eats (V : VV) (v w : Int32) : Int32 := if rngB w (vg V) = true then (if wholeV V v = true then nI (cnt (eaB V v.toNatClampNeg w.toNatClampNeg) (vme V v.toNatClampNeg).length) else -3) else -1
def S_eats (V : VV) (v w : Int32) : VV := if rngB w (vg V) = true ∧ wholeV V v = true then vSRow V [nI (bitsOf (eaB V v.toNatClampNeg w.toNatClampNeg) (vme V v.toNatClampNeg).length), nI (eatV V v.toNatClampNeg w.toNatClampNeg), sumI (eaJ V v.toNatClampNeg w.toNatClampNeg) (vme V v.toNatClampNeg).length] else V
theorem pc_bitsOf (p : Nat → Bool) (n : Nat) (hn : n ≤ 11) : pc (bitsOf p n) = cnt p n := by
  have key : ∀ m, cnt (fun k => (bitsOf p n).testBit k) m = cnt p (min m n) := by
    intro m
    induction m with
    | zero => rw [Nat.zero_min]; rfl
    | succ m ih =>
      rw [cnt_s, ih, bitsOf_tb]
      rcases Nat.lt_or_ge m n with q | q
      · rw [decide_eq_true q, Bool.true_and, Nat.min_eq_left (by omega), Nat.min_eq_left (by omega), cnt_s]
      · rw [decide_eq_false (by omega), Bool.false_and, Nat.min_eq_right q, Nat.min_eq_right (by omega)]; rfl
  unfold pc
  rw [key, Nat.min_eq_right hn]
theorem eatsX_loop {V : VV} {i g : Nat} {P : Int32 → St → Prop} {σ : St} (hI : IX σ V) (hi : i < 3) (hg : g < vg V) (h99 : ∀ k, k < (vme V i).length → (vme V i).getD k 0 ≠ 99)
    (h : ∀ σ', IX σ' (vSRow V [nI (bitsOf (eaB V i g) (vme V i).length), nI (eatV V i g), sumI (eaJ V i g) (vme V i).length]) → P (nI (cnt (eaB V i g) (vme V i).length)) σ') :
    ∀ m k : Nat, k + m = (vme V i).length → wx_eats_l29 P (m + 1) (nI i) (nI g) (nI (bitsOf (eaB V i g) k)) (sumI (eaJ V i g) k) (nI k) σ := by
  have hn := hI.2.n
  have hm := (hI.2.me i).1
  intro m
  induction m with
  | zero =>
    intro k hk
    rw [wx_eats_l29_s]
    refine ⟨vp_in_nI hi (by omega), ?_⟩
    rw [cl (by omega), show xA_menuMany σ i = _ from hI.ml hi, if_pos (by rw [show k = (vme V i).length by omega]; exact Int32.le_refl _), show k = (vme V i).length by omega]
    refine ⟨_, hI.row0, by show 0 < 12; omega, fun σ1 h1 _ _ => ?_⟩
    refine ox_eatenBy h1 hi hg h99 ⟨_, h1, by show 1 < 12; omega, fun σ2 h2 _ _ => ⟨_, h2, by show 2 < 12; omega, fun σ3 h3 _ _ => ?_⟩⟩
    have b1 := bitsOf_lt (eaB V i g) (vme V i).length
    have b2 := pow_le_1024 hm
    rw [bitC_nI (by omega), pc_bitsOf _ _ (by omega)]
    exact h σ3 h3
  | succ m ih =>
    intro k hk
    have ih1 := ih (k + 1) (by omega)
    rw [bitsOf_s, sumI_s] at ih1
    have hlt := whole_lt hI.2 h99 (k := k) (by omega)
    rw [wx_eats_l29_s]
    refine ⟨vp_in_nI hi (by omega), ?_⟩
    rw [cl (by omega), show xA_menuMany σ i = _ from hI.ml hi, if_neg (nI_ge (by omega) (by omega))]
    refine ⟨V, i, k, hI, rfl, rfl, hi, by omega, V, _, hI, rfl, hlt, ?_⟩
    unfold sx_has
    dsimp only
    rw [bits_has hI.2 hg]
    unfold wx_eats_j85
    rw [nI_1]
    unfold eaJ eaB at ih1 ⊢
    cases q : hungV V g ((vme V i).getD k 0) with
    | true => rw [jt0]; rw [q] at ih1; simp only [Bool.not_true, Bool.false_eq_true, if_false, Nat.or_zero, Int32.add_zero] at ih1; exact ih1
    | false =>
      rw [jf0]; rw [q] at ih1; simp only [Bool.not_false, if_true] at ih1
      refine ⟨V, i, k, hI, rfl, rfl, hi, by omega, V, g, _, hI, rfl, rfl, hg, hlt, ?_⟩
      rw [nI_shl1 _ (by omega), nI_or]
      exact ih1
theorem ox_eats {σ : St} {V : VV} {P : Int32 → St → Prop} (hI : IX σ V) (v w : Int32) (h : ∀ σ', IX σ' (S_eats V v w) → P (R_eats V v w) σ') : wx_eats σ v w P := by
  have hg := hI.2.g
  refine ⟨V, hI, ?_⟩
  dsimp only
  unfold R_eats S_eats at h
  cases q0 : rngB w (vg V) with
  | false => rw [jf0]; simp only [q0, Bool.false_eq_true, false_and, if_false] at h; exact h σ hI
  | true =>
    rw [jt0]
    refine ⟨V, hI, ?_⟩
    dsimp only
    cases q : wholeV V v with
    | false => rw [jf0]; simp only [q0, q, Bool.false_eq_true, and_false, if_false, if_true] at h; exact h σ hI
    | true =>
      rw [jt0]; simp only [q0, q, and_self, if_true] at h
      obtain ⟨i, hi, rfl, hl, h99⟩ := wholeV_of q
      obtain ⟨g, hgl, rfl⟩ := rngB_of (by omega) q0
      rw [cl (by omega), cl (by omega)] at h
      exact ⟨_, eatsX_loop hI hi hgl h99 h (vme V i).length 0 (by omega)⟩
theorem eatsM_loop {V : VV} {i g : Nat} {P : Int32 → St → Prop} (hi : i < 3) (hg : g < vg V) (h99 : ∀ k, k < (vme V i).length → (vme V i).getD k 0 ≠ 99)
    (h : ∀ σ', IM σ' (vSRow V [nI (bitsOf (eaB V i g) (vme V i).length), nI (eatV V i g), sumI (eaJ V i g) (vme V i).length]) → P (nI (cnt (eaB V i g) (vme V i).length)) σ') :
    ∀ m k : Nat, k + m = (vme V i).length → ∀ σ, IM σ V → wm_eats_l37 P (m + 1) (nI i) (nI g) (nI (cnt (eaB V i g) k)) (nI (bitsOf (eaB V i g) k)) (sumI (eaJ V i g) k) (nI k) σ := by
  intro m
  induction m with
  | zero =>
    intro k hk σ hI
    have hm := (hI.2.me i).1
    rw [wm_eats_l37_s]
    refine ⟨vp_in_nI hi (by omega), ?_⟩
    rw [cl (by omega), show mA_menuLong σ i = _ from hI.ml hi, if_pos (by rw [show k = (vme V i).length by omega]; exact Int32.le_refl _), show k = (vme V i).length by omega]
    refine ⟨_, hI.row0, by show 0 < 12; omega, fun σ1 h1 _ _ => ?_⟩
    exact om_ateOf h1 hi hg h99 ⟨_, h1, by show 1 < 12; omega, fun σ2 h2 _ _ => ⟨_, h2, by show 2 < 12; omega, fun σ3 h3 _ _ => h σ3 h3⟩⟩
  | succ m ih =>
    intro k hk σ hI
    have hn := hI.2.n
    have hm := (hI.2.me i).1
    have ih1 := ih (k + 1) (by omega)
    rw [bitsOf_s, sumI_s, cnt_s] at ih1
    have hlt := whole_lt hI.2 h99 (k := k) (by omega)
    rw [wm_eats_l37_s]
    refine ⟨vp_in_nI hi (by omega), ?_⟩
    rw [cl (by omega), show mA_menuLong σ i = _ from hI.ml hi, if_neg (nI_ge (by omega) (by omega)), mul10, nI_add, cl (by omega), show mA_menus σ (10 * i + k) = _ from hI.me hi (by omega)]
    refine ⟨vp_in_nI (by omega) (by omega), V, g, _, hI, rfl, rfl, hg, hlt, ?_⟩
    unfold wm_eats_j99
    dsimp only
    rw [nI_1, nI_1]
    unfold eaJ eaB at ih1 ⊢
    cases q : hungV V g ((vme V i).getD k 0) with
    | true => rw [jt0]; rw [q] at ih1; simp only [Bool.not_true, Bool.false_eq_true, if_false, Nat.or_zero, Int32.add_zero, Nat.add_zero] at ih1; exact ih1 σ hI
    | false =>
      rw [jf0]; rw [q] at ih1; simp only [Bool.not_false, if_true] at ih1
      refine om_joyOf hI hg hlt fun σ' hI' _ _ => ?_
      rw [nI_shl1 _ (by omega), nI_or]
      exact ih1 σ' hI'
theorem om_eats {σ : St} {V : VV} {P : Int32 → St → Prop} (hI : IM σ V) (v w : Int32) (h : ∀ σ', IM σ' (S_eats V v w) → P (R_eats V v w) σ') : wm_eats σ v w P := by
  have hI := hI.th 0
  have hg := hI.2.g
  refine ⟨V, hI, ?_⟩
  dsimp only
  unfold R_eats S_eats at h
  cases q0 : rngB w (vg V) with
  | false => rw [jf0]; simp only [q0, Bool.false_eq_true, false_and, if_false] at h; exact h _ hI
  | true =>
    rw [jt0]
    refine ⟨V, hI, ?_⟩
    dsimp only
    cases q : wholeV V v with
    | false => rw [jf0]; simp only [q0, q, Bool.false_eq_true, and_false, if_false, if_true] at h; exact h _ hI
    | true =>
      rw [jt0]; simp only [q0, q, and_self, if_true] at h
      obtain ⟨i, hi, rfl, hl, h99⟩ := wholeV_of q
      obtain ⟨g, hgl, rfl⟩ := rngB_of (by omega) q0
      rw [cl (by omega), cl (by omega)] at h
      exact ⟨_, eatsM_loop hi hgl h99 h (vme V i).length 0 (by omega) _ hI⟩
