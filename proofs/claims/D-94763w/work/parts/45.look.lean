/-! LOOK: the first place of a row of dishes that can't be -/
def lst (p : Nat → Bool) : Nat → Nat
  | 0 => 0
  | n + 1 => if lst p n < n then lst p n else if p n = true then n else n + 1
theorem lst_spec (p : Nat → Bool) : ∀ n, lst p n ≤ n ∧ (∀ j, j < lst p n → p j = false) ∧ (lst p n < n → p (lst p n) = true) := by
  intro n
  induction n with
  | zero => exact ⟨Nat.le_refl _, fun j hj => absurd hj (by unfold lst; omega), fun h => absurd h (by unfold lst; omega)⟩
  | succ n ih =>
    unfold lst
    by_cases q : lst p n < n
    · rw [if_pos q]; exact ⟨by omega, ih.2.1, fun _ => ih.2.2 q⟩
    · rw [if_neg q]
      have e : lst p n = n := by omega
      by_cases q2 : p n = true
      · rw [if_pos q2]; exact ⟨by omega, fun j hj => ih.2.1 j (by omega), fun _ => q2⟩
      · rw [if_neg q2]
        refine ⟨Nat.le_refl _, fun j hj => ?_, fun h => absurd h (by omega)⟩
        by_cases q3 : j = n
        · rw [q3]; exact Bool.eq_false_iff.mpr q2
        · exact ih.2.1 j (by omega)
theorem lst_eq {p : Nat → Bool} {n k : Nat} (hk : k ≤ n) (h1 : ∀ j, j < k → p j = false) (h2 : k < n → p k = true) : lst p n = k := by
  obtain ⟨a, b, c⟩ := lst_spec p n
  rcases Nat.lt_trichotomy (lst p n) k with q | q | q
  · have := h1 _ q; rw [c (by omega)] at this; exact absurd this (by decide)
  · exact q
  · have := b k q; rw [h2 (by omega)] at this; exact absurd this (by decide)
def orN (f : Nat → Nat) : Nat → Nat
  | 0 => 0
  | k + 1 => orN f k ||| f k
theorem orN_lt {f : Nat → Nat} {b : Nat} : ∀ n, (∀ k, k < n → f k < 2 ^ b) → orN f n < 2 ^ b := by
  intro n
  induction n with
  | zero => intro _; exact Nat.two_pow_pos b
  | succ n ih => intro h; exact Nat.or_lt_two_pow (ih fun k hk => h k (by omega)) (h n (by omega))
def lastU (l : List Nat) (k : Nat) : Nat := if k = 0 then 10 else l.getD (k - 1) 0
def wAt (V : VV) (l : List Nat) (k : Nat) : Int32 := if l.getD k 0 = 99 then -1 else whyV V (setU l k) (lastU l k) (l.getD k 0)
def fineTo (V : VV) (l : List Nat) (k : Nat) : Prop := ∀ j, j < k → wAt V l j = 0
def badK (V : VV) (l : List Nat) : Nat := lst (fun j => decide (wAt V l j ≠ 0)) l.length
def whyK (V : VV) (l : List Nat) : Int32 := if badK V l < l.length then wAt V l (badK V l) else 0
def costK (V : VV) (l : List Nat) (k : Nat) : Nat := sumN (fun j => vco V (l.getD j 0)) k
def hunK (V : VV) (l : List Nat) (k : Nat) : Nat := orN (fun j => bitsOf (fun g => hungV V g (l.getD j 0)) (vg V)) k
theorem wAt_ge (V : VV) (l : List Nat) (k : Nat) : 0 ≤ wAt V l k ↔ wAt V l k = 0 := by
  unfold wAt
  split
  · exact ⟨fun h => absurd h (by decide), fun h => absurd h (by decide)⟩
  · exact whyV_ge _ _ _ _
theorem badK_at {V : VV} {l : List Nat} {k : Nat} (hk : k < l.length) (hf : fineTo V l k) (h : wAt V l k ≠ 0) : badK V l = k :=
  lst_eq (by omega) (fun j hj => decide_eq_false fun z => z (hf j hj)) (fun _ => decide_eq_true h)
theorem badK_all {V : VV} {l : List Nat} (hf : fineTo V l l.length) : badK V l = l.length :=
  lst_eq (Nat.le_refl _) (fun j hj => decide_eq_false fun z => z (hf j hj)) (fun h => absurd h (by omega))
theorem whyK_at {V : VV} {l : List Nat} {k : Nat} (hk : k < l.length) (hf : fineTo V l k) (h : wAt V l k ≠ 0) : whyK V l = wAt V l k := by
  unfold whyK; rw [badK_at hk hf h, if_pos hk]
theorem whyK_all {V : VV} {l : List Nat} (hf : fineTo V l l.length) : whyK V l = 0 := by
  unfold whyK; rw [badK_all hf, if_neg (by omega)]
theorem fineTo_s {V : VV} {l : List Nat} {k : Nat} (hf : fineTo V l k) (h : wAt V l k = 0) : fineTo V l (k + 1) := fun j hj => by
  rcases Nat.lt_or_ge j k with q | q
  · exact hf j q
  · rw [show j = k by omega]; exact h
def okL (V : VV) (l : List Nat) : Prop := ∀ d ∈ l, d < vn V ∨ d = 99
theorem okL_get {V : VV} {l : List Nat} (h : okL V l) {k : Nat} (hk : k < l.length) : l.getD k 0 < vn V ∨ l.getD k 0 = 99 := h _ (getD_mem hk)
theorem fine_lt {V : VV} {l : List Nat} (h : okL V l) {k : Nat} (hk : k ≤ l.length) (hf : fineTo V l k) {j : Nat} (hj : j < k) : l.getD j 0 < vn V := by
  rcases okL_get h (k := j) (by omega) with q | q
  · exact q
  · have := hf j hj
    unfold wAt at this
    rw [if_pos q] at this
    exact absurd this (by decide)
theorem fine_set {V : VV} {l : List Nat} (h : okL V l) {k : Nat} (hk : k ≤ l.length) (hf : fineTo V l k) : setU l k < 2 ^ vn V := by
  induction k with
  | zero => exact Nat.two_pow_pos _
  | succ k ih => exact or2_lt (ih (by omega) fun j hj => hf j (by omega)) (fine_lt h hk hf (by omega))
theorem fine_last {V : VV} {l : List Nat} (h : okL V l) {k : Nat} (hk : k ≤ l.length) (hf : fineTo V l k) : lastU l k < vn V ∨ (lastU l k = 10 ∧ setU l k = 0) := by
  unfold lastU
  cases k with
  | zero => exact Or.inr ⟨rfl, rfl⟩
  | succ k => rw [if_neg (by omega)]; exact Or.inl (fine_lt h hk hf (by omega))
theorem fine_lastx {V : VV} {l : List Nat} (h : okL V l) {k : Nat} (hk : k ≤ l.length) (hf : fineTo V l k) : lastU l k < vn V ∨ lastU l k = 10 := by
  rcases fine_last h hk hf with q | q
  · exact Or.inl q
  · exact Or.inr q.1
theorem setU_s (l : List Nat) (k : Nat) : setU l (k + 1) = setU l k ||| 2 ^ l.getD k 0 := rfl
theorem lastU_s (l : List Nat) (k : Nat) : lastU l (k + 1) = l.getD k 0 := by unfold lastU; rw [if_neg (by omega)]; rfl
theorem WV.meL {V : VV} (h : WV V) (i : Nat) : okL V (vme V i) := (h.me i).2
theorem nI_ne99 {a : Nat} (h : a < 2 ^ 31) : nI a = 99 ↔ a = 99 := by rw [show (99 : Int32) = nI 99 from rfl]; exact nI_eq h (by omega)
theorem lI_lt {V : VV} (h : WV V) {l : Nat} (hl : l < vn V) : lI l = nI l := lI_l (by have := h.n; omega)
/-! component: the first bad one -/
theorem firstX_loop {V : VV} {i : Nat} {P : Int32 → St → Prop} (hi : i < 3) (h1 : ∀ k, k < (vme V i).length → fineTo V (vme V i) k → wAt V (vme V i) k ≠ 0 → ∀ σ', IX σ' V → gI σ' 29 = wAt V (vme V i) k → P (nI k) σ')
    (h2 : fineTo V (vme V i) (vme V i).length → ∀ σ', IX σ' V → gI σ' 29 = 0 → P (-2) σ') :
    ∀ m k : Nat, k + m = (vme V i).length → fineTo V (vme V i) k → ∀ σ, IX σ V → gI σ 29 = 0 → wx_firstBad_l12 P (m + 1) (nI i) (nI (setU (vme V i) k)) (lI (lastU (vme V i) k)) (nI k) σ := by
  intro m
  induction m with
  | zero =>
    intro k hk hf σ hI h0
    have hm := (hI.2.me i).1
    rw [wx_firstBad_l12_s]
    refine ⟨vp_in_nI hi (by omega), ?_⟩
    rw [cl (by omega), show xA_menuMany σ i = _ from hI.ml hi, if_pos (by rw [show k = (vme V i).length by omega]; exact Int32.le_refl _)]
    exact h2 (by rw [← show k = (vme V i).length by omega]; exact hf) σ hI h0
  | succ m ih =>
    intro k hk hf σ hI h0
    have hn := hI.2.n
    have hm := (hI.2.me i).1
    have hb := okL_get (hI.2.meL i) (k := k) (by omega)
    rw [wx_firstBad_l12_s]
    refine ⟨vp_in_nI hi (by omega), ?_⟩
    rw [cl (by omega), show xA_menuMany σ i = _ from hI.ml hi, if_neg (nI_ge (by omega) (by omega))]
    refine ⟨V, i, k, hI, rfl, rfl, hi, by omega, ?_⟩
    dsimp only
    simp only [nI_ne99 (show (vme V i).getD k 0 < 2 ^ 31 by omega)]
    have fin : ∀ w, w = wAt V (vme V i) k → (wAt V (vme V i) k = 0 → (vme V i).getD k 0 < vn V) → wx_firstBad_j53 P (wx_firstBad_l12 P (m + 1)) (nI i) (nI (setU (vme V i) k)) (nI k) w σ := by
      intro w ew hlt
      unfold wx_firstBad_j53
      have hI' : IX (xS_whyThen σ w) V := hI.qI (by decide) w
      rw [show xI_whyThen (xS_whyThen σ w) = w from rfl, ew]
      rw [ew] at hI'
      by_cases q : 0 ≤ wAt V (vme V i) k
      · rw [if_pos q]
        have q0 := (wAt_ge _ _ _).mp q
        refine ⟨V, i, k, hI', rfl, rfl, hi, by omega, ?_⟩
        dsimp only
        have hd := hlt q0
        have h9 := ih (k + 1) (by omega) (fineTo_s hf q0) _ hI' (show wAt V (vme V i) k = 0 from q0)
        rw [setU_s, lastU_s, lI_lt hI.2 hd] at h9
        rw [nI_shl1 _ (by omega), nI_or, nI_1]
        exact h9
      · rw [if_neg q]
        exact h1 k (by omega) hf (fun z => q ((wAt_ge _ _ _).mpr z)) _ hI' rfl
    by_cases q : (vme V i).getD k 0 = 99
    · rw [if_pos q]
      refine fin (-1) (by unfold wAt; rw [if_pos q]) fun z => ?_
      unfold wAt at z
      rw [if_pos q] at z
      exact absurd z (by decide)
    · rw [if_neg q]
      have hd : (vme V i).getD k 0 < vn V := hb.resolve_right q
      refine ⟨V, i, k, hI, rfl, rfl, hi, by omega, ?_⟩
      refine ⟨V, setU (vme V i) k, lastU (vme V i) k, (vme V i).getD k 0, hI, rfl, rfl, rfl, fine_set (hI.2.meL i) (by omega) hf, fine_lastx (hI.2.meL i) (by omega) hf, hd, ?_⟩
      exact fin _ (by unfold wAt; rw [if_neg q]) fun _ => hd
theorem ox_firstBad {σ : St} {V : VV} {i : Nat} {P : Int32 → St → Prop} (hI : IX σ V) (hi : i < 3) (h1 : ∀ k, k < (vme V i).length → fineTo V (vme V i) k → wAt V (vme V i) k ≠ 0 → ∀ σ', IX σ' V → gI σ' 29 = wAt V (vme V i) k → P (nI k) σ')
    (h2 : fineTo V (vme V i) (vme V i).length → ∀ σ', IX σ' V → gI σ' 29 = 0 → P (-2) σ') : wx_firstBad σ (nI i) P :=
  ⟨_, firstX_loop hi h1 h2 (vme V i).length 0 (by omega) (fun j hj => absurd hj (by omega)) _ (hI.qI (by decide) 0) rfl⟩
/-- the same, by the first bad place -/
theorem ox_firstBad' {σ : St} {V : VV} {i : Nat} {P : Int32 → St → Prop} (hI : IX σ V) (hi : i < 3) (h : ∀ σ', IX σ' V → gI σ' 29 = whyK V (vme V i) → fineTo V (vme V i) (badK V (vme V i)) → P (if badK V (vme V i) < (vme V i).length then nI (badK V (vme V i)) else -2) σ') : wx_firstBad σ (nI i) P := by
  refine ox_firstBad hI hi (fun k hk hf hw σ' hI' e => ?_) (fun hf σ' hI' e => ?_)
  · rw [← whyK_at hk hf hw] at e
    have h9 := h σ' hI' e
    rw [badK_at hk hf hw, if_pos hk] at h9
    exact h9 hf
  · rw [← whyK_all hf] at e
    have h9 := h σ' hI' e
    rw [badK_all hf, if_neg (by omega)] at h9
    exact h9 hf
/-! model: looking on -/
def LKm (σ : St) (V : VV) (l : List Nat) (k : Nat) : Prop := gI σ 33 = nI (setU l k) ∧ gI σ 34 = lI (lastU l k) ∧ gI σ 31 = nI (costK V l k) ∧ gI σ 32 = nI (hunK V l k)
theorem hun_lt {V : VV} (h : WV V) (l : List Nat) (k : Nat) : hunK V l k < 2 ^ 6 := orN_lt k fun j _ => Nat.lt_of_lt_of_le (bitsOf_lt _ _) (Nat.pow_le_pow_right (by decide) h.g)
theorem lookM_in {V : VV} {i d H : Nat} {kI : Int32} {P : Int32 → St → Prop} {K : Int32 → Int32 → St → Prop} (hw : WV V) (hd : d < vn V) (hH : H < 2 ^ 6) {σ0 : St} (hq : IM σ0 V)
    (h : K (nI i) (kI + 1) (sI σ0 32 (nI (H ||| bitsOf (fun g => hungV V g d) (vg V))))) :
    ∀ m g : Nat, g + m = vg V → wm_lookOn_l95 P K (m + 1) (nI i) kI (nI d) (nI g) (sI σ0 32 (nI (H ||| bitsOf (fun g => hungV V g d) g))) := by
  have hg := hw.g
  have hn := hw.n
  have two : ∀ (a b : Int32), sI (sI σ0 32 a) 32 b = sI σ0 32 b := fun a b => by
    unfold sI
    refine congrArg (fun f => (f, σ0.2)) (funext fun j => ?_)
    show (if j = 32 then b else if j = 32 then a else σ0.1 j) = if j = 32 then b else σ0.1 j
    by_cases q : j = 32
    · simp only [q, if_true]
    · simp only [q, if_false]
  intro m
  induction m with
  | zero =>
    intro g hm
    rw [wm_lookOn_l95_s, show mI_guests (sI σ0 32 _) = nI (vg V) from hq.g, if_pos (by rw [show g = vg V by omega]; exact Int32.le_refl _), show g = vg V by omega]
    exact h
  | succ m ih =>
    intro g hm
    have ih1 := ih (g + 1) (by omega)
    rw [bitsOf_s, ← Nat.or_assoc] at ih1
    rw [wm_lookOn_l95_s, show mI_guests (sI σ0 32 _) = nI (vg V) from hq.g, if_neg (nI_ge (by omega) (by omega))]
    refine ⟨V, g, d, hq.qI (by decide) _, rfl, rfl, by omega, hd, ?_⟩
    dsimp only
    unfold wm_lookOn_j127
    rw [show mI_hungryTill (sI σ0 32 (nI (H ||| bitsOf (fun g => hungV V g d) g))) = nI (H ||| bitsOf (fun g => hungV V g d) g) from rfl, nI_1]
    cases q : hungV V g d with
    | false =>
      rw [jf0]; rw [q, if_neg (by decide), Nat.or_zero] at ih1
      rw [lit0', nI_or, Nat.or_zero]
      unfold mS_hungryTill
      rw [two]
      exact ih1
    | true =>
      rw [jt0]; rw [q, if_pos rfl] at ih1
      rw [nI_shl1 _ (by omega), nI_or]
      unfold mS_hungryTill
      rw [two]
      exact ih1
theorem lookM_loop {V : VV} {i : Nat} {l pre : List Nat} {P : Int32 → St → Prop} (hi : i < 3) (hw : WV V) (hl : l = pre ++ vme V i) (hp : okL V pre)
    (h1 : ∀ k, pre.length ≤ k → k < l.length → fineTo V l k → wAt V l k ≠ 0 → ∀ σ', IM σ' V → LKm σ' V l k → gI σ' 30 = wAt V l k → P (nI (k - pre.length)) σ')
    (h2 : fineTo V l l.length → ∀ σ', IM σ' V → LKm σ' V l l.length → gI σ' 30 = 0 → P (nI (vme V i).length) σ') :
    ∀ m k : Nat, k + m = l.length → pre.length ≤ k → pre.length ≤ 10 → fineTo V l k → ∀ σ, IM σ V → LKm σ V l k → gI σ 30 = 0 → wm_lookOn_l2 P (m + 1) (nI i) (nI (k - pre.length)) σ := by
  have hlen : l.length = pre.length + (vme V i).length := by rw [hl, List.length_append]
  have hm := (hw.me i).1
  have hn := hw.n
  have hokl : okL V l := by
    rw [hl]
    intro d hd
    rcases List.mem_append.mp hd with q | q
    · exact hp d q
    · exact hw.meL i d q
  intro m
  induction m with
  | zero =>
    intro k hk hpk hp10 hf σ hI hL h0
    rw [wm_lookOn_l2_s]
    refine ⟨vp_in_nI hi (by omega), ?_⟩
    rw [cl (by omega), show mA_menuLong σ i = _ from hI.ml hi, if_pos (by rw [show k - pre.length = (vme V i).length by omega]; exact Int32.le_refl _)]
    have ek : k = l.length := by omega
    rw [ek] at hf hL
    exact ⟨vp_in_nI hi (by omega), h2 hf σ hI hL h0⟩
  | succ m ih =>
    intro k hk hpk hp10 hf σ hI hL h0
    have hb := okL_get hokl (k := k) (by omega)
    have hget : (vme V i).getD (k - pre.length) 0 = l.getD k 0 := by rw [hl, getD_app_r hpk]
    rw [wm_lookOn_l2_s]
    refine ⟨vp_in_nI hi (by omega), ?_⟩
    rw [cl (by omega), show mA_menuLong σ i = _ from hI.ml hi, if_neg (nI_ge (by omega) (by omega)), mul10, nI_add]
    refine ⟨vp_in_nI (by omega) (by omega), ?_⟩
    rw [cl (by omega), show mA_menus σ (10 * i + (k - pre.length)) = nI (l.getD k 0) from by rw [← hget]; exact hI.me hi (by omega)]
    simp only [nI_ne99 (show l.getD k 0 < 2 ^ 31 by omega)]
    obtain ⟨e33, e34, e31, e32⟩ := hL
    have fin : ∀ w, w = wAt V l k → (wAt V l k = 0 → l.getD k 0 < vn V) → wm_lookOn_j48 P (wm_lookOn_l2 P (m + 1)) (nI i) (nI (k - pre.length)) (nI (l.getD k 0)) w σ := by
      intro w ew hlt
      unfold wm_lookOn_j48
      have hI' : IM (mS_whyNot σ w) V := hI.qI (by decide) w
      rw [show mI_whyNot (mS_whyNot σ w) = w from rfl]
      by_cases q : 0 ≤ wAt V l k
      · rw [if_pos (by rw [ew]; exact q)]
        have q0 := (wAt_ge _ _ _).mp q
        have hd := hlt q0
        refine ⟨vp_in_nI (by omega) (by omega), ?_⟩
        rw [cl (by omega), nI_shl1 _ (by omega)]
        have hck : costK V l k + vco V (l.getD k 0) = costK V l (k + 1) := rfl
        have hhk : hunK V l k ||| bitsOf (fun g => hungV V g (l.getD k 0)) (vg V) = hunK V l (k + 1) := rfl
        have hq : IM (sI (sI (sI (mS_whyNot σ w) 33 (nI (setU l k) ||| nI (2 ^ l.getD k 0))) 34 (nI (l.getD k 0))) 31 (nI (costK V l k) + nI (vco V (l.getD k 0)))) V := ((hI'.qI (by decide) _).qI (by decide) _).qI (by decide) _
        rw [show mI_setTill (mS_whyNot σ w) = nI (setU l k) from e33]
        rw [show ∀ a b, mI_costTill (mS_lastTill (mS_setTill (mS_whyNot σ w) a) b) = nI (costK V l k) from fun _ _ => e31]
        rw [show ∀ a b, mA_cost (mS_lastTill (mS_setTill (mS_whyNot σ w) a) b) (l.getD k 0) = nI (vco V (l.getD k 0)) from fun _ _ => hI.co hd]
        have sw0 : ∀ s : St, gI s 32 = nI (hunK V l k) → s = sI s 32 (nI (hunK V l k ||| bitsOf (fun g => hungV V g (l.getD k 0)) 0)) := by
          intro s hs
          rw [show bitsOf (fun g => hungV V g (l.getD k 0)) 0 = 0 from rfl, Nat.or_zero, ← hs]
          obtain ⟨s1, s2⟩ := s
          unfold sI gI
          refine congrArg (fun f => (f, s2)) (funext fun j => ?_)
          by_cases q : j = 32
          · rw [if_pos q, q]
          · rw [if_neg q]
        refine ⟨vg V + 1, ?_⟩
        unfold mS_costTill
        rw [sw0 (sI (mS_lastTill (mS_setTill (mS_whyNot σ w) (nI (setU l k) ||| nI (2 ^ l.getD k 0))) (nI (l.getD k 0))) 31 (nI (costK V l k) + nI (vco V (l.getD k 0)))) e32]
        refine lookM_in hw hd (hun_lt hw l k) hq ?_ (vg V) 0 (by omega)
        rw [hhk, nI_1, show k - pre.length + 1 = k + 1 - pre.length by omega]
        refine ih (k + 1) (by omega) (by omega) hp10 (fineTo_s hf q0) _ (hq.qI (by decide) _) ⟨?_, ?_, ?_, rfl⟩ (by show w = 0; rw [ew]; exact q0)
        · show nI (setU l k) ||| nI (2 ^ l.getD k 0) = _
          rw [nI_or]; rfl
        · show nI (l.getD k 0) = lI (lastU l (k + 1))
          rw [lastU_s, lI_lt hw hd]
        · show nI (costK V l k) + nI (vco V (l.getD k 0)) = _
          rw [nI_add]; rfl
      · rw [if_neg (by rw [ew]; exact q)]
        exact h1 k hpk (by omega) hf (fun z => q ((wAt_ge _ _ _).mpr z)) _ hI' ⟨e33, e34, e31, e32⟩ ew
    by_cases q : l.getD k 0 = 99
    · rw [if_pos q]
      refine fin (-1) (by unfold wAt; rw [if_pos q]) fun z => ?_
      unfold wAt at z
      rw [if_pos q] at z
      exact absurd z (by decide)
    · rw [if_neg q]
      have hd : l.getD k 0 < vn V := hb.resolve_right q
      refine ⟨V, setU l k, lastU l k, l.getD k 0, hI, e33, e34, rfl, fine_set hokl (by omega) hf, fine_last hokl (by omega) hf, hd, ?_⟩
      exact fin _ (by unfold wAt; rw [if_neg q]) fun _ => hd
theorem om_lookOn {σ : St} {V : VV} {i : Nat} {l pre : List Nat} {P : Int32 → St → Prop} (hI : IM σ V) (hi : i < 3) (hl : l = pre ++ vme V i) (hp : okL V pre) (hp10 : pre.length ≤ 10) (hf : fineTo V l pre.length) (hL : LKm σ V l pre.length) (h0 : gI σ 30 = 0)
    (h1 : ∀ k, pre.length ≤ k → k < l.length → fineTo V l k → wAt V l k ≠ 0 → ∀ σ', IM σ' V → LKm σ' V l k → gI σ' 30 = wAt V l k → P (nI (k - pre.length)) σ')
    (h2 : fineTo V l l.length → ∀ σ', IM σ' V → LKm σ' V l l.length → gI σ' 30 = 0 → P (nI (vme V i).length) σ') : wm_lookOn σ (nI i) P := by
  have h9 := lookM_loop hi hI.2 hl hp h1 h2 (vme V i).length pre.length (by rw [hl, List.length_append]) (Nat.le_refl _) hp10 hf σ hI hL h0
  rw [Nat.sub_self] at h9
  exact ⟨_, h9⟩
theorem om_look0 {σ : St} {V : VV} {P : St → Prop} (hI : IM σ V) (h : ∀ σ', IM σ' V → (∀ l, LKm σ' V l 0) → gI σ' 30 = 0 → P σ') : wm_lookFromNothing σ P :=
  h _ (((((hI.qI (by decide) _).qI (by decide) _).qI (by decide) _).qI (by decide) _).qI (by decide) _) (fun l => ⟨rfl, rfl, rfl, rfl⟩) rfl
