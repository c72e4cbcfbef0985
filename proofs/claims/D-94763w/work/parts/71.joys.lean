/-! joys of a guest at a set -/
def joyInV (V : VV) (g s : Nat) : Int32 := sumI (fun d => if s.testBit d = true then joyV V g d else 0) (vn V)
theorem joyInX_loop {V : VV} {g s : Nat} {P : Int32 → St → Prop} {σ : St} (hI : IX σ V) (hg : g < vg V) (hs : s < 2 ^ vn V) (h : P (joyInV V g s) σ) :
    ∀ m d : Nat, d + m = vn V → wx_joyIn_l5 P (m + 1) (nI g) (nI s) (sumI (fun d => if s.testBit d = true then joyV V g d else 0) d) (nI d) σ := by
  have hn := hI.2.n
  have hp := pow_le_1024 hn
  intro m
  induction m with
  | zero =>
    intro d hd
    rw [wx_joyIn_l5_s, show xI_dishes σ = _ from hI.n, if_pos (by rw [show d = vn V by omega]; exact Int32.le_refl _), show d = vn V by omega]
    exact h
  | succ m ih =>
    intro d hd
    have ih1 := ih (d + 1) (by omega)
    rw [sumI_s] at ih1
    rw [wx_joyIn_l5_s, show xI_dishes σ = _ from hI.n, if_neg (nI_ge (by omega) (by omega))]
    unfold sx_has wx_joyIn_j35
    dsimp only
    rw [hasB_nI (by omega) (by omega), nI_1]
    cases q : s.testBit d with
    | false => rw [jf0]; rw [q, if_neg (by decide)] at ih1; exact ih1
    | true =>
      rw [jt0]; rw [q, if_pos rfl] at ih1
      exact ⟨V, g, d, hI, rfl, rfl, hg, by omega, ih1⟩
theorem ox_joyIn {V : VV} {g s : Nat} {P : Int32 → St → Prop} {σ : St} (hI : IX σ V) (hg : g < vg V) (hs : s < 2 ^ vn V) (h : P (joyInV V g s) σ) : wx_joyIn σ (nI g) (nI s) P := ⟨_, joyInX_loop hI hg hs h (vn V) 0 (by omega)⟩
/-- what asking the model's rule leaves -/
abbrev KJ (σ σ' : St) : Prop := Kp [1, 6, 9, 10, 11, 13, 17, 19, 20, 27, 30, 31, 32, 33, 34, 39, 49] [0, 2, 3, 4, 5, 7, 8, 12, 14, 15, 16, 18, 26, 35, 36, 38, 40, 41, 42, 43, 44, 45, 47, 48, 50, 51, 52] σ σ' ∧ ∀ k, gL σ' k = gL σ k
theorem KJ.rf (σ : St) : KJ σ σ := ⟨Kp.rf _ _ _, fun _ => rfl⟩
theorem KJ.tr {a b c : St} (h : KJ a b) (h2 : KJ b c) : KJ a c := ⟨h.1.tr h2.1, fun k => (h2.2 k).trans (h.2 k)⟩
theorem joyInM_loop {V : VV} {g s : Nat} {P : Int32 → St → Prop} {σ0 : St} (hg : g < vg V) (hs : s < 2 ^ vn V) (h : ∀ σ', IM σ' V → KJ σ0 σ' → P (joyInV V g s) σ') :
    ∀ m d : Nat, d + m = vn V → ∀ σ, IM σ V → KJ σ0 σ → wm_joyIn_l5 P (m + 1) (nI s) (nI g) (sumI (fun d => if s.testBit d = true then joyV V g d else 0) d) (nI d) σ := by
  intro m
  induction m with
  | zero =>
    intro d hd σ hI hk
    rw [wm_joyIn_l5_s, show mI_dishes σ = _ from hI.n, if_pos (by rw [show d = vn V by omega]; exact Int32.le_refl _), show d = vn V by omega]
    exact h σ hI hk
  | succ m ih =>
    intro d hd σ hI hk
    have hn := hI.2.n
    have hp := pow_le_1024 hn
    have ih1 := ih (d + 1) (by omega)
    rw [sumI_s] at ih1
    rw [wm_joyIn_l5_s, show mI_dishes σ = _ from hI.n, if_neg (nI_ge (by omega) (by omega))]
    unfold sm_has wm_joyIn_j35
    dsimp only
    rw [hasB_nI (by omega) (by omega), nI_1]
    cases q : s.testBit d with
    | false => rw [jf0]; rw [q, if_neg (by decide)] at ih1; exact ih1 σ hI hk
    | true =>
      rw [jt0]; rw [q, if_pos rfl] at ih1
      exact om_joyOf hI hg (by omega) fun σ' hI' k1 k2 => ih1 σ' hI' (hk.tr ⟨k1, k2⟩)
theorem om_joyIn {V : VV} {g s : Nat} {P : Int32 → St → Prop} {σ : St} (hI : IM σ V) (hg : g < vg V) (hs : s < 2 ^ vn V) (h : ∀ σ', IM σ' V → KJ σ σ' → P (joyInV V g s) σ') : wm_joyIn σ (nI s) (nI g) P := ⟨_, joyInM_loop hg hs h (vn V) 0 (by omega) σ hI (KJ.rf σ)⟩
def joyAllV (V : VV) (d : Nat) : Int32 := sumI (fun g => joyV V g d) (vg V)
theorem ox_joyOfAll {V : VV} {d : Nat} {P : Int32 → St → Prop} {σ : St} (hI : IX σ V) (hd : d < vn V) (h : P (joyAllV V d) σ) : wx_joyOfAll σ (nI d) P := by
  have hg := hI.2.g
  have key : ∀ m g : Nat, g + m = vg V → wx_joyOfAll_l4 P (m + 1) (nI d) (sumI (fun g => joyV V g d) g) (nI g) σ := by
    intro m
    induction m with
    | zero =>
      intro g hk
      rw [wx_joyOfAll_l4_s, show xI_guests σ = _ from hI.g, if_pos (by rw [show g = vg V by omega]; exact Int32.le_refl _), show g = vg V by omega]
      exact h
    | succ m ih =>
      intro g hk
      have ih1 := ih (g + 1) (by omega)
      rw [sumI_s] at ih1
      rw [wx_joyOfAll_l4_s, show xI_guests σ = _ from hI.g, if_neg (nI_ge (by omega) (by omega))]
      refine ⟨V, g, d, hI, rfl, rfl, by omega, hd, ?_⟩
      dsimp only
      rw [nI_1]
      exact ih1
  exact ⟨_, key (vg V) 0 (by omega)⟩
theorem om_joyOfAll {V : VV} {d : Nat} {P : Int32 → St → Prop} {σ : St} (hI : IM σ V) (hd : d < vn V) (h : ∀ σ', IM σ' V → KJ σ σ' → P (joyAllV V d) σ') : wm_joyOfAll σ (nI d) P := by
  have hg := hI.2.g
  have key : ∀ m g : Nat, g + m = vg V → ∀ σ1, IM σ1 V → KJ σ σ1 → wm_joyOfAll_l4 P (m + 1) (nI d) (sumI (fun g => joyV V g d) g) (nI g) σ1 := by
    intro m
    induction m with
    | zero =>
      intro g hk σ1 h1 k1
      rw [wm_joyOfAll_l4_s, show mI_guests σ1 = _ from h1.g, if_pos (by rw [show g = vg V by omega]; exact Int32.le_refl _), show g = vg V by omega]
      exact h σ1 h1 k1
    | succ m ih =>
      intro g hk σ1 h1 k1
      have ih1 := ih (g + 1) (by omega)
      rw [sumI_s] at ih1
      rw [wm_joyOfAll_l4_s, show mI_guests σ1 = _ from h1.g, if_neg (nI_ge (by omega) (by omega))]
      refine om_joyOf h1 (by omega) hd fun σ' h' a b => ?_
      rw [nI_1]
      exact ih1 σ' h' (k1.tr ⟨a, b⟩)
  exact ⟨_, key (vg V) 0 (by omega) σ hI (KJ.rf σ)⟩
