/-! the component's keep and again: what the copies leave -/
theorem ix_keep {σ : St} {V : VV} {i : Nat} {f g : Nat → Int32} (hI : IX σ V) (hi : i < 2) (h0 : ∀ p, (p < 23 * i ∨ 23 * i + 23 ≤ p) → f p = gA σ 41 p) (h1 : ∀ k, k < 8 → f (23 * i + k) = gA σ 5 k) (h2 : ∀ k, k < 3 → f (23 * i + 8 + k) = gA σ 6 k)
    (h3 : ∀ k, k < 10 → f (23 * i + 11 + k) = gA σ 7 k) (h4 : f (23 * i + 21) = gI σ 11) (h5 : f (23 * i + 22) = gI σ 8) (g1 : g i = 1) (g2 : ∀ j, j ≠ i → g j = gA σ 42 j) : IX (sA (sA σ 41 f) 42 g) (vSKp V i (vsto V, vla V, vsv V, vn V)) := by
  have hw := hI.2
  have hsl := hw.svl
  have hn := hw.n
  obtain ⟨⟨a1, a2, a3, a4, a5, a6⟩, b2, b3, b4, b5, b6, b7, b8, b9, b10, b11⟩ := hI.1
  refine ⟨⟨⟨a1, a2, a3, a4, a5, a6⟩, b2, b3, b4, b5, b6, b7, b8, b9, fun j hj => ?_, ruleX.kp rfl rfl b11⟩, hw.kp' i⟩
  show keptX _ j (if j = i then some (vsto V, vla V, vsv V, vn V) else vkp V j)
  by_cases y : j = i
  · subst y
    rw [if_pos rfl]
    exact ⟨g1, fun k hk => (h1 k hk).trans (b4 k hk), fun k hk => (h2 k hk).trans (b5 k hk), fun k hk => (h3 k (by omega)).trans (b6 k hk), h4.trans a4, h5.trans a1⟩
  · rw [if_neg y]
    have h9 := b10 j hj
    have f41 : ∀ p, p < 23 → f (23 * j + p) = gA σ 41 (23 * j + p) := fun p hp => h0 _ (by omega)
    revert h9
    cases ek : vkp V j with
    | none => intro h9; unfold keptX at h9 ⊢; exact (g2 j y).trans h9
    | some w =>
      obtain ⟨s, l, sv, m⟩ := w
      intro h9
      have hlen := keptLen hw ek
      unfold keptX at h9 ⊢
      obtain ⟨c1, c2, c3, c4, c5, c6⟩ := h9
      refine ⟨(g2 j y).trans c1, fun k hk => (f41 k (by omega)).trans (c2 k hk), fun k hk => ?_, fun k hk => ?_, (f41 21 (by omega)).trans c5, (f41 22 (by omega)).trans c6⟩
      · have := f41 (8 + k) (by omega); rw [← Nat.add_assoc] at this; exact this.trans (c3 k hk)
      · have := f41 (11 + k) (by omega); rw [← Nat.add_assoc] at this; exact this.trans (c4 k hk)
theorem ix_again {σ : St} {V : VV} {i : Nat} {s l : Nat → Nat} {sv : List Nat} {f5 f6 f7 : Nat → Int32} (hI : IX σ V) (hi : i < 2) (ek : vkp V i = some (s, l, sv, vn V)) (h1 : ∀ k, k < 8 → f5 k = gA σ 41 (23 * i + k)) (h2 : ∀ k, k < 3 → f6 k = gA σ 41 (23 * i + 8 + k)) (h3 : ∀ k, k < 10 → f7 k = gA σ 41 (23 * i + 11 + k)) :
    IX (sI (sA (sA (sA σ 5 f5) 6 f6) 7 f7) 11 (gA σ 41 (23 * i + 21))) (vSSv (vSLa (vSSto V s) l) sv) := by
  have hw := hI.2
  have hlen := keptLen hw ek
  obtain ⟨k1, k2, k3, _⟩ := hw.kpl ek
  obtain ⟨⟨a1, a2, a3, a4, a5, a6⟩, b2, b3, b4, b5, b6, b7, b8, b9, b10, b11⟩ := hI.1
  have hk := b10 i hi
  rw [ek] at hk
  obtain ⟨c1, c2, c3, c4, c5, c6⟩ := hk
  exact ⟨⟨⟨a1, a2, a3, c5, a5, a6⟩, b2, b3, fun k hk => (h1 k hk).trans (c2 k hk), fun k hk => (h2 k hk).trans (c3 k hk), fun k hk => (h3 k (by have hk' : k < sv.length := hk; omega)).trans (c4 k hk), b7, b8, b9, fun j hj => keptX.kp rfl rfl (b10 j hj), ruleX.kp rfl rfl b11⟩, ((hw.sto' k1).la' k2).sv' k3⟩
/-- what the component asks ahead of again -/
theorem ix_agB {σ : St} {V : VV} {i : Nat} (hI : IX σ V) (hi : i < 2) : agB V (nI i) = (decide (gA σ 42 i ≠ 0) && decide (gA σ 41 (23 * i + 22) = gI σ 8)) ∨ (gA σ 42 i = 0 ∧ agB V (nI i) = false) := by
  have hw := hI.2
  have hn := hw.n
  have hk := hI.1.2.2.2.2.2.2.2.2.2.1 i hi
  unfold agB
  rw [show rngB (nI i) 2 = true from by rw [rngB_nI (by omega)]; exact decide_eq_true hi, Bool.true_and, cl (by omega)]
  revert hk
  cases ek : vkp V i with
  | none => intro hk; exact Or.inr ⟨hk, rfl⟩
  | some w =>
    obtain ⟨s, l, sv, m⟩ := w
    intro hk
    obtain ⟨c1, c2, c3, c4, c5, c6⟩ := hk
    have hm := (hw.kpl ek).2.2.2
    refine Or.inl ?_
    rw [c1, c6, show gI σ 8 = _ from hI.n, decide_eq_true (show (1 : Int32) ≠ 0 by decide), Bool.true_and]
    exact decide_eq_decide.mpr (nI_eq (by omega) (by omega)).symm
