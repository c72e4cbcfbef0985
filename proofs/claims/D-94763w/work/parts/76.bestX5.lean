theorem bestW_at {V : VV} {A due : Nat} {w : Nat → Int32} : ∀ c, bestW V A due w c = -1000000 ∨ ∃ s, s < c ∧ candV V A due s = true ∧ bestW V A due w c = w s := by
  intro c
  induction c with
  | zero => exact Or.inl rfl
  | succ c ih =>
    rw [bestW_s]
    by_cases q : candV V A due c = true
    · rw [if_pos q]
      have hm := jmax_i (bestW V A due w c) (w c)
      by_cases z : (w c).toInt ≤ (bestW V A due w c).toInt
      · have e : jmax (bestW V A due w c) (w c) = bestW V A due w c := Int32.toInt_inj.mp (by omega)
        rw [e]
        rcases ih with y | ⟨s, hs, h1, h2⟩
        · exact Or.inl y
        · exact Or.inr ⟨s, by omega, h1, h2⟩
      · have e : jmax (bestW V A due w c) (w c) = w c := Int32.toInt_inj.mp (by omega)
        exact Or.inr ⟨c, by omega, q, e⟩
    · rw [if_neg q]
      rcases ih with y | ⟨s, hs, h1, h2⟩
      · exact Or.inl y
      · exact Or.inr ⟨s, by omega, h1, h2⟩
theorem best_ex {V : VV} {A k : Nat} {w : Nat → Int32} (hw : WV V) (h : bestW V A ((vsv V).length + k) w (2 ^ vn V) ≠ -1000000) : ex (mv V A) (vn V) (Ew w (bestW V A ((vsv V).length + k) w (2 ^ vn V)) ((vsv V).length + k)) k (s0V V) (l0V V) = true := by
  rcases bestW_at (V := V) (A := A) (due := (vsv V).length + k) (w := w) (2 ^ vn V) with y | ⟨s, hs, h1, h2⟩
  · exact absurd y h
  · unfold candV at h1
    have hr := (Bool.and_eq_true _ _ ▸ h1).1
    have hd := of_decide_eq_true (Bool.and_eq_true _ _ ▸ h1).2
    obtain ⟨l, _, _, hrb⟩ := (rchT_iff hw.n hs).mp hr
    obtain ⟨a, b⟩ := cpT_ex hrb
    have hps := pc_s0 hw
    rw [show pc s - pc (s0V V) = k by omega] at b
    refine ex_mono (fun s' l' z => ?_) _ _ _ b
    have z := of_decide_eq_true z
    unfold Ew
    rw [← z.1, decide_eq_true hd, decide_eq_true h2.symm]; rfl
/-- what bestSet tells -/
def S_bst (V : VV) (A k : Nat) (w : Nat → Int32) (told : Bool) : VV :=
  rowG (vSRow V (if told = true then [bestW V A ((vsv V).length + k) w (2 ^ vn V)] else [])) (way (mv V A) (vn V) (ex (mv V A) (vn V) (Ew w (bestW V A ((vsv V).length + k) w (2 ^ vn V)) ((vsv V).length + k))) k (s0V V) (l0V V))
theorem ox_bestSet {V : VV} {A k : Nat} {told : Bool} {w : Nat → Int32} {P : Int32 → St → Prop} {σ : St} (hG : GW σ V A w) (hk : k ≤ 10)
    (h1 : bestW V A ((vsv V).length + k) w (2 ^ vn V) = -1000000 → ∀ σ', IX σ' V → P (-1000000) σ')
    (h2 : bestW V A ((vsv V).length + k) w (2 ^ vn V) ≠ -1000000 → ∀ σ', IX σ' (S_bst V A k w told) → P (bestW V A ((vsv V).length + k) w (2 ^ vn V)) σ') : wx_bestSet σ (nI k) (j01 told) P := by
  have hI := hG.1.1
  have hw := hI.2
  have hn := hw.n
  have hp := pow_le_1024 hn
  have h1p := Nat.one_le_two_pow (n := vn V)
  have hok := start_ok hw
  refine ⟨V, hI, V, hI, ?_⟩
  refine ox_reachesW (W := gA σ 36) ⟨hG.1, rfl⟩ hok fun σ1 L hQ hl hL hlt => ?_
  have hG1 : GW σ1 V A w := ⟨hQ.1, fun s hs => by rw [hQ.2]; exact hG.2 s hs⟩
  refine ⟨2 ^ vn V + 1, ?_⟩
  refine besX_1 (w := w) hQ.1 hk hl hlt hL hG1.2 (fun z => h1 z σ1 hQ.1.1) (fun z => ?_) (2 ^ vn V) 0 (by omega)
  refine ⟨2 ^ vn V + 1, ?_⟩
  have h2 := h2 z
  have hx := best_ex hw z
  unfold S_bst at h2
  generalize bestW V A ((vsv V).length + k) w (2 ^ vn V) = b at h2 hx ⊢
  refine besX_s (b := b) hw hk (fun σ2 hG2 hT => ?_) (2 ^ vn V) (Nat.le_refl _) σ1 hG1 (fun _ => Done.start _ _) (fun z => by omega)
  have hr0 := hG2.1.row0
  have fin : ∀ r : List Int32, r.length ≤ 1 → (if told = true then [b] else []) = r → ∀ σ3, GX σ3 (vSRow V r) A → gA σ3 32 = gA σ2 32 → wx_bestSet_j274 P (nI k) (nI (s0V V)) b σ3 := by
    intro r hr e σ3 hG3 hg3
    refine ⟨vSRow V r, hG3.1, k + 1, ?_⟩
    have h9 := pthX_k (V := V) (N := k) (b := b) (w := w) (P := P) (T := gA σ2 32) hn hk hT k (s0V V) (l0V V) (vSRow V r) ⟨r, rfl⟩ (Nat.le_refl _) hok (by rw [pc_s0 hw]) hx (by show r.length + k ≤ 12; omega) σ3 hG3 hg3 (fun σ' hG' => h2 σ' (by rw [e]; exact hG'.1))
    rw [Nat.sub_self] at h9
    exact h9
  cases told with
  | false => rw [jf0]; exact fin [] (by decide) rfl _ hr0 rfl
  | true =>
    rw [jt0]
    exact ⟨vSRow V [], hr0.1, by show 0 < 12; omega, fun σ3 h3 kp _ => fin [b] (by show 1 ≤ 1; omega) rfl σ3 (hr0.row h3 (kp.1 35 (by decide)) (kp.2.1 30 (by decide))) (kp.2.1 32 (by decide))⟩
