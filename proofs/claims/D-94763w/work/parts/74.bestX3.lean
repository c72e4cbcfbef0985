theorem GW.qA {σ : St} {V : VV} {A : Nat} {w : Nat → Int32} (h : GW σ V A w) {k : Nat} (hk : k ∉ 36 :: 30 :: XA) (v : Nat → Int32) : GW (sA σ k v) V A w :=
  ⟨h.1.qA (fun z => hk (List.mem_cons_of_mem _ z)) v, fun s hs => by
    have : gA (sA σ k v) 36 = gA σ 36 := by
      rw [gA_sA, if_neg (fun z : 36 = k => hk (z ▸ List.mem_cons_self))]
    rw [this]; exact h.2 s hs⟩
theorem besX_l {V : VV} {A s k : Nat} {x2 x3 b : Int32} {w : Nat → Int32} {P : Int32 → St → Prop} {K : Int32 → Int32 → Int32 → Int32 → Int32 → St → Prop} (hw : WV V) (hk : k ≤ 10) (hs : s < 2 ^ vn V)
    (h : ∀ σ', GW σ' V A w → Done (vn V) (gA σ' 32) (stB (mv V A) w b ((vsv V).length + k) (vn V)) s (vn V + 1) → K (nI k) x2 x3 b (nI s + (-1)) σ') :
    ∀ m j : Nat, j + m = vn V + 1 → ∀ σ, GW σ V A w → Done (vn V) (gA σ 32) (stB (mv V A) w b ((vsv V).length + k) (vn V)) s j → wx_bestSet_l107 P K (m + 1) (nI k) x2 x3 b (nI s) (nI j - 1) σ := by
  have hn := hw.n
  have hsl := hw.svl
  intro m
  induction m with
  | zero =>
    intro j hj σ hG hD
    rw [wx_bestSet_l107_s, show xI_dishes σ = _ from hG.1.1.n, if_pos ((nIm_lt (by omega) (by omega)).mpr (by omega))]
    rw [show j = vn V + 1 by omega] at hD
    exact h σ hG hD
  | succ m ih =>
    intro j hj σ hG hD
    have hp := pow_le_1024 hn
    rw [wx_bestSet_l107_s, show xI_dishes σ = _ from hG.1.1.n, if_neg (fun z => by have := (nIm_lt (by omega) (by omega)).mp z; omega)]
    have hl := lOf_n (j := j) hn (by omega)
    refine ⟨s, lOf j, rfl, (lOf_lI (by omega)).symm, by omega, by omega, ?_⟩
    dsimp only
    cases q : stateB s (lOf j) with
    | false =>
      rw [jf0]
      unfold wx_bestSet_j247
      rw [nIm_s]
      exact ih (j + 1) (by omega) σ hG (hD.skip hn (by omega) hs q)
    | true =>
      rw [jt0]
      have hok := (okS_B hn hs hl).mp q
      have hpc := pc_le s
      have fin : ∀ x, x = stB (mv V A) w b ((vsv V).length + k) (vn V) s (lOf j) (fun d => gA σ 32 (11 * (s ||| 2 ^ d) + d)) → wx_bestSet_j233 P (wx_bestSet_l107 P K (m + 1)) (nI k) x2 x3 b (nI s) (lI (lOf j)) x σ := by
        intro x ex
        refine ⟨s, lOf j, rfl, rfl, by omega, by omega, vp_in_nI (by omega) (by omega), ?_⟩
        unfold wx_bestSet_j247 xU_value uA
        rw [cl (by omega), lOf_lI (by omega), nIm_s]
        refine ih (j + 1) (by omega) _ (hG.qA (by decide) _) (hD.write hn (stB_c (mv_newM V A)) (by omega) hs q (fun k hk => ?_) ?_)
        · rw [gA_sAk, upd_n hk]
        · rw [gA_sAk, upd_s, ex]
      rw [bitC_nI (by omega), show xI_servedMany σ = _ from hG.1.1.sm, nI_add, ← lOf_lI (by omega)]
      simp only [nI_eq (show pc s < 2 ^ 31 by omega) (show (vsv V).length + k < 2 ^ 31 by omega)]
      unfold wx_bestSet_j149
      by_cases q1 : pc s = (vsv V).length + k
      · rw [if_pos q1, if_neg (by decide), cl (by omega), show xA_worth σ s = _ from hG.2 s hs]
        refine ⟨vp_in_nI (by omega) (by omega), ?_⟩
        have one : ∀ x, x = (if w s = b then 1 else 0) → wx_bestSet_j173 P (wx_bestSet_l107 P K (m + 1)) (nI k) x2 x3 b (nI s) (lI (lOf j)) 1 x σ := by
          intro x ex
          refine ⟨1, ?_⟩
          have hf := fin x (by rw [ex]; unfold stB; rw [if_pos q1])
          rw [wx_bestSet_l178_s]
          split
          · exact hf
          · rw [if_neg (by decide)]; exact hf
        unfold wx_bestSet_j172
        by_cases q2 : w s = b
        · rw [if_pos q2]; exact one 1 (by rw [if_pos q2])
        · rw [if_neg q2]; exact one 0 (by rw [if_neg q2])
      · rw [if_neg q1, if_pos rfl]
        unfold wx_bestSet_j172
        have hf := fin (foldN (fun d acc => if mv V A s (lOf j) d = true then acc ||| gA σ 32 (11 * (s ||| 2 ^ d) + d) else acc) 0 (vn V)) (by unfold stB; rw [if_neg q1])
        exact ⟨vn V + 1, besX_d (w := w) hG.1 hok hf (vn V) 0 (by omega)⟩
