/-! GREEDY: the dish that most are glad of, and the game against one who serves so -/
def glF (M : Nat → Nat → Nat → Bool) (joy : Nat → Int32) (s l k : Nat) : Nat := foldN (fun d acc => if M s l d = true then (if acc = 99 then d else if joy acc < joy d then d else acc) else acc) 99 k
theorem glF_s (M : Nat → Nat → Nat → Bool) (joy : Nat → Int32) (s l k : Nat) : glF M joy s l (k + 1) = if M s l k = true then (if glF M joy s l k = 99 then k else if joy (glF M joy s l k) < joy k then k else glF M joy s l k) else glF M joy s l k := rfl
theorem glF_bd {M : Nat → Nat → Nat → Bool} {joy : Nat → Int32} {s l : Nat} : ∀ k, glF M joy s l k = 99 ∨ (glF M joy s l k < k ∧ M s l (glF M joy s l k) = true) := by
  intro k
  induction k with
  | zero => exact Or.inl rfl
  | succ k ih =>
    rw [glF_s]
    by_cases q : M s l k = true
    · rw [if_pos q]
      split
      · exact Or.inr ⟨by omega, q⟩
      · split
        · exact Or.inr ⟨by omega, q⟩
        · rcases ih with z | z
          · exact Or.inl z
          · exact Or.inr ⟨by omega, z.2⟩
    · rw [if_neg q]
      rcases ih with z | z
      · exact Or.inl z
      · exact Or.inr ⟨by omega, z.2⟩
abbrev GR : Type := (Bool × Nat) × (Bool × Nat)
def stR (M : Nat → Nat → Nat → Bool) (joy : Nat → Int32) (n : Nat) : Nat → Nat → (Nat → GR) → GR := fun s l f =>
  (if glF M joy s l n = 99 then (true, 0) else ((f (glF M joy s l n)).2.1, 1 + (f (glF M joy s l n)).2.2), gFo M s l (fun d => (!(f d).1.1, (f d).1.2)) n)
theorem gFo_congr {M : Nat → Nat → Nat → Bool} {s l n : Nat} {f g : Nat → Bool × Nat} (h : ∀ d, d < n → M s l d = true → f d = g d) : gFo M s l f n = gFo M s l g n :=
  foldN_congr n fun d hd x => by
    by_cases q : M s l d = true
    · rw [if_pos q, if_pos q, h d hd q]
    · rw [if_neg q, if_neg q]
theorem stR_c {M : Nat → Nat → Nat → Bool} {joy : Nat → Int32} {n : Nat} (hM : newM n M) : stepC n (stR M joy n) := by
  intro s l f g _ h
  unfold stR
  have e : gFo M s l (fun d => (!(f d).1.1, (f d).1.2)) n = gFo M s l (fun d => (!(g d).1.1, (g d).1.2)) n := gFo_congr fun d hd hm => by rw [h d hd (hM s l d hd hm)]
  rw [e]
  rcases glF_bd (M := M) (joy := joy) (s := s) (l := l) n with q | q
  · rw [if_pos q, if_pos q]
  · rw [h _ q.1 (hM s l _ q.1 q.2)]
def grV (V : VV) (A s l : Nat) : GR := tabF (vn V) (stR (mv V A) (joyAllV V) (vn V)) ((false, 0), (false, 0)) s l
def grN (V : VV) (A s d : Nat) : GR := grV V A (s ||| 2 ^ d) d
def grG (V : VV) (A s d : Nat) : Bool × Nat := (!(grN V A s d).1.1, (grN V A s d).1.2)
def glV (V : VV) (A s l k : Nat) : Nat := glF (mv V A) (joyAllV V) s l k
theorem glV_s (V : VV) (A s l k : Nat) : glV V A s l (k + 1) = if mv V A s l k = true then (if glV V A s l k = 99 then k else if joyAllV V (glV V A s l k) < joyAllV V k then k else glV V A s l k) else glV V A s l k := rfl
theorem grV_fix {V : VV} (hn : vn V ≤ 10) {A s l : Nat} (hok : okS (vn V) s l) : grV V A s l = (if glV V A s l (vn V) = 99 then (true, 0) else ((grN V A s (glV V A s l (vn V))).2.1, 1 + (grN V A s (glV V A s l (vn V))).2.2), gFo (mv V A) s l (grG V A s) (vn V)) := tabF_fix hn (stR_c (mv_newM V A)) hok
theorem glV_bd {V : VV} (A s l : Nat) {k : Nat} : glV V A s l k = 99 ∨ (glV V A s l k < k ∧ mv V A s l (glV V A s l k) = true) := glF_bd k
theorem grV_bd {V : VV} (hn : vn V ≤ 10) (A : Nat) {s l : Nat} (hok : okS (vn V) s l) : (grV V A s l).1.2 + pc s ≤ vn V ∧ (grV V A s l).2.2 + pc s ≤ vn V := by
  have hM := mv_newM V A
  refine tabF_ind hn (stR_c hM) (fun s l x => x.1.2 + pc s ≤ vn V ∧ x.2.2 + pc s ≤ vn V) (fun s l f hok h => ?_) (vn V) s l hok (by omega)
  have h1 := pc_le_n hok.1 (by omega)
  have h5 : ∀ d, d < vn V → mv V A s l d = true → (f d).1.2 + 1 ≤ vn V - pc s ∧ (f d).2.2 + 1 ≤ vn V - pc s := fun d hd hm => by
    have h3 := h d hd (hM s l d hd hm)
    have h4 := pc_or2 (hM s l d hd hm) (show d < 11 by omega)
    omega
  have h2 : (gFo (mv V A) s l (fun d => (!(f d).1.1, (f d).1.2)) (vn V)).2 ≤ vn V - pc s := gFo_bd _ fun d hd hm => (h5 d hd hm).1
  refine ⟨?_, ?_⟩
  · show (if glF (mv V A) (joyAllV V) s l (vn V) = 99 then (true, 0) else ((f (glF (mv V A) (joyAllV V) s l (vn V))).2.1, 1 + (f (glF (mv V A) (joyAllV V) s l (vn V))).2.2)).2 + pc s ≤ vn V
    rcases glF_bd (M := mv V A) (joy := joyAllV V) (s := s) (l := l) (vn V) with q | q
    · rw [if_pos q]; show 0 + pc s ≤ vn V; omega
    · have := h5 _ q.1 q.2
      split
      · show 0 + pc s ≤ vn V; omega
      · show 1 + _ + pc s ≤ vn V; omega
  · show (gFo (mv V A) s l (fun d => (!(f d).1.1, (f d).1.2)) (vn V)).2 + pc s ≤ vn V
    omega
theorem grN_bd {V : VV} (hn : vn V ≤ 10) (A : Nat) {s l d : Nat} (hok : okS (vn V) s l) (hd : d < vn V) : (grN V A s d).1.2 ≤ 10 ∧ (grN V A s d).2.2 ≤ 10 := by
  have := grV_bd hn A (okS_step hok hd)
  show (grV V A (s ||| 2 ^ d) d).1.2 ≤ 10 ∧ (grV V A (s ||| 2 ^ d) d).2.2 ≤ 10
  omega
theorem gFoR_bd {V : VV} (hn : vn V ≤ 10) (A : Nat) {s l k : Nat} (hok : okS (vn V) s l) (hk : k ≤ vn V) : (gFo (mv V A) s l (grG V A s) k).2 ≤ 11 := gFo_bd k fun d hd _ => by
  have := (grN_bd hn A hok (show d < vn V by omega)).1
  show (grN V A s d).1.2 + 1 ≤ 11
  omega
/-- a dish, or none, as an int -/
def cI (a : Nat) : Int32 := if a = 99 then -1 else nI a
theorem gladX {V : VV} {A s l : Nat} {P : Int32 → St → Prop} {σ : St} (hG : GX σ V A) (hok : okS (vn V) s l) (h : P (cI (glV V A s l (vn V))) σ) : wx_gladdest σ (nI s) (lI l) P := by
  have hI := hG.1
  have hn := hI.2.n
  have key : ∀ m d : Nat, d + m = vn V → wx_gladdest_l5 P (m + 1) (nI s) (lI l) (cI (glV V A s l d)) (nI d) σ := by
    intro m
    induction m with
    | zero =>
      intro d hd
      rw [wx_gladdest_l5_s, show xI_dishes σ = _ from hI.n, if_pos (by rw [show d = vn V by omega]; exact Int32.le_refl _), show d = vn V by omega]
      exact h
    | succ m ih =>
      intro d hd
      have ih1 := ih (d + 1) (by omega)
      rw [glV_s] at ih1
      rw [wx_gladdest_l5_s, show xI_dishes σ = _ from hI.n, if_neg (nI_ge (by omega) (by omega))]
      refine ox_goesOn hG hok.1 (by rcases hok.2 with q | q <;> omega) (by omega) ?_
      unfold wx_gladdest_j43 wx_gladdest_j48 wx_gladdest_j49
      rw [nI_1]
      cases q : mv V A s l d with
      | false => rw [jf0]; rw [q, if_neg (by decide)] at ih1; exact ih1
      | true =>
        rw [jt0]; rw [q, if_pos rfl] at ih1
        rcases glV_bd (V := V) A s l (k := d) with z | z
        · rw [if_pos z] at ih1
          rw [z, if_pos (by decide)]
          have : cI d = nI d := if_neg (by omega)
          rw [this] at ih1; exact ih1
        · rw [if_neg (show ¬ glV V A s l d = 99 by omega)] at ih1
          have e : cI (glV V A s l d) = nI (glV V A s l d) := if_neg (by omega)
          rw [e, if_neg (nI_lt0 (by omega))]
          refine ox_joyOfAll hI (by omega) (ox_joyOfAll hI (by omega) ?_)
          by_cases y : joyAllV V (glV V A s l d) < joyAllV V d
          · rw [if_pos y, show cI d = nI d from if_neg (by omega)] at ih1
            rw [if_neg (Int32.not_le.mpr y)]; exact ih1
          · rw [if_neg y, e] at ih1
            rw [if_pos (Int32.not_lt.mp y)]; exact ih1
  exact ⟨_, key (vn V) 0 (by omega)⟩
def pRX (σ : St) (V : VV) (A s l : Nat) : Prop :=
  (gA σ 37 (2 * (11 * s + l)) = j01 (grV V A s l).1.1 ∧ gA σ 38 (2 * (11 * s + l)) = nI (grV V A s l).1.2) ∧
  (gA σ 37 (2 * (11 * s + l) + 1) = j01 (grV V A s l).2.1 ∧ gA σ 38 (2 * (11 * s + l) + 1) = nI (grV V A s l).2.2)
def wrG (σ : St) (i : Nat) (a b : Int32) : St := sA (sA σ 37 (upd (gA σ 37) i a)) 38 (upd (gA σ 38) i b)
theorem wrG_GX {σ : St} {V : VV} {A : Nat} (h : GX σ V A) (i : Nat) (a b : Int32) : GX (wrG σ i a b) V A := (h.qA (by decide) _).qA (by decide) _
theorem wrG_37 (σ : St) (i : Nat) (a b : Int32) : gA (wrG σ i a b) 37 = upd (gA σ 37) i a := rfl
theorem wrG_38 (σ : St) (i : Nat) (a b : Int32) : gA (wrG σ i a b) 38 = upd (gA σ 38) i b := rfl
theorem two_nI (p : Nat) : (2 : Int32) * nI p = nI (2 * p) := pk_mul 2 p
theorem plgX_0 {V : VV} {A s l : Nat} {P : St → Prop} {σ : St} (hG : GX σ V A) (hok : okS (vn V) s l) (hA : ∀ d, d < vn V → s.testBit d = false → pRX σ V A (s ||| 2 ^ d) d)
    (h : P (wrG σ (2 * (11 * s + l)) (j01 (grV V A s l).1.1) (nI (grV V A s l).1.2))) : wx_playsGreedy σ (nI s) (lI l) 0 P := by
  have hI := hG.1
  have hn := hI.2.n
  have hb := okS_le hn hok
  have hp := pow_le_1024 hn
  refine ⟨s, l, rfl, rfl, by omega, by omega, ?_⟩
  dsimp only
  rw [if_pos rfl, two_nI, Int32.add_zero]
  refine gladX hG hok ?_
  have hv : vp_in (nI (2 * (11 * s + l))) 22528 := vp_in_nI (by omega) (by omega)
  unfold wx_playsGreedy_j47 wx_playsGreedy_j71 wx_playsGreedy_j96 xU_greedyLength xU_greedyValue uA
  rw [grV_fix hn hok] at h
  rcases glV_bd (V := V) A s l (k := vn V) with z | z
  · rw [z, show cI 99 = -1 from rfl, if_neg (by decide), if_neg (by decide), if_neg (by decide), cl (by omega)]
    rw [if_pos z] at h
    exact ⟨hv, hv, h⟩
  · have e : cI (glV V A s l (vn V)) = nI (glV V A s l (vn V)) := if_neg (by omega)
    have hor := or2_lt hok.1 z.1
    obtain ⟨_, t1, t2⟩ := hA _ z.1 (mv_new z.2)
    have hgt := or2_gt (mv_new z.2)
    rw [if_neg (show ¬ glV V A s l (vn V) = 99 by omega)] at h
    generalize glV V A s l (vn V) = D at z e hor t1 t2 hgt h ⊢
    have b1 := grN_bd hn A hok z.1
    rw [e, if_pos (nI_ge0 (by omega)), nI_shl1 _ (by omega), nI_or]
    refine ⟨s ||| 2 ^ D, D, rfl, (lI_l (by omega)).symm, by omega, by omega, ?_⟩
    dsimp only
    have g0 : (0 : Int32) ≤ nI D := nI_ge0 (by omega)
    rw [if_pos g0, if_pos g0, two_nI, nI_1, cl (by omega), cl (by omega)]
    refine ⟨vp_in_nI (by omega) (by omega), hv, vp_in_nI (by omega) (by omega), hv, ?_⟩
    rw [show xA_greedyValue σ (2 * (11 * (s ||| 2 ^ D) + D) + 1) = _ from t1]
    rw [show xA_greedyLength (sA σ 37 (upd (gA σ 37) (2 * (11 * s + l)) (j01 (grV V A (s ||| 2 ^ D) D).2.1))) (2 * (11 * (s ||| 2 ^ D) + D) + 1) = _ from t2]
    rw [show (1 : Int32) + nI (grV V A (s ||| 2 ^ D) D).2.2 = nI (1 + (grN V A s D).2.2) from nI_add 1 _]
    exact h
theorem plgX_1 {V : VV} {A s l : Nat} {P : St → Prop} {σ : St} (hG : GX σ V A) (hok : okS (vn V) s l) (hA : ∀ d, d < vn V → s.testBit d = false → pRX σ V A (s ||| 2 ^ d) d)
    (h : P (wrG σ (2 * (11 * s + l) + 1) (j01 (grV V A s l).2.1) (nI (grV V A s l).2.2))) : wx_playsGreedy σ (nI s) (lI l) 1 P := by
  have hI := hG.1
  have hn := hI.2.n
  have hb := okS_le hn hok
  have hp := pow_le_1024 hn
  refine ⟨s, l, rfl, rfl, by omega, by omega, ?_⟩
  dsimp only
  rw [if_neg (by decide), two_nI, nI_1]
  rw [grV_fix hn hok] at h
  have key : ∀ m d : Nat, d + m = vn V → wx_playsGreedy_l107 P (m + 1) (nI s) (lI l) (nI (2 * (11 * s + l) + 1)) (j01 (gFo (mv V A) s l (grG V A s) d).1) (nI (gFo (mv V A) s l (grG V A s) d).2) (nI d) σ := by
    intro m
    induction m with
    | zero =>
      intro d hd
      rw [wx_playsGreedy_l107_s, show xI_dishes σ = _ from hI.n, if_pos (by rw [show d = vn V by omega]; exact Int32.le_refl _), show d = vn V by omega]
      refine ⟨vp_in_nI (by omega) (by omega), vp_in_nI (by omega) (by omega), ?_⟩
      unfold xU_greedyLength xU_greedyValue uA
      rw [cl (by omega)]
      exact h
    | succ m ih =>
      intro d hd
      have ih1 := ih (d + 1) (by omega)
      have hor := or2_lt hok.1 (show d < vn V by omega)
      have b1 := (grN_bd hn A hok (show d < vn V by omega)).1
      have b2 := gFoR_bd hn A (k := d) hok (by omega)
      rw [gFo_s] at ih1
      rw [wx_playsGreedy_l107_s, show xI_dishes σ = _ from hI.n, if_neg (nI_ge (by omega) (by omega))]
      refine ox_goesOn hG hok.1 (by rcases hok.2 with q | q <;> omega) (by omega) ?_
      unfold wx_playsGreedy_j191 wx_playsGreedy_j205 wx_playsGreedy_j219
      rw [nI_1]
      cases q : mv V A s l d with
      | false => rw [jf0]; rw [q, if_neg (by decide)] at ih1; exact ih1
      | true =>
        rw [jt0]; rw [q, if_pos rfl] at ih1
        obtain ⟨⟨t1, t2⟩, _⟩ := hA d (by omega) (mv_new q)
        rw [nI_shl1 _ (by omega), nI_or]
        refine ⟨s ||| 2 ^ d, d, rfl, (lI_l (by omega)).symm, by omega, by omega, ?_⟩
        dsimp only
        rw [two_nI, cl (by omega), show xA_greedyValue σ (2 * (11 * (s ||| 2 ^ d) + d)) = _ from t1, show xA_greedyLength σ (2 * (11 * (s ||| 2 ^ d) + d)) = _ from t2]
        have hv : vp_in (nI (2 * (11 * (s ||| 2 ^ d) + d))) 22528 := vp_in_nI (by omega) (by omega)
        refine ⟨hv, hv, ?_⟩
        generalize gFo (mv V A) s l (grG V A s) d = a at ih1 b2 ⊢
        have hf : grV V A (s ||| 2 ^ d) d = grN V A s d := rfl
        have hg : grG V A s d = (!(grN V A s d).1.1, (grN V A s d).1.2) := rfl
        rw [hf]; rw [hg] at ih1
        generalize (grN V A s d).1 = f at ih1 b1 ⊢
        obtain ⟨a1, a2⟩ := a
        obtain ⟨f1, f2⟩ := f
        have b1 : f2 ≤ 10 := b1
        have b2 : a2 ≤ 11 := b2
        rw [show (1 : Int32) + nI f2 = nI (1 + f2) from nI_add 1 f2]
        unfold cmbG at ih1
        have emax : jmax (nI a2) (nI (1 + f2)) = nI (max a2 (1 + f2)) := jmax_nI (by omega) (by omega)
        have emin : jmin (nI a2) (nI (1 + f2)) = nI (min a2 (1 + f2)) := jmin_nI (by omega) (by omega)
        have m00 : jmax (0 : Int32) 0 = 0 := by decide
        have m01 : jmax (0 : Int32) 1 = 1 := by decide
        have m10 : jmax (1 : Int32) 0 = 1 := by decide
        have m11 : jmax (1 : Int32) 1 = 1 := by decide
        cases f1 <;> cases a1
        · refine ⟨hv, ?_⟩
          show wx_playsGreedy_l107 P (m + 1) (nI s) (lI l) (nI (2 * (11 * s + l) + 1)) (jmax 0 0) (jmax (nI a2) (nI (1 + f2))) (nI (d + 1)) σ
          rw [emax, m00]; exact ih1
        · refine ⟨hv, ?_⟩
          show wx_playsGreedy_l107 P (m + 1) (nI s) (lI l) (nI (2 * (11 * s + l) + 1)) (jmax 1 0) (nI a2) (nI (d + 1)) σ
          rw [m10]; exact ih1
        · refine ⟨hv, ?_⟩
          show wx_playsGreedy_l107 P (m + 1) (nI s) (lI l) (nI (2 * (11 * s + l) + 1)) (jmax 0 1) (nI (1 + f2)) (nI (d + 1)) σ
          rw [m01]; exact ih1
        · refine ⟨hv, ?_⟩
          show wx_playsGreedy_l107 P (m + 1) (nI s) (lI l) (nI (2 * (11 * s + l) + 1)) (jmax 1 1) (jmin (nI a2) (nI (1 + f2))) (nI (d + 1)) σ
          rw [emin, m11]; exact ih1
  exact ⟨_, key (vn V) 0 (by omega)⟩
theorem greX_l {V : VV} {A s : Nat} {P : Int32 → St → Prop} {K : Int32 → St → Prop} (hw : WV V) (hs : s < 2 ^ vn V)
    (h : ∀ σ', GX σ' V A → At (vn V) s (vn V + 1) (pRX σ' V A) → K (nI s + (-1)) σ') :
    ∀ m j : Nat, j + m = vn V + 1 → ∀ σ, GX σ V A → At (vn V) s j (pRX σ V A) → wx_greedy_l19 P K (m + 1) (nI s) (nI j - 1) σ := by
  have hn := hw.n
  have hp := pow_le_1024 hn
  intro m
  induction m with
  | zero =>
    intro j hj σ hG hD
    rw [wx_greedy_l19_s, show xI_dishes σ = _ from hG.1.n, if_pos ((nIm_lt (by omega) (by omega)).mpr (by omega))]
    rw [show j = vn V + 1 by omega] at hD
    exact h σ hG hD
  | succ m ih =>
    intro j hj σ hG hD
    rw [wx_greedy_l19_s, show xI_dishes σ = _ from hG.1.n, if_neg (fun z => by have := (nIm_lt (by omega) (by omega)).mp z; omega)]
    have hl := lOf_n (j := j) hn (by omega)
    refine ⟨s, lOf j, rfl, (lOf_lI (by omega)).symm, by omega, by omega, ?_⟩
    dsimp only
    unfold wx_greedy_j53
    rw [nIm_s]
    cases q : stateB s (lOf j) with
    | false => rw [jf0]; exact ih (j + 1) (by omega) σ hG (hD.skip hn (by omega) hs q)
    | true =>
      rw [jt0]
      have hok := (okS_B hn hs hl).mp q
      have hb := okS_le hn hok
      rw [← lOf_lI (by omega)]
      have hA := fun d hd hb => hD.nx (d := d) hok hd hb
      refine plgX_0 hG hok hA (plgX_1 (wrG_GX hG _ _ _) hok (fun d hd hbt => ?_) ?_)
      · have h9 := hA d hd hbt
        have hgt := or2_gt hbt
        unfold pRX
        rw [wrG_37, wrG_38, upd_n (by omega), upd_n (by omega), upd_n (by omega), upd_n (by omega)]
        exact h9
      · refine ih (j + 1) (by omega) _ (wrG_GX (wrG_GX hG _ _ _) _ _ _) (hD.step hn (fun s' l' hok' hne hp' => ?_) fun _ => ?_)
        · have hb' := okS_le hn hok'
          have hne' : 11 * s' + l' ≠ 11 * s + lOf j := fun z => hne ⟨by omega, by omega⟩
          unfold pRX
          rw [wrG_37, wrG_38, wrG_37, wrG_38]
          rw [upd_n (by omega), upd_n (by omega), upd_n (by omega), upd_n (by omega), upd_n (by omega), upd_n (by omega), upd_n (by omega), upd_n (by omega)]
          exact hp'
        · unfold pRX
          rw [wrG_37, wrG_38, wrG_37, wrG_38]
          refine ⟨⟨?_, ?_⟩, ?_, ?_⟩
          · rw [upd_n (by omega), upd_s]
          · rw [upd_n (by omega), upd_s]
          · rw [upd_s]
          · rw [upd_s]
theorem greX_s {V : VV} {A : Nat} {P : Int32 → St → Prop} (hw : WV V) (h : ∀ σ', GX σ' V A → (∀ s l, okS (vn V) s l → pRX σ' V A s l) → wx_greedy_l13 P 1 (-1) σ') :
    ∀ m : Nat, m ≤ 2 ^ vn V → ∀ σ, GX σ V A → (0 < m → At (vn V) (m - 1) 0 (pRX σ V A)) → (m = 0 → ∀ s l, okS (vn V) s l → pRX σ V A s l) → wx_greedy_l13 P (m + 1) (nI m - 1) σ := by
  have hn := hw.n
  have hp := pow_le_1024 hn
  intro m
  induction m with
  | zero =>
    intro hm σ hG _ hF
    exact h σ hG (hF rfl)
  | succ m ih =>
    intro hm σ hG hD _
    rw [wx_greedy_l13_s, nI_pred, if_neg (nI_lt0 (by omega))]
    refine ⟨vn V + 2, greX_l (K := wx_greedy_l13 P (m + 1)) hw (show m < 2 ^ vn V by omega) (fun σ' hG' hD' => ?_) (vn V + 1) 0 (by omega) σ hG (hD (by omega))⟩
    rw [show nI m + (-1) = nI m - 1 from (Int32.sub_eq_add_neg _ _).symm]
    refine ih (by omega) σ' hG' (fun hpos => ?_) (fun h0 => ?_)
    · rw [show m = m - 1 + 1 by omega] at hD'
      exact hD'.next hn
    · rw [h0] at hD'; exact hD'.fix hn
def S_greedy (V : VV) : VV := vSRow V [nI (grV V (allA V) (s0V V) (l0V V)).1.2]
def R_greedy (V : VV) : Int32 := j01 (grV V (allA V) (s0V V) (l0V V)).1.1
theorem ox_greedy {σ : St} {V : VV} {P : Int32 → St → Prop} (hI : IX σ V) (h : ∀ σ', IX σ' (S_greedy V) → P (R_greedy V) σ') : wx_greedy σ P := by
  have hw := hI.2
  have hn := hw.n
  have hok := start_ok hw
  have hb := okS_le hn hok
  have h1 := Nat.one_le_two_pow (n := vn V)
  unfold R_greedy S_greedy at h
  refine ox_laysOut hI fun σ1 hG1 => ⟨2 ^ vn V + 1, ?_⟩
  rw [show xI_dishes σ1 = _ from hG1.1.n, nI_shl1 _ (by omega)]
  refine greX_s hw (fun σ2 hG2 hA => ?_) (2 ^ vn V) (Nat.le_refl _) σ1 hG1 (fun _ => At.start _ _) (fun z => by omega)
  obtain ⟨⟨t1, t2⟩, _⟩ := hA _ _ hok
  rw [wx_greedy_l13_s, if_pos (by decide)]
  refine ⟨V, hG2.1, V, hG2.1, s0V V, l0V V, rfl, rfl, by omega, by omega, ?_⟩
  dsimp only
  rw [two_nI, cl (by omega), show xA_greedyLength (xS_rowMany σ2 0) (2 * (11 * s0V V + l0V V)) = _ from t2]
  have hr := hG2.row0.1
  refine ⟨vp_in_nI (by omega) (by omega), _, hr, by show 0 < 12; omega, fun σ3 h3 k3 _ => ⟨vp_in_nI (by omega) (by omega), ?_⟩⟩
  rw [show xA_greedyValue σ3 = gA σ2 37 from k3.2.1 37 (by decide), t1]
  exact h σ3 h3
