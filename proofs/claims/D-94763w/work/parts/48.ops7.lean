/-! a menu changed in its places -/
theorem WV.me' {V : VV} (h : WV V) {i : Nat} {l : List Nat} (h1 : l.length ≤ 10) (h2 : okL V l) : WV (vSMe V i l) := by
  obtain ⟨a1, a2, a3, a4, a5, a6, a7, a8, a9, a10⟩ := h
  refine ⟨a1, a2, a3, a4, a5, a6, a7, a8, fun j => ?_, a10⟩
  show (if j = i then l else vme V j).length ≤ 10 ∧ ∀ d ∈ (if j = i then l else vme V j), d < vn V ∨ d = 99
  by_cases q : j = i
  · rw [if_pos q]; exact ⟨h1, h2⟩
  · rw [if_neg q]; exact a9 j
theorem IX.me2 {σ : St} {V : VV} (h : IX σ V) {i : Nat} (hi : i < 3) {l : List Nat} (hl : l.length = (vme V i).length) (hok : okL V l) {f : Nat → Int32} (h1 : ∀ p, (p < 10 * i ∨ 10 * i + 10 ≤ p) → f p = gA σ 26 p) (h2 : ∀ k, k < l.length → f (10 * i + k) = nI (l.getD k 0)) : IX (sA σ 26 f) (vSMe V i l) := by
  have hm := (h.2.me i).1
  obtain ⟨⟨a1, a2, a3, a4, a5, a6⟩, b2, b3, b4, b5, b6, b7, b8, b9, b10, b11⟩ := h.1
  refine ⟨⟨⟨a1, a2, a3, a4, a5, a6⟩, b2, b3, b4, b5, b6, b7, fun j hj => ?_, b9, fun i hi => keptX.kp rfl rfl (b10 i hi), ruleX.kp rfl rfl b11⟩, h.2.me' (by omega) hok⟩
  show gA σ 27 j = nI (if j = i then l else vme V j).length ∧ ∀ k, k < (if j = i then l else vme V j).length → f (10 * j + k) = nI ((if j = i then l else vme V j).getD k 0)
  by_cases q : j = i
  · subst q; rw [if_pos rfl, hl]; exact ⟨(b8 j hj).1, by rw [← hl]; exact h2⟩
  · rw [if_neg q]
    refine ⟨(b8 j hj).1, fun k hk => ?_⟩
    have := (h.2.me j).1
    rw [h1 _ (by omega)]
    exact (b8 j hj).2 k hk
theorem IM.me2 {σ : St} {V : VV} (h : IM σ V) {i : Nat} (hi : i < 3) {l : List Nat} (hl : l.length = (vme V i).length) (hok : okL V l) {f : Nat → Int32} (h1 : ∀ p, (p < 10 * i ∨ 10 * i + 10 ≤ p) → f p = gA σ 14 p) (h2 : ∀ k, k < l.length → f (10 * i + k) = nI (l.getD k 0)) : IM (sA σ 14 f) (vSMe V i l) := by
  have hm := (h.2.me i).1
  obtain ⟨⟨a1, a2, a3, a4, a5, a6, a7, a8⟩, b2, b3, b4, b5, b6, b7, b8, b9, b10, b11⟩ := h.1
  refine ⟨⟨⟨a1, a2, a3, a4, a5, a6, a7, a8⟩, b2, b3, b4, b5, b6, fun j hj => ?_, b8, b9, fun i hi => keptM.kp rfl rfl rfl rfl (b10 i hi), ruleM.kp rfl rfl b11⟩, h.2.me' (by omega) hok⟩
  show gA σ 15 j = nI (if j = i then l else vme V j).length ∧ ∀ k, k < (if j = i then l else vme V j).length → f (10 * j + k) = nI ((if j = i then l else vme V j).getD k 0)
  by_cases q : j = i
  · subst q; rw [if_pos rfl, hl]; exact ⟨(b7 j hj).1, by rw [← hl]; exact h2⟩
  · rw [if_neg q]
    refine ⟨(b7 j hj).1, fun k hk => ?_⟩
    have := (h.2.me j).1
    rw [h1 _ (by omega)]
    exact (b7 j hj).2 k hk
def swapL (l : List Nat) (j k : Nat) : List Nat := (l.set j (l.getD k 0)).set k (l.getD j 0)
theorem swapL_len (l : List Nat) (j k : Nat) : (swapL l j k).length = l.length := by unfold swapL; rw [List.length_set, List.length_set]
theorem getD_set {l : List Nat} {j x k : Nat} (hj : j < l.length) : (l.set j x).getD k 0 = if k = j then x else l.getD k 0 := by
  rw [List.getD_eq_getElem?_getD, List.getD_eq_getElem?_getD, List.getElem?_set]
  by_cases q : k = j
  · subst q; rw [if_pos rfl, if_pos rfl, if_pos hj]; rfl
  · rw [if_neg (fun z => q z.symm), if_neg q]
theorem swapL_get {l : List Nat} {j k x : Nat} (hj : j < l.length) (hk : k < l.length) : (swapL l j k).getD x 0 = if x = k then l.getD j 0 else if x = j then l.getD k 0 else l.getD x 0 := by
  unfold swapL
  rw [getD_set (by rw [List.length_set]; exact hk), getD_set hj]
theorem okL_of {V : VV} {l : List Nat} (h : ∀ k, k < l.length → l.getD k 0 < vn V ∨ l.getD k 0 = 99) : okL V l := fun d hd => by
  obtain ⟨k, hk, e⟩ := mem_getD hd
  rw [← e]; exact h k hk
theorem swapL_ok {V : VV} {l : List Nat} {j k : Nat} (hj : j < l.length) (hk : k < l.length) (h : okL V l) : okL V (swapL l j k) := okL_of fun x hx => by
  rw [swapL_get hj hk]
  rw [swapL_len] at hx
  split
  · exact okL_get h hj
  · split
    · exact okL_get h hk
    · exact okL_get h hx
/-- the two writes -/
theorem swap_f {f : Nat → Int32} {i j k : Nat} {l : List Nat} (hj : j < l.length) (hk : k < l.length) (h10 : l.length ≤ 10) (hf : ∀ x, x < l.length → f (10 * i + x) = nI (l.getD x 0)) :
    (∀ p, (p < 10 * i ∨ 10 * i + 10 ≤ p) → upd (upd f (10 * i + j) (nI (l.getD k 0))) (10 * i + k) (nI (l.getD j 0)) p = f p) ∧ (∀ x, x < (swapL l j k).length → upd (upd f (10 * i + j) (nI (l.getD k 0))) (10 * i + k) (nI (l.getD j 0)) (10 * i + x) = nI ((swapL l j k).getD x 0)) := by
  refine ⟨fun p hp => by rw [upd_n (by omega), upd_n (by omega)], fun x hx => ?_⟩
  rw [swapL_len] at hx
  rw [swapL_get hj hk]
  by_cases q : x = k
  · subst q; rw [upd_s, if_pos rfl]
  · rw [upd_n (by omega), if_neg q]
    by_cases q2 : x = j
    · subst q2; rw [upd_s, if_pos rfl]
    · rw [upd_n (by omega), if_neg q2]; exact hf x hx
theorem ox_swaps {σ : St} {V : VV} {i j k : Nat} {P : St → Prop} (hI : IX σ V) (hi : i < 3) (hj : j < (vme V i).length) (hk : k < (vme V i).length) (h : ∀ σ', IX σ' (vSMe V i (swapL (vme V i) j k)) → P σ') : wx_swaps σ (nI i) (nI j) (nI k) P := by
  have hm := (hI.2.me i).1
  unfold wx_swaps
  rw [mul10, nI_add, nI_add]
  refine ⟨vp_in_nI (by omega) (by omega), vp_in_nI (by omega) (by omega), vp_in_nI (by omega) (by omega), vp_in_nI (by omega) (by omega), ?_⟩
  unfold xU_menu uA
  rw [cl (by omega), cl (by omega), show xA_menu σ (10 * i + k) = _ from hI.me hi hk, show xA_menu σ (10 * i + j) = _ from hI.me hi hj]
  have two : ∀ a b, sA (sA σ 26 a) 26 b = sA σ 26 b := fun a b => by
    unfold sA
    refine congrArg (fun f => (σ.1, f, σ.2.2)) (funext fun j => ?_)
    show (if j = 26 then b else if j = 26 then a else σ.2.1 j) = if j = 26 then b else σ.2.1 j
    by_cases q : j = 26
    · simp only [q, if_true]
    · simp only [q, if_false]
  rw [two]
  have h2 := swap_f (f := gA σ 26) (i := i) hj hk hm (fun x hx => hI.me hi hx)
  exact h _ (hI.me2 hi (swapL_len _ _ _) (swapL_ok hj hk (hI.2.meL i)) h2.1 h2.2)
def swB (V : VV) (v a b : Int32) : Bool := rngB v 3 && (rngB a (vme V v.toNatClampNeg).length && (rngB b (vme V v.toNatClampNeg).length && !(decide (a = b))))
def S_swap (V : VV) (v a b : Int32) : VV := if swB V v a b = true then vSMe V v.toNatClampNeg (swapL (vme V v.toNatClampNeg) a.toNatClampNeg b.toNatClampNeg) else V
theorem ox_swap {σ : St} {V : VV} {P : Int32 → St → Prop} (hI : IX σ V) (v a b : Int32) (h : ∀ σ', IX σ' (S_swap V v a b) → P (j01 (swB V v a b)) σ') : wx_swap σ v a b P := by
  unfold wx_swap sx_isMenu
  dsimp only
  unfold S_swap at h
  have hf : swB V v a b = false → ∀ σ', IX σ' V → P 0 σ' := fun z => by rw [z, if_neg (by decide)] at h; exact h
  cases q : rngB v 3 with
  | false => rw [jf0]; exact hf (by unfold swB; rw [q, Bool.false_and]) σ hI
  | true =>
    rw [jt0]
    obtain ⟨i, hi, rfl⟩ := rngB_of (by omega) q
    have hm := (hI.2.me i).1
    have hc : (nI i).toNatClampNeg = i := cl (by omega)
    unfold swB at hf h
    rw [q, hc, Bool.true_and] at h hf
    unfold sx_isPlace wx_isPlace sx_in
    dsimp only
    rw [cl (by omega), show xA_menuMany σ i = _ from hI.ml hi, inB_rng (by omega), inB_rng (by omega)]
    refine ⟨vp_in_nI hi (by omega), j01_nz _, ?_⟩
    cases q1 : rngB a (vme V i).length with
    | false => rw [jf0]; exact hf (by rw [q1, Bool.false_and]) σ hI
    | true =>
      rw [jt0]
      refine ⟨vp_in_nI hi (by omega), j01_nz _, ?_⟩
      cases q2 : rngB b (vme V i).length with
      | false => rw [jf0]; exact hf (by rw [q2, Bool.false_and, Bool.and_false]) σ hI
      | true =>
        rw [jt0]
        by_cases q3 : a = b
        · rw [if_pos q3]; exact hf (by rw [decide_eq_true q3, Bool.not_true, Bool.and_false, Bool.and_false]) σ hI
        · rw [if_neg q3]
          rw [q1, q2, decide_eq_false q3, if_pos (by decide)] at h
          obtain ⟨j, hj, rfl⟩ := rngB_of (by omega) q1
          obtain ⟨k, hk, rfl⟩ := rngB_of (by omega) q2
          rw [cl (show j < 2 ^ 31 by omega), cl (show k < 2 ^ 31 by omega)] at h
          exact ox_swaps hI hi hj hk fun σ' hI' => h σ' hI'
theorem mswap_st {σ : St} {V : VV} {i j k : Nat} (hI : IM σ V) (hi : i < 3) (hj : j < (vme V i).length) (hk : k < (vme V i).length) : IM (mU_menus (mU_menus σ (nI (10 * i + j)) (nI ((vme V i).getD k 0))) (nI (10 * i + k)) (nI ((vme V i).getD j 0))) (vSMe V i (swapL (vme V i) j k)) := by
  have hm := (hI.2.me i).1
  have two : ∀ a b, sA (sA σ 14 a) 14 b = sA σ 14 b := fun a b => by
    unfold sA
    refine congrArg (fun f => (σ.1, f, σ.2.2)) (funext fun j => ?_)
    show (if j = 14 then b else if j = 14 then a else σ.2.1 j) = if j = 14 then b else σ.2.1 j
    by_cases q : j = 14
    · simp only [q, if_true]
    · simp only [q, if_false]
  unfold mU_menus uA
  rw [cl (by omega), cl (by omega), two]
  have h2 := swap_f (f := gA σ 14) (i := i) hj hk hm (fun x hx => hI.me hi hx)
  exact hI.me2 hi (swapL_len _ _ _) (swapL_ok hj hk (hI.2.meL i)) h2.1 h2.2
theorem om_swap {σ : St} {V : VV} {P : Int32 → St → Prop} (hI : IM σ V) (v a b : Int32) (h : ∀ σ', IM σ' (S_swap V v a b) → P (j01 (swB V v a b)) σ') : wm_swap σ v a b P := by
  have hI := hI.th 0
  refine ⟨V, hI, ?_⟩
  dsimp only
  unfold S_swap at h
  have hf : swB V v a b = false → ∀ σ', IM σ' V → P 0 σ' := fun z => by rw [z, if_neg (by decide)] at h; exact h
  cases q : laidV V v with
  | false =>
    rw [jf0]
    refine hf ?_ _ hI
    unfold swB
    cases q1 : rngB v 3 with
    | false => rfl
    | true =>
      obtain ⟨i, hi, rfl⟩ := rngB_of (by omega) q1
      rw [laidV_nI hi] at q
      have := of_decide_eq_false q
      rw [cl (by omega), Bool.true_and]
      unfold rngB
      have : ¬ a.toInt < 0 ∨ ¬ 0 ≤ a.toInt := by omega
      rcases this with z | z
      · rw [show decide (a.toInt < ((vme V i).length : Int)) = false from decide_eq_false (by omega), Bool.and_false, Bool.false_and]
      · rw [decide_eq_false z, Bool.false_and, Bool.false_and]
  | true =>
    rw [jt0]
    obtain ⟨i, hi, rfl, hl⟩ := laidV_of q
    have hm := (hI.2.me i).1
    have hc : (nI i).toNatClampNeg = i := cl (by omega)
    unfold swB at hf h
    rw [show rngB (nI i) 3 = true from by rw [rngB_nI (by omega)]; exact decide_eq_true hi, hc, Bool.true_and] at h hf
    unfold sm_in
    rw [cl (by omega), show mA_menuLong (mS_thrown σ 0) i = _ from hI.ml hi, inM_rng (by omega), inM_rng (by omega)]
    refine ⟨vp_in_nI hi (by omega), ?_⟩
    cases q1 : rngB a (vme V i).length with
    | false => rw [jf0]; exact hf (by rw [q1, Bool.false_and]) _ hI
    | true =>
      rw [jt0]
      refine ⟨vp_in_nI hi (by omega), ?_⟩
      cases q2 : rngB b (vme V i).length with
      | false => rw [jf0]; exact hf (by rw [q2, Bool.false_and, Bool.and_false]) _ hI
      | true =>
        rw [jt0]
        by_cases q3 : a = b
        · rw [if_pos q3]; exact hf (by rw [decide_eq_true q3, Bool.not_true, Bool.and_false, Bool.and_false]) _ hI
        · rw [if_neg q3]
          rw [q1, q2, decide_eq_false q3, if_pos (by decide)] at h
          obtain ⟨j, hj, rfl⟩ := rngB_of (by omega) q1
          obtain ⟨k, hk, rfl⟩ := rngB_of (by omega) q2
          rw [cl (show j < 2 ^ 31 by omega), cl (show k < 2 ^ 31 by omega)] at h
          rw [mul10, nI_add, nI_add]
          refine ⟨vp_in_nI (by omega) (by omega), vp_in_nI (by omega) (by omega), vp_in_nI (by omega) (by omega), vp_in_nI (by omega) (by omega), ?_⟩
          rw [cl (by omega), cl (by omega), show mA_menus (mS_thrown σ 0) (10 * i + k) = _ from hI.me hi hk, show mA_menus (mS_thrown σ 0) (10 * i + j) = _ from hI.me hi hj]
          exact h _ (mswap_st hI hi hj hk)
/-! turn -/
def turnL (l : List Nat) : Nat → List Nat
  | 0 => l
  | k + 1 => swapL (turnL l k) k (l.length - 1 - k)
theorem turnL_len (l : List Nat) : ∀ k, (turnL l k).length = l.length := by
  intro k
  induction k with
  | zero => rfl
  | succ k ih => exact (swapL_len _ _ _).trans ih
def S_turn (V : VV) (v : Int32) : VV := if laidV V v = true then vSMe V v.toNatClampNeg (turnL (vme V v.toNatClampNeg) ((vme V v.toNatClampNeg).length / 2)) else V
theorem vSMe_me (V : VV) (i : Nat) (l : List Nat) : vme (vSMe V i l) i = l := if_pos rfl
theorem vSMe_two (V : VV) (i : Nat) (l m : List Nat) : vSMe (vSMe V i l) i m = vSMe V i m := by
  unfold vSMe vMk
  have : (fun j => if j = i then m else vme (vSMe V i l) j) = (fun j => if j = i then m else vme V j) := funext fun j => by
    by_cases q : j = i
    · rw [if_pos q, if_pos q]
    · rw [if_neg q, if_neg q]; show (if j = i then l else vme V j) = _; rw [if_neg q]
  show (_, _, _, _, _, (fun j => if j = i then m else vme (vSMe V i l) j), _) = _
  rw [this]; rfl
theorem vSMe_same (V : VV) (i : Nat) : vSMe V i (vme V i) = V := by
  have : (fun j => if j = i then vme V i else vme V j) = vme V := funext fun j => by
    by_cases q : j = i
    · rw [if_pos q, q]
    · rw [if_neg q]
  unfold vSMe
  rw [this]; rfl
theorem turnX_loop {V : VV} {i : Nat} {P : Int32 → St → Prop} (hi : i < 3) (h10 : (vme V i).length ≤ 10) (h : ∀ σ', IX σ' (vSMe V i (turnL (vme V i) ((vme V i).length / 2))) → P 1 σ') :
    ∀ m k : Nat, k + m = (vme V i).length / 2 → ∀ σ, IX σ (vSMe V i (turnL (vme V i) k)) → wx_turn_l12 P (m + 1) (nI i) (nI k) σ := by
  have e2 : ∀ k, (2 : Int32) * nI k = nI (2 * k) := fun k => by rw [show (2 : Int32) = nI 2 from rfl]; exact pk_mul 2 k
  have ln : ∀ k σ, IX σ (vSMe V i (turnL (vme V i) k)) → xA_menuMany σ i = nI (vme V i).length := fun k σ hI => by
    have := hI.ml hi; rw [vSMe_me, turnL_len] at this; exact this
  intro m
  induction m with
  | zero =>
    intro k hk σ hI
    rw [wx_turn_l12_s]
    refine ⟨vp_in_nI hi (by omega), ?_⟩
    rw [cl (by omega), ln k σ hI, e2]
    have c : nI (vme V i).length - 1 ≤ nI (2 * k) := by
      cases z : (vme V i).length with
      | zero => rw [show k = 0 by omega]; decide
      | succ n => rw [nI_pred]; exact (nI_leI (by omega) (by omega)).mpr (by omega)
    rw [if_pos c]
    rw [show k = (vme V i).length / 2 by omega] at hI
    exact h σ hI
  | succ m ih =>
    intro k hk σ hI
    rw [wx_turn_l12_s]
    refine ⟨vp_in_nI hi (by omega), ?_⟩
    rw [cl (by omega), ln k σ hI, e2, nI_lit1, pk_sub (show 1 ≤ (vme V i).length by omega), if_neg (nI_ge (by omega) (by omega)), pk_sub (show k ≤ (vme V i).length - 1 by omega)]
    refine ⟨vp_in_nI hi (by omega), ?_⟩
    have hl : (vme (vSMe V i (turnL (vme V i) k)) i).length = (vme V i).length := by rw [vSMe_me, turnL_len]
    refine ox_swaps hI hi (by rw [hl]; omega) (by rw [hl]; omega) fun σ' hI' => ?_
    rw [vSMe_me, vSMe_two] at hI'
    rw [← nI_lit1, nI_1]
    exact ih (k + 1) (by omega) σ' hI'
theorem ox_turn {σ : St} {V : VV} {P : Int32 → St → Prop} (hI : IX σ V) (v : Int32) (h : ∀ σ', IX σ' (S_turn V v) → P (j01 (laidV V v)) σ') : wx_turn σ v P := by
  refine ⟨V, hI, ?_⟩
  dsimp only
  unfold S_turn at h
  cases q : laidV V v with
  | false => rw [jf0]; rw [q, if_neg (by decide)] at h; exact h σ hI
  | true =>
    rw [jt0]; rw [q, if_pos rfl] at h
    obtain ⟨i, hi, rfl, hl⟩ := laidV_of q
    rw [cl (by omega)] at h
    exact ⟨_, turnX_loop hi (hI.2.me i).1 (fun σ' hI' => h σ' hI') ((vme V i).length / 2) 0 (by omega) σ (by show IX σ (vSMe V i (vme V i)); rw [vSMe_same]; exact hI)⟩
theorem turnM_loop {V : VV} {i : Nat} {P : Int32 → St → Prop} (hi : i < 3) (h10 : (vme V i).length ≤ 10) (h : ∀ σ', IM σ' (vSMe V i (turnL (vme V i) ((vme V i).length / 2))) → P 1 σ') :
    ∀ m k : Nat, k + m = (vme V i).length / 2 → 0 < (vme V i).length → ∀ σ, IM σ (vSMe V i (turnL (vme V i) k)) → wm_turn_l26 P (m + 1) (nI i) (nI k) (nI (vme V i).length - nI (k + 1)) σ := by
  intro m
  induction m with
  | zero =>
    intro k hk hpos σ hI
    rw [wm_turn_l26_s]
    rw [show k = (vme V i).length / 2 by omega] at hI ⊢
    have c : nI (vme V i).length - nI ((vme V i).length / 2 + 1) ≤ nI ((vme V i).length / 2) := by
      rw [pk_sub (show (vme V i).length / 2 + 1 ≤ (vme V i).length by omega)]
      exact (nI_leI (by omega) (by omega)).mpr (by omega)
    rw [if_pos c]
    exact h σ hI
  | succ m ih =>
    intro k hk hpos σ hI
    have hl : (vme (vSMe V i (turnL (vme V i) k)) i).length = (vme V i).length := by rw [vSMe_me, turnL_len]
    have hg : ∀ x, x < (vme V i).length → mA_menus σ (10 * i + x) = nI ((turnL (vme V i) k).getD x 0) := fun x hx => by
      have := hI.me hi (k := x) (by rw [hl]; exact hx); rw [vSMe_me] at this; exact this
    rw [wm_turn_l26_s, pk_sub (show k + 1 ≤ (vme V i).length by omega), if_neg (nI_ge (by omega) (by omega)), mul10, nI_add, nI_add]
    refine ⟨vp_in_nI (by omega) (by omega), vp_in_nI (by omega) (by omega), vp_in_nI (by omega) (by omega), vp_in_nI (by omega) (by omega), ?_⟩
    rw [cl (by omega), cl (by omega), hg _ (by omega), hg _ (by omega), nI_1, nI_m1 (by omega)]
    have h9 := mswap_st hI hi (j := k) (k := (vme V i).length - (k + 1)) (by rw [hl]; omega) (by rw [hl]; omega)
    rw [vSMe_me, vSMe_two] at h9
    have h8 := ih (k + 1) (by omega) hpos _ (by show IM _ (vSMe V i (swapL (turnL (vme V i) k) k ((vme V i).length - 1 - k))); rw [show (vme V i).length - 1 - k = (vme V i).length - (k + 1) by omega]; exact h9)
    by_cases q : k + 2 ≤ (vme V i).length
    · rw [pk_sub (show k + 1 + 1 ≤ (vme V i).length by omega)] at h8
      rw [show (vme V i).length - (k + 1) - 1 = (vme V i).length - (k + 1 + 1) by omega]
      exact h8
    · omega
theorem om_turn {σ : St} {V : VV} {P : Int32 → St → Prop} (hI : IM σ V) (v : Int32) (h : ∀ σ', IM σ' (S_turn V v) → P (j01 (laidV V v)) σ') : wm_turn σ v P := by
  have hI := hI.th 0
  refine ⟨V, hI, ?_⟩
  dsimp only
  unfold S_turn at h
  cases q : laidV V v with
  | false => rw [jf0]; rw [q, if_neg (by decide)] at h; exact h _ hI
  | true =>
    rw [jt0]; rw [q, if_pos rfl] at h
    obtain ⟨i, hi, rfl, hl⟩ := laidV_of q
    rw [cl (by omega)] at h
    refine ⟨vp_in_nI hi (by omega), (vme V i).length / 2 + 1, ?_⟩
    rw [cl (by omega), show mA_menuLong (mS_thrown σ 0) i = _ from hI.ml hi, nI_lit1]
    exact turnM_loop hi (hI.2.me i).1 (fun σ' hI' => h σ' hI') ((vme V i).length / 2) 0 (by omega) hl _ (by show IM _ (vSMe V i (vme V i)); rw [vSMe_same]; exact hI)
/-! rare -/
def itsV (V : VV) (s : Nat) : Nat := bitsOf (fun d => (vst V d).testBit s) (vn V)
def rrV (V : VV) : Nat → Nat × Nat
  | 0 => (10, 0)
  | s + 1 => if itsV V s = 0 ∨ ((rrV V s).1 ≠ 10 ∧ pc (rrV V s).2 ≤ pc (itsV V s)) then rrV V s else (s, itsV V s)
def R_rare (V : VV) : Int32 := if (rrV V 8).1 = 10 then -2 else nI (rrV V 8).1
def S_rare (V : VV) : VV := if (rrV V 8).1 = 10 then V else vSRow V [nI (rrV V 8).2]
theorem rrV_s1 {V : VV} {s : Nat} (h : itsV V s = 0 ∨ ((rrV V s).1 ≠ 10 ∧ pc (rrV V s).2 ≤ pc (itsV V s))) : rrV V (s + 1) = rrV V s := if_pos h
theorem rrV_s2 {V : VV} {s : Nat} (h : ¬ (itsV V s = 0 ∨ ((rrV V s).1 ≠ 10 ∧ pc (rrV V s).2 ≤ pc (itsV V s)))) : rrV V (s + 1) = (s, itsV V s) := if_neg h
theorem itsV_lt {V : VV} (h : WV V) (s : Nat) : itsV V s < 1024 := Nat.lt_of_lt_of_le (bitsOf_lt _ _) (pow_le_1024 h.n)
theorem rrV_b {V : VV} (h : WV V) : ∀ s, s ≤ 8 → (rrV V s).2 < 1024 ∧ ((rrV V s).1 < s ∨ (rrV V s).1 = 10) := by
  intro s
  induction s with
  | zero => intro _; exact ⟨by show 0 < 1024; omega, Or.inr rfl⟩
  | succ s ih =>
    intro hs
    obtain ⟨a, b⟩ := ih (by omega)
    unfold rrV
    split
    · exact ⟨a, by omega⟩
    · exact ⟨itsV_lt h s, Or.inl (by show s < s + 1; omega)⟩
theorem rrV_10 {V : VV} : ∀ s, s ≤ 8 → (rrV V s).1 = 10 → ∀ k, k < s → itsV V k = 0 := by
  intro s
  induction s with
  | zero => intro _ _ k hk; omega
  | succ s ih =>
    intro hs h k hk
    unfold rrV at h
    by_cases q : itsV V s = 0 ∨ ((rrV V s).1 ≠ 10 ∧ pc (rrV V s).2 ≤ pc (itsV V s))
    · rw [if_pos q] at h
      rcases q with q | q
      · by_cases e : k = s
        · rw [e]; exact q
        · exact ih (by omega) h k (by omega)
      · exact absurd h q.1
    · rw [if_neg q] at h
      have : s = 10 := h
      omega
theorem rrV_pos {V : VV} (h : WV V) (hn : 0 < vn V) : (rrV V 8).1 ≠ 10 := by
  intro z
  have hd := h.d (d := 0) hn
  have h0 := rrV_10 8 (Nat.le_refl _) z
  have : vst V 0 = 0 := tb_ext fun j => by
    rw [Nat.zero_testBit]
    rcases Nat.lt_or_ge j 8 with q | q
    · have h1 := h0 j q
      have h2 := bitsOf_tb (fun d => (vst V d).testBit j) (vn V) 0
      unfold itsV at h1
      rw [h1, Nat.zero_testBit, decide_eq_true hn, Bool.true_and] at h2
      exact h2.symm
    · exact tb_lt (n := 8) hd.2.1 q
  omega
theorem rrV_0 {V : VV} (hn : vn V = 0) : ∀ s, rrV V s = (10, 0) := by
  intro s
  induction s with
  | zero => rfl
  | succ s ih =>
    unfold rrV
    rw [if_pos (Or.inl (by unfold itsV; rw [hn]; rfl))]
    exact ih
theorem rareX_in {V : VV} {s bi : Nat} {b1 b2 : Int32} {P : Int32 → St → Prop} {K85 : Int32 → Int32 → St → Prop} {K90 : Int32 → Int32 → Int32 → St → Prop} {σ : St} (hI : IX σ V) (hs : s < 8) (h2 : b2 = nI bi) (hbi : bi < 1024)
    (h85 : itsV V s ≠ 0 → (b1 < 0 ∨ ¬ pc bi ≤ pc (itsV V s)) → K85 (nI s) (nI (itsV V s)) σ) (h90 : (itsV V s = 0 ∨ (¬ b1 < 0 ∧ pc bi ≤ pc (itsV V s))) → K90 b1 b2 (nI s) σ) :
    ∀ m d : Nat, d + m = vn V → wx_rare_l19 P K85 K90 (m + 1) b1 b2 (nI s) (nI (bitsOf (fun d => (vst V d).testBit s) d)) (nI d) σ := by
  have hn := hI.2.n
  intro m
  induction m with
  | zero =>
    intro d hd
    rw [wx_rare_l19_s, show xI_dishes σ = _ from hI.n, if_pos (by rw [show d = vn V by omega]; exact Int32.le_refl _), show d = vn V by omega]
    have hlt := itsV_lt hI.2 s
    change (if nI (itsV V s) = 0 then K90 b1 b2 (nI s) σ else if b1 < 0 then K85 (nI s) (nI (itsV V s)) σ else if bitC (nI (itsV V s)) < bitC b2 then K85 (nI s) (nI (itsV V s)) σ else K90 b1 b2 (nI s) σ)
    have p1 := pc_le (itsV V s)
    have p2 := pc_le bi
    rw [h2, bitC_nI (by omega), bitC_nI (by omega)]
    rw [h2] at h90
    simp only [nI_eq0 (show itsV V s < 2 ^ 31 by omega), nI_ltI (show pc (itsV V s) < 2 ^ 31 by omega) (show pc bi < 2 ^ 31 by omega)]
    by_cases q : itsV V s = 0
    · rw [if_pos q]; exact h90 (Or.inl q)
    · rw [if_neg q]
      by_cases q2 : b1 < 0
      · rw [if_pos q2]; exact h85 q (Or.inl q2)
      · rw [if_neg q2]
        by_cases q3 : pc (itsV V s) < pc bi
        · rw [if_pos q3]; exact h85 q (Or.inr (by omega))
        · rw [if_neg q3]; exact h90 (Or.inr ⟨q2, by omega⟩)
  | succ m ih =>
    intro d hd
    have ih1 := ih (d + 1) (by omega)
    rw [bitsOf_s] at ih1
    have hd2 := hI.2.d (d := d) (by omega)
    rw [wx_rare_l19_s, show xI_dishes σ = _ from hI.n, if_neg (nI_ge (by omega) (by omega)), cl (by omega), show xA_stuffs σ d = _ from hI.st (by omega)]
    unfold sx_has wx_rare_j52
    rw [hasB_nI (by omega) (by omega), nI_1, nI_shl1 _ (by omega), nI_or, show nI (bitsOf (fun d => (vst V d).testBit s) d) ||| (0 : Int32) = nI (bitsOf (fun d => (vst V d).testBit s) d) from by rw [lit0', nI_or, Nat.or_zero]]
    refine ⟨vp_in_nI (by omega) (by omega), ?_⟩
    cases q : (vst V d).testBit s with
    | false => rw [jf0]; rw [q, if_neg (by decide), Nat.or_zero] at ih1; exact ih1
    | true => rw [jt0]; rw [q, if_pos rfl] at ih1; exact ih1
theorem rareX_loop {V : VV} {P : Int32 → St → Prop} {σ : St} (hI : IX σ V) (h : ∀ σ', IX σ' (S_rare V) → P (R_rare V) σ') : ∀ m s : Nat, s + m = 8 → wx_rare_l7 P (m + 1) (if (rrV V s).1 = 10 then -2 else nI (rrV V s).1) (nI (rrV V s).2) (nI s) σ := by
  have hw := hI.2
  intro m
  induction m with
  | zero =>
    intro s hs
    rw [wx_rare_l7_s, show s = 8 by omega, if_pos (by decide)]
    unfold R_rare S_rare at h
    have hb := rrV_b hw 8 (Nat.le_refl _)
    by_cases q : (rrV V 8).1 = 10
    · rw [if_pos q]; rw [if_pos q, if_pos q] at h; rw [if_neg (by decide)]; exact h σ hI
    · rw [if_neg q]; rw [if_neg q, if_neg q] at h
      rw [if_pos (nI_ge0 (by omega))]
      exact ⟨_, hI.row0, by show 0 < 12; omega, fun σ' h' _ _ => h σ' h'⟩
  | succ m ih =>
    intro s hs
    have ih1 := ih (s + 1) (by omega)
    have hb := rrV_b hw s (by omega)
    rw [wx_rare_l7_s, show (8 : Int32) = nI 8 from rfl, if_neg (nI_ge (by omega) (by omega))]
    have neg : ((if (rrV V s).1 = 10 then -2 else nI (rrV V s).1) < (0 : Int32)) ↔ (rrV V s).1 = 10 := by
      by_cases q : (rrV V s).1 = 10
      · rw [if_pos q]; exact ⟨fun _ => q, fun _ => by decide⟩
      · rw [if_neg q]; exact ⟨fun z => absurd z (nI_lt0 (by omega)), fun z => absurd z q⟩
    refine ⟨_, rareX_in hI (by omega) rfl hb.1 (fun a b => ?_) (fun a => ?_) (vn V) 0 (by omega)⟩
    · unfold wx_rare_j85 wx_rare_j90
      rw [nI_1]
      rw [neg] at b
      rw [rrV_s2 (fun z => z.elim a (fun z => b.elim (fun y => z.1 y) (fun y => y z.2)))] at ih1
      have h10 : ((s, itsV V s) : Nat × Nat).1 ≠ 10 := by show s ≠ 10; omega
      rw [if_neg h10] at ih1
      exact ih1
    · unfold wx_rare_j90
      rw [nI_1]
      rw [neg] at a
      rw [rrV_s1 a] at ih1
      exact ih1
theorem ox_rare {σ : St} {V : VV} {P : Int32 → St → Prop} (hI : IX σ V) (h : ∀ σ', IX σ' (S_rare V) → P (R_rare V) σ') : wx_rare σ P := ⟨_, rareX_loop hI h 8 0 (by omega)⟩
theorem rareM_in {V : VV} {s bi : Nat} {b1 b2 : Int32} {P : Int32 → St → Prop} {K85 : Int32 → Int32 → St → Prop} {K90 : Int32 → Int32 → Int32 → St → Prop} {σ : St} (hI : IM σ V) (hs : s < 8) (h2 : b2 = nI bi) (hbi : bi < 1024)
    (h85 : itsV V s ≠ 0 → (b1 = -1 ∨ ¬ pc bi ≤ pc (itsV V s)) → K85 (nI s) (nI (itsV V s)) σ) (h90 : (itsV V s = 0 ∨ (¬ b1 = -1 ∧ pc bi ≤ pc (itsV V s))) → K90 b1 b2 (nI s) σ) :
    ∀ m d : Nat, d + m = vn V → wm_rare_l33 P K85 K90 (m + 1) b1 b2 (nI s) (nI (bitsOf (fun d => (vst V d).testBit s) d)) (nI d) σ := by
  have hn := hI.2.n
  intro m
  induction m with
  | zero =>
    intro d hd
    rw [wm_rare_l33_s, show mI_dishes σ = _ from hI.n, if_pos (by rw [show d = vn V by omega]; exact Int32.le_refl _), show d = vn V by omega]
    have hlt := itsV_lt hI.2 s
    change (if nI (itsV V s) = 0 then K90 b1 b2 (nI s) σ else if b1 = -1 then K85 (nI s) (nI (itsV V s)) σ else if bitC (nI (itsV V s)) < bitC b2 then K85 (nI s) (nI (itsV V s)) σ else K90 b1 b2 (nI s) σ)
    have p1 := pc_le (itsV V s)
    have p2 := pc_le bi
    rw [h2, bitC_nI (by omega), bitC_nI (by omega)]
    rw [h2] at h90
    simp only [nI_eq0 (show itsV V s < 2 ^ 31 by omega), nI_ltI (show pc (itsV V s) < 2 ^ 31 by omega) (show pc bi < 2 ^ 31 by omega)]
    by_cases q : itsV V s = 0
    · rw [if_pos q]; exact h90 (Or.inl q)
    · rw [if_neg q]
      by_cases q2 : b1 = -1
      · rw [if_pos q2]; exact h85 q (Or.inl q2)
      · rw [if_neg q2]
        by_cases q3 : pc (itsV V s) < pc bi
        · rw [if_pos q3]; exact h85 q (Or.inr (by omega))
        · rw [if_neg q3]; exact h90 (Or.inr ⟨q2, by omega⟩)
  | succ m ih =>
    intro d hd
    have ih1 := ih (d + 1) (by omega)
    rw [bitsOf_s] at ih1
    have hd2 := hI.2.d (d := d) (by omega)
    rw [wm_rare_l33_s, show mI_dishes σ = _ from hI.n, if_neg (nI_ge (by omega) (by omega)), cl (by omega), show mA_stuffs σ d = _ from hI.st (by omega)]
    unfold sm_has wm_rare_j66
    rw [hasB_nI (by omega) (by omega), nI_1, nI_shl1 _ (by omega), nI_or, show nI (bitsOf (fun d => (vst V d).testBit s) d) ||| (0 : Int32) = nI (bitsOf (fun d => (vst V d).testBit s) d) from by rw [lit0', nI_or, Nat.or_zero]]
    refine ⟨vp_in_nI (by omega) (by omega), ?_⟩
    cases q : (vst V d).testBit s with
    | false => rw [jf0]; rw [q, if_neg (by decide), Nat.or_zero] at ih1; exact ih1
    | true => rw [jt0]; rw [q, if_pos rfl] at ih1; exact ih1
theorem rareM_loop {V : VV} {P : Int32 → St → Prop} {σ : St} (hI : IM σ V) (hpos : 0 < vn V) (h : ∀ σ', IM σ' (S_rare V) → P (R_rare V) σ') : ∀ m s : Nat, s + m = 8 → wm_rare_l21 P (m + 1) (lI (rrV V s).1) (nI (rrV V s).2) (nI s) σ := by
  have hw := hI.2
  intro m
  induction m with
  | zero =>
    intro s hs
    rw [wm_rare_l21_s, show s = 8 by omega, if_pos (by decide)]
    unfold R_rare S_rare at h
    have q := rrV_pos hw hpos
    rw [if_neg q, if_neg q] at h
    refine ⟨_, hI.row0, by show 0 < 12; omega, fun σ' h' _ _ => ?_⟩
    rw [lI_l q]
    exact h σ' h'
  | succ m ih =>
    intro s hs
    have ih1 := ih (s + 1) (by omega)
    have hb := rrV_b hw s (by omega)
    rw [wm_rare_l21_s, show (8 : Int32) = nI 8 from rfl, if_neg (nI_ge (by omega) (by omega))]
    have neg : lI (rrV V s).1 = -1 ↔ (rrV V s).1 = 10 := lI_m1 (by omega)
    refine ⟨_, rareM_in hI (by omega) rfl hb.1 (fun a b => ?_) (fun a => ?_) (vn V) 0 (by omega)⟩
    · unfold wm_rare_j100 wm_rare_j105
      rw [nI_1]
      rw [neg] at b
      rw [rrV_s2 (fun z => z.elim a (fun z => b.elim (fun y => z.1 y) (fun y => y z.2)))] at ih1
      have h10 : ¬ ((s, itsV V s) : Nat × Nat).1 = 10 := by show ¬ s = 10; omega
      rw [lI_l h10] at ih1
      exact ih1
    · unfold wm_rare_j105
      rw [nI_1]
      rw [neg] at a
      rw [rrV_s1 a] at ih1
      exact ih1
theorem om_rare {σ : St} {V : VV} {P : Int32 → St → Prop} (hI : IM σ V) (h : ∀ σ', IM σ' (S_rare V) → P (R_rare V) σ') : wm_rare σ P := by
  have hI := hI.th 0
  have hn := hI.2.n
  unfold wm_rare
  rw [show mI_dishes (mS_thrown σ 0) = _ from hI.n]
  simp only [nI_eq0 (show vn V < 2 ^ 31 by omega)]
  by_cases q : vn V = 0
  · rw [if_pos q]
    unfold R_rare S_rare at h
    rw [rrV_0 q, if_pos rfl, if_pos rfl] at h
    exact h _ hI
  · rw [if_neg q]
    exact ⟨_, rareM_loop hI (by omega) h 8 0 (by omega)⟩
