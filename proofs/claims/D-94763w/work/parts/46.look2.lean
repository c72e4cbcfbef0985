/-! look -/
def R_look (V : VV) (v : Int32) : Int32 := if laidV V v = true then (if badK V (vme V v.toNatClampNeg) < (vme V v.toNatClampNeg).length then nI (badK V (vme V v.toNatClampNeg)) else -2) else -3
def S_look (V : VV) (v : Int32) : VV := if laidV V v = true then vSRow V [whyK V (vme V v.toNatClampNeg), nI (costK V (vme V v.toNatClampNeg) (badK V (vme V v.toNatClampNeg))), nI (hunK V (vme V v.toNatClampNeg) (badK V (vme V v.toNatClampNeg)))] else V
theorem laidV_of {V : VV} {v : Int32} (h : laidV V v = true) : ∃ i, i < 3 ∧ v = nI i ∧ 0 < (vme V i).length := by
  have h2 := h
  unfold laidV at h2
  rw [Bool.and_eq_true] at h2
  obtain ⟨i, hi, rfl⟩ := rngB_of (by omega) h2.1
  rw [laidV_nI hi] at h
  exact ⟨i, hi, rfl, of_decide_eq_true h⟩
theorem wholeV_of {V : VV} {v : Int32} (h : wholeV V v = true) : ∃ i, i < 3 ∧ v = nI i ∧ 0 < (vme V i).length ∧ ∀ k, k < (vme V i).length → (vme V i).getD k 0 ≠ 99 := by
  have h2 := h
  unfold wholeV at h2
  rw [Bool.and_eq_true] at h2
  obtain ⟨i, hi, rfl, hl⟩ := laidV_of h2.1
  rw [wholeV_nI hi h2.1] at h
  refine ⟨i, hi, rfl, hl, fun k hk e => of_decide_eq_true h ?_⟩
  rw [← e]; exact getD_mem hk
theorem badK_le (V : VV) (l : List Nat) : badK V l ≤ l.length := (lst_spec _ _).1
theorem badK_fine (V : VV) (l : List Nat) : fineTo V l (badK V l) := fun j hj => by
  have := (lst_spec (fun j => decide (wAt V l j ≠ 0)) l.length).2.1 j hj
  exact Decidable.byContradiction fun z => absurd (of_decide_eq_false this) (fun q => q z)
theorem lookX_loop {V : VV} {i K : Nat} {r : Int32} {P : Int32 → St → Prop} (hi : i < 3) (hK : K ≤ (vme V i).length) (hf : fineTo V (vme V i) K) (hr : r = (if K < (vme V i).length then nI K else -2)) {w : Int32}
    (h : ∀ σ', IX σ' (vSRow V [w, nI (costK V (vme V i) K), nI (hunK V (vme V i) K)]) → P r σ') :
    ∀ m k : Nat, k + m = K → ∀ σ, IX σ V → gI σ 29 = w → wx_look_l25 P (m + 1) (nI i) r (nI (costK V (vme V i) k)) (nI (hunK V (vme V i) k)) (nI k) σ := by
  intro m
  induction m with
  | zero =>
    intro k hk σ hI hw
    have hm := (hI.2.me i).1
    have ek : k = K := by omega
    have go : ∀ e, e = nI K → wx_look_j41 P (wx_look_l25 P 0) (nI i) r (nI (costK V (vme V i) k)) (nI (hunK V (vme V i) k)) (nI k) (nI k) e σ := by
      intro e he
      unfold wx_look_j41
      rw [if_pos (by rw [he, ek]; exact Int32.le_refl _)]
      refine ⟨_, hI.row0, by show 0 < 12; omega, fun σ1 h1 _ _ => ⟨_, h1, by show 1 < 12; omega, fun σ2 h2 _ _ => ⟨_, h2, by show 2 < 12; omega, fun σ3 h3 _ _ => ?_⟩⟩⟩
      refine h σ3 ?_
      have : xI_whyThen (xS_rowMany σ 0) = w := hw
      rw [this, ek] at h3
      exact h3
    rw [wx_look_l25_s]
    by_cases q : K < (vme V i).length
    · rw [if_pos q] at hr
      rw [if_pos (by rw [hr]; exact nI_ge0 (by omega))]
      exact go _ hr
    · rw [if_neg q] at hr
      rw [if_neg (by rw [hr]; decide)]
      refine ⟨vp_in_nI hi (by omega), ?_⟩
      rw [cl (by omega), show xA_menuMany σ i = _ from hI.ml hi]
      exact go _ (by congr 1; omega)
  | succ m ih =>
    intro k hk σ hI hw
    have hm := (hI.2.me i).1
    have hn := hI.2.n
    have hd := fine_lt (hI.2.meL i) hK hf (show k < K by omega)
    have go : ∀ e, e = nI K → wx_look_j41 P (wx_look_l25 P (m + 1)) (nI i) r (nI (costK V (vme V i) k)) (nI (hunK V (vme V i) k)) (nI k) (nI k) e σ := by
      intro e he
      unfold wx_look_j41
      rw [if_neg (by rw [he]; exact nI_ge (by omega) (by omega))]
      refine ⟨V, i, k, hI, rfl, rfl, hi, by omega, ?_⟩
      dsimp only
      refine ⟨vp_in_nI (by omega) (by omega), V, i, k, hI, rfl, rfl, hi, by omega, V, _, hI, rfl, hd, ?_⟩
      dsimp only
      rw [cl (by omega), show xA_cost σ ((vme V i).getD k 0) = _ from hI.co hd, nI_add, nI_or, nI_1]
      exact ih (k + 1) (by omega) σ hI hw
    rw [wx_look_l25_s]
    by_cases q : K < (vme V i).length
    · rw [if_pos q] at hr
      rw [if_pos (by rw [hr]; exact nI_ge0 (by omega))]
      exact go _ hr
    · rw [if_neg q] at hr
      rw [if_neg (by rw [hr]; decide)]
      refine ⟨vp_in_nI hi (by omega), ?_⟩
      rw [cl (by omega), show xA_menuMany σ i = _ from hI.ml hi]
      exact go _ (by congr 1; omega)
theorem ox_look {σ : St} {V : VV} {P : Int32 → St → Prop} (hI : IX σ V) (v : Int32) (h : ∀ σ', IX σ' (S_look V v) → P (R_look V v) σ') : wx_look σ v P := by
  refine ⟨V, hI, ?_⟩
  dsimp only
  unfold R_look S_look at h
  cases q : laidV V v with
  | false => rw [jf0]; simp only [q, Bool.false_eq_true, if_false] at h; exact h σ hI
  | true =>
    rw [jt0]; simp only [q, if_true] at h
    obtain ⟨i, hi, rfl, hl⟩ := laidV_of q
    rw [cl (by omega)] at h
    refine ox_firstBad' hI hi fun σ' hI' e hf => ⟨_, lookX_loop hi (badK_le _ _) hf rfl (w := whyK V (vme V i)) (fun σ'' h'' => h σ'' h'') (badK V (vme V i)) 0 (by omega) σ' hI' e⟩
theorem om_look {σ : St} {V : VV} {P : Int32 → St → Prop} (hI : IM σ V) (v : Int32) (h : ∀ σ', IM σ' (S_look V v) → P (R_look V v) σ') : wm_look σ v P := by
  have hI := hI.th 0
  refine ⟨V, hI, ?_⟩
  dsimp only
  unfold R_look S_look at h
  cases q : laidV V v with
  | false => rw [jf0]; simp only [q, Bool.false_eq_true, if_false] at h; exact h _ hI
  | true =>
    rw [jt0]; simp only [q, if_true] at h
    obtain ⟨i, hi, rfl, hl⟩ := laidV_of q
    rw [cl (by omega)] at h
    have hm := (hI.2.me i).1
    have tl : ∀ (K : Nat), K ≤ (vme V i).length → ∀ σ', IM σ' V → LKm σ' V (vme V i) K → ∀ w, gI σ' 30 = w → (∀ σ'', IM σ'' (vSRow V [w, nI (costK V (vme V i) K), nI (hunK V (vme V i) K)]) → P (if K < (vme V i).length then nI K else -2) σ'') →
        sm_tell (mS_rowMany σ' 0) (mI_whyNot (mS_rowMany σ' 0)) (fun σ36 => sm_tell σ36 (mI_costTill σ36) (fun σ44 => sm_tell σ44 (mI_hungryTill σ44) (fun σ52 => vp_in (nI i) 3 ∧ (if (nI K) = (mA_menuLong σ52 (nI i).toNatClampNeg) then (wm_look_j71 P (-2) σ52) else (wm_look_j71 P (nI K) σ52))))) := by
      intro K hK σ' hI' hL w ew fin
      refine ⟨_, hI'.row0, by show 0 < 12; omega, fun σ1 h1 k1 _ => ⟨_, h1, by show 1 < 12; omega, fun σ2 h2 k2 _ => ⟨_, h2, by show 2 < 12; omega, fun σ3 h3 k3 _ => ?_⟩⟩⟩
      rw [show mI_costTill σ1 = nI (costK V (vme V i) K) from (k1.1 31 (by decide)).trans hL.2.2.1, show mI_hungryTill σ2 = nI (hunK V (vme V i) K) from (k2.1 32 (by decide)).trans ((k1.1 32 (by decide)).trans hL.2.2.2), show mI_whyNot (mS_rowMany σ' 0) = w from ew] at h3
      refine ⟨vp_in_nI hi (by omega), ?_⟩
      have f3 := fin σ3 h3
      have e3 : mA_menuLong σ3 i = nI (vme V i).length := h3.ml hi
      rw [cl (by omega), e3]
      simp only [nI_eq (show K < 2 ^ 31 by omega) (show (vme V i).length < 2 ^ 31 by omega)]
      by_cases q2 : K = (vme V i).length
      · rw [if_pos q2]; rw [if_neg (by omega)] at f3; exact f3
      · rw [if_neg q2]; rw [if_pos (by omega)] at f3; exact f3
    refine om_look0 hI fun σ1 hI1 hL h0 => ?_
    refine om_lookOn hI1 hi (pre := []) (l := vme V i) rfl (fun d hd => by cases hd) (by show 0 ≤ 10; omega) (fun j hj => absurd hj (by show ¬ j < 0; omega)) (hL _) h0 (fun k hpk hk hf hw σ' hI' hL' e => ?_) (fun hf σ' hI' hL' e => ?_)
    · rw [badK_at hk hf hw, whyK_at hk hf hw] at h
      exact tl k (by omega) σ' hI' hL' _ e h
    · rw [badK_all hf, whyK_all hf] at h
      exact tl _ (by omega) σ' hI' hL' _ e h
/-! joined -/
def R_joined (V : VV) (v w : Int32) : Int32 := if wholeV V v = true ∧ wholeV V w = true then (if badK V (vme V v.toNatClampNeg ++ vme V w.toNatClampNeg) < (vme V v.toNatClampNeg ++ vme V w.toNatClampNeg).length then nI (badK V (vme V v.toNatClampNeg ++ vme V w.toNatClampNeg)) else -2) else -3
def S_joined (V : VV) (v w : Int32) : VV := if wholeV V v = true ∧ wholeV V w = true then vSRow V [whyK V (vme V v.toNatClampNeg ++ vme V w.toNatClampNeg)] else V
theorem joinedX_loop {V : VV} {i j : Nat} {l : List Nat} {P : Int32 → St → Prop} (hi : i < 3) (hj : j < 3) (hl : l = vme V i ++ vme V j) (hk99 : ∀ k, k < l.length → l.getD k 0 < vn V)
    (h1 : ∀ k, k < l.length → fineTo V l k → wAt V l k ≠ 0 → ∀ σ', IX σ' (vSRow V [wAt V l k]) → P (nI k) σ')
    (h2 : fineTo V l l.length → ∀ σ', IX σ' (vSRow V [0]) → P (-2) σ') :
    ∀ m k : Nat, k + m = l.length → fineTo V l k → ∀ σ, IX σ V → wx_joined_l34 P (wx_joined_j146 P) (m + 2) (nI i) (nI j) (nI (setU l k)) (lI (lastU l k)) 0 (-2) (nI k) σ := by
  have hlen : l.length = (vme V i).length + (vme V j).length := by rw [hl, List.length_append]
  intro m
  induction m with
  | zero =>
    intro k hk hf σ hI
    have hm := (hI.2.me i).1
    have hm2 := (hI.2.me j).1
    rw [wx_joined_l34_s]
    refine ⟨vp_in_nI hi (by omega), vp_in_nI hj (by omega), ?_⟩
    rw [cl (by omega), cl (by omega), show xA_menuMany σ i = _ from hI.ml hi, show xA_menuMany σ j = _ from hI.ml hj, nI_add, if_pos (by rw [show k = (vme V i).length + (vme V j).length by omega]; exact Int32.le_refl _)]
    refine ⟨_, hI.row0, by show 0 < 12; omega, fun σ1 h1' _ _ => h2 (by rw [← show k = l.length by omega]; exact hf) σ1 h1'⟩
  | succ m ih =>
    intro k hk hf σ hI
    have hn := hI.2.n
    have hm := (hI.2.me i).1
    have hm2 := (hI.2.me j).1
    have hd := hk99 k (by omega)
    have hok : okL V l := fun d hd => by obtain ⟨x, hx, e⟩ := mem_getD hd; rw [← e]; exact Or.inl (hk99 x hx)
    rw [wx_joined_l34_s]
    refine ⟨vp_in_nI hi (by omega), vp_in_nI hj (by omega), ?_⟩
    rw [cl (by omega), cl (by omega), show xA_menuMany σ i = _ from hI.ml hi, show xA_menuMany σ j = _ from hI.ml hj, nI_add, if_neg (nI_ge (by omega) (by omega)), if_neg (by decide)]
    refine ⟨vp_in_nI hi (by omega), ?_⟩
    have fin : wx_joined_j102 P (wx_joined_l34 P (wx_joined_j146 P) (m + 2)) (nI i) (nI j) (nI (setU l k)) (lI (lastU l k)) (-2) (nI k) (nI (l.getD k 0)) σ := by
      have ew : wAt V l k = whyV V (setU l k) (lastU l k) (l.getD k 0) := by unfold wAt; rw [if_neg (by omega)]
      refine ⟨V, setU l k, lastU l k, l.getD k 0, hI, rfl, rfl, rfl, fine_set hok (by omega) hf, fine_lastx hok (by omega) hf, hd, ?_⟩
      dsimp only
      rw [← ew]
      unfold wx_joined_j127
      rw [nI_shl1 _ (by omega), nI_or, nI_1]
      by_cases q : 0 ≤ wAt V l k
      · have q0 := (wAt_ge _ _ _).mp q
        rw [if_pos q, q0]
        have h9 := ih (k + 1) (by omega) (fineTo_s hf q0) σ hI
        rw [setU_s, lastU_s, lI_lt hI.2 hd] at h9
        exact h9
      · rw [if_neg q]
        rw [wx_joined_l34_s]
        refine ⟨vp_in_nI hi (by omega), vp_in_nI hj (by omega), ?_⟩
        have hx : wx_joined_j146 P (wAt V l k) (nI k) σ := ⟨_, hI.row0, by show 0 < 12; omega, fun σ1 h1' _ _ => h1 k (by omega) hf (fun z => q ((wAt_ge _ _ _).mpr z)) σ1 h1'⟩
        split
        · exact hx
        · rw [if_pos (nI_ge0 (by omega))]; exact hx
    by_cases q : k < (vme V i).length
    · rw [if_neg (nI_ge (by omega) (by omega)), mul10, nI_add]
      refine ⟨vp_in_nI (by omega) (by omega), ?_⟩
      rw [cl (by omega), show xA_menu σ (10 * i + k) = nI (l.getD k 0) from by rw [hl, getD_app_l q]; exact hI.me hi q]
      exact fin
    · rw [if_pos ((nI_leI (by omega) (by omega)).mpr (by omega)), mul10, nI_add, pk_sub (show (vme V i).length ≤ 10 * j + k by omega)]
      refine ⟨vp_in_nI hi (by omega), vp_in_nI (by omega) (by omega), ?_⟩
      rw [cl (by omega), show 10 * j + k - (vme V i).length = 10 * j + (k - (vme V i).length) by omega, show xA_menu σ (10 * j + (k - (vme V i).length)) = nI (l.getD k 0) from by rw [hl, getD_app_r (by omega)]; exact hI.me hj (by omega)]
      exact fin
theorem app_lt {V : VV} {l m : List Nat} (h1 : ∀ k, k < l.length → l.getD k 0 < vn V) (h2 : ∀ k, k < m.length → m.getD k 0 < vn V) : ∀ k, k < (l ++ m).length → (l ++ m).getD k 0 < vn V := by
  intro k hk
  rw [List.length_append] at hk
  rcases Nat.lt_or_ge k l.length with q | q
  · rw [getD_app_l q]; exact h1 k q
  · rw [getD_app_r q]; exact h2 _ (by omega)
theorem ox_joined {σ : St} {V : VV} {P : Int32 → St → Prop} (hI : IX σ V) (v w : Int32) (h : ∀ σ', IX σ' (S_joined V v w) → P (R_joined V v w) σ') : wx_joined σ v w P := by
  refine ⟨V, hI, ?_⟩
  dsimp only
  unfold R_joined S_joined at h
  cases q : wholeV V v with
  | false => rw [jf0]; simp only [q, Bool.false_eq_true, false_and, if_false] at h; exact h σ hI
  | true =>
    rw [jt0]
    refine ⟨V, hI, ?_⟩
    dsimp only
    cases q2 : wholeV V w with
    | false => rw [jf0]; simp only [q2, Bool.false_eq_true, and_false, if_false] at h; exact h σ hI
    | true =>
      rw [jt0]; simp only [q, q2, and_self, if_true] at h
      obtain ⟨i, hi, rfl, hl, h99⟩ := wholeV_of q
      obtain ⟨j, hj, rfl, hl2, h992⟩ := wholeV_of q2
      rw [cl (by omega), cl (by omega)] at h
      have hlt : ∀ k, k < (vme V i ++ vme V j).length → (vme V i ++ vme V j).getD k 0 < vn V := app_lt (fun k hk => (me_lt hI.2 hk).resolve_right (h99 k hk)) (fun k hk => (me_lt hI.2 hk).resolve_right (h992 k hk))
      refine ⟨_, joinedX_loop hi hj rfl hlt (fun k hk hf hw σ' h' => ?_) (fun hf σ' h' => ?_) (vme V i ++ vme V j).length 0 (by omega) (fun j hj => absurd hj (by omega)) σ hI⟩
      · rw [badK_at hk hf hw, whyK_at hk hf hw, if_pos hk] at h; exact h σ' h'
      · rw [badK_all hf, whyK_all hf, if_neg (by omega)] at h; exact h σ' h'
theorem om_joined {σ : St} {V : VV} {P : Int32 → St → Prop} (hI : IM σ V) (v w : Int32) (h : ∀ σ', IM σ' (S_joined V v w) → P (R_joined V v w) σ') : wm_joined σ v w P := by
  have hI := hI.th 0
  refine ⟨V, hI, ?_⟩
  dsimp only
  unfold R_joined S_joined at h
  cases q : wholeV V v with
  | false => rw [jf0]; simp only [q, Bool.false_eq_true, false_and, if_false] at h; exact h _ hI
  | true =>
    rw [jt0]
    refine ⟨V, hI, ?_⟩
    dsimp only
    cases q2 : wholeV V w with
    | false => rw [jf0]; simp only [q2, Bool.false_eq_true, and_false, if_false] at h; exact h _ hI
    | true =>
      rw [jt0]; simp only [q, q2, and_self, if_true] at h
      obtain ⟨i, hi, rfl, hl, h99⟩ := wholeV_of q
      obtain ⟨j, hj, rfl, hl2, h992⟩ := wholeV_of q2
      rw [cl (by omega), cl (by omega)] at h
      have hm := (hI.2.me i).1
      have hm2 := (hI.2.me j).1
      have hlen : (vme V i ++ vme V j).length = (vme V i).length + (vme V j).length := List.length_append
      have loc : ∀ k, k < (vme V i).length → wAt V (vme V i ++ vme V j) k = wAt V (vme V i) k := by
        intro k hk
        have hs : ∀ x, x ≤ (vme V i).length → setU (vme V i ++ vme V j) x = setU (vme V i) x := by
          intro x
          induction x with
          | zero => intro _; rfl
          | succ x ih => intro hx; rw [setU_s, setU_s, ih (by omega), getD_app_l (by omega)]
        have hla : lastU (vme V i ++ vme V j) k = lastU (vme V i) k := by
          unfold lastU
          by_cases z : k = 0
          · rw [if_pos z, if_pos z]
          · rw [if_neg z, if_neg z, getD_app_l (by omega)]
        unfold wAt
        rw [getD_app_l hk, hs k (by omega), hla]
      have fin : ∀ k, k ≤ (vme V i ++ vme V j).length → ∀ σ', IM σ' V → ∀ x, gI σ' 30 = x → (x = 0 ↔ k = (vme V i ++ vme V j).length) → (∀ σ'', IM σ'' (vSRow V [x]) → P (if k < (vme V i ++ vme V j).length then nI k else -2) σ'') → wm_joined_j52 P (nI k) σ' := by
        intro k hk σ' hI' x ex hx f
        refine ⟨_, hI'.row0, by show 0 < 12; omega, fun σ1 h1 k1 _ => ?_⟩
        rw [show mI_whyNot (mS_rowMany σ' 0) = x from ex] at h1
        have f1 := f σ1 h1
        rw [show mI_whyNot σ1 = x from (k1.1 30 (by decide)).trans ex]
        by_cases z : x = 0
        · rw [if_pos z]; rw [if_neg (by have := hx.mp z; omega)] at f1; exact f1
        · rw [if_neg z]; rw [if_pos (by rcases Nat.lt_or_ge k (vme V i ++ vme V j).length with y | y; exact y; exact absurd (hx.mpr (by omega)) z)] at f1; exact f1
      refine om_look0 hI fun σ1 hI1 hL h0 => ?_
      refine om_lookOn hI1 hi (pre := []) (l := vme V i) rfl (fun d hd => by cases hd) (by show 0 ≤ 10; omega) (fun j hj => absurd hj (by show ¬ j < 0; omega)) (hL _) h0 (fun k hpk hk hf hw σ' hI' hL' e => ?_) (fun hf σ' hI' hL' e => ?_)
      · refine ⟨vp_in_nI hi (by omega), ?_⟩
        rw [cl (by omega), show mA_menuLong σ' i = _ from hI'.ml hi, if_neg (fun z => by have := (nI_eq (by show k - 0 < 2 ^ 31; omega) (by omega)).mp z; have e0 : ([] : List Nat).length = 0 := rfl; omega)]
        have hw' : wAt V (vme V i ++ vme V j) k ≠ 0 := by rw [loc k hk]; exact hw
        have hf' : fineTo V (vme V i ++ vme V j) k := fun x hx => by rw [loc x (by omega)]; exact hf x hx
        rw [badK_at (by omega) hf' hw', whyK_at (by omega) hf' hw', loc k hk] at h
        exact fin k (by omega) σ' hI' _ e ⟨fun z => absurd z hw, fun z => by omega⟩ h
      · refine ⟨vp_in_nI hi (by omega), ?_⟩
        rw [cl (by omega), show mA_menuLong σ' i = _ from hI'.ml hi, if_pos rfl]
        have hf' : fineTo V (vme V i ++ vme V j) (vme V i).length := fun x hx => by rw [loc x hx]; exact hf x hx
        have hL2 : LKm σ' V (vme V i ++ vme V j) (vme V i).length := by
          have e1 : ∀ x, x ≤ (vme V i).length → setU (vme V i ++ vme V j) x = setU (vme V i) x ∧ costK V (vme V i ++ vme V j) x = costK V (vme V i) x ∧ hunK V (vme V i ++ vme V j) x = hunK V (vme V i) x := by
            intro x
            induction x with
            | zero => intro _; exact ⟨rfl, rfl, rfl⟩
            | succ x ih =>
              intro hx
              obtain ⟨a, b, c⟩ := ih (by omega)
              refine ⟨by rw [setU_s, setU_s, a, getD_app_l (by omega)], ?_, ?_⟩
              · show costK V _ x + vco V _ = costK V _ x + vco V _
                rw [b, getD_app_l (by omega)]
              · show hunK V _ x ||| bitsOf (fun g => hungV V g ((vme V i ++ vme V j).getD x 0)) (vg V) = hunK V _ x ||| bitsOf (fun g => hungV V g ((vme V i).getD x 0)) (vg V)
                rw [c, getD_app_l (by omega)]
          obtain ⟨a, b, c⟩ := e1 _ (Nat.le_refl _)
          unfold LKm
          rw [a, b, c, show lastU (vme V i ++ vme V j) (vme V i).length = lastU (vme V i) (vme V i).length from by unfold lastU; rw [if_neg (by omega), if_neg (by omega), getD_app_l (by omega)]]
          exact hL'
        refine om_lookOn hI' hj (pre := vme V i) (l := vme V i ++ vme V j) rfl (hI.2.meL i) hm hf' hL2 e (fun k hpk hk hf hw σ' hI' hL' e => ?_) (fun hf σ' hI' hL' e => ?_)
        · rw [badK_at hk hf hw, whyK_at hk hf hw] at h
          rw [nI_add, show (vme V i).length + (k - (vme V i).length) = k by omega]
          exact fin k (by omega) σ' hI' _ e ⟨fun z => absurd z hw, fun z => by omega⟩ h
        · rw [badK_all hf, whyK_all hf] at h
          rw [nI_add, ← hlen]
          exact fin _ (by omega) σ' hI' _ e ⟨fun _ => rfl, fun _ => rfl⟩ h
