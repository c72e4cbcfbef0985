/-! PROOFS, first group: the small methods' specs hold -/
theorem vp_lit {i : Int32} {n : Nat} (h : decide (¬ (i < 0 ∨ n ≤ i.toNatClampNeg)) = true) : vp_in i n := by unfold vp_in; exact of_decide_eq_true h
theorem WV.n {V : VV} (h : WV V) : vn V ≤ 10 := h.1
theorem WV.g {V : VV} (h : WV V) : vg V ≤ 6 := h.2.1
theorem WV.h {V : VV} (h : WV V) : vh V < 2 ^ vn V := h.2.2.1
theorem WV.d {V : VV} (h : WV V) {d : Nat} (hd : d < vn V) : 0 < vst V d ∧ vst V d < 256 ∧ vco V d ≤ 99 ∧ vho V d ≤ 9 := h.2.2.2.1 d hd
theorem WV.gs {V : VV} (h : WV V) {g : Nat} (hg : g < vg V) : vlo V g < 256 ∧ vba V g < 256 := h.2.2.2.2.1 g hg
theorem WV.sto {V : VV} (h : WV V) {s : Nat} (hs : s < 8) : vsto V s ≤ 99 := h.2.2.2.2.2.1 s hs
theorem WV.la {V : VV} (h : WV V) : okLaw (vla V) := h.2.2.2.2.2.2.1
theorem WV.sv {V : VV} (h : WV V) : (vsv V).Nodup ∧ ∀ d ∈ vsv V, d < vn V := h.2.2.2.2.2.2.2.1
theorem WV.me {V : VV} (h : WV V) (i : Nat) : (vme V i).length ≤ 10 ∧ ∀ d ∈ vme V i, d < vn V ∨ d = 99 := h.2.2.2.2.2.2.2.2.1 i
theorem WV.tx {V : VV} (h : WV V) : (vtx V).length ≤ 80 ∧ ∀ b ∈ vtx V, b < 256 := h.2.2.2.2.2.2.2.2.2.1
theorem WV.row {V : VV} (h : WV V) : (vrow V).length ≤ 12 := h.2.2.2.2.2.2.2.2.2.2.1
theorem nodup_len {n : Nat} : ∀ (l : List Nat), l.Nodup → (∀ d ∈ l, d < n) → l.length ≤ n := by
  induction n with
  | zero =>
    intro l _ h
    cases l with
    | nil => exact Nat.le_refl _
    | cons a l => exact absurd (h a List.mem_cons_self) (by omega)
  | succ n ih =>
    intro l hn h
    have h1 := ih (l.erase n) (hn.erase n) (fun d hd => by
      have h2 := (hn.mem_erase_iff).mp hd
      have h3 := h d h2.2
      have h4 := h2.1
      omega)
    have h2 : l.length ≤ (l.erase n).length + 1 := by rw [List.length_erase]; split <;> omega
    omega
theorem WV.svl {V : VV} (h : WV V) : (vsv V).length ≤ vn V := nodup_len _ h.sv.1 h.sv.2
theorem IX.n {σ : St} {V : VV} (h : IX σ V) : gI σ 8 = nI (vn V) := h.1.1.1
theorem IX.g {σ : St} {V : VV} (h : IX σ V) : gI σ 9 = nI (vg V) := h.1.1.2.1
theorem IX.h {σ : St} {V : VV} (h : IX σ V) : gI σ 10 = nI (vh V) := h.1.1.2.2.1
theorem IX.sm {σ : St} {V : VV} (h : IX σ V) : gI σ 11 = nI (vsv V).length := h.1.1.2.2.2.1
theorem IX.tm {σ : St} {V : VV} (h : IX σ V) : gI σ 13 = nI (vtx V).length := h.1.1.2.2.2.2.1
theorem IX.rm {σ : St} {V : VV} (h : IX σ V) : gI σ 44 = nI (vrow V).length := h.1.1.2.2.2.2.2
theorem IX.st {σ : St} {V : VV} (h : IX σ V) {d : Nat} (hd : d < vn V) : gA σ 0 d = nI (vst V d) := (h.1.2.1 d hd).1
theorem IX.co {σ : St} {V : VV} (h : IX σ V) {d : Nat} (hd : d < vn V) : gA σ 1 d = nI (vco V d) := (h.1.2.1 d hd).2.1
theorem IX.ho {σ : St} {V : VV} (h : IX σ V) {d : Nat} (hd : d < vn V) : gA σ 2 d = nI (vho V d) := (h.1.2.1 d hd).2.2
theorem IX.lo {σ : St} {V : VV} (h : IX σ V) {d : Nat} (hd : d < vg V) : gA σ 3 d = nI (vlo V d) := (h.1.2.2.1 d hd).1
theorem IX.ba {σ : St} {V : VV} (h : IX σ V) {d : Nat} (hd : d < vg V) : gA σ 4 d = nI (vba V d) := (h.1.2.2.1 d hd).2
theorem IX.sto {σ : St} {V : VV} (h : IX σ V) {d : Nat} (hd : d < 8) : gA σ 5 d = nI (vsto V d) := h.1.2.2.2.1 d hd
theorem IX.la {σ : St} {V : VV} (h : IX σ V) {d : Nat} (hd : d < 3) : gA σ 6 d = nI (vla V d) := h.1.2.2.2.2.1 d hd
theorem IX.sv {σ : St} {V : VV} (h : IX σ V) {d : Nat} (hd : d < (vsv V).length) : gA σ 7 d = nI ((vsv V).getD d 0) := h.1.2.2.2.2.2.1 d hd
theorem IX.tx {σ : St} {V : VV} (h : IX σ V) {d : Nat} (hd : d < (vtx V).length) : gA σ 12 d = nI ((vtx V).getD d 0) := h.1.2.2.2.2.2.2.1 d hd
theorem IX.ml {σ : St} {V : VV} (h : IX σ V) {i : Nat} (hi : i < 3) : gA σ 27 i = nI (vme V i).length := (h.1.2.2.2.2.2.2.2.1 i hi).1
theorem IX.me {σ : St} {V : VV} (h : IX σ V) {i k : Nat} (hi : i < 3) (hk : k < (vme V i).length) : gA σ 26 (10 * i + k) = nI ((vme V i).getD k 0) := (h.1.2.2.2.2.2.2.2.1 i hi).2 k hk
theorem IX.row {σ : St} {V : VV} (h : IX σ V) {k : Nat} (hk : k < (vrow V).length) : gA σ 43 k = (vrow V).getD k 0 := h.1.2.2.2.2.2.2.2.2.1 k hk
theorem IM.n {σ : St} {V : VV} (h : IM σ V) : gI σ 1 = nI (vn V) := h.1.1.1
theorem IM.g {σ : St} {V : VV} (h : IM σ V) : gI σ 6 = nI (vg V) := h.1.1.2.1
theorem IM.l0 {σ : St} {V : VV} (h : IM σ V) : gI σ 9 = nI (vla V 0) := h.1.1.2.2.1
theorem IM.l1 {σ : St} {V : VV} (h : IM σ V) : gI σ 10 = nI (vla V 1) := h.1.1.2.2.2.1
theorem IM.l2 {σ : St} {V : VV} (h : IM σ V) : gI σ 11 = nI (vla V 2) := h.1.1.2.2.2.2.1
theorem IM.sm {σ : St} {V : VV} (h : IM σ V) : gI σ 13 = nI (vsv V).length := h.1.1.2.2.2.2.2.1
theorem IM.tm {σ : St} {V : VV} (h : IM σ V) : gI σ 17 = nI (vtx V).length := h.1.1.2.2.2.2.2.2.1
theorem IM.rm {σ : St} {V : VV} (h : IM σ V) : gI σ 19 = nI (vrow V).length := h.1.1.2.2.2.2.2.2.2
theorem IM.st {σ : St} {V : VV} (h : IM σ V) {d : Nat} (hd : d < vn V) : gA σ 2 d = nI (vst V d) := (h.1.2.1 d hd).1
theorem IM.co {σ : St} {V : VV} (h : IM σ V) {d : Nat} (hd : d < vn V) : gA σ 3 d = nI (vco V d) := (h.1.2.1 d hd).2.1
theorem IM.ho {σ : St} {V : VV} (h : IM σ V) {d : Nat} (hd : d < vn V) : gA σ 5 d = nI (vho V d) := (h.1.2.1 d hd).2.2.1
theorem IM.hot {σ : St} {V : VV} (h : IM σ V) {d : Nat} (hd : d < vn V) : gA σ 4 d = j01 (hotV V d) := (h.1.2.1 d hd).2.2.2
theorem IM.lo {σ : St} {V : VV} (h : IM σ V) {d : Nat} (hd : d < vg V) : gA σ 7 d = nI (vlo V d) := (h.1.2.2.1 d hd).1
theorem IM.ba {σ : St} {V : VV} (h : IM σ V) {d : Nat} (hd : d < vg V) : gA σ 8 d = nI (vba V d) := (h.1.2.2.1 d hd).2
theorem IM.sto {σ : St} {V : VV} (h : IM σ V) {d : Nat} (hd : d < 8) : gA σ 0 d = nI (vsto V d) := h.1.2.2.2.1 d hd
theorem IM.sv {σ : St} {V : VV} (h : IM σ V) {d : Nat} (hd : d < (vsv V).length) : gA σ 12 d = nI ((vsv V).getD d 0) := h.1.2.2.2.2.1 d hd
theorem IM.tx {σ : St} {V : VV} (h : IM σ V) {d : Nat} (hd : d < (vtx V).length) : gA σ 16 d = byM ((vtx V).getD d 0) := h.1.2.2.2.2.2.1 d hd
theorem IM.ml {σ : St} {V : VV} (h : IM σ V) {i : Nat} (hi : i < 3) : gA σ 15 i = nI (vme V i).length := (h.1.2.2.2.2.2.2.1 i hi).1
theorem IM.me {σ : St} {V : VV} (h : IM σ V) {i k : Nat} (hi : i < 3) (hk : k < (vme V i).length) : gA σ 14 (10 * i + k) = nI ((vme V i).getD k 0) := (h.1.2.2.2.2.2.2.1 i hi).2 k hk
theorem IM.row {σ : St} {V : VV} (h : IM σ V) {k : Nat} (hk : k < (vrow V).length) : gA σ 18 k = (vrow V).getD k 0 := h.1.2.2.2.2.2.2.2.1 k hk
/-! ranges -/
theorem lg_lt (x y : Int64) : lg_cmp x y < 0 ↔ x < y := by rw [← Int32.not_le, lg_cmp_ge, Int64.not_le]
theorem lg_gt (x y : Int64) : 0 < lg_cmp x y ↔ y < x := by
  unfold lg_cmp
  by_cases h : x > y
  · rw [if_pos h]; exact ⟨fun _ => h, fun _ => by decide⟩
  · rw [if_neg h]
    refine ⟨fun q => ?_, fun q => absurd q h⟩
    by_cases h2 : x = y
    · rw [if_pos h2] at q; exact absurd q (by decide)
    · rw [if_neg h2] at q; exact absurd q (by decide)
theorem inB_rng {v : Int32} {n : Nat} (hn : n < 2 ^ 31) : inB v.toInt64 (0 : Int64) ((nI n - (1 : Int32)).toInt64) = rngB v n := by
  have h1 : (nI n - (1 : Int32)).toInt = (n : Int) - 1 := by
    cases n with
    | zero => decide
    | succ n => rw [nI_pred, nI_toInt (by omega)]; omega
  unfold inB rngB
  congr 1
  · refine decide_eq_decide.mpr ?_
    rw [Int64.le_iff_toInt_le, Int32.toInt_toInt64]
    exact Iff.rfl
  · refine decide_eq_decide.mpr ?_
    rw [Int64.le_iff_toInt_le, Int32.toInt_toInt64, Int32.toInt_toInt64, h1]
    omega
theorem inM_rng {v : Int32} {n : Nat} (hn : n < 2 ^ 31) : inM v (0 : Int32) (nI n - (1 : Int32)) = rngB v n := by
  have h1 : (nI n - (1 : Int32)).toInt = (n : Int) - 1 := by
    cases n with
    | zero => decide
    | succ n => rw [nI_pred, nI_toInt (by omega)]; omega
  unfold inM rngB
  congr 1
  · refine decide_eq_decide.mpr ?_
    rw [Int32.le_iff_toInt_le]
    exact Iff.rfl
  · refine decide_eq_decide.mpr ?_
    rw [Int32.le_iff_toInt_le, h1]
    omega
/-- between two written numbers -/
theorem inB_lit {v : Int32} {a b : Int64} {x y : Int} (ha : a.toInt = x) (hb : b.toInt = y) : inB v.toInt64 a b = (decide (x ≤ v.toInt) && decide (v.toInt ≤ y)) := by
  unfold inB
  simp only [Int64.le_iff_toInt_le, Int32.toInt_toInt64, ha, hb]
theorem inM_lit {v a b : Int32} {x y : Int} (ha : a.toInt = x) (hb : b.toInt = y) : inM v a b = (decide (x ≤ v.toInt) && decide (v.toInt ≤ y)) := by
  unfold inM
  simp only [Int32.le_iff_toInt_le, ha, hb]
theorem rngB_lt {v : Int32} {n : Nat} {y : Int} (h : y + 1 = (n : Int)) : (decide (0 ≤ v.toInt) && decide (v.toInt ≤ y)) = rngB v n := by
  unfold rngB
  congr 1
  exact decide_eq_decide.mpr (by omega)
theorem rngB_of {v : Int32} {n : Nat} (hn : n < 2 ^ 31) (h : rngB v n = true) : ∃ k, k < n ∧ v = nI k := by
  unfold rngB at h
  rw [Bool.and_eq_true, decide_eq_true_eq, decide_eq_true_eq] at h
  refine ⟨v.toInt.toNat, by omega, Int32.toInt_inj.mp ?_⟩
  rw [nI_toInt (by omega)]
  omega
theorem rngB_nI {k n : Nat} (hk : k < 2 ^ 31) : rngB (nI k) n = decide (k < n) := by
  unfold rngB
  rw [nI_toInt hk]
  have h1 : decide ((0 : Int) ≤ (k : Int)) = true := decide_eq_true (by omega)
  rw [h1, Bool.true_and]
  exact decide_eq_decide.mpr (by omega)
theorem sx_in_ok {v0 v2 v4 : Int64} {P : Int32 → Prop} (h : sx_in v0 v2 v4 P) : wx_in v0 v2 v4 P := by
  unfold sx_in inB at h
  unfold wx_in wx_in_j17 wx_in_j18
  simp only [lg_lt, lg_gt]
  by_cases h1 : v2 ≤ v0
  · have n1 : ¬ v0 < v2 := Int64.not_lt.mpr h1
    rw [if_neg n1]
    by_cases h2 : v0 ≤ v4
    · rw [if_neg (Int64.not_lt.mpr h2)]
      rw [decide_eq_true h1, decide_eq_true h2] at h
      exact ⟨rfl, h⟩
    · rw [if_pos (Int64.not_le.mp h2)]
      rw [decide_eq_true h1, decide_eq_false h2] at h
      exact ⟨rfl, h⟩
  · rw [if_pos (Int64.not_le.mp h1)]
    rw [decide_eq_false h1] at h
    exact ⟨rfl, h⟩
theorem sm_in_ok {v0 v1 v2 : Int32} {P : Int32 → Prop} (h : sm_in v0 v1 v2 P) : wm_in v0 v1 v2 P := by
  unfold sm_in inM at h
  unfold wm_in wm_in_j14 wm_in_j15
  by_cases h1 : v1 ≤ v0
  · rw [if_neg (Int32.not_lt.mpr h1)]
    by_cases h2 : v0 ≤ v2
    · rw [if_neg (Int32.not_lt.mpr h2)]
      rw [decide_eq_true h1, decide_eq_true h2] at h
      exact ⟨rfl, h⟩
    · rw [if_pos (Int32.not_le.mp h2)]
      rw [decide_eq_true h1, decide_eq_false h2] at h
      exact ⟨rfl, h⟩
  · rw [if_pos (Int32.not_le.mp h1)]
    rw [decide_eq_false h1] at h
    exact ⟨rfl, h⟩
theorem sx_has_ok {v0 v1 : Int32} {P : Int32 → Prop} (h : sx_has v0 v1 P) : wx_has v0 v1 P := by
  unfold sx_has hasB at h
  unfold wx_has wx_has_j14
  by_cases h1 : ((v0 >>> (v1 &&& 31)) &&& (1 : Int32)) = (1 : Int32)
  · rw [if_pos h1]; rw [decide_eq_true h1] at h; exact ⟨rfl, h⟩
  · rw [if_neg h1]; rw [decide_eq_false h1] at h; exact ⟨rfl, h⟩
theorem sm_has_ok {v0 v1 : Int32} {P : Int32 → Prop} (h : sm_has v0 v1 P) : wm_has v0 v1 P := by
  unfold sm_has hasB at h
  unfold wm_has wm_has_j14
  by_cases h1 : ((v0 >>> (v1 &&& 31)) &&& (1 : Int32)) = (1 : Int32)
  · rw [if_pos h1]; rw [decide_eq_true h1] at h; exact ⟨rfl, h⟩
  · rw [if_neg h1]; rw [decide_eq_false h1] at h; exact ⟨rfl, h⟩
theorem sx_isDish_ok {σ : St} {v1 : Int32} {P : Int32 → St → Prop} (h : sx_isDish σ v1 P) : wx_isDish σ v1 P := by
  obtain ⟨V, hI, h⟩ := h
  unfold wx_isDish sx_in
  rw [show xI_dishes σ = _ from hI.n, inB_rng (by have := hI.2.n; omega)]
  exact ⟨j01_nz _, h⟩
theorem sm_isDish_ok {σ : St} {v1 : Int32} {P : Int32 → St → Prop} (h : sm_isDish σ v1 P) : wm_isDish σ v1 P := by
  obtain ⟨V, hI, h⟩ := h
  unfold wm_isDish sm_in
  rw [show mI_dishes σ = _ from hI.n, inM_rng (by have := hI.2.n; omega)]
  exact ⟨j01_nz _, h⟩
theorem sx_isGuest_ok {σ : St} {v1 : Int32} {P : Int32 → St → Prop} (h : sx_isGuest σ v1 P) : wx_isGuest σ v1 P := by
  obtain ⟨V, hI, h⟩ := h
  unfold wx_isGuest sx_in
  rw [show xI_guests σ = _ from hI.g, inB_rng (by have := hI.2.g; omega)]
  exact ⟨j01_nz _, h⟩
theorem sm_isGuest_ok {σ : St} {v1 : Int32} {P : Int32 → St → Prop} (h : sm_isGuest σ v1 P) : wm_isGuest σ v1 P := by
  obtain ⟨V, hI, h⟩ := h
  unfold wm_isGuest sm_in
  rw [show mI_guests σ = _ from hI.g, inM_rng (by have := hI.2.g; omega)]
  exact ⟨j01_nz _, h⟩
theorem sx_isMenu_ok {v0 : Int32} {P : Int32 → Prop} (h : sx_isMenu v0 P) : wx_isMenu v0 P := by
  unfold wx_isMenu sx_in
  rw [inB_lit (x := 0) (y := 2) (by decide) (by decide), rngB_lt (n := 3) (by decide)]
  exact ⟨j01_nz _, h⟩
theorem sx_isLaw_ok {v0 v1 : Int32} {P : Int32 → Prop} (h : sx_isLaw v0 v1 P) : wx_isLaw v0 v1 P := by
  unfold sx_isLaw lawB at h
  unfold wx_isLaw wx_isLaw_j54 wx_isLaw_j55 sx_in
  by_cases h0 : v0 = 0
  · rw [if_pos h0] at h ⊢
    rw [inB_lit (x := 1) (y := 8) (by decide) (by decide)]
    exact ⟨j01_nz _, h⟩
  · rw [if_neg h0] at h ⊢
    by_cases h1 : v0 = 1
    · rw [if_pos h1] at h ⊢
      rw [inB_lit (x := 1) (y := 9) (by decide) (by decide)]
      exact ⟨j01_nz _, h⟩
    · rw [if_neg h1] at h ⊢
      by_cases h2 : v0 = 2
      · rw [if_pos h2]
        rw [inB_lit (x := 0) (y := 2) (by decide) (by decide)]
        rw [decide_eq_true h2, Bool.true_and] at h
        revert h
        generalize (decide (0 ≤ v1.toInt) && decide (v1.toInt ≤ 2)) = b
        cases b
        · exact fun h => ⟨rfl, h⟩
        · exact fun h => ⟨rfl, h⟩
      · rw [if_neg h2]
        rw [decide_eq_false h2, Bool.false_and] at h
        exact ⟨rfl, h⟩
theorem sm_isLaw_ok {v0 v1 : Int32} {P : Int32 → Prop} (h : sm_isLaw v0 v1 P) : wm_isLaw v0 v1 P := by
  unfold sm_isLaw lawB at h
  unfold wm_isLaw wm_isLaw_j47 wm_isLaw_j48 sm_in
  by_cases h0 : v0 = 0
  · rw [if_pos h0] at h ⊢
    rw [inM_lit (x := 1) (y := 8) (by decide) (by decide)]
    exact ⟨j01_nz _, h⟩
  · rw [if_neg h0] at h ⊢
    by_cases h1 : v0 = 1
    · rw [if_pos h1] at h ⊢
      rw [inM_lit (x := 1) (y := 9) (by decide) (by decide)]
      exact ⟨j01_nz _, h⟩
    · rw [if_neg h1] at h ⊢
      by_cases h2 : v0 = 2
      · rw [if_pos h2]
        rw [inM_lit (x := 0) (y := 2) (by decide) (by decide)]
        rw [decide_eq_true h2, Bool.true_and] at h
        revert h
        generalize (decide (0 ≤ v1.toInt) && decide (v1.toInt ≤ 2)) = b
        cases b
        · exact fun h => ⟨rfl, h⟩
        · exact fun h => ⟨rfl, h⟩
      · rw [if_neg h2]
        rw [decide_eq_false h2, Bool.false_and] at h
        exact ⟨rfl, h⟩
theorem sx_isPurse_ok {σ : St} {v1 v2 : Int32} {P : Int32 → St → Prop} (h : sx_isPurse σ v1 v2 P) : wx_isPurse σ v1 v2 P := by
  unfold sx_isPurse at h
  unfold wx_isPurse wx_isPurse_j28 wx_isPurse_j29 sx_in
  rw [inB_lit (v := v1) (x := 0) (y := 10) (by decide) (by decide), inB_lit (v := v2) (x := 0) (y := 999) (by decide) (by decide)]
  rw [rngB_lt (v := v1) (y := 10) (n := 11) (by decide), rngB_lt (v := v2) (y := 999) (n := 1000) (by decide)]
  revert h
  generalize rngB v1 11 = a
  generalize rngB v2 1000 = b
  cases a <;> cases b <;> exact fun h => ⟨rfl, h⟩
theorem lI_10 : lI 10 = -1 := rfl
theorem lI_l {l : Nat} (h : ¬ l = 10) : lI l = nI l := if_neg h
theorem lI_neg {l : Nat} (h : l ≤ 10) : lI l < 0 ↔ l = 10 := by
  by_cases h1 : l = 10
  · subst h1; exact ⟨fun _ => rfl, fun _ => by decide⟩
  · rw [lI_l h1]; exact ⟨fun q => absurd q (nI_pos (by omega)), fun q => absurd q h1⟩
theorem lI_ge {l : Nat} (h : l ≤ 10) : 0 ≤ lI l ↔ ¬ l = 10 := by rw [← Int32.not_lt, lI_neg h]
theorem lI_m1 {l : Nat} (h : l ≤ 10) : lI l = -1 ↔ l = 10 := by
  by_cases h1 : l = 10
  · subst h1; exact ⟨fun _ => rfl, fun _ => rfl⟩
  · rw [lI_l h1]
    refine ⟨fun q => ?_, fun q => absurd q h1⟩
    have := nI_pos (n := l) (by omega)
    rw [q] at this
    exact absurd (by decide) this
theorem mul11 (s : Nat) : (11 : Int32) * nI s = nI (11 * s) := by rw [show (11 : Int32) = nI 11 from rfl]; exact pk_mul 11 s
theorem mul10 (s : Nat) : (10 : Int32) * nI s = nI (10 * s) := by rw [show (10 : Int32) = nI 10 from rfl]; exact pk_mul 10 s
theorem sx_stateOf_ok {v0 v1 : Int32} {P : Int32 → Prop} (h : sx_stateOf v0 v1 P) : wx_stateOf v0 v1 P := by
  obtain ⟨s, l, rfl, rfl, hs, hl, h⟩ := h
  unfold wx_stateOf wx_stateOf_j14
  simp only [lI_ge hl, mul11]
  by_cases h1 : l = 10
  · subst h1; rw [if_neg (by simp)]; rw [show (10 : Int32) = nI 10 from rfl, nI_add]; exact h
  · rw [if_pos h1, lI_l h1, nI_add]; exact h
theorem sm_place_ok {v0 v1 : Int32} {P : Int32 → Prop} (h : sm_place v0 v1 P) : wm_place v0 v1 P := by
  obtain ⟨s, l, rfl, rfl, hs, hl, h⟩ := h
  unfold wm_place wm_place_j15
  simp only [lI_m1 hl, mul11]
  by_cases h1 : l = 10
  · subst h1; rw [if_pos rfl]; rw [show (10 : Int32) = nI 10 from rfl, nI_add]; exact h
  · rw [if_neg h1, lI_l h1, nI_add]; exact h
theorem sx_isLastOf_ok {σ : St} {v1 v2 : Int32} {P : Int32 → St → Prop} (h : sx_isLastOf σ v1 v2 P) : wx_isLastOf σ v1 v2 P := by
  obtain ⟨s, l, rfl, rfl, hs, hl, h⟩ := h
  unfold wx_isLastOf wx_isLastOf_j21 sx_has
  simp only [lI_ge hl, nI_eq0 (show s < 2 ^ 31 by omega)]
  unfold stateB at h
  by_cases h1 : l = 10
  · subst h1; rw [if_neg (by simp)]; rw [if_pos rfl] at h
    by_cases h2 : s = 0
    · rw [if_pos h2]; rw [decide_eq_true h2] at h; exact ⟨rfl, h⟩
    · rw [if_neg h2]; rw [decide_eq_false h2] at h; exact ⟨rfl, h⟩
  · rw [if_pos h1, lI_l h1, hasB_nI (by omega) (by omega)]; rw [if_neg h1] at h; exact ⟨j01_nz _, h⟩
theorem sm_isState_ok {v0 v1 : Int32} {P : Int32 → Prop} (h : sm_isState v0 v1 P) : wm_isState v0 v1 P := by
  obtain ⟨s, l, rfl, rfl, hs, hl, h⟩ := h
  unfold wm_isState wm_isState_j22 sm_has
  simp only [lI_m1 hl, nI_eq0 (show s < 2 ^ 31 by omega)]
  unfold stateB at h
  by_cases h1 : l = 10
  · subst h1; rw [if_pos rfl]; rw [if_pos rfl] at h
    by_cases h2 : s = 0
    · rw [if_pos h2]; rw [decide_eq_true h2] at h; exact ⟨rfl, h⟩
    · rw [if_neg h2]; rw [decide_eq_false h2] at h; exact ⟨rfl, h⟩
  · rw [if_neg h1, lI_l h1, hasB_nI (by omega) (by omega)]; rw [if_neg h1] at h; exact ⟨j01_nz _, h⟩
theorem two_n {n : Nat} (h : n < 31) : ((1 : Int32) <<< (nI n &&& 31)) - (1 : Int32) = nI (2 ^ n - 1) := by
  rw [nI_shl1 n (by omega), nI_lit1, pk_sub (Nat.one_le_two_pow)]
theorem sm_all_ok {σ : St} {P : Int32 → St → Prop} (h : sm_all σ P) : wm_all σ P := by
  obtain ⟨V, hI, h⟩ := h
  unfold wm_all
  rw [show mI_dishes σ = _ from hI.n, two_n (by have := hI.2.n; omega)]
  exact h
theorem sm_lost_ok {σ : St} {P : Int32 → St → Prop} (h : sm_lost σ P) : wm_lost σ P := h
theorem cl {n : Nat} (h : n < 2 ^ 31) : (nI n).toNatClampNeg = n := nI_clamp h
theorem and_lt {a b n : Nat} (h : a < n) : a &&& b < n := Nat.lt_of_le_of_lt Nat.and_le_left h
theorem sx_arePair_ok {σ : St} {v1 v2 : Int32} {P : Int32 → St → Prop} (h : sx_arePair σ v1 v2 P) : wx_arePair σ v1 v2 P := by
  obtain ⟨V, i, j, hI, rfl, rfl, hi, hj, h⟩ := h
  have hn := hI.2.n
  have h1 := hI.2.d hi
  have h2 := hI.2.d hj
  have h3 := hI.2.la
  refine ⟨vp_in_nI (by omega) (by omega), vp_in_nI (by omega) (by omega), vp_lit rfl, ?_⟩
  rw [cl (by omega), cl (by omega), show xA_stuffs σ i = _ from hI.st hi, show xA_stuffs σ j = _ from hI.st hj, show xA_law σ (0 : Int32).toNatClampNeg = _ from hI.la (d := 0) (by omega), nI_and, bitC_nI (Nat.lt_of_lt_of_le (and_lt h1.2.1) (by omega))]
  have hp := pc_le (vst V i &&& vst V j)
  simp only [nI_ltI (show pc (vst V i &&& vst V j) < 2 ^ 31 by omega) (show vla V 0 < 2 ^ 31 by have := h3.2.1; omega)]
  unfold wx_arePair_j30
  unfold pairV at h
  by_cases q : vla V 0 ≤ pc (vst V i &&& vst V j)
  · rw [if_neg (by omega)]; rw [decide_eq_true q] at h; exact ⟨rfl, h⟩
  · rw [if_pos (by omega)]; rw [decide_eq_false q] at h; exact ⟨rfl, h⟩
theorem sm_shared_ok {σ : St} {v1 v2 : Int32} {P : Int32 → St → Prop} (h : sm_shared σ v1 v2 P) : wm_shared σ v1 v2 P := by
  obtain ⟨i, j, a, b, rfl, rfl, hi, hj, e1, e2, ha, h⟩ := h
  refine ⟨vp_in_nI hi (by omega), vp_in_nI hj (by omega), ?_⟩
  rw [cl (by omega), cl (by omega), show mA_stuffs σ i = _ from e1, show mA_stuffs σ j = _ from e2, nI_and, bitC_nI (Nat.lt_of_lt_of_le (and_lt ha) (by omega))]
  exact h
theorem sharedV {σ : St} {V : VV} {i j : Nat} {P : Int32 → St → Prop} (hI : IM σ V) (hi : i < vn V) (hj : j < vn V) (h : P (nI (pc (vst V i &&& vst V j))) σ) : sm_shared σ (nI i) (nI j) P := by
  have hn := hI.2.n
  exact ⟨i, j, _, _, rfl, rfl, by omega, by omega, hI.st hi, hI.st hj, (hI.2.d hi).2.1, h⟩
theorem pow_le_1024 {n : Nat} (h : n ≤ 10) : 2 ^ n ≤ 1024 := Nat.pow_le_pow_right (n := 2) (by decide) h
theorem sx_isWarm_ok {σ : St} {v1 v2 v3 : Int32} {P : Int32 → St → Prop} (h : sx_isWarm σ v1 v2 v3 P) : wx_isWarm σ v1 v2 v3 P := by
  obtain ⟨V, s, l, d, hI, rfl, rfl, rfl, hs, hl, hd, h⟩ := h
  have h3 := hI.2.la
  have hh := hI.2.h
  have hp := pow_le_1024 hI.2.n
  have la2 : xA_law σ (2 : Int32).toNatClampNeg = nI (vla V 2) := hI.la (d := 2) (by omega)
  have b2 : vla V 2 ≤ 2 := h3.2.2.2.2
  refine ⟨vp_lit rfl, ?_⟩
  simp only [la2, show xI_hot σ = _ from hI.h, nI_eq1 (show vla V 2 < 2 ^ 31 by omega), nI_eq0 (show vla V 2 < 2 ^ 31 by omega), sx_has, hasB_nI (show vh V < 2 ^ 31 by omega) (show d < 31 by omega), hasB_nI (show vh V < 2 ^ 31 by omega) (show l < 31 by omega), j01_eq0, nI_and, nI_eq0 (show s &&& vh V < 2 ^ 31 from Nat.lt_of_lt_of_le (and_lt hs) (by omega)), j01_inj]
  unfold wx_isWarm_j30 wx_isWarm_j35 wx_isWarm_j64 wx_isWarm_j69
  unfold warmV hotV at h
  by_cases q : vla V 2 = 1
  · rw [if_pos q]; rw [if_pos q] at h
    cases hb : (vh V).testBit d with
    | true => rw [if_neg (by decide)]; rw [hb] at h; exact ⟨rfl, h⟩
    | false =>
      rw [if_pos rfl]; rw [hb, Bool.false_or] at h
      by_cases q2 : s &&& vh V = 0
      · rw [if_pos q2]; rw [decide_eq_true q2] at h; exact ⟨rfl, h⟩
      · rw [if_neg q2]; rw [decide_eq_false q2] at h; exact ⟨rfl, h⟩
  · rw [if_neg q]; rw [if_neg q] at h
    refine ⟨vp_lit rfl, ?_⟩
    by_cases q2 : vla V 2 = 0
    · rw [if_pos q2]; rw [decide_eq_true q2, Bool.true_or] at h; exact ⟨rfl, h⟩
    · rw [if_neg q2]; rw [decide_eq_false q2, Bool.false_or] at h
      revert h
      generalize (vh V).testBit l = a
      generalize (vh V).testBit d = b
      cases a <;> cases b <;> exact fun h => ⟨rfl, h⟩
theorem jf0 {A B : Prop} : (if j01 false = 0 then A else B) = A := if_pos rfl
theorem jt0 {A B : Prop} : (if j01 true = 0 then A else B) = B := if_neg (by decide)
theorem many_loop {σ : St} {V : VV} {s k : Nat} {P : Int32 → St → Prop} (hI : IX σ V) (hs : s < 2048) (hk : k < 8) (h : P (nI (manyV V s k)) σ) : ∀ m i : Nat, i + m = vn V → wx_manyOf_l5 P (m + 1) (nI s) (nI k) (nI (cnt (fun d => s.testBit d && (vst V d).testBit k) i)) (nI i) σ := by
  have hn := hI.2.n
  intro m
  induction m with
  | zero =>
    intro i hi
    rw [wx_manyOf_l5_s, show xI_dishes σ = _ from hI.n, if_pos (by rw [show i = vn V by omega]; exact Int32.le_refl _), show i = vn V by omega]
    exact h
  | succ m ih =>
    intro i hi
    have hd := hI.2.d (d := i) (by omega)
    have e : cnt (fun d => s.testBit d && (vst V d).testBit k) (i + 1) = cnt (fun d => s.testBit d && (vst V d).testBit k) i + (if (s.testBit i && (vst V i).testBit k) = true then 1 else 0) := rfl
    have ih1 := ih (i + 1) (by omega)
    rw [e] at ih1
    rw [wx_manyOf_l5_s, show xI_dishes σ = _ from hI.n, if_neg (nI_ge (by omega) (by omega)), cl (by omega), show xA_stuffs σ i = _ from hI.st (by omega)]
    unfold sx_has wx_manyOf_j42 wx_manyOf_j43
    rw [hasB_nI (by omega) (by omega), hasB_nI (by omega) (by omega)]
    cases h1 : s.testBit i with
    | false =>
      rw [jf0]
      rw [h1, Bool.false_and, if_neg (by decide)] at ih1
      rw [show (0 : Int32) = nI 0 from rfl, nI_add, nI_1]; exact ih1
    | true =>
      rw [jt0]
      refine ⟨vp_in_nI (by omega) (by omega), ?_⟩
      rw [h1, Bool.true_and] at ih1
      cases h2 : (vst V i).testBit k with
      | false =>
        rw [jf0]; rw [h2, if_neg (by decide)] at ih1
        rw [show (0 : Int32) = nI 0 from rfl, nI_add, nI_1]; exact ih1
      | true =>
        rw [jt0]; rw [h2, if_pos rfl] at ih1
        rw [nI_1, nI_1]; exact ih1
theorem sx_manyOf_ok {σ : St} {v1 v2 : Int32} {P : Int32 → St → Prop} (h : sx_manyOf σ v1 v2 P) : wx_manyOf σ v1 v2 P := by
  obtain ⟨V, s, k, hI, rfl, rfl, hs, hk, h⟩ := h
  exact ⟨_, many_loop hI hs hk h (vn V) 0 (by omega)⟩
