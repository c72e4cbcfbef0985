/-! THE COMMON STATE V of component and model, and what it is for each to realise it -/
abbrev VV : Type := (Nat × Nat × Nat) × ((Nat → Nat) × (Nat → Nat) × (Nat → Nat)) × ((Nat → Nat) × (Nat → Nat)) × ((Nat → Nat) × (Nat → Nat)) × List Nat × (Nat → List Nat) × List Nat × Option ((Int32 → Int32) → Int32) × List Int32 × (Nat → Option ((Nat → Nat) × (Nat → Nat) × List Nat × Nat))
/-- dishes, guests, the hot ones as bits -/
def vn (V : VV) : Nat := V.1.1
def vg (V : VV) : Nat := V.1.2.1
def vh (V : VV) : Nat := V.1.2.2
/-- of a dish: stuffs (bits), cost, hours; of a guest: loves, bars -/
def vst (V : VV) : Nat → Nat := V.2.1.1
def vco (V : VV) : Nat → Nat := V.2.1.2.1
def vho (V : VV) : Nat → Nat := V.2.1.2.2
def vlo (V : VV) : Nat → Nat := V.2.2.1.1
def vba (V : VV) : Nat → Nat := V.2.2.1.2
/-- stores; the law (share, times, heat) -/
def vsto (V : VV) : Nat → Nat := V.2.2.2.1.1
def vla (V : VV) : Nat → Nat := V.2.2.2.1.2
/-- served so far, menus (99: not known), the signs, the rule, the row told, what is kept -/
def vsv (V : VV) : List Nat := V.2.2.2.2.1
def vme (V : VV) : Nat → List Nat := V.2.2.2.2.2.1
def vtx (V : VV) : List Nat := V.2.2.2.2.2.2.1
def vru (V : VV) : Option ((Int32 → Int32) → Int32) := V.2.2.2.2.2.2.2.1
def vrow (V : VV) : List Int32 := V.2.2.2.2.2.2.2.2.1
def vkp (V : VV) : Nat → Option ((Nat → Nat) × (Nat → Nat) × List Nat × Nat) := V.2.2.2.2.2.2.2.2.2
def vMk (n g h : Nat) (st co ho lo ba sto la : Nat → Nat) (sv : List Nat) (me : Nat → List Nat) (tx : List Nat) (ru : Option ((Int32 → Int32) → Int32)) (row : List Int32) (kp : Nat → Option ((Nat → Nat) × (Nat → Nat) × List Nat × Nat)) : VV :=
  ((n, g, h), (st, co, ho), (lo, ba), (sto, la), sv, me, tx, ru, row, kp)
def vKitchen (V : VV) (n g h : Nat) (st co ho lo ba : Nat → Nat) : VV := vMk n g h st co ho lo ba (vsto V) (vla V) (vsv V) (vme V) (vtx V) (vru V) (vrow V) (vkp V)
def vSCo (V : VV) (co : Nat → Nat) : VV := vMk (vn V) (vg V) (vh V) (vst V) co (vho V) (vlo V) (vba V) (vsto V) (vla V) (vsv V) (vme V) (vtx V) (vru V) (vrow V) (vkp V)
def vSSto (V : VV) (x : Nat → Nat) : VV := vMk (vn V) (vg V) (vh V) (vst V) (vco V) (vho V) (vlo V) (vba V) x (vla V) (vsv V) (vme V) (vtx V) (vru V) (vrow V) (vkp V)
def vSLa (V : VV) (x : Nat → Nat) : VV := vMk (vn V) (vg V) (vh V) (vst V) (vco V) (vho V) (vlo V) (vba V) (vsto V) x (vsv V) (vme V) (vtx V) (vru V) (vrow V) (vkp V)
def vSSv (V : VV) (x : List Nat) : VV := vMk (vn V) (vg V) (vh V) (vst V) (vco V) (vho V) (vlo V) (vba V) (vsto V) (vla V) x (vme V) (vtx V) (vru V) (vrow V) (vkp V)
def vSMe (V : VV) (i : Nat) (x : List Nat) : VV := vMk (vn V) (vg V) (vh V) (vst V) (vco V) (vho V) (vlo V) (vba V) (vsto V) (vla V) (vsv V) (fun j => if j = i then x else vme V j) (vtx V) (vru V) (vrow V) (vkp V)
def vSTx (V : VV) (x : List Nat) : VV := vMk (vn V) (vg V) (vh V) (vst V) (vco V) (vho V) (vlo V) (vba V) (vsto V) (vla V) (vsv V) (vme V) x (vru V) (vrow V) (vkp V)
def vSRu (V : VV) (x : Option ((Int32 → Int32) → Int32)) : VV := vMk (vn V) (vg V) (vh V) (vst V) (vco V) (vho V) (vlo V) (vba V) (vsto V) (vla V) (vsv V) (vme V) (vtx V) x (vrow V) (vkp V)
def vSRow (V : VV) (x : List Int32) : VV := vMk (vn V) (vg V) (vh V) (vst V) (vco V) (vho V) (vlo V) (vba V) (vsto V) (vla V) (vsv V) (vme V) (vtx V) (vru V) x (vkp V)
def vSKp (V : VV) (i : Nat) (x : (Nat → Nat) × (Nat → Nat) × List Nat × Nat) : VV := vMk (vn V) (vg V) (vh V) (vst V) (vco V) (vho V) (vlo V) (vba V) (vsto V) (vla V) (vsv V) (vme V) (vtx V) (vru V) (vrow V) (fun j => if j = i then some x else vkp V j)
/-- the last served as an int: 10 is none -/
def lI (l : Nat) : Int32 := if l = 10 then -1 else nI l
def okLaw (la : Nat → Nat) : Prop := 1 ≤ la 0 ∧ la 0 ≤ 8 ∧ 1 ≤ la 1 ∧ la 1 ≤ 9 ∧ la 2 ≤ 2
/-- what holds of every state -/
def WV (V : VV) : Prop :=
  vn V ≤ 10 ∧ vg V ≤ 6 ∧ vh V < 2 ^ vn V ∧ (∀ d, d < vn V → 0 < vst V d ∧ vst V d < 256 ∧ vco V d ≤ 99 ∧ vho V d ≤ 9) ∧ (∀ g, g < vg V → vlo V g < 256 ∧ vba V g < 256) ∧
  (∀ s, s < 8 → vsto V s ≤ 99) ∧ okLaw (vla V) ∧ ((vsv V).Nodup ∧ ∀ d ∈ vsv V, d < vn V) ∧ (∀ i, (vme V i).length ≤ 10 ∧ ∀ d ∈ vme V i, d < vn V ∨ d = 99) ∧
  ((vtx V).length ≤ 80 ∧ ∀ b ∈ vtx V, b < 256) ∧ (vrow V).length ≤ 12 ∧
  ∀ i s l sv n, vkp V i = some (s, l, sv, n) → (∀ k, k < 8 → s k ≤ 99) ∧ okLaw l ∧ (sv.Nodup ∧ ∀ d ∈ sv, d < n) ∧ n ≤ vn V
/-- what an act of two numbers answers -/
def actI (c a b : Int32) : Int32 := if c = 43 then a + b else if c = 45 then a - b else if c = 42 then a * b else if c = 47 then (if b = 0 then 0 else a / b) else if c = 60 then j01 (decide (a < b)) else if c = 62 then j01 (decide (b < a)) else j01 (decide (a = b))
/-- a tree of nodes, as a function of the letters' values -/
def TreeX (nd : Nd) : Nat → Nat → ((Int32 → Int32) → Int32) → Prop
  | 0, _, _ => False
  | k + 1, a, D => ∃ (q kd : Nat) (v : Int32) (b c : Nat), nd[q]? = some (a, kd, v, b, c) ∧
      ((kd = 0 ∧ D = fun _ => v) ∨ (kd = 1 ∧ D = fun e => e v) ∨ (kd = 2 ∧ ∃ D1, TreeX nd k b D1 ∧ D = fun e => -(D1 e)) ∨
       (kd = 3 ∧ ∃ D1 D2, TreeX nd k b D1 ∧ TreeX nd k c D2 ∧ D = fun e => actI v (D1 e) (D2 e)))
def keptX (σ : St) (i : Nat) : Option ((Nat → Nat) × (Nat → Nat) × List Nat × Nat) → Prop
  | none => gA σ 42 i = 0
  | some (s, l, sv, n) => gA σ 42 i = 1 ∧ (∀ k, k < 8 → gA σ 41 (23 * i + k) = nI (s k)) ∧ (∀ k, k < 3 → gA σ 41 (23 * i + 8 + k) = nI (l k)) ∧ (∀ k, k < sv.length → gA σ 41 (23 * i + 11 + k) = nI (sv.getD k 0)) ∧ gA σ 41 (23 * i + 21) = nI sv.length ∧ gA σ 41 (23 * i + 22) = nI n
def ruleX (σ : St) : Option ((Int32 → Int32) → Int32) → Prop
  | none => gR σ 25 = .null
  | some D => ∃ a, gR σ 25 = .ref a ∧ TreeX (gN σ) 42 a D
/-- the component's fields realise V -/
def RX (σ : St) (V : VV) : Prop :=
  (gI σ 8 = nI (vn V) ∧ gI σ 9 = nI (vg V) ∧ gI σ 10 = nI (vh V) ∧ gI σ 11 = nI (vsv V).length ∧ gI σ 13 = nI (vtx V).length ∧ gI σ 44 = nI (vrow V).length) ∧
  (∀ d, d < vn V → gA σ 0 d = nI (vst V d) ∧ gA σ 1 d = nI (vco V d) ∧ gA σ 2 d = nI (vho V d)) ∧
  (∀ g, g < vg V → gA σ 3 g = nI (vlo V g) ∧ gA σ 4 g = nI (vba V g)) ∧
  (∀ s, s < 8 → gA σ 5 s = nI (vsto V s)) ∧ (∀ k, k < 3 → gA σ 6 k = nI (vla V k)) ∧
  (∀ k, k < (vsv V).length → gA σ 7 k = nI ((vsv V).getD k 0)) ∧
  (∀ k, k < (vtx V).length → gA σ 12 k = nI ((vtx V).getD k 0)) ∧
  (∀ i, i < 3 → gA σ 27 i = nI (vme V i).length ∧ ∀ k, k < (vme V i).length → gA σ 26 (10 * i + k) = nI ((vme V i).getD k 0)) ∧
  (∀ k, k < (vrow V).length → gA σ 43 k = (vrow V).getD k 0) ∧
  (∀ i, i < 2 → keptX σ i (vkp V i)) ∧ ruleX σ (vru V)
def keptM (σ : St) (i n : Nat) : Option ((Nat → Nat) × (Nat → Nat) × List Nat × Nat) → Prop
  | none => gA σ 51 i = 0
  | some (s, l, sv, m) => gA σ 51 i = 1 ∧ (∀ k, k < 8 → gA σ 50 (22 * i + 11 + k) = nI (s k)) ∧ (∀ k, k < 3 → gA σ 50 (22 * i + 19 + k) = nI (l k)) ∧ (∀ k, k < sv.length → gA σ 50 (22 * i + k) = nI (sv.getD k 0)) ∧ gA σ 50 (22 * i + 10) = nI sv.length ∧
      ∃ c c0 : Nat, gI σ 49 = nI c ∧ gA σ 52 i = nI c0 ∧ c0 ≤ c ∧ c < 1000000 ∧ (c0 = c ↔ m = n)
/-! the rule's grammar, over its bytes: what is read (a function of the letters' values) and where it ends, or none and where it is at fault -/
def chA (bs : List Nat) (p : Nat) : Nat := bs.getD p 1000
def isDg (c : Nat) : Bool := decide (48 ≤ c) && decide (c ≤ 57)
def isLt (c : Nat) : Bool := [108, 98, 110, 99, 104, 111, 103, 100].contains c
def isOp (r c : Nat) : Bool := if r = 0 then [60, 62, 61].contains c else if r = 1 then [43, 45].contains c else [42, 47].contains c
def pNum (bs : List Nat) : Nat → Nat → Nat → Nat × Nat
  | 0, v, p => (v, p)
  | k + 1, v, p => if isDg (chA bs p) then pNum bs k (10 * v + (chA bs p - 48)) (p + 1) else (v, p)
def pP (bs : List Nat) : Nat → Nat → Nat → ((Int32 → Int32) → Int32) → Nat → Option ((Int32 → Int32) → Int32) × Nat
  | 0, _, _, _, p => (none, p)
  | k + 1, r, deep, A, p =>
    if r < 3 then
      match pP bs k (r + 1) deep A p with
      | (none, q) => (none, q)
      | (some D, q) => pP bs k (4 + r) deep D q
    else if r = 3 then
      if chA bs p = 45 then
        match pP bs k 3 deep A (p + 1) with
        | (none, q) => (none, q)
        | (some D, q) => (some (fun e => -(D e)), q)
      else if isDg (chA bs p) then (some (fun _ => nI (pNum bs 3 0 p).1), (pNum bs 3 0 p).2)
      else if isLt (chA bs p) then (some (fun e => e (nI (chA bs p))), p + 1)
      else if chA bs p = 40 ∧ deep < 4 then
        match pP bs k 0 (deep + 1) A (p + 1) with
        | (none, q) => (none, q)
        | (some D, q) => if chA bs q = 41 then (some D, q + 1) else (none, q)
      else (none, p)
    else
      if isOp (r - 4) (chA bs p) then
        match pP bs k (r - 3) deep A (p + 1) with
        | (none, q) => (none, q)
        | (some D2, q) => if r = 4 then (some (fun e => actI (nI (chA bs p)) (A e) (D2 e)), q) else pP bs k r deep (fun e => actI (nI (chA bs p)) (A e) (D2 e)) q
      else (some A, p)
def pRule (bs : List Nat) : Option ((Int32 → Int32) → Int32) × Nat := pP bs 400 0 0 (fun _ => 0) 0
/-- a byte of the model's -/
def byM (c : Nat) : Int32 := (nI c).toInt8.toInt32
def ruleM (σ : St) : Option ((Int32 → Int32) → Int32) → Prop
  | none => gI σ 27 = 0
  | some D => ∃ bs : List Nat, gI σ 27 = nI bs.length ∧ 0 < bs.length ∧ bs.length ≤ 40 ∧ (∀ b ∈ bs, b < 256) ∧ (∀ k, k < bs.length → gA σ 26 k = byM (bs.getD k 0)) ∧ pRule bs = (some D, bs.length)
/-- the model's fields realise V -/
def RM (σ : St) (V : VV) : Prop :=
  (gI σ 1 = nI (vn V) ∧ gI σ 6 = nI (vg V) ∧ gI σ 9 = nI (vla V 0) ∧ gI σ 10 = nI (vla V 1) ∧ gI σ 11 = nI (vla V 2) ∧ gI σ 13 = nI (vsv V).length ∧ gI σ 17 = nI (vtx V).length ∧ gI σ 19 = nI (vrow V).length) ∧
  (∀ d, d < vn V → gA σ 2 d = nI (vst V d) ∧ gA σ 3 d = nI (vco V d) ∧ gA σ 5 d = nI (vho V d) ∧ gA σ 4 d = j01 ((vh V).testBit d)) ∧
  (∀ g, g < vg V → gA σ 7 g = nI (vlo V g) ∧ gA σ 8 g = nI (vba V g)) ∧
  (∀ s, s < 8 → gA σ 0 s = nI (vsto V s)) ∧
  (∀ k, k < (vsv V).length → gA σ 12 k = nI ((vsv V).getD k 0)) ∧
  (∀ k, k < (vtx V).length → gA σ 16 k = byM ((vtx V).getD k 0)) ∧
  (∀ i, i < 3 → gA σ 15 i = nI (vme V i).length ∧ ∀ k, k < (vme V i).length → gA σ 14 (10 * i + k) = nI ((vme V i).getD k 0)) ∧
  (∀ k, k < (vrow V).length → gA σ 18 k = (vrow V).getD k 0) ∧
  (∃ c : Nat, gI σ 49 = nI c ∧ c < 1000) ∧ (∀ i, i < 2 → keptM σ i (vn V) (vkp V i)) ∧ ruleM σ (vru V)
def IX (σ : St) (V : VV) : Prop := RX σ V ∧ WV V
def IM (σ : St) (V : VV) : Prop := RM σ V ∧ WV V
/-- what stays of a state: these whole fields, these arrays, the references and nodes -/
def Kp (Is As : List Nat) (σ σ' : St) : Prop := (∀ k, k ∈ Is → gI σ' k = gI σ k) ∧ (∀ k, k ∈ As → gA σ' k = gA σ k) ∧ (∀ k, gR σ' k = gR σ k) ∧ gN σ' = gN σ
abbrev XI : List Nat := [8, 9, 10, 11, 13, 44]
abbrev XA : List Nat := [0, 1, 2, 3, 4, 5, 6, 7, 12, 26, 27, 41, 42, 43]
abbrev MI : List Nat := [1, 6, 9, 10, 11, 13, 17, 19, 27, 49]
abbrev MA : List Nat := [0, 2, 3, 4, 5, 7, 8, 12, 14, 15, 16, 18, 26, 50, 51, 52]
theorem RX.kp {σ σ' : St} {V : VV} (h : RX σ V) (k : Kp XI XA σ σ') : RX σ' V := by
  obtain ⟨kI, kA, kR, kN⟩ := k
  have hk : ∀ i o, keptX σ i o → keptX σ' i o := by
    intro i o h
    cases o with
    | none => unfold keptX at h ⊢; rw [kA 42 (by decide)]; exact h
    | some q => obtain ⟨s, l, sv, n⟩ := q; unfold keptX at h ⊢; rw [kA 42 (by decide), kA 41 (by decide)]; exact h
  have hr : ∀ o, ruleX σ o → ruleX σ' o := by
    intro o h
    cases o with
    | none => unfold ruleX at h ⊢; rw [kR]; exact h
    | some D => unfold ruleX at h ⊢; rw [kR, kN]; exact h
  unfold RX at h ⊢
  rw [kI 8 (by decide), kI 9 (by decide), kI 10 (by decide), kI 11 (by decide), kI 13 (by decide), kI 44 (by decide), kA 0 (by decide), kA 1 (by decide), kA 2 (by decide), kA 3 (by decide), kA 4 (by decide), kA 5 (by decide), kA 6 (by decide), kA 7 (by decide), kA 12 (by decide), kA 26 (by decide), kA 27 (by decide), kA 43 (by decide)]
  obtain ⟨h1, h2, h3, h4, h5, h6, h7, h8, h9, h10, h11⟩ := h
  exact ⟨h1, h2, h3, h4, h5, h6, h7, h8, h9, fun i hi => hk i _ (h10 i hi), hr _ h11⟩
theorem RM.kp {σ σ' : St} {V : VV} (h : RM σ V) (k : Kp MI MA σ σ') : RM σ' V := by
  obtain ⟨kI, kA, kR, kN⟩ := k
  have hk : ∀ i n o, keptM σ i n o → keptM σ' i n o := by
    intro i n o h
    cases o with
    | none => unfold keptM at h ⊢; rw [kA 51 (by decide)]; exact h
    | some q => obtain ⟨s, l, sv, m⟩ := q; unfold keptM at h ⊢; rw [kA 51 (by decide), kA 50 (by decide), kA 52 (by decide), kI 49 (by decide)]; exact h
  have hr : ∀ o, ruleM σ o → ruleM σ' o := by
    intro o h
    cases o with
    | none => unfold ruleM at h ⊢; rw [kI 27 (by decide)]; exact h
    | some D => unfold ruleM at h ⊢; rw [kI 27 (by decide), kA 26 (by decide)]; exact h
  unfold RM at h ⊢
  rw [kI 1 (by decide), kI 6 (by decide), kI 9 (by decide), kI 10 (by decide), kI 11 (by decide), kI 13 (by decide), kI 17 (by decide), kI 19 (by decide), kI 49 (by decide), kA 0 (by decide), kA 2 (by decide), kA 3 (by decide), kA 4 (by decide), kA 5 (by decide), kA 7 (by decide), kA 8 (by decide), kA 12 (by decide), kA 14 (by decide), kA 15 (by decide), kA 16 (by decide), kA 18 (by decide)]
  obtain ⟨h1, h2, h3, h4, h5, h6, h7, h8, h9, h10, h11⟩ := h
  exact ⟨h1, h2, h3, h4, h5, h6, h7, h8, h9, fun i hi => hk i _ _ (h10 i hi), hr _ h11⟩
theorem Kp.rf (Is As : List Nat) (σ : St) : Kp Is As σ σ := ⟨fun _ _ => rfl, fun _ _ => rfl, fun _ => rfl, rfl⟩
theorem Kp.tr {Is As : List Nat} {a b c : St} (h : Kp Is As a b) (h2 : Kp Is As b c) : Kp Is As a c :=
  ⟨fun k hk => (h2.1 k hk).trans (h.1 k hk), fun k hk => (h2.2.1 k hk).trans (h.2.1 k hk), fun k => (h2.2.2.1 k).trans (h.2.2.1 k), h2.2.2.2.trans h.2.2.2⟩
theorem Kp.sI {Is As : List Nat} {k : Nat} (hk : k ∉ Is) (σ : St) (v : Int32) : Kp Is As σ (sI σ k v) :=
  ⟨fun j hj => by rw [gI_sI]; exact if_neg fun q : j = k => hk (q ▸ hj), fun _ _ => rfl, fun _ => rfl, rfl⟩
theorem Kp.sA {Is As : List Nat} {k : Nat} (hk : k ∉ As) (σ : St) (f : Nat → Int32) : Kp Is As σ (sA σ k f) :=
  ⟨fun _ _ => rfl, fun j hj => by rw [gA_sA]; exact if_neg fun q : j = k => hk (q ▸ hj), fun _ => rfl, rfl⟩
theorem Kp.sL {Is As : List Nat} (k : Nat) (σ : St) (f : Nat → Int64) : Kp Is As σ (sL σ k f) := ⟨fun _ _ => rfl, fun _ _ => rfl, fun _ => rfl, rfl⟩
theorem Kp.sub {Is As Is' As' : List Nat} {a b : St} (h : Kp Is As a b) (hi : ∀ k ∈ Is', k ∈ Is) (ha : ∀ k ∈ As', k ∈ As) : Kp Is' As' a b := ⟨fun k hk => h.1 k (hi k hk), fun k hk => h.2.1 k (ha k hk), h.2.2.1, h.2.2.2⟩
theorem IX.kp {σ σ' : St} {V : VV} (h : IX σ V) (k : Kp XI XA σ σ') : IX σ' V := ⟨h.1.kp k, h.2⟩
theorem IM.kp {σ σ' : St} {V : VV} (h : IM σ V) (k : Kp MI MA σ σ') : IM σ' V := ⟨h.1.kp k, h.2⟩
