/-! SPECS, first group: what the small methods answer, in terms of V -/
def rngB (v : Int32) (n : Nat) : Bool := decide (0 ≤ v.toInt) && decide (v.toInt < (n : Int))
def inB (v lo hi : Int64) : Bool := decide (lo ≤ v) && decide (v ≤ hi)
def inM (v lo hi : Int32) : Bool := decide (lo ≤ v) && decide (v ≤ hi)
def sx_in (v0 v2 v4 : Int64) (P : Int32 → Prop) : Prop := P (j01 (inB v0 v2 v4))
def sm_in (v0 v1 v2 : Int32) (P : Int32 → Prop) : Prop := P (j01 (inM v0 v1 v2))
def sx_has (v0 v1 : Int32) (P : Int32 → Prop) : Prop := P (j01 (hasB v0 v1))
def sm_has (v0 v1 : Int32) (P : Int32 → Prop) : Prop := P (j01 (hasB v0 v1))
def sx_isDish (σ : St) (v1 : Int32) (P : Int32 → St → Prop) : Prop := ∃ V, IX σ V ∧ P (j01 (rngB v1 (vn V))) σ
def sm_isDish (σ : St) (v1 : Int32) (P : Int32 → St → Prop) : Prop := ∃ V, IM σ V ∧ P (j01 (rngB v1 (vn V))) σ
def sx_isGuest (σ : St) (v1 : Int32) (P : Int32 → St → Prop) : Prop := ∃ V, IX σ V ∧ P (j01 (rngB v1 (vg V))) σ
def sm_isGuest (σ : St) (v1 : Int32) (P : Int32 → St → Prop) : Prop := ∃ V, IM σ V ∧ P (j01 (rngB v1 (vg V))) σ
def sx_isMenu (v0 : Int32) (P : Int32 → Prop) : Prop := P (j01 (rngB v0 3))
/-- the law's three numbers in their ranges -/
def lawB (what v : Int32) : Bool := if what = 0 then decide (1 ≤ v.toInt) && decide (v.toInt ≤ 8) else if what = 1 then decide (1 ≤ v.toInt) && decide (v.toInt ≤ 9) else decide (what = 2) && (decide (0 ≤ v.toInt) && decide (v.toInt ≤ 2))
def sx_isLaw (v0 v1 : Int32) (P : Int32 → Prop) : Prop := P (j01 (lawB v0 v1))
def sm_isLaw (v0 v1 : Int32) (P : Int32 → Prop) : Prop := P (j01 (lawB v0 v1))
def sx_isPurse (σ : St) (v1 v2 : Int32) (P : Int32 → St → Prop) : Prop := P (j01 (rngB v1 11 && rngB v2 1000)) σ
/-- a state's place in the tables; the last one as an int (10: none) -/
def sx_stateOf (v0 v1 : Int32) (P : Int32 → Prop) : Prop := ∃ s l : Nat, v0 = nI s ∧ v1 = lI l ∧ s < 2048 ∧ l ≤ 10 ∧ P (nI (11 * s + l))
def sm_place (v0 v1 : Int32) (P : Int32 → Prop) : Prop := ∃ s l : Nat, v0 = nI s ∧ v1 = lI l ∧ s < 2048 ∧ l ≤ 10 ∧ P (nI (11 * s + l))
def stateB (s l : Nat) : Bool := if l = 10 then decide (s = 0) else s.testBit l
def sx_isLastOf (σ : St) (v1 v2 : Int32) (P : Int32 → St → Prop) : Prop := ∃ s l : Nat, v1 = nI s ∧ v2 = lI l ∧ s < 2048 ∧ l ≤ 10 ∧ P (j01 (stateB s l)) σ
def sm_isState (v0 v1 : Int32) (P : Int32 → Prop) : Prop := ∃ s l : Nat, v0 = nI s ∧ v1 = lI l ∧ s < 2048 ∧ l ≤ 10 ∧ P (j01 (stateB s l))
def sm_all (σ : St) (P : Int32 → St → Prop) : Prop := ∃ V, IM σ V ∧ P (nI (2 ^ vn V - 1)) σ
def sm_lost (σ : St) (P : Int32 → St → Prop) : Prop := P 0 (mS_thrown σ 1)
/-- what may be behind what -/
def pairV (V : VV) (i j : Nat) : Bool := decide (vla V 0 ≤ pc (vst V i &&& vst V j))
def hotV (V : VV) (d : Nat) : Bool := (vh V).testBit d
def warmV (V : VV) (s l d : Nat) : Bool := if vla V 2 = 1 then hotV V d || decide (s &&& vh V = 0) else decide (vla V 2 = 0) || (hotV V l != hotV V d)
def manyV (V : VV) (s k : Nat) : Nat := cnt (fun d => s.testBit d && (vst V d).testBit k) (vn V)
def timesV (V : VV) (s : Nat) : Bool := alB (fun k => decide (manyV V s k ≤ vla V 1)) 8
def storeV (V : VV) (s : Nat) : Bool := alB (fun k => decide (manyV V s k ≤ vsto V k)) 8
def whyV (V : VV) (s l d : Nat) : Int32 := if s.testBit d = true then -2 else if l ≠ 10 ∧ pairV V l d = false then -3 else if l ≠ 10 ∧ warmV V s l d = false then -4 else if timesV V (s ||| 2 ^ d) = false then -5 else if storeV V (s ||| 2 ^ d) = true then 0 else -6
def mayV (V : VV) (s l d : Nat) : Bool := decide (whyV V s l d = 0)
def setL (l : List Nat) : Nat := l.foldl (fun a d => a ||| 2 ^ d) 0
def lastL (l : List Nat) : Nat := l.getLast?.getD 10
def hungV (V : VV) (g d : Nat) : Bool := decide (vst V d &&& vba V g ≠ 0)
def sx_arePair (σ : St) (v1 v2 : Int32) (P : Int32 → St → Prop) : Prop := ∃ V i j, IX σ V ∧ v1 = nI i ∧ v2 = nI j ∧ i < vn V ∧ j < vn V ∧ P (j01 (pairV V i j)) σ
/-- of any two of the model's eleven places (the last is the dish made) -/
def sm_shared (σ : St) (v1 v2 : Int32) (P : Int32 → St → Prop) : Prop := ∃ i j a b : Nat, v1 = nI i ∧ v2 = nI j ∧ i < 11 ∧ j < 11 ∧ gA σ 2 i = nI a ∧ gA σ 2 j = nI b ∧ a < 256 ∧ P (nI (pc (a &&& b))) σ
def sx_isWarm (σ : St) (v1 v2 v3 : Int32) (P : Int32 → St → Prop) : Prop := ∃ V s l d, IX σ V ∧ v1 = nI s ∧ v2 = nI l ∧ v3 = nI d ∧ s < 2048 ∧ l < 11 ∧ d < 11 ∧ P (j01 (warmV V s l d)) σ
def sx_manyOf (σ : St) (v1 v2 : Int32) (P : Int32 → St → Prop) : Prop := ∃ V s k, IX σ V ∧ v1 = nI s ∧ v2 = nI k ∧ s < 2048 ∧ k < 8 ∧ P (nI (manyV V s k)) σ
def sx_mostOf (σ : St) (v1 : Int32) (P : Int32 → St → Prop) : Prop := ∃ V s, IX σ V ∧ v1 = nI s ∧ s < 2048 ∧ P (nI (maxN (manyV V s) 8)) σ
def sx_isStored (σ : St) (v1 : Int32) (P : Int32 → St → Prop) : Prop := ∃ V s, IX σ V ∧ v1 = nI s ∧ s < 2048 ∧ P (j01 (storeV V s)) σ
def sx_whyNot (σ : St) (v1 v2 v3 : Int32) (P : Int32 → St → Prop) : Prop := ∃ V s l d, IX σ V ∧ v1 = nI s ∧ v2 = lI l ∧ v3 = nI d ∧ s < 2 ^ vn V ∧ (l < vn V ∨ l = 10) ∧ d < vn V ∧ P (whyV V s l d) σ
/-- the model asks the heat even where nothing was last: then the set is empty -/
def sm_refusal (σ : St) (v1 v2 v3 : Int32) (P : Int32 → St → Prop) : Prop := ∃ V s l d, IM σ V ∧ v1 = nI s ∧ v2 = lI l ∧ v3 = nI d ∧ s < 2 ^ vn V ∧ (l < vn V ∨ (l = 10 ∧ s = 0)) ∧ d < vn V ∧ P (whyV V s l d) σ
def sm_may (σ : St) (v1 v2 v3 : Int32) (P : Int32 → St → Prop) : Prop := ∃ V s l d, IM σ V ∧ v1 = nI s ∧ v2 = lI l ∧ v3 = nI d ∧ s < 2 ^ vn V ∧ (l < vn V ∨ (l = 10 ∧ s = 0)) ∧ d < vn V ∧ P (j01 (mayV V s l d)) σ
def sm_hasHot (σ : St) (v1 : Int32) (P : Int32 → St → Prop) : Prop := ∃ V s, IM σ V ∧ v1 = nI s ∧ s < 2 ^ vn V ∧ P (j01 (decide (s &&& vh V ≠ 0))) σ
def sm_fits (σ : St) (v1 v2 v3 : Int32) (P : Int32 → St → Prop) : Prop := ∃ V s d, IM σ V ∧ v1 = nI s ∧ v2 = nI d ∧ s < 2 ^ vn V ∧ d < vn V ∧ s.testBit d = false ∧ ((v3 = 0 ∧ P (j01 (timesV V (s ||| 2 ^ d))) σ) ∨ (v3 = 1 ∧ P (j01 (storeV V (s ||| 2 ^ d))) σ))
def sx_setNow (σ : St) (P : Int32 → St → Prop) : Prop := ∃ V, IX σ V ∧ P (nI (setL (vsv V))) σ
def sm_servedSet (σ : St) (P : Int32 → St → Prop) : Prop := ∃ V, IM σ V ∧ P (nI (setL (vsv V))) σ
def sx_lastNow (σ : St) (P : Int32 → St → Prop) : Prop := ∃ V, IX σ V ∧ P (lI (lastL (vsv V))) σ
def sm_servedLast (σ : St) (P : Int32 → St → Prop) : Prop := ∃ V, IM σ V ∧ P (lI (lastL (vsv V))) σ
def sx_hungryAt (σ : St) (v1 : Int32) (P : Int32 → St → Prop) : Prop := ∃ V d, IX σ V ∧ v1 = nI d ∧ d < vn V ∧ P (nI (bitsOf (fun g => hungV V g d) (vg V))) σ
def sm_isHungry (σ : St) (v1 v2 : Int32) (P : Int32 → St → Prop) : Prop := ∃ V g d, IM σ V ∧ v1 = nI g ∧ v2 = nI d ∧ g < vg V ∧ d < vn V ∧ P (j01 (hungV V g d)) σ
def sx_tells (σ : St) (v1 : Int32) (P : St → Prop) : Prop := ∃ V, IX σ V ∧ (vrow V).length < 12 ∧ ∀ σ', IX σ' (vSRow V (vrow V ++ [v1])) → Kp (14 :: 15 :: 16 :: 22 :: 23 :: 24 :: 29 :: 35 :: [8, 9, 10, 11, 13]) (30 :: 31 :: 32 :: 33 :: 36 :: 37 :: 38 :: 39 :: 40 :: 17 :: 18 :: 19 :: 20 :: 21 :: 28 :: [0, 1, 2, 3, 4, 5, 6, 7, 12, 26, 27, 41, 42]) σ σ' → (∀ k, gL σ' k = gL σ k) → P σ'
def sm_tell (σ : St) (v1 : Int32) (P : St → Prop) : Prop := ∃ V, IM σ V ∧ (vrow V).length < 12 ∧ ∀ σ', IM σ' (vSRow V (vrow V ++ [v1])) → Kp [1, 6, 9, 10, 11, 13, 17, 20, 21, 22, 23, 24, 25, 27, 28, 29, 30, 31, 32, 33, 34, 39, 49] [0, 2, 3, 4, 5, 7, 8, 12, 14, 15, 16, 26, 35, 36, 38, 40, 41, 42, 43, 44, 45, 47, 48, 50, 51, 52] σ σ' → (∀ k, gL σ' k = gL σ k) → P σ'
def costV (V : VV) (s : Nat) : Nat := sumN (fun d => if s.testBit d = true then vco V d else 0) (vn V)
def sx_costOf (σ : St) (v1 : Int32) (P : Int32 → St → Prop) : Prop := ∃ V s, IX σ V ∧ v1 = nI s ∧ s < 2 ^ vn V ∧ P (nI (costV V s)) σ
def sm_costIn (σ : St) (v1 : Int32) (P : Int32 → St → Prop) : Prop := ∃ V s, IM σ V ∧ v1 = nI s ∧ s < 2 ^ vn V ∧ P (nI (costV V s)) σ
def besV (V : VV) (d : Nat) : Nat := bitsOf (fun o => decide (o ≠ d) && pairV V d o) (vn V)
def sx_pairsOf (σ : St) (v1 : Int32) (P : Int32 → St → Prop) : Prop := ∃ V d, IX σ V ∧ v1 = nI d ∧ d < vn V ∧ P (nI (besV V d)) σ
def sm_besides (σ : St) (v1 : Int32) (P : Int32 → St → Prop) : Prop := ∃ V d, IM σ V ∧ v1 = nI d ∧ d < vn V ∧ P (nI (besV V d)) σ
/-- menus -/
def laidV (V : VV) (v : Int32) : Bool := rngB v 3 && decide (0 < (vme V v.toNatClampNeg).length)
def wholeV (V : VV) (v : Int32) : Bool := laidV V v && decide (99 ∉ vme V v.toNatClampNeg)
def sx_isLaid (σ : St) (v1 : Int32) (P : Int32 → St → Prop) : Prop := ∃ V, IX σ V ∧ P (j01 (laidV V v1)) σ
def sm_isMenu (σ : St) (v1 : Int32) (P : Int32 → St → Prop) : Prop := ∃ V, IM σ V ∧ P (j01 (laidV V v1)) σ
def sx_dishAt (σ : St) (v1 v2 : Int32) (P : Int32 → St → Prop) : Prop := ∃ V i k, IX σ V ∧ v1 = nI i ∧ v2 = nI k ∧ i < 3 ∧ k < (vme V i).length ∧ P (nI ((vme V i).getD k 0)) σ
def sx_isWhole (σ : St) (v1 : Int32) (P : Int32 → St → Prop) : Prop := ∃ V, IX σ V ∧ P (j01 (wholeV V v1)) σ
def sm_isWhole (σ : St) (v1 : Int32) (P : Int32 → St → Prop) : Prop := ∃ V, IM σ V ∧ P (j01 (wholeV V v1)) σ
