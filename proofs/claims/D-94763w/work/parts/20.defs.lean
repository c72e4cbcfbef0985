set_option maxRecDepth 100000
/-! x.back -/
def wx_back (σ : St)  (P : Int32 → St → Prop) : Prop :=
  if (xI_servedMany σ) = 0 then (P (-1 : Int32) σ) else (vp_in (xI_servedMany (xS_servedMany σ ((xI_servedMany σ) - (1 : Int32)))) 10 ∧ (P (xA_served (xS_servedMany σ ((xI_servedMany σ) - (1 : Int32))) ((xI_servedMany (xS_servedMany σ ((xI_servedMany σ) - (1 : Int32))))).toNatClampNeg) (xS_servedMany σ ((xI_servedMany σ) - (1 : Int32)))))
abbrev sx_back := @wx_back
theorem sx_back_ok {σ : St} {P : Int32 → St → Prop} (h : sx_back σ  P) : wx_back σ  P := h
/-! x.begins -/
def wx_begins (σ : St) (v1 : Int32) (P : Int32 → St → Prop) : Prop :=
  P (xI_signMany σ) (xS_end (xS_nest (xS_at (xS_signMany σ (0 : Int32)) (0 : Int32)) (0 : Int32)) (jmin (xI_signMany σ) v1))
abbrev sx_begins := @wx_begins
theorem sx_begins_ok {σ : St} {v1 : Int32} {P : Int32 → St → Prop} (h : sx_begins σ v1 P) : wx_begins σ v1 P := h
/-! x.dishAt -/
def wx_dishAt (σ : St) (v1 : Int32) (v2 : Int32) (P : Int32 → St → Prop) : Prop :=
  vp_in (((10 : Int32) * v1) + v2) 30 ∧ (P (xA_menu σ ((((10 : Int32) * v1) + v2)).toNatClampNeg) σ)
/-! x.faultOf -/
def wx_faultOf_j44 (P : Int32 → St → Prop)  (σ : St) : Prop :=
  P ((-1 : Int32) - (xI_end σ)) σ
def wx_faultOf_j65 (P : Int32 → St → Prop)  (s0 : Int32) (σ : St) : Prop :=
  P s0 σ
def wx_faultOf_j51 (P : Int32 → St → Prop)  (v3 : Int32) (σ : St) : Prop :=
  if v3 = 0 then (wx_faultOf_j65 P  ((-1 : Int32) - (xI_at σ)) σ) else (wx_faultOf_j65 P  (0 : Int32) σ)
def wx_faultOf_j20 (P : Int32 → St → Prop)  (v1 : Int32) (s0 : Int32) (σ : St) : Prop :=
  if v1 ≤ (xI_end σ) then (wx_faultOf_j51 P  s0 σ) else (if s0 = 0 then (if (xI_at σ) = (xI_end σ) then (wx_faultOf_j44 P  σ) else (wx_faultOf_j51 P  s0 σ)) else (wx_faultOf_j44 P  σ))
def wx_faultOf_j19 (P : Int32 → St → Prop)  (v1 : Int32) (σ : St) : Prop :=
  wx_faultOf_j20 P  v1 (0 : Int32) σ
def wx_faultOf (σ : St) (v1 : Int32) (v2 : Int32) (P : Int32 → St → Prop) : Prop :=
  if v2 = 0 then (wx_faultOf_j19 P  v1 σ) else (if (xI_at σ) = (xI_end σ) then (wx_faultOf_j20 P  v1 (1 : Int32) σ) else (wx_faultOf_j19 P  v1 σ))
abbrev sx_faultOf := @wx_faultOf
theorem sx_faultOf_ok {σ : St} {v1 : Int32} {v2 : Int32} {P : Int32 → St → Prop} (h : sx_faultOf σ v1 v2 P) : wx_faultOf σ v1 v2 P := h
/-! x.has -/
def wx_has_j14 (P : Int32 → Prop)  (s0 : Int32) : Prop :=
  nzB s0 ∧ P s0
def wx_has (v0 : Int32) (v1 : Int32) (P : Int32 → Prop) : Prop :=
  if ((v0 >>> (v1 &&& 31)) &&& (1 : Int32)) = (1 : Int32) then (wx_has_j14 P  (1 : Int32)) else (wx_has_j14 P  (0 : Int32))
/-! x.hungryAt -/
def wx_hungryAt_j36 (P : Int32 → St → Prop) (K4 : Int32 → Int32 → Int32 → St → Prop) (v1 : Int32) (v3 : Int32) (s0 : Int32) (s1 : Int32) (σ : St) : Prop :=
  K4 v1 (s0 ||| s1) (v3 + (1 : Int32)) σ
noncomputable def wx_hungryAt_l4 (P : Int32 → St → Prop)  (n : Nat) : Int32 → Int32 → Int32 → St → Prop :=
  Nat.rec (fun _ _ _ _ => False) (fun _ ih v1 v2 v3 σ => if (xI_guests σ) ≤ v3 then (P v2 σ) else (vp_in v3 6 ∧ (vp_in v1 10 ∧ (if ((xA_bars σ (v3).toNatClampNeg) &&& (xA_stuffs σ (v1).toNatClampNeg)) = 0 then (wx_hungryAt_j36 P ih v1 v3 v2 (0 : Int32) σ) else (wx_hungryAt_j36 P ih v1 v3 v2 ((1 : Int32) <<< (v3 &&& 31)) σ))))) n
theorem wx_hungryAt_l4_s (P : Int32 → St → Prop)  (n : Nat) (v1 : Int32) (v2 : Int32) (v3 : Int32) (σ : St) : wx_hungryAt_l4 P  (n + 1) v1 v2 v3 σ = (if (xI_guests σ) ≤ v3 then (P v2 σ) else (vp_in v3 6 ∧ (vp_in v1 10 ∧ (if ((xA_bars σ (v3).toNatClampNeg) &&& (xA_stuffs σ (v1).toNatClampNeg)) = 0 then (wx_hungryAt_j36 P (wx_hungryAt_l4 P  n) v1 v3 v2 (0 : Int32) σ) else (wx_hungryAt_j36 P (wx_hungryAt_l4 P  n) v1 v3 v2 ((1 : Int32) <<< (v3 &&& 31)) σ))))) := rfl
def wx_hungryAt (σ : St) (v1 : Int32) (P : Int32 → St → Prop) : Prop :=
  ∃ n4, wx_hungryAt_l4 P  n4 v1 (0 : Int32) (0 : Int32) σ
/-! x.in -/
def wx_in_j18 (P : Int32 → Prop)  (s0 : Int32) : Prop :=
  nzB s0 ∧ P s0
def wx_in_j17 (P : Int32 → Prop)   : Prop :=
  wx_in_j18 P  (0 : Int32)
def wx_in (v0 : Int64) (v2 : Int64) (v4 : Int64) (P : Int32 → Prop) : Prop :=
  if (lg_cmp v0 v2) < 0 then (wx_in_j17 P  ) else (if 0 < (lg_cmp v0 v4) then (wx_in_j17 P  ) else (wx_in_j18 P  (1 : Int32)))
/-! x.isAt -/
def wx_isAt_j29 (P : Int32 → St → Prop)  (s0 : Int32) (σ : St) : Prop :=
  nzB s0 ∧ P s0 σ
def wx_isAt_j28 (P : Int32 → St → Prop)  (σ : St) : Prop :=
  wx_isAt_j29 P  (0 : Int32) σ
def wx_isAt (σ : St) (v1 : Int32) (P : Int32 → St → Prop) : Prop :=
  if (xI_end σ) ≤ (xI_at σ) then (wx_isAt_j28 P  σ) else (vp_in (xI_at σ) 80 ∧ (if (xA_text σ ((xI_at σ)).toNatClampNeg) = v1 then (wx_isAt_j29 P  (1 : Int32) σ) else (wx_isAt_j28 P  σ)))
abbrev sx_isAt := @wx_isAt
theorem sx_isAt_ok {σ : St} {v1 : Int32} {P : Int32 → St → Prop} (h : sx_isAt σ v1 P) : wx_isAt σ v1 P := h
/-! x.laid -/
def wx_laid_j26 (P : Int32 → St → Prop) (K4 : Int32 → Int32 → St → Prop) (v2 : Int32) (s0 : Int32) (s1 : Int32) (σ : St) : Prop :=
  K4 (s0 ||| s1) (v2 + (1 : Int32)) σ
noncomputable def wx_laid_l4 (P : Int32 → St → Prop)  (n : Nat) : Int32 → Int32 → St → Prop :=
  Nat.rec (fun _ _ _ => False) (fun _ ih v1 v2 σ => if (3 : Int32) ≤ v2 then (P v1 σ) else (vp_in v2 3 ∧ (if (xA_menuMany σ (v2).toNatClampNeg) ≤ 0 then (wx_laid_j26 P ih v2 v1 (0 : Int32) σ) else (wx_laid_j26 P ih v2 v1 ((1 : Int32) <<< (v2 &&& 31)) σ)))) n
theorem wx_laid_l4_s (P : Int32 → St → Prop)  (n : Nat) (v1 : Int32) (v2 : Int32) (σ : St) : wx_laid_l4 P  (n + 1) v1 v2 σ = (if (3 : Int32) ≤ v2 then (P v1 σ) else (vp_in v2 3 ∧ (if (xA_menuMany σ (v2).toNatClampNeg) ≤ 0 then (wx_laid_j26 P (wx_laid_l4 P  n) v2 v1 (0 : Int32) σ) else (wx_laid_j26 P (wx_laid_l4 P  n) v2 v1 ((1 : Int32) <<< (v2 &&& 31)) σ)))) := rfl
def wx_laid (σ : St)  (P : Int32 → St → Prop) : Prop :=
  ∃ n4, wx_laid_l4 P  n4 (0 : Int32) (0 : Int32) σ
abbrev sx_laid := @wx_laid
theorem sx_laid_ok {σ : St} {P : Int32 → St → Prop} (h : sx_laid σ  P) : wx_laid σ  P := h
/-! x.lastNow -/
def wx_lastNow_j22 (P : Int32 → St → Prop)  (s0 : Int32) (σ : St) : Prop :=
  P s0 σ
def wx_lastNow (σ : St)  (P : Int32 → St → Prop) : Prop :=
  if (xI_servedMany σ) = 0 then (wx_lastNow_j22 P  (-1 : Int32) σ) else (vp_in ((xI_servedMany σ) - (1 : Int32)) 10 ∧ (wx_lastNow_j22 P  (xA_served σ (((xI_servedMany σ) - (1 : Int32))).toNatClampNeg) σ))
/-! x.setNow -/
noncomputable def wx_setNow_l4 (P : Int32 → St → Prop)  (n : Nat) : Int32 → Int32 → St → Prop :=
  Nat.rec (fun _ _ _ => False) (fun _ ih v1 v2 σ => if (xI_servedMany σ) ≤ v2 then (P v1 σ) else (vp_in v2 10 ∧ (ih (v1 ||| ((1 : Int32) <<< ((xA_served σ (v2).toNatClampNeg) &&& 31))) (v2 + (1 : Int32)) σ))) n
theorem wx_setNow_l4_s (P : Int32 → St → Prop)  (n : Nat) (v1 : Int32) (v2 : Int32) (σ : St) : wx_setNow_l4 P  (n + 1) v1 v2 σ = (if (xI_servedMany σ) ≤ v2 then (P v1 σ) else (vp_in v2 10 ∧ (wx_setNow_l4 P  n (v1 ||| ((1 : Int32) <<< ((xA_served σ (v2).toNatClampNeg) &&& 31))) (v2 + (1 : Int32)) σ))) := rfl
def wx_setNow (σ : St)  (P : Int32 → St → Prop) : Prop :=
  ∃ n4, wx_setNow_l4 P  n4 (0 : Int32) (0 : Int32) σ
/-! x.sign -/
noncomputable def wx_sign_l13 (P : Int32 → St → Prop)  (n : Nat) : Int32 → Int32 → St → Prop :=
  Nat.rec (fun _ _ _ => False) (fun _ ih v1 v2 σ => if (4 : Int32) ≤ v2 then (P (xI_signMany (xS_signMany σ ((xI_signMany σ) + (4 : Int32)))) (xS_signMany σ ((xI_signMany σ) + (4 : Int32)))) else (vp_in ((xI_signMany σ) + v2) 80 ∧ (ih v1 (v2 + (1 : Int32)) (xU_text σ ((xI_signMany σ) + v2) ((v1 >>> (((24 : Int32) - ((8 : Int32) * v2)) &&& 31)) &&& (255 : Int32)))))) n
theorem wx_sign_l13_s (P : Int32 → St → Prop)  (n : Nat) (v1 : Int32) (v2 : Int32) (σ : St) : wx_sign_l13 P  (n + 1) v1 v2 σ = (if (4 : Int32) ≤ v2 then (P (xI_signMany (xS_signMany σ ((xI_signMany σ) + (4 : Int32)))) (xS_signMany σ ((xI_signMany σ) + (4 : Int32)))) else (vp_in ((xI_signMany σ) + v2) 80 ∧ (wx_sign_l13 P  n v1 (v2 + (1 : Int32)) (xU_text σ ((xI_signMany σ) + v2) ((v1 >>> (((24 : Int32) - ((8 : Int32) * v2)) &&& 31)) &&& (255 : Int32)))))) := rfl
def wx_sign (σ : St) (v1 : Int32) (P : Int32 → St → Prop) : Prop :=
  if (xI_signMany σ) ≤ (76 : Int32) then (∃ n13, wx_sign_l13 P  n13 v1 (0 : Int32) σ) else (P (-1 : Int32) σ)
abbrev sx_sign := @wx_sign
theorem sx_sign_ok {σ : St} {v1 : Int32} {P : Int32 → St → Prop} (h : sx_sign σ v1 P) : wx_sign σ v1 P := h
/-! x.stateOf -/
def wx_stateOf_j14 (P : Int32 → Prop)  (s0 : Int32) (s1 : Int32) : Prop :=
  P (s0 + s1)
def wx_stateOf (v0 : Int32) (v1 : Int32) (P : Int32 → Prop) : Prop :=
  if 0 ≤ v1 then (wx_stateOf_j14 P  ((11 : Int32) * v0) v1) else (wx_stateOf_j14 P  ((11 : Int32) * v0) (10 : Int32))
/-! x.stuffsOf -/
def wx_stuffsOf_j18 (P : Int32 → St → Prop)  (s0 : Int32) (σ : St) : Prop :=
  P s0 σ
def wx_stuffsOf (σ : St) (v1 : Int32) (v2 : Int32) (P : Int32 → St → Prop) : Prop :=
  if v1 = (xI_dishes σ) then (wx_stuffsOf_j18 P  v2 σ) else (vp_in v1 10 ∧ (wx_stuffsOf_j18 P  (xA_stuffs σ (v1).toNatClampNeg) σ))
abbrev sx_stuffsOf := @wx_stuffsOf
theorem sx_stuffsOf_ok {σ : St} {v1 : Int32} {v2 : Int32} {P : Int32 → St → Prop} (h : sx_stuffsOf σ v1 v2 P) : wx_stuffsOf σ v1 v2 P := h
/-! x.swaps -/
def wx_swaps (σ : St) (v1 : Int32) (v2 : Int32) (v3 : Int32) (P : St → Prop) : Prop :=
  vp_in (((10 : Int32) * v1) + v2) 30 ∧ (vp_in (((10 : Int32) * v1) + v3) 30 ∧ (vp_in (((10 : Int32) * v1) + v2) 30 ∧ (vp_in (((10 : Int32) * v1) + v3) 30 ∧ (P (xU_menu (xU_menu σ (((10 : Int32) * v1) + v2) (xA_menu σ ((((10 : Int32) * v1) + v3)).toNatClampNeg)) (((10 : Int32) * v1) + v3) (xA_menu σ ((((10 : Int32) * v1) + v2)).toNatClampNeg))))))
abbrev sx_swaps := @wx_swaps
theorem sx_swaps_ok {σ : St} {v1 : Int32} {v2 : Int32} {v3 : Int32} {P : St → Prop} (h : sx_swaps σ v1 v2 v3 P) : wx_swaps σ v1 v2 v3 P := h
/-! x.tells -/
def wx_tells (σ : St) (v1 : Int32) (P : St → Prop) : Prop :=
  vp_in (xI_rowMany σ) 16 ∧ (P (xS_rowMany (xU_row σ (xI_rowMany σ) v1) ((xI_rowMany (xU_row σ (xI_rowMany σ) v1)) + (1 : Int32))))
/-! x.again -/
def wx_again (σ : St) (v1 : Int32) (P : Int32 → St → Prop) : Prop :=
  sx_in ((v1).toInt64) (0 : Int64) (1 : Int64) (fun r4 => if r4 = 0 then (P (0 : Int32) σ) else (vp_in v1 2 ∧ (if (xA_isKept σ (v1).toNatClampNeg) = 0 then (P (0 : Int32) σ) else (vp_in ((((23 : Int32) * v1) + (23 : Int32)) - (1 : Int32)) 46 ∧ (if (xA_kept σ (((((23 : Int32) * v1) + (23 : Int32)) - (1 : Int32))).toNatClampNeg) = (xI_dishes σ) then (vp_cp ((23 : Int32) * v1) (0 : Int32) (8 : Int32) 46 8 ∧ (vp_cp (((23 : Int32) * v1) + (8 : Int32)) (0 : Int32) (3 : Int32) 46 3 ∧ (vp_cp ((((23 : Int32) * v1) + (8 : Int32)) + (3 : Int32)) (0 : Int32) (10 : Int32) 46 10 ∧ (vp_in ((((23 : Int32) * v1) + (23 : Int32)) - (2 : Int32)) 46 ∧ (P (1 : Int32) (xS_servedMany (uC (uC (uC σ 41 5 ((23 : Int32) * v1) (0 : Int32) (8 : Int32)) 41 6 (((23 : Int32) * v1) + (8 : Int32)) (0 : Int32) (3 : Int32)) 41 7 ((((23 : Int32) * v1) + (8 : Int32)) + (3 : Int32)) (0 : Int32) (10 : Int32)) (xA_kept (uC (uC (uC σ 41 5 ((23 : Int32) * v1) (0 : Int32) (8 : Int32)) 41 6 (((23 : Int32) * v1) + (8 : Int32)) (0 : Int32) (3 : Int32)) 41 7 ((((23 : Int32) * v1) + (8 : Int32)) + (3 : Int32)) (0 : Int32) (10 : Int32)) (((((23 : Int32) * v1) + (23 : Int32)) - (2 : Int32))).toNatClampNeg))))))) else (P (0 : Int32) σ))))))
abbrev sx_again := @wx_again
theorem sx_again_ok {σ : St} {v1 : Int32} {P : Int32 → St → Prop} (h : sx_again σ v1 P) : wx_again σ v1 P := h
/-! x.arePair -/
def wx_arePair_j30 (P : Int32 → St → Prop)  (s0 : Int32) (σ : St) : Prop :=
  nzB s0 ∧ P s0 σ
def wx_arePair (σ : St) (v1 : Int32) (v2 : Int32) (P : Int32 → St → Prop) : Prop :=
  vp_in v1 10 ∧ (vp_in v2 10 ∧ (vp_in (0 : Int32) 3 ∧ (if (bitC ((xA_stuffs σ (v1).toNatClampNeg) &&& (xA_stuffs σ (v2).toNatClampNeg))) < (xA_law σ ((0 : Int32)).toNatClampNeg) then (wx_arePair_j30 P  (0 : Int32) σ) else (wx_arePair_j30 P  (1 : Int32) σ))))
/-! x.costOf -/
def wx_costOf_j31 (P : Int32 → St → Prop) (K4 : Int32 → Int32 → Int32 → St → Prop) (v1 : Int32) (v3 : Int32) (s0 : Int32) (s1 : Int32) (σ : St) : Prop :=
  K4 v1 (s0 + s1) (v3 + (1 : Int32)) σ
noncomputable def wx_costOf_l4 (P : Int32 → St → Prop)  (n : Nat) : Int32 → Int32 → Int32 → St → Prop :=
  Nat.rec (fun _ _ _ _ => False) (fun _ ih v1 v2 v3 σ => if (xI_dishes σ) ≤ v3 then (P v2 σ) else (sx_has v1 v3 (fun r15 => if r15 = 0 then (wx_costOf_j31 P ih v1 v3 v2 (0 : Int32) σ) else (vp_in v3 10 ∧ (wx_costOf_j31 P ih v1 v3 v2 (xA_cost σ (v3).toNatClampNeg) σ))))) n
theorem wx_costOf_l4_s (P : Int32 → St → Prop)  (n : Nat) (v1 : Int32) (v2 : Int32) (v3 : Int32) (σ : St) : wx_costOf_l4 P  (n + 1) v1 v2 v3 σ = (if (xI_dishes σ) ≤ v3 then (P v2 σ) else (sx_has v1 v3 (fun r15 => if r15 = 0 then (wx_costOf_j31 P (wx_costOf_l4 P  n) v1 v3 v2 (0 : Int32) σ) else (vp_in v3 10 ∧ (wx_costOf_j31 P (wx_costOf_l4 P  n) v1 v3 v2 (xA_cost σ (v3).toNatClampNeg) σ))))) := rfl
def wx_costOf (σ : St) (v1 : Int32) (P : Int32 → St → Prop) : Prop :=
  ∃ n4, wx_costOf_l4 P  n4 v1 (0 : Int32) (0 : Int32) σ
/-! x.eatenBy -/
def wx_eatenBy_j51 (P : Int32 → St → Prop) (K5 : Int32 → Int32 → Int32 → Int32 → St → Prop) (v1 : Int32) (v2 : Int32) (v4 : Int32) (s0 : Int32) (s1 : Int32) (σ : St) : Prop :=
  K5 v1 v2 (s0 ||| s1) (v4 + (1 : Int32)) σ
noncomputable def wx_eatenBy_l5 (P : Int32 → St → Prop)  (n : Nat) : Int32 → Int32 → Int32 → Int32 → St → Prop :=
  Nat.rec (fun _ _ _ _ _ => False) (fun _ ih v1 v2 v3 v4 σ => vp_in v1 3 ∧ (if (xA_menuMany σ (v1).toNatClampNeg) ≤ v4 then (P v3 σ) else (sx_dishAt σ v1 v4 (fun r22 σ22 => sx_hungryAt σ22 r22 (fun r25 σ25 => sx_has r25 v2 (fun r29 => if r29 = 0 then (sx_dishAt σ25 v1 v4 (fun r47 σ47 => vp_in r47 10 ∧ (wx_eatenBy_j51 P ih v1 v2 v4 v3 (xA_stuffs σ47 (r47).toNatClampNeg) σ47))) else (wx_eatenBy_j51 P ih v1 v2 v4 v3 (0 : Int32) σ25))))))) n
theorem wx_eatenBy_l5_s (P : Int32 → St → Prop)  (n : Nat) (v1 : Int32) (v2 : Int32) (v3 : Int32) (v4 : Int32) (σ : St) : wx_eatenBy_l5 P  (n + 1) v1 v2 v3 v4 σ = (vp_in v1 3 ∧ (if (xA_menuMany σ (v1).toNatClampNeg) ≤ v4 then (P v3 σ) else (sx_dishAt σ v1 v4 (fun r22 σ22 => sx_hungryAt σ22 r22 (fun r25 σ25 => sx_has r25 v2 (fun r29 => if r29 = 0 then (sx_dishAt σ25 v1 v4 (fun r47 σ47 => vp_in r47 10 ∧ (wx_eatenBy_j51 P (wx_eatenBy_l5 P  n) v1 v2 v4 v3 (xA_stuffs σ47 (r47).toNatClampNeg) σ47))) else (wx_eatenBy_j51 P (wx_eatenBy_l5 P  n) v1 v2 v4 v3 (0 : Int32) σ25))))))) := rfl
def wx_eatenBy (σ : St) (v1 : Int32) (v2 : Int32) (P : Int32 → St → Prop) : Prop :=
  ∃ n5, wx_eatenBy_l5 P  n5 v1 v2 (0 : Int32) (0 : Int32) σ
abbrev sx_eatenBy := @wx_eatenBy
theorem sx_eatenBy_ok {σ : St} {v1 : Int32} {v2 : Int32} {P : Int32 → St → Prop} (h : sx_eatenBy σ v1 v2 P) : wx_eatenBy σ v1 v2 P := h
/-! x.end -/
def wx_end (σ : St) (v1 : Int32) (P : Int32 → St → Prop) : Prop :=
  sx_in ((v1).toInt64) (0 : Int64) (((xI_signMany σ)).toInt64) (fun r8 => if r8 = 0 then (P (0 : Int32) σ) else (P (1 : Int32) (xS_signMany σ v1)))
abbrev sx_end := @wx_end
theorem sx_end_ok {σ : St} {v1 : Int32} {P : Int32 → St → Prop} (h : sx_end σ v1 P) : wx_end σ v1 P := h
/-! x.fits -/
def wx_fits_j26 (P : Int32 → St → Prop)  (s0 : Int32) (σ : St) : Prop :=
  nzB s0 ∧ P s0 σ
def wx_fits_j21 (P : Int32 → St → Prop)  (σ : St) : Prop :=
  wx_fits_j26 P  (1 : Int32) σ
def wx_fits (σ : St) (v1 : Int32) (v2 : Int32) (v3 : Int32) (P : Int32 → St → Prop) : Prop :=
  sx_dishAt σ v1 v2 (fun r3 σ3 => if r3 = (99 : Int32) then (wx_fits_j21 P  σ3) else (sx_dishAt σ3 v1 v2 (fun r14 σ14 => if r14 = v3 then (wx_fits_j21 P  σ14) else (wx_fits_j26 P  (0 : Int32) σ14))))
abbrev sx_fits := @wx_fits
theorem sx_fits_ok {σ : St} {v1 : Int32} {v2 : Int32} {v3 : Int32} {P : Int32 → St → Prop} (h : sx_fits σ v1 v2 v3 P) : wx_fits σ v1 v2 v3 P := h
/-! x.isDigit -/
def wx_isDigit_j38 (P : Int32 → St → Prop)  (s0 : Int32) (σ : St) : Prop :=
  nzB s0 ∧ P s0 σ
def wx_isDigit_j37 (P : Int32 → St → Prop)  (σ : St) : Prop :=
  wx_isDigit_j38 P  (0 : Int32) σ
def wx_isDigit (σ : St)  (P : Int32 → St → Prop) : Prop :=
  if (xI_end σ) ≤ (xI_at σ) then (wx_isDigit_j37 P  σ) else (vp_in (xI_at σ) 80 ∧ (sx_in (((xA_text σ ((xI_at σ)).toNatClampNeg)).toInt64) (48 : Int64) (57 : Int64) (fun r27 => if r27 = 0 then (wx_isDigit_j37 P  σ) else (wx_isDigit_j38 P  (1 : Int32) σ))))
abbrev sx_isDigit := @wx_isDigit
theorem sx_isDigit_ok {σ : St} {P : Int32 → St → Prop} (h : sx_isDigit σ  P) : wx_isDigit σ  P := h
/-! x.isDish -/
def wx_isDish (σ : St) (v1 : Int32) (P : Int32 → St → Prop) : Prop :=
  sx_in ((v1).toInt64) (0 : Int64) ((((xI_dishes σ) - (1 : Int32))).toInt64) (fun r10 => nzB r10 ∧ P r10 σ)
/-! x.isGuest -/
def wx_isGuest (σ : St) (v1 : Int32) (P : Int32 → St → Prop) : Prop :=
  sx_in ((v1).toInt64) (0 : Int64) ((((xI_guests σ) - (1 : Int32))).toInt64) (fun r10 => nzB r10 ∧ P r10 σ)
/-! x.isLastOf -/
def wx_isLastOf_j21 (P : Int32 → St → Prop)  (s0 : Int32) (σ : St) : Prop :=
  nzB s0 ∧ P s0 σ
def wx_isLastOf (σ : St) (v1 : Int32) (v2 : Int32) (P : Int32 → St → Prop) : Prop :=
  if 0 ≤ v2 then (sx_has v1 v2 (fun r18 => wx_isLastOf_j21 P  r18 σ)) else (if v1 = 0 then (wx_isLastOf_j21 P  (1 : Int32) σ) else (wx_isLastOf_j21 P  (0 : Int32) σ))
/-! x.isLaw -/
def wx_isLaw_j55 (P : Int32 → Prop)  (s0 : Int32) : Prop :=
  nzB s0 ∧ P s0
def wx_isLaw_j54 (P : Int32 → Prop)   : Prop :=
  wx_isLaw_j55 P  (0 : Int32)
def wx_isLaw (v0 : Int32) (v1 : Int32) (P : Int32 → Prop) : Prop :=
  if v0 = 0 then (sx_in ((v1).toInt64) (1 : Int64) (8 : Int64) (fun r10 => wx_isLaw_j55 P  r10)) else (if v0 = (1 : Int32) then (sx_in ((v1).toInt64) (1 : Int64) (9 : Int64) (fun r27 => wx_isLaw_j55 P  r27)) else (if v0 = (2 : Int32) then (sx_in ((v1).toInt64) (0 : Int64) (2 : Int64) (fun r44 => if r44 = 0 then (wx_isLaw_j54 P  ) else (wx_isLaw_j55 P  (1 : Int32)))) else (wx_isLaw_j54 P  )))
/-! x.isMenu -/
def wx_isMenu (v0 : Int32) (P : Int32 → Prop) : Prop :=
  sx_in ((v0).toInt64) (0 : Int64) (2 : Int64) (fun r6 => nzB r6 ∧ P r6)
/-! x.isPlace -/
def wx_isPlace (σ : St) (v1 : Int32) (v2 : Int32) (P : Int32 → St → Prop) : Prop :=
  vp_in v1 3 ∧ (sx_in ((v2).toInt64) (0 : Int64) ((((xA_menuMany σ (v1).toNatClampNeg) - (1 : Int32))).toInt64) (fun r12 => nzB r12 ∧ P r12 σ))
abbrev sx_isPlace := @wx_isPlace
theorem sx_isPlace_ok {σ : St} {v1 : Int32} {v2 : Int32} {P : Int32 → St → Prop} (h : sx_isPlace σ v1 v2 P) : wx_isPlace σ v1 v2 P := h
/-! x.isPurse -/
def wx_isPurse_j29 (P : Int32 → St → Prop)  (s0 : Int32) (σ : St) : Prop :=
  nzB s0 ∧ P s0 σ
def wx_isPurse_j28 (P : Int32 → St → Prop)  (σ : St) : Prop :=
  wx_isPurse_j29 P  (0 : Int32) σ
def wx_isPurse (σ : St) (v1 : Int32) (v2 : Int32) (P : Int32 → St → Prop) : Prop :=
  sx_in ((v1).toInt64) (0 : Int64) (10 : Int64) (fun r6 => if r6 = 0 then (wx_isPurse_j28 P  σ) else (sx_in ((v2).toInt64) (0 : Int64) (999 : Int64) (fun r18 => if r18 = 0 then (wx_isPurse_j28 P  σ) else (wx_isPurse_j29 P  (1 : Int32) σ))))
/-! x.isStuff -/
def wx_isStuff_j38 (P : Int32 → St → Prop)  (s0 : Int32) (σ : St) : Prop :=
  nzB s0 ∧ P s0 σ
def wx_isStuff_j37 (P : Int32 → St → Prop)  (σ : St) : Prop :=
  wx_isStuff_j38 P  (0 : Int32) σ
def wx_isStuff (σ : St)  (P : Int32 → St → Prop) : Prop :=
  if (xI_end σ) ≤ (xI_at σ) then (wx_isStuff_j37 P  σ) else (vp_in (xI_at σ) 80 ∧ (sx_in (((xA_text σ ((xI_at σ)).toNatClampNeg)).toInt64) (97 : Int64) (104 : Int64) (fun r27 => if r27 = 0 then (wx_isStuff_j37 P  σ) else (wx_isStuff_j38 P  (1 : Int32) σ))))
abbrev sx_isStuff := @wx_isStuff
theorem sx_isStuff_ok {σ : St} {P : Int32 → St → Prop} (h : sx_isStuff σ  P) : wx_isStuff σ  P := h
/-! x.isWarm -/
def wx_isWarm_j35 (P : Int32 → St → Prop)  (s0 : Int32) (σ : St) : Prop :=
  nzB s0 ∧ P s0 σ
def wx_isWarm_j30 (P : Int32 → St → Prop)  (σ : St) : Prop :=
  wx_isWarm_j35 P  (1 : Int32) σ
def wx_isWarm_j69 (P : Int32 → St → Prop)  (s0 : Int32) (σ : St) : Prop :=
  nzB s0 ∧ P s0 σ
def wx_isWarm_j64 (P : Int32 → St → Prop)  (σ : St) : Prop :=
  wx_isWarm_j69 P  (1 : Int32) σ
def wx_isWarm (σ : St) (v1 : Int32) (v2 : Int32) (v3 : Int32) (P : Int32 → St → Prop) : Prop :=
  vp_in (2 : Int32) 3 ∧ (if (xA_law σ ((2 : Int32)).toNatClampNeg) = (1 : Int32) then (sx_has (xI_hot σ) v3 (fun r15 => if r15 = 0 then (if (v1 &&& (xI_hot σ)) = 0 then (wx_isWarm_j30 P  σ) else (wx_isWarm_j35 P  (0 : Int32) σ)) else (wx_isWarm_j30 P  σ))) else (vp_in (2 : Int32) 3 ∧ (if (xA_law σ ((2 : Int32)).toNatClampNeg) = 0 then (wx_isWarm_j64 P  σ) else (sx_has (xI_hot σ) v2 (fun r50 => sx_has (xI_hot σ) v3 (fun r58 => if r50 = r58 then (wx_isWarm_j69 P  (0 : Int32) σ) else (wx_isWarm_j64 P  σ)))))))
/-! x.keep -/
def wx_keep (σ : St) (v1 : Int32) (P : Int32 → St → Prop) : Prop :=
  sx_in ((v1).toInt64) (0 : Int64) (1 : Int64) (fun r4 => if r4 = 0 then (P (0 : Int32) σ) else (vp_cp (0 : Int32) ((23 : Int32) * v1) (8 : Int32) 8 46 ∧ (vp_cp (0 : Int32) (((23 : Int32) * v1) + (8 : Int32)) (3 : Int32) 3 46 ∧ (vp_cp (0 : Int32) ((((23 : Int32) * v1) + (8 : Int32)) + (3 : Int32)) (10 : Int32) 10 46 ∧ (vp_in ((((23 : Int32) * v1) + (23 : Int32)) - (2 : Int32)) 46 ∧ (vp_in ((((23 : Int32) * v1) + (23 : Int32)) - (1 : Int32)) 46 ∧ (vp_in v1 2 ∧ (P (1 : Int32) (xU_isKept (xU_kept (xU_kept (uC (uC (uC σ 5 41 (0 : Int32) ((23 : Int32) * v1) (8 : Int32)) 6 41 (0 : Int32) (((23 : Int32) * v1) + (8 : Int32)) (3 : Int32)) 7 41 (0 : Int32) ((((23 : Int32) * v1) + (8 : Int32)) + (3 : Int32)) (10 : Int32)) ((((23 : Int32) * v1) + (23 : Int32)) - (2 : Int32)) (xI_servedMany (uC (uC (uC σ 5 41 (0 : Int32) ((23 : Int32) * v1) (8 : Int32)) 6 41 (0 : Int32) (((23 : Int32) * v1) + (8 : Int32)) (3 : Int32)) 7 41 (0 : Int32) ((((23 : Int32) * v1) + (8 : Int32)) + (3 : Int32)) (10 : Int32)))) ((((23 : Int32) * v1) + (23 : Int32)) - (1 : Int32)) (xI_dishes (xU_kept (uC (uC (uC σ 5 41 (0 : Int32) ((23 : Int32) * v1) (8 : Int32)) 6 41 (0 : Int32) (((23 : Int32) * v1) + (8 : Int32)) (3 : Int32)) 7 41 (0 : Int32) ((((23 : Int32) * v1) + (8 : Int32)) + (3 : Int32)) (10 : Int32)) ((((23 : Int32) * v1) + (23 : Int32)) - (2 : Int32)) (xI_servedMany (uC (uC (uC σ 5 41 (0 : Int32) ((23 : Int32) * v1) (8 : Int32)) 6 41 (0 : Int32) (((23 : Int32) * v1) + (8 : Int32)) (3 : Int32)) 7 41 (0 : Int32) ((((23 : Int32) * v1) + (8 : Int32)) + (3 : Int32)) (10 : Int32)))))) v1 (vp_nar .boolean (1 : Int32)))))))))))
abbrev sx_keep := @wx_keep
theorem sx_keep_ok {σ : St} {v1 : Int32} {P : Int32 → St → Prop} (h : sx_keep σ v1 P) : wx_keep σ v1 P := h
/-! x.manyOf -/
def wx_manyOf_j43 (P : Int32 → St → Prop) (K5 : Int32 → Int32 → Int32 → Int32 → St → Prop) (v1 : Int32) (v2 : Int32) (v4 : Int32) (s0 : Int32) (s1 : Int32) (σ : St) : Prop :=
  K5 v1 v2 (s0 + s1) (v4 + (1 : Int32)) σ
def wx_manyOf_j42 (P : Int32 → St → Prop) (K5 : Int32 → Int32 → Int32 → Int32 → St → Prop) (v1 : Int32) (v2 : Int32) (v4 : Int32) (s0 : Int32) (σ : St) : Prop :=
  wx_manyOf_j43 P K5 v1 v2 v4 s0 (0 : Int32) σ
noncomputable def wx_manyOf_l5 (P : Int32 → St → Prop)  (n : Nat) : Int32 → Int32 → Int32 → Int32 → St → Prop :=
  Nat.rec (fun _ _ _ _ _ => False) (fun _ ih v1 v2 v3 v4 σ => if (xI_dishes σ) ≤ v4 then (P v3 σ) else (sx_has v1 v4 (fun r18 => if r18 = 0 then (wx_manyOf_j42 P ih v1 v2 v4 v3 σ) else (vp_in v4 10 ∧ (sx_has (xA_stuffs σ (v4).toNatClampNeg) v2 (fun r32 => if r32 = 0 then (wx_manyOf_j42 P ih v1 v2 v4 v3 σ) else (wx_manyOf_j43 P ih v1 v2 v4 v3 (1 : Int32) σ))))))) n
theorem wx_manyOf_l5_s (P : Int32 → St → Prop)  (n : Nat) (v1 : Int32) (v2 : Int32) (v3 : Int32) (v4 : Int32) (σ : St) : wx_manyOf_l5 P  (n + 1) v1 v2 v3 v4 σ = (if (xI_dishes σ) ≤ v4 then (P v3 σ) else (sx_has v1 v4 (fun r18 => if r18 = 0 then (wx_manyOf_j42 P (wx_manyOf_l5 P  n) v1 v2 v4 v3 σ) else (vp_in v4 10 ∧ (sx_has (xA_stuffs σ (v4).toNatClampNeg) v2 (fun r32 => if r32 = 0 then (wx_manyOf_j42 P (wx_manyOf_l5 P  n) v1 v2 v4 v3 σ) else (wx_manyOf_j43 P (wx_manyOf_l5 P  n) v1 v2 v4 v3 (1 : Int32) σ))))))) := rfl
def wx_manyOf (σ : St) (v1 : Int32) (v2 : Int32) (P : Int32 → St → Prop) : Prop :=
  ∃ n5, wx_manyOf_l5 P  n5 v1 v2 (0 : Int32) (0 : Int32) σ
/-! x.mendBy -/
def wx_mendBy_j21 (P : Int32 → St → Prop)  (v2 : Int32) (v3 : Int32) (s0 : Int32) (s1 : Int32) (σ : St) : Prop :=
  sx_stateOf (v2 ||| ((1 : Int32) <<< (v3 &&& 31))) v3 (fun r31 => vp_in r31 11264 ∧ (P (jmin s0 (s1 + (xA_value σ (r31).toNatClampNeg))) σ))
def wx_mendBy (σ : St) (v1 : Int32) (v2 : Int32) (v3 : Int32) (P : Int32 → St → Prop) : Prop :=
  sx_dishAt σ v1 (bitC v2) (fun r9 σ9 => if r9 = v3 then (wx_mendBy_j21 P  v2 v3 (1000000 : Int32) (0 : Int32) σ9) else (wx_mendBy_j21 P  v2 v3 (1000000 : Int32) (1 : Int32) σ9))
abbrev sx_mendBy := @wx_mendBy
theorem sx_mendBy_ok {σ : St} {v1 : Int32} {v2 : Int32} {v3 : Int32} {P : Int32 → St → Prop} (h : sx_mendBy σ v1 v2 v3 P) : wx_mendBy σ v1 v2 v3 P := h
/-! x.rare -/
def wx_rare_j52 (P : Int32 → St → Prop) (K19 : Int32 → Int32 → Int32 → Int32 → Int32 → St → Prop) (v1 : Int32) (v2 : Int32) (v3 : Int32) (v5 : Int32) (s0 : Int32) (s1 : Int32) (σ : St) : Prop :=
  K19 v1 v2 v3 (s0 ||| s1) (v5 + (1 : Int32)) σ
noncomputable def wx_rare_l19 (P : Int32 → St → Prop) (K85 : Int32 → Int32 → St → Prop) (K90 : Int32 → Int32 → Int32 → St → Prop) (n : Nat) : Int32 → Int32 → Int32 → Int32 → Int32 → St → Prop :=
  Nat.rec (fun _ _ _ _ _ _ => False) (fun _ ih v1 v2 v3 v4 v5 σ => if (xI_dishes σ) ≤ v5 then (if v4 = 0 then (K90 v1 v2 v3 σ) else (if v1 < 0 then (K85 v3 v4 σ) else (if (bitC v4) < (bitC v2) then (K85 v3 v4 σ) else (K90 v1 v2 v3 σ)))) else (vp_in v5 10 ∧ (sx_has (xA_stuffs σ (v5).toNatClampNeg) v3 (fun r38 => if r38 = 0 then (wx_rare_j52 P ih v1 v2 v3 v5 v4 (0 : Int32) σ) else (wx_rare_j52 P ih v1 v2 v3 v5 v4 ((1 : Int32) <<< (v5 &&& 31)) σ))))) n
theorem wx_rare_l19_s (P : Int32 → St → Prop) (K85 : Int32 → Int32 → St → Prop) (K90 : Int32 → Int32 → Int32 → St → Prop) (n : Nat) (v1 : Int32) (v2 : Int32) (v3 : Int32) (v4 : Int32) (v5 : Int32) (σ : St) : wx_rare_l19 P K85 K90 (n + 1) v1 v2 v3 v4 v5 σ = (if (xI_dishes σ) ≤ v5 then (if v4 = 0 then (K90 v1 v2 v3 σ) else (if v1 < 0 then (K85 v3 v4 σ) else (if (bitC v4) < (bitC v2) then (K85 v3 v4 σ) else (K90 v1 v2 v3 σ)))) else (vp_in v5 10 ∧ (sx_has (xA_stuffs σ (v5).toNatClampNeg) v3 (fun r38 => if r38 = 0 then (wx_rare_j52 P (wx_rare_l19 P K85 K90 n) v1 v2 v3 v5 v4 (0 : Int32) σ) else (wx_rare_j52 P (wx_rare_l19 P K85 K90 n) v1 v2 v3 v5 v4 ((1 : Int32) <<< (v5 &&& 31)) σ))))) := rfl
def wx_rare_j90 (P : Int32 → St → Prop) (K7 : Int32 → Int32 → Int32 → St → Prop) (v1 : Int32) (v2 : Int32) (v3 : Int32) (σ : St) : Prop :=
  K7 v1 v2 (v3 + (1 : Int32)) σ
def wx_rare_j85 (P : Int32 → St → Prop) (K7 : Int32 → Int32 → Int32 → St → Prop) (v3 : Int32) (v4 : Int32) (σ : St) : Prop :=
  wx_rare_j90 P K7 v3 v4 v3 σ
noncomputable def wx_rare_l7 (P : Int32 → St → Prop)  (n : Nat) : Int32 → Int32 → Int32 → St → Prop :=
  Nat.rec (fun _ _ _ _ => False) (fun _ ih v1 v2 v3 σ => if (8 : Int32) ≤ v3 then (if 0 ≤ v1 then (sx_tells (xS_rowMany σ (0 : Int32)) v2 (fun σ110 => P v1 σ110)) else (P (-2 : Int32) σ)) else (∃ n19, wx_rare_l19 P (wx_rare_j85 P ih) (wx_rare_j90 P ih) n19 v1 v2 v3 (0 : Int32) (0 : Int32) σ)) n
theorem wx_rare_l7_s (P : Int32 → St → Prop)  (n : Nat) (v1 : Int32) (v2 : Int32) (v3 : Int32) (σ : St) : wx_rare_l7 P  (n + 1) v1 v2 v3 σ = (if (8 : Int32) ≤ v3 then (if 0 ≤ v1 then (sx_tells (xS_rowMany σ (0 : Int32)) v2 (fun σ110 => P v1 σ110)) else (P (-2 : Int32) σ)) else (∃ n19, wx_rare_l19 P (wx_rare_j85 P (wx_rare_l7 P  n)) (wx_rare_j90 P (wx_rare_l7 P  n)) n19 v1 v2 v3 (0 : Int32) (0 : Int32) σ)) := rfl
def wx_rare (σ : St)  (P : Int32 → St → Prop) : Prop :=
  ∃ n7, wx_rare_l7 P  n7 (-2 : Int32) (0 : Int32) (0 : Int32) σ
abbrev sx_rare := @wx_rare
theorem sx_rare_ok {σ : St} {P : Int32 → St → Prop} (h : sx_rare σ  P) : wx_rare σ  P := h
/-! x.sheet -/
def wx_sheet_j107 (P : Int32 → St → Prop) (K41 : Int32 → Int32 → Int32 → Int32 → Int32 → Int32 → St → Prop) (v1 : Int32) (v2 : Int32) (v4 : Int32) (v5 : Int32) (v6 : Int32) (v7 : Int32) (s1 : Int32) (s2 : Int32) (σ : St) : Prop :=
  vp_in s1 10 ∧ (vp_in v7 10 ∧ (K41 v1 v2 v4 (v5 + (xA_cost (xU_cost σ s1 s2) (v7).toNatClampNeg)) (v6 + v4) (v7 + (1 : Int32)) (xU_cost σ s1 s2)))
def wx_sheet_j92 (P : Int32 → St → Prop) (K41 : Int32 → Int32 → Int32 → Int32 → Int32 → Int32 → St → Prop) (v1 : Int32) (v2 : Int32) (v4 : Int32) (v5 : Int32) (v6 : Int32) (v7 : Int32) (s1 : Int32) (σ : St) : Prop :=
  wx_sheet_j107 P K41 v1 v2 v4 v5 v6 v7 s1 (0 : Int32) σ
def wx_sheet_j73 (P : Int32 → St → Prop) (K41 : Int32 → Int32 → Int32 → Int32 → Int32 → Int32 → St → Prop) (v1 : Int32) (v2 : Int32) (v4 : Int32) (v5 : Int32) (v6 : Int32) (v7 : Int32) (s0 : Int32) (σ : St) : Prop :=
  if v1 = (3 : Int32) then (wx_sheet_j92 P K41 v1 v2 v4 v5 v6 v7 v7 σ) else (if v7 < v2 then (wx_sheet_j107 P K41 v1 v2 v4 v5 v6 v7 v7 (jmax (0 : Int32) (jmin (99 : Int32) s0)) σ) else (wx_sheet_j92 P K41 v1 v2 v4 v5 v6 v7 v7 σ))
noncomputable def wx_sheet_l41 (P : Int32 → St → Prop) (K145 : Int32 → St → Prop) (n : Nat) : Int32 → Int32 → Int32 → Int32 → Int32 → Int32 → St → Prop :=
  Nat.rec (fun _ _ _ _ _ _ _ => False) (fun _ ih v1 v2 v4 v5 v6 v7 σ => if (xI_dishes σ) ≤ v7 then (if v1 = (3 : Int32) then (K145 (-3 : Int32) σ) else (K145 v5 σ)) else (if v1 = 0 then (wx_sheet_j73 P ih v1 v2 v4 v5 v6 v7 ((v6).toInt8.toInt32) σ) else (if v1 = (1 : Int32) then (wx_sheet_j73 P ih v1 v2 v4 v5 v6 v7 ((v6).toInt16.toInt32) σ) else (wx_sheet_j73 P ih v1 v2 v4 v5 v6 v7 v6 σ)))) n
theorem wx_sheet_l41_s (P : Int32 → St → Prop) (K145 : Int32 → St → Prop) (n : Nat) (v1 : Int32) (v2 : Int32) (v4 : Int32) (v5 : Int32) (v6 : Int32) (v7 : Int32) (σ : St) : wx_sheet_l41 P K145 (n + 1) v1 v2 v4 v5 v6 v7 σ = (if (xI_dishes σ) ≤ v7 then (if v1 = (3 : Int32) then (K145 (-3 : Int32) σ) else (K145 v5 σ)) else (if v1 = 0 then (wx_sheet_j73 P (wx_sheet_l41 P K145 n) v1 v2 v4 v5 v6 v7 ((v6).toInt8.toInt32) σ) else (if v1 = (1 : Int32) then (wx_sheet_j73 P (wx_sheet_l41 P K145 n) v1 v2 v4 v5 v6 v7 ((v6).toInt16.toInt32) σ) else (wx_sheet_j73 P (wx_sheet_l41 P K145 n) v1 v2 v4 v5 v6 v7 v6 σ)))) := rfl
def wx_sheet_j145 (P : Int32 → St → Prop)  (s0 : Int32) (σ : St) : Prop :=
  P s0 σ
def wx_sheet_j32 (P : Int32 → St → Prop)  (v1 : Int32) (v2 : Int32) (v3 : Int32) (v4 : Int32) (σ : St) : Prop :=
  ∃ n41, wx_sheet_l41 P (wx_sheet_j145 P) n41 v1 v2 v4 (0 : Int32) v3 (0 : Int32) σ
def wx_sheet (σ : St) (v1 : Int32) (v2 : Int32) (v3 : Int32) (v4 : Int32) (P : Int32 → St → Prop) : Prop :=
  sx_in ((v1).toInt64) (0 : Int64) (3 : Int64) (fun r6 => if r6 = 0 then (P (-1 : Int32) σ) else (if v2 ≤ (10 : Int32) then (if v1 = (3 : Int32) then (wx_sheet_j32 P  v1 v2 v3 v4 σ) else (if 0 ≤ v2 then (wx_sheet_j32 P  v1 v2 v3 v4 σ) else (P (-2 : Int32) σ))) else (P (-1 : Int32) σ)))
abbrev sx_sheet := @wx_sheet
theorem sx_sheet_ok {σ : St} {v1 : Int32} {v2 : Int32} {v3 : Int32} {v4 : Int32} {P : Int32 → St → Prop} (h : sx_sheet σ v1 v2 v3 v4 P) : wx_sheet σ v1 v2 v3 v4 P := h
/-! x.store -/
def wx_store (σ : St) (v1 : Int32) (v2 : Int32) (P : Int32 → St → Prop) : Prop :=
  sx_in ((v1).toInt64) (0 : Int64) (7 : Int64) (fun r6 => if r6 = 0 then (P (-1 : Int32) σ) else (sx_in ((v2).toInt64) (0 : Int64) (99 : Int64) (fun r18 => if r18 = 0 then (P (-1 : Int32) σ) else (vp_in v1 8 ∧ (vp_in v1 8 ∧ (P (xA_stores σ (v1).toNatClampNeg) (xU_stores σ v1 v2)))))))
abbrev sx_store := @wx_store
theorem sx_store_ok {σ : St} {v1 : Int32} {v2 : Int32} {P : Int32 → St → Prop} (h : sx_store σ v1 v2 P) : wx_store σ v1 v2 P := h
/-! x.takes -/
def wx_takes_j20 (P : Int32 → St → Prop)  (v2 : Int32) (s1 : Int32) (s2 : Int32) (σ : St) : Prop :=
  nzB v2 ∧ P v2 (xS_at σ (s1 + s2))
def wx_takes (σ : St) (v1 : Int32) (P : Int32 → St → Prop) : Prop :=
  sx_isAt σ v1 (fun r2 σ2 => if r2 = 0 then (wx_takes_j20 P  r2 (xI_at σ2) (0 : Int32) σ2) else (wx_takes_j20 P  r2 (xI_at σ2) (1 : Int32) σ2))
abbrev sx_takes := @wx_takes
theorem sx_takes_ok {σ : St} {v1 : Int32} {P : Int32 → St → Prop} (h : sx_takes σ v1 P) : wx_takes σ v1 P := h
/-! x.count -/
def wx_count (σ : St) (v1 : Int32) (P : Int32 → St → Prop) : Prop :=
  if v1 = (0 : Int32) then (P (xI_dishes σ) σ) else (if v1 = (1 : Int32) then (P (xI_guests σ) σ) else (if v1 = (2 : Int32) then (P (xI_servedMany σ) σ) else (if v1 = (3 : Int32) then (sx_lastNow σ  (fun r64 σ64 => P r64 σ64)) else (if v1 = (4 : Int32) then (sx_setNow σ  (fun r70 σ70 => sx_costOf σ70 r70 (fun r73 σ73 => P r73 σ73))) else (if v1 = (5 : Int32) then (P (xI_rowMany σ) σ) else (if v1 = (6 : Int32) then (P (xI_signMany σ) σ) else (if v1 = (7 : Int32) then (sx_laid σ  (fun r88 σ88 => P r88 σ88)) else (P (-1 : Int32) σ))))))))
abbrev sx_count := @wx_count
theorem sx_count_ok {σ : St} {v1 : Int32} {P : Int32 → St → Prop} (h : sx_count σ v1 P) : wx_count σ v1 P := h
/-! x.goesOn -/
def wx_goesOn_j62 (P : Int32 → St → Prop)  (s0 : Int32) (σ : St) : Prop :=
  nzB s0 ∧ P s0 σ
def wx_goesOn_j57 (P : Int32 → St → Prop)  (σ : St) : Prop :=
  wx_goesOn_j62 P  (1 : Int32) σ
def wx_goesOn_j61 (P : Int32 → St → Prop)  (σ : St) : Prop :=
  wx_goesOn_j62 P  (0 : Int32) σ
def wx_goesOn (σ : St) (v1 : Int32) (v2 : Int32) (v3 : Int32) (P : Int32 → St → Prop) : Prop :=
  sx_has v1 v3 (fun r2 => if r2 = 0 then (sx_has (xI_allowed σ) v3 (fun r13 => if r13 = 0 then (P (0 : Int32) σ) else (vp_in (v1 ||| ((1 : Int32) <<< (v3 &&& 31))) 1024 ∧ (if (xA_fine σ ((v1 ||| ((1 : Int32) <<< (v3 &&& 31)))).toNatClampNeg) = 0 then (P (0 : Int32) σ) else (if v2 < 0 then (wx_goesOn_j57 P  σ) else (sx_arePair σ v2 v3 (fun r41 σ41 => if r41 = 0 then (wx_goesOn_j61 P  σ41) else (sx_isWarm σ41 v1 v2 v3 (fun r51 σ51 => if r51 = 0 then (wx_goesOn_j61 P  σ51) else (wx_goesOn_j57 P  σ51)))))))))) else (P (0 : Int32) σ))
abbrev sx_goesOn := @wx_goesOn
theorem sx_goesOn_ok {σ : St} {v1 : Int32} {v2 : Int32} {v3 : Int32} {P : Int32 → St → Prop} (h : sx_goesOn σ v1 v2 v3 P) : wx_goesOn σ v1 v2 v3 P := h
/-! x.goesWith -/
def wx_goesWith (σ : St) (v1 : Int32) (v2 : Int32) (v3 : Int32) (v4 : Int32) (P : Int32 → St → Prop) : Prop :=
  sx_stuffsOf σ v2 v4 (fun r4 σ4 => sx_stuffsOf σ4 v3 v4 (fun r11 σ11 => vp_in (0 : Int32) 3 ∧ (if (xA_law σ11 ((0 : Int32)).toNatClampNeg) ≤ (bitC (r4 &&& r11)) then (sx_isWarm σ11 v1 v2 v3 (fun r33 σ33 => nzB r33 ∧ P r33 σ33)) else (P (0 : Int32) σ11))))
abbrev sx_goesWith := @wx_goesWith
theorem sx_goesWith_ok {σ : St} {v1 : Int32} {v2 : Int32} {v3 : Int32} {v4 : Int32} {P : Int32 → St → Prop} (h : sx_goesWith σ v1 v2 v3 v4 P) : wx_goesWith σ v1 v2 v3 v4 P := h
/-! x.isFineWith -/
def wx_isFineWith_j38 (P : Int32 → St → Prop) (K2 : Int32 → Int32 → Int32 → St → Prop) (v1 : Int32) (v2 : Int32) (v3 : Int32) (s0 : Int32) (s1 : Int32) (σ : St) : Prop :=
  vp_in (1 : Int32) 3 ∧ (if (xA_law σ ((1 : Int32)).toNatClampNeg) < (s0 + s1) then (P (0 : Int32) σ) else (vp_in v3 8 ∧ (if (s0 + s1) ≤ (xA_stores σ (v3).toNatClampNeg) then (K2 v1 v2 (v3 + (1 : Int32)) σ) else (P (0 : Int32) σ))))
def wx_isFineWith_j37 (P : Int32 → St → Prop) (K2 : Int32 → Int32 → Int32 → St → Prop) (v1 : Int32) (v2 : Int32) (v3 : Int32) (s0 : Int32) (σ : St) : Prop :=
  wx_isFineWith_j38 P K2 v1 v2 v3 s0 (0 : Int32) σ
noncomputable def wx_isFineWith_l2 (P : Int32 → St → Prop)  (n : Nat) : Int32 → Int32 → Int32 → St → Prop :=
  Nat.rec (fun _ _ _ _ => False) (fun _ ih v1 v2 v3 σ => if (8 : Int32) ≤ v3 then (P (1 : Int32) σ) else (sx_manyOf σ v1 v3 (fun r11 σ11 => sx_has v1 (xI_dishes σ11) (fun r19 => if r19 = 0 then (wx_isFineWith_j37 P ih v1 v2 v3 r11 σ11) else (sx_has v2 v3 (fun r27 => if r27 = 0 then (wx_isFineWith_j37 P ih v1 v2 v3 r11 σ11) else (wx_isFineWith_j38 P ih v1 v2 v3 r11 (1 : Int32) σ11))))))) n
theorem wx_isFineWith_l2_s (P : Int32 → St → Prop)  (n : Nat) (v1 : Int32) (v2 : Int32) (v3 : Int32) (σ : St) : wx_isFineWith_l2 P  (n + 1) v1 v2 v3 σ = (if (8 : Int32) ≤ v3 then (P (1 : Int32) σ) else (sx_manyOf σ v1 v3 (fun r11 σ11 => sx_has v1 (xI_dishes σ11) (fun r19 => if r19 = 0 then (wx_isFineWith_j37 P (wx_isFineWith_l2 P  n) v1 v2 v3 r11 σ11) else (sx_has v2 v3 (fun r27 => if r27 = 0 then (wx_isFineWith_j37 P (wx_isFineWith_l2 P  n) v1 v2 v3 r11 σ11) else (wx_isFineWith_j38 P (wx_isFineWith_l2 P  n) v1 v2 v3 r11 (1 : Int32) σ11))))))) := rfl
def wx_isFineWith (σ : St) (v1 : Int32) (v2 : Int32) (P : Int32 → St → Prop) : Prop :=
  ∃ n2, wx_isFineWith_l2 P  n2 v1 v2 (0 : Int32) σ
abbrev sx_isFineWith := @wx_isFineWith
theorem sx_isFineWith_ok {σ : St} {v1 : Int32} {v2 : Int32} {P : Int32 → St → Prop} (h : sx_isFineWith σ v1 v2 P) : wx_isFineWith σ v1 v2 P := h
/-! x.isLaid -/
def wx_isLaid_j21 (P : Int32 → St → Prop)  (s0 : Int32) (σ : St) : Prop :=
  nzB s0 ∧ P s0 σ
def wx_isLaid_j20 (P : Int32 → St → Prop)  (σ : St) : Prop :=
  wx_isLaid_j21 P  (0 : Int32) σ
def wx_isLaid (σ : St) (v1 : Int32) (P : Int32 → St → Prop) : Prop :=
  sx_isMenu v1 (fun r1 => if r1 = 0 then (wx_isLaid_j20 P  σ) else (vp_in v1 3 ∧ (if (xA_menuMany σ (v1).toNatClampNeg) ≤ 0 then (wx_isLaid_j20 P  σ) else (wx_isLaid_j21 P  (1 : Int32) σ))))
/-! x.isStored -/
noncomputable def wx_isStored_l2 (P : Int32 → St → Prop)  (n : Nat) : Int32 → Int32 → St → Prop :=
  Nat.rec (fun _ _ _ => False) (fun _ ih v1 v2 σ => if (8 : Int32) ≤ v2 then (P (1 : Int32) σ) else (sx_manyOf σ v1 v2 (fun r11 σ11 => vp_in v2 8 ∧ (if r11 ≤ (xA_stores σ11 (v2).toNatClampNeg) then (ih v1 (v2 + (1 : Int32)) σ11) else (P (0 : Int32) σ11))))) n
theorem wx_isStored_l2_s (P : Int32 → St → Prop)  (n : Nat) (v1 : Int32) (v2 : Int32) (σ : St) : wx_isStored_l2 P  (n + 1) v1 v2 σ = (if (8 : Int32) ≤ v2 then (P (1 : Int32) σ) else (sx_manyOf σ v1 v2 (fun r11 σ11 => vp_in v2 8 ∧ (if r11 ≤ (xA_stores σ11 (v2).toNatClampNeg) then (wx_isStored_l2 P  n v1 (v2 + (1 : Int32)) σ11) else (P (0 : Int32) σ11))))) := rfl
def wx_isStored (σ : St) (v1 : Int32) (P : Int32 → St → Prop) : Prop :=
  ∃ n2, wx_isStored_l2 P  n2 v1 (0 : Int32) σ
/-! x.law -/
def wx_law (σ : St) (v1 : Int32) (v2 : Int32) (P : Int32 → St → Prop) : Prop :=
  sx_isLaw v1 v2 (fun r2 => if r2 = 0 then (P (-1 : Int32) σ) else (vp_in v1 3 ∧ (vp_in v1 3 ∧ (P (xA_law σ (v1).toNatClampNeg) (xU_law σ v1 v2)))))
abbrev sx_law := @wx_law
theorem sx_law_ok {σ : St} {v1 : Int32} {v2 : Int32} {P : Int32 → St → Prop} (h : sx_law σ v1 v2 P) : wx_law σ v1 v2 P := h
/-! x.letters -/
noncomputable def wx_letters_l4 (P : Int32 → St → Prop) (K59 : Int32 → St → Prop) (n : Nat) : Int32 → Int32 → St → Prop :=
  Nat.rec (fun _ _ _ => False) (fun _ ih v1 v2 σ => sx_isStuff σ  (fun r5 σ5 => if r5 = 0 then (K59 v1 σ5) else (vp_in (xI_at σ5) 80 ∧ (if ((xA_text σ5 ((xI_at σ5)).toNatClampNeg) - (97 : Int32)) ≤ v2 then (K59 v1 σ5) else (vp_in (xI_at σ5) 80 ∧ (ih (v1 ||| ((1 : Int32) <<< (((xA_text σ5 ((xI_at σ5)).toNatClampNeg) - (97 : Int32)) &&& 31))) ((xA_text σ5 ((xI_at σ5)).toNatClampNeg) - (97 : Int32)) (xS_at σ5 ((xI_at σ5) + (1 : Int32))))))))) n
theorem wx_letters_l4_s (P : Int32 → St → Prop) (K59 : Int32 → St → Prop) (n : Nat) (v1 : Int32) (v2 : Int32) (σ : St) : wx_letters_l4 P K59 (n + 1) v1 v2 σ = (sx_isStuff σ  (fun r5 σ5 => if r5 = 0 then (K59 v1 σ5) else (vp_in (xI_at σ5) 80 ∧ (if ((xA_text σ5 ((xI_at σ5)).toNatClampNeg) - (97 : Int32)) ≤ v2 then (K59 v1 σ5) else (vp_in (xI_at σ5) 80 ∧ (wx_letters_l4 P K59 n (v1 ||| ((1 : Int32) <<< (((xA_text σ5 ((xI_at σ5)).toNatClampNeg) - (97 : Int32)) &&& 31))) ((xA_text σ5 ((xI_at σ5)).toNatClampNeg) - (97 : Int32)) (xS_at σ5 ((xI_at σ5) + (1 : Int32))))))))) := rfl
def wx_letters_j59 (P : Int32 → St → Prop)  (v1 : Int32) (σ : St) : Prop :=
  P v1 σ
def wx_letters (σ : St)  (P : Int32 → St → Prop) : Prop :=
  ∃ n4, wx_letters_l4 P (wx_letters_j59 P) n4 (0 : Int32) (-1 : Int32) σ
abbrev sx_letters := @wx_letters
theorem sx_letters_ok {σ : St} {P : Int32 → St → Prop} (h : sx_letters σ  P) : wx_letters σ  P := h
/-! x.menu -/
def wx_menu_j99 (P : Int32 → St → Prop) (K19 : Int32 → Int32 → Int32 → St → Prop) (v1 : Int32) (v2 : Int32) (v3 : Int32) (s1 : Int32) (s2 : Int32) (σ : St) : Prop :=
  vp_in s1 10 ∧ (K19 v1 v2 (v3 + (1 : Int32)) (xS_at (xU_readMenu σ s1 s2) ((xI_at (xU_readMenu σ s1 s2)) + (1 : Int32))))
def wx_menu_j63 (P : Int32 → St → Prop) (K19 : Int32 → Int32 → Int32 → St → Prop) (v1 : Int32) (v2 : Int32) (v3 : Int32) (σ : St) : Prop :=
  vp_in (xI_at σ) 80 ∧ (if (xA_text σ ((xI_at σ)).toNatClampNeg) = (63 : Int32) then (wx_menu_j99 P K19 v1 v2 v3 v3 (99 : Int32) σ) else (vp_in (xI_at σ) 80 ∧ (wx_menu_j99 P K19 v1 v2 v3 v3 ((xA_text σ ((xI_at σ)).toNatClampNeg) - (65 : Int32)) σ)))
noncomputable def wx_menu_l19 (P : Int32 → St → Prop) (K116 : Int32 → Int32 → Int32 → St → Prop) (n : Nat) : Int32 → Int32 → Int32 → St → Prop :=
  Nat.rec (fun _ _ _ _ => False) (fun _ ih v1 v2 v3 σ => if (xI_end σ) ≤ (xI_at σ) then (K116 v1 v2 v3 σ) else (vp_in (xI_at σ) 80 ∧ (if (xA_text σ ((xI_at σ)).toNatClampNeg) = (63 : Int32) then (wx_menu_j63 P ih v1 v2 v3 σ) else (vp_in (xI_at σ) 80 ∧ (sx_isDish σ ((xA_text σ ((xI_at σ)).toNatClampNeg) - (65 : Int32)) (fun r57 σ57 => if r57 = 0 then (K116 v1 v2 v3 σ57) else (wx_menu_j63 P ih v1 v2 v3 σ57))))))) n
theorem wx_menu_l19_s (P : Int32 → St → Prop) (K116 : Int32 → Int32 → Int32 → St → Prop) (n : Nat) (v1 : Int32) (v2 : Int32) (v3 : Int32) (σ : St) : wx_menu_l19 P K116 (n + 1) v1 v2 v3 σ = (if (xI_end σ) ≤ (xI_at σ) then (K116 v1 v2 v3 σ) else (vp_in (xI_at σ) 80 ∧ (if (xA_text σ ((xI_at σ)).toNatClampNeg) = (63 : Int32) then (wx_menu_j63 P (wx_menu_l19 P K116 n) v1 v2 v3 σ) else (vp_in (xI_at σ) 80 ∧ (sx_isDish σ ((xA_text σ ((xI_at σ)).toNatClampNeg) - (65 : Int32)) (fun r57 σ57 => if r57 = 0 then (K116 v1 v2 v3 σ57) else (wx_menu_j63 P (wx_menu_l19 P K116 n) v1 v2 v3 σ57))))))) := rfl
def wx_menu_j116 (P : Int32 → St → Prop)  (v1 : Int32) (v2 : Int32) (v3 : Int32) (σ : St) : Prop :=
  sx_faultOf σ v2 (1 : Int32) (fun r119 σ119 => if 0 ≤ r119 then (vp_cp (0 : Int32) ((10 : Int32) * v1) (10 : Int32) 10 30 ∧ (vp_in v1 3 ∧ (P v3 (xU_menuMany (uC σ119 28 26 (0 : Int32) ((10 : Int32) * v1) (10 : Int32)) v1 v3)))) else (P r119 σ119))
def wx_menu (σ : St) (v1 : Int32) (P : Int32 → St → Prop) : Prop :=
  sx_begins σ (10 : Int32) (fun r3 σ3 => sx_isMenu v1 (fun r8 => if r8 = 0 then (P (-100 : Int32) σ3) else (∃ n19, wx_menu_l19 P (wx_menu_j116 P) n19 v1 r3 (0 : Int32) σ3)))
abbrev sx_menu := @wx_menu
theorem sx_menu_ok {σ : St} {v1 : Int32} {P : Int32 → St → Prop} (h : sx_menu σ v1 P) : wx_menu σ v1 P := h
/-! x.mostOf -/
noncomputable def wx_mostOf_l4 (P : Int32 → St → Prop)  (n : Nat) : Int32 → Int32 → Int32 → St → Prop :=
  Nat.rec (fun _ _ _ _ => False) (fun _ ih v1 v2 v3 σ => if (8 : Int32) ≤ v3 then (P v2 σ) else (sx_manyOf σ v1 v3 (fun r14 σ14 => ih v1 (jmax v2 r14) (v3 + (1 : Int32)) σ14))) n
theorem wx_mostOf_l4_s (P : Int32 → St → Prop)  (n : Nat) (v1 : Int32) (v2 : Int32) (v3 : Int32) (σ : St) : wx_mostOf_l4 P  (n + 1) v1 v2 v3 σ = (if (8 : Int32) ≤ v3 then (P v2 σ) else (sx_manyOf σ v1 v3 (fun r14 σ14 => wx_mostOf_l4 P  n v1 (jmax v2 r14) (v3 + (1 : Int32)) σ14))) := rfl
def wx_mostOf (σ : St) (v1 : Int32) (P : Int32 → St → Prop) : Prop :=
  ∃ n4, wx_mostOf_l4 P  n4 v1 (0 : Int32) (0 : Int32) σ
/-! x.number -/
noncomputable def wx_number_l13 (P : Int32 → St → Prop) (K59 : Int32 → St → Prop) (n : Nat) : Int32 → Int32 → Int32 → St → Prop :=
  Nat.rec (fun _ _ _ _ => False) (fun _ ih v1 v2 v3 σ => if v1 ≤ v3 then (K59 v2 σ) else (sx_isDigit σ  (fun r19 σ19 => if r19 = 0 then (K59 v2 σ19) else (vp_in (xI_at σ19) 80 ∧ (ih v1 ((((10 : Int32) * v2) + (xA_text σ19 ((xI_at σ19)).toNatClampNeg)) - (48 : Int32)) (v3 + (1 : Int32)) (xS_at σ19 ((xI_at σ19) + (1 : Int32)))))))) n
theorem wx_number_l13_s (P : Int32 → St → Prop) (K59 : Int32 → St → Prop) (n : Nat) (v1 : Int32) (v2 : Int32) (v3 : Int32) (σ : St) : wx_number_l13 P K59 (n + 1) v1 v2 v3 σ = (if v1 ≤ v3 then (K59 v2 σ) else (sx_isDigit σ  (fun r19 σ19 => if r19 = 0 then (K59 v2 σ19) else (vp_in (xI_at σ19) 80 ∧ (wx_number_l13 P K59 n v1 ((((10 : Int32) * v2) + (xA_text σ19 ((xI_at σ19)).toNatClampNeg)) - (48 : Int32)) (v3 + (1 : Int32)) (xS_at σ19 ((xI_at σ19) + (1 : Int32)))))))) := rfl
def wx_number_j59 (P : Int32 → St → Prop)  (v2 : Int32) (σ : St) : Prop :=
  P v2 σ
def wx_number (σ : St) (v1 : Int32) (P : Int32 → St → Prop) : Prop :=
  sx_isDigit σ  (fun r1 σ1 => if r1 = 0 then (P (-1 : Int32) σ1) else (∃ n13, wx_number_l13 P (wx_number_j59 P) n13 v1 (0 : Int32) (0 : Int32) σ1))
abbrev sx_number := @wx_number
theorem sx_number_ok {σ : St} {v1 : Int32} {P : Int32 → St → Prop} (h : sx_number σ v1 P) : wx_number σ v1 P := h
/-! x.over -/
noncomputable def wx_over_l7 (P : Int32 → St → Prop)  (n : Nat) : Int32 → Int32 → St → Prop :=
  Nat.rec (fun _ _ _ => False) (fun _ ih v1 v2 σ => if (8 : Int32) ≤ v2 then (P v1 (xS_servedMany σ (0 : Int32))) else (vp_in v2 8 ∧ (sx_setNow σ  (fun r27 σ27 => sx_manyOf σ27 r27 v2 (fun r31 σ31 => vp_in v2 8 ∧ (ih v1 (v2 + (1 : Int32)) (xU_stores σ31 v2 (jmax (0 : Int32) ((xA_stores σ (v2).toNatClampNeg) - r31))))))))) n
theorem wx_over_l7_s (P : Int32 → St → Prop)  (n : Nat) (v1 : Int32) (v2 : Int32) (σ : St) : wx_over_l7 P  (n + 1) v1 v2 σ = (if (8 : Int32) ≤ v2 then (P v1 (xS_servedMany σ (0 : Int32))) else (vp_in v2 8 ∧ (sx_setNow σ  (fun r27 σ27 => sx_manyOf σ27 r27 v2 (fun r31 σ31 => vp_in v2 8 ∧ (wx_over_l7 P  n v1 (v2 + (1 : Int32)) (xU_stores σ31 v2 (jmax (0 : Int32) ((xA_stores σ (v2).toNatClampNeg) - r31))))))))) := rfl
def wx_over (σ : St)  (P : Int32 → St → Prop) : Prop :=
  ∃ n7, wx_over_l7 P  n7 (xI_servedMany σ) (0 : Int32) σ
abbrev sx_over := @wx_over
theorem sx_over_ok {σ : St} {P : Int32 → St → Prop} (h : sx_over σ  P) : wx_over σ  P := h
/-! x.pairsOf -/
def wx_pairsOf_j34 (P : Int32 → St → Prop) (K4 : Int32 → Int32 → Int32 → St → Prop) (v1 : Int32) (v3 : Int32) (s0 : Int32) (s1 : Int32) (σ : St) : Prop :=
  K4 v1 (s0 ||| s1) (v3 + (1 : Int32)) σ
def wx_pairsOf_j33 (P : Int32 → St → Prop) (K4 : Int32 → Int32 → Int32 → St → Prop) (v1 : Int32) (v3 : Int32) (s0 : Int32) (σ : St) : Prop :=
  wx_pairsOf_j34 P K4 v1 v3 s0 (0 : Int32) σ
noncomputable def wx_pairsOf_l4 (P : Int32 → St → Prop)  (n : Nat) : Int32 → Int32 → Int32 → St → Prop :=
  Nat.rec (fun _ _ _ _ => False) (fun _ ih v1 v2 v3 σ => if (xI_dishes σ) ≤ v3 then (P v2 σ) else (if v3 = v1 then (wx_pairsOf_j33 P ih v1 v3 v2 σ) else (sx_arePair σ v1 v3 (fun r21 σ21 => if r21 = 0 then (wx_pairsOf_j33 P ih v1 v3 v2 σ21) else (wx_pairsOf_j34 P ih v1 v3 v2 ((1 : Int32) <<< (v3 &&& 31)) σ21))))) n
theorem wx_pairsOf_l4_s (P : Int32 → St → Prop)  (n : Nat) (v1 : Int32) (v2 : Int32) (v3 : Int32) (σ : St) : wx_pairsOf_l4 P  (n + 1) v1 v2 v3 σ = (if (xI_dishes σ) ≤ v3 then (P v2 σ) else (if v3 = v1 then (wx_pairsOf_j33 P (wx_pairsOf_l4 P  n) v1 v3 v2 σ) else (sx_arePair σ v1 v3 (fun r21 σ21 => if r21 = 0 then (wx_pairsOf_j33 P (wx_pairsOf_l4 P  n) v1 v3 v2 σ21) else (wx_pairsOf_j34 P (wx_pairsOf_l4 P  n) v1 v3 v2 ((1 : Int32) <<< (v3 &&& 31)) σ21))))) := rfl
def wx_pairsOf (σ : St) (v1 : Int32) (P : Int32 → St → Prop) : Prop :=
  ∃ n4, wx_pairsOf_l4 P  n4 v1 (0 : Int32) (0 : Int32) σ
/-! x.swap -/
def wx_swap (σ : St) (v1 : Int32) (v2 : Int32) (v3 : Int32) (P : Int32 → St → Prop) : Prop :=
  sx_isMenu v1 (fun r1 => if r1 = 0 then (P (0 : Int32) σ) else (sx_isPlace σ v1 v2 (fun r10 σ10 => if r10 = 0 then (P (0 : Int32) σ10) else (sx_isPlace σ10 v1 v3 (fun r19 σ19 => if r19 = 0 then (P (0 : Int32) σ19) else (if v2 = v3 then (P (0 : Int32) σ19) else (sx_swaps σ19 v1 v2 v3 (fun σ36 => P (1 : Int32) σ36))))))))
abbrev sx_swap := @wx_swap
theorem sx_swap_ok {σ : St} {v1 : Int32} {v2 : Int32} {v3 : Int32} {P : Int32 → St → Prop} (h : sx_swap σ v1 v2 v3 P) : wx_swap σ v1 v2 v3 P := h
/-! x.beside -/
def wx_beside_j17 (P : Int32 → St → Prop)  (s0 : Int32) (σ : St) : Prop :=
  P s0 σ
def wx_beside (σ : St) (v1 : Int32) (P : Int32 → St → Prop) : Prop :=
  sx_isDish σ v1 (fun r2 σ2 => if r2 = 0 then (wx_beside_j17 P  (-1 : Int32) σ2) else (sx_pairsOf σ2 v1 (fun r10 σ10 => wx_beside_j17 P  r10 σ10)))
abbrev sx_beside := @wx_beside
theorem sx_beside_ok {σ : St} {v1 : Int32} {P : Int32 → St → Prop} (h : sx_beside σ v1 P) : wx_beside σ v1 P := h
/-! x.isWhole -/
noncomputable def wx_isWhole_l12 (P : Int32 → St → Prop)  (n : Nat) : Int32 → Int32 → St → Prop :=
  Nat.rec (fun _ _ _ => False) (fun _ ih v1 v2 σ => vp_in v1 3 ∧ (if (xA_menuMany σ (v1).toNatClampNeg) ≤ v2 then (P (1 : Int32) σ) else (sx_dishAt σ v1 v2 (fun r25 σ25 => if r25 = (99 : Int32) then (P (0 : Int32) σ25) else (ih v1 (v2 + (1 : Int32)) σ25))))) n
theorem wx_isWhole_l12_s (P : Int32 → St → Prop)  (n : Nat) (v1 : Int32) (v2 : Int32) (σ : St) : wx_isWhole_l12 P  (n + 1) v1 v2 σ = (vp_in v1 3 ∧ (if (xA_menuMany σ (v1).toNatClampNeg) ≤ v2 then (P (1 : Int32) σ) else (sx_dishAt σ v1 v2 (fun r25 σ25 => if r25 = (99 : Int32) then (P (0 : Int32) σ25) else (wx_isWhole_l12 P  n v1 (v2 + (1 : Int32)) σ25))))) := rfl
def wx_isWhole (σ : St) (v1 : Int32) (P : Int32 → St → Prop) : Prop :=
  sx_isLaid σ v1 (fun r2 σ2 => if r2 = 0 then (P (0 : Int32) σ2) else (∃ n12, wx_isWhole_l12 P  n12 v1 (0 : Int32) σ2))
/-! x.joins -/
def wx_joins_j62 (P : Int32 → St → Prop) (K35 : Int32 → Int32 → Int32 → Int32 → St → Prop) (v1 : Int32) (v2 : Int32) (v3 : Int32) (v4 : Int32) (s1 : Int32) (s2 : Int32) (σ : St) : Prop :=
  vp_in s1 2048 ∧ (K35 v1 v2 v3 (v4 + (1 : Int32)) (xU_wideLasts σ s1 s2))
noncomputable def wx_joins_l35 (P : Int32 → St → Prop) (K72 : Int32 → Int32 → Int32 → Int32 → St → Prop) (n : Nat) : Int32 → Int32 → Int32 → Int32 → St → Prop :=
  Nat.rec (fun _ _ _ _ _ => False) (fun _ ih v1 v2 v3 v4 σ => if v3 < v4 then (K72 v1 v2 v3 (1 : Int32) σ) else (if (bitC v4) = (1 : Int32) then (wx_joins_j62 P ih v1 v2 v3 v4 v4 v4 σ) else (wx_joins_j62 P ih v1 v2 v3 v4 v4 (0 : Int32) σ))) n
theorem wx_joins_l35_s (P : Int32 → St → Prop) (K72 : Int32 → Int32 → Int32 → Int32 → St → Prop) (n : Nat) (v1 : Int32) (v2 : Int32) (v3 : Int32) (v4 : Int32) (σ : St) : wx_joins_l35 P K72 (n + 1) v1 v2 v3 v4 σ = (if v3 < v4 then (K72 v1 v2 v3 (1 : Int32) σ) else (if (bitC v4) = (1 : Int32) then (wx_joins_j62 P (wx_joins_l35 P K72 n) v1 v2 v3 v4 v4 v4 σ) else (wx_joins_j62 P (wx_joins_l35 P K72 n) v1 v2 v3 v4 v4 (0 : Int32) σ))) := rfl
def wx_joins_j157 (P : Int32 → St → Prop) (K108 : Int32 → Int32 → Int32 → Int32 → Int32 → Int32 → St → Prop) (v1 : Int32) (v2 : Int32) (v3 : Int32) (v4 : Int32) (v5 : Int32) (v6 : Int32) (σ : St) : Prop :=
  K108 v1 v2 v3 v4 v5 (v6 + (1 : Int32)) σ
noncomputable def wx_joins_l108 (P : Int32 → St → Prop) (K163 : Int32 → Int32 → Int32 → Int32 → Int32 → St → Prop) (n : Nat) : Int32 → Int32 → Int32 → Int32 → Int32 → Int32 → St → Prop :=
  Nat.rec (fun _ _ _ _ _ _ _ => False) (fun _ ih v1 v2 v3 v4 v5 v6 σ => if v2 ≤ v6 then (K163 v1 v2 v3 v4 v5 σ) else (sx_has v4 v6 (fun r118 => if r118 = 0 then (sx_goesWith σ v4 v5 v6 v1 (fun r132 σ132 => if r132 = 0 then (wx_joins_j157 P ih v1 v2 v3 v4 v5 v6 σ132) else (vp_in (v4 ||| ((1 : Int32) <<< (v6 &&& 31))) 2048 ∧ (vp_in (v4 ||| ((1 : Int32) <<< (v6 &&& 31))) 2048 ∧ (wx_joins_j157 P ih v1 v2 v3 v4 v5 v6 (xU_wideLasts σ132 (v4 ||| ((1 : Int32) <<< (v6 &&& 31))) ((xA_wideLasts σ132 ((v4 ||| ((1 : Int32) <<< (v6 &&& 31)))).toNatClampNeg) ||| ((1 : Int32) <<< (v6 &&& 31))))))))) else (wx_joins_j157 P ih v1 v2 v3 v4 v5 v6 σ)))) n
theorem wx_joins_l108_s (P : Int32 → St → Prop) (K163 : Int32 → Int32 → Int32 → Int32 → Int32 → St → Prop) (n : Nat) (v1 : Int32) (v2 : Int32) (v3 : Int32) (v4 : Int32) (v5 : Int32) (v6 : Int32) (σ : St) : wx_joins_l108 P K163 (n + 1) v1 v2 v3 v4 v5 v6 σ = (if v2 ≤ v6 then (K163 v1 v2 v3 v4 v5 σ) else (sx_has v4 v6 (fun r118 => if r118 = 0 then (sx_goesWith σ v4 v5 v6 v1 (fun r132 σ132 => if r132 = 0 then (wx_joins_j157 P (wx_joins_l108 P K163 n) v1 v2 v3 v4 v5 v6 σ132) else (vp_in (v4 ||| ((1 : Int32) <<< (v6 &&& 31))) 2048 ∧ (vp_in (v4 ||| ((1 : Int32) <<< (v6 &&& 31))) 2048 ∧ (wx_joins_j157 P (wx_joins_l108 P K163 n) v1 v2 v3 v4 v5 v6 (xU_wideLasts σ132 (v4 ||| ((1 : Int32) <<< (v6 &&& 31))) ((xA_wideLasts σ132 ((v4 ||| ((1 : Int32) <<< (v6 &&& 31)))).toNatClampNeg) ||| ((1 : Int32) <<< (v6 &&& 31))))))))) else (wx_joins_j157 P (wx_joins_l108 P K163 n) v1 v2 v3 v4 v5 v6 σ)))) := rfl
def wx_joins_j163 (P : Int32 → St → Prop) (K81 : Int32 → Int32 → Int32 → Int32 → Int32 → St → Prop) (v1 : Int32) (v2 : Int32) (v3 : Int32) (v4 : Int32) (v5 : Int32) (σ : St) : Prop :=
  K81 v1 v2 v3 v4 (v5 + (1 : Int32)) σ
noncomputable def wx_joins_l81 (P : Int32 → St → Prop) (K72 : Int32 → Int32 → Int32 → Int32 → St → Prop) (n : Nat) : Int32 → Int32 → Int32 → Int32 → Int32 → St → Prop :=
  Nat.rec (fun _ _ _ _ _ _ => False) (fun _ ih v1 v2 v3 v4 v5 σ => if v2 ≤ v5 then (K72 v1 v2 v3 (v4 + (1 : Int32)) σ) else (vp_in v4 2048 ∧ (sx_has (xA_wideLasts σ (v4).toNatClampNeg) v5 (fun r96 => if r96 = 0 then (wx_joins_j163 P ih v1 v2 v3 v4 v5 σ) else (∃ n108, wx_joins_l108 P (wx_joins_j163 P ih) n108 v1 v2 v3 v4 v5 (0 : Int32) σ))))) n
theorem wx_joins_l81_s (P : Int32 → St → Prop) (K72 : Int32 → Int32 → Int32 → Int32 → St → Prop) (n : Nat) (v1 : Int32) (v2 : Int32) (v3 : Int32) (v4 : Int32) (v5 : Int32) (σ : St) : wx_joins_l81 P K72 (n + 1) v1 v2 v3 v4 v5 σ = (if v2 ≤ v5 then (K72 v1 v2 v3 (v4 + (1 : Int32)) σ) else (vp_in v4 2048 ∧ (sx_has (xA_wideLasts σ (v4).toNatClampNeg) v5 (fun r96 => if r96 = 0 then (wx_joins_j163 P (wx_joins_l81 P K72 n) v1 v2 v3 v4 v5 σ) else (∃ n108, wx_joins_l108 P (wx_joins_j163 P (wx_joins_l81 P K72 n)) n108 v1 v2 v3 v4 v5 (0 : Int32) σ))))) := rfl
noncomputable def wx_joins_l72 (P : Int32 → St → Prop) (K188 : St → Prop) (K193 : Int32 → St → Prop) (n : Nat) : Int32 → Int32 → Int32 → Int32 → St → Prop :=
  Nat.rec (fun _ _ _ _ _ => False) (fun _ ih v1 v2 v3 v4 σ => if v3 < v4 then (if v3 = 0 then (K188 σ) else (vp_in v3 2048 ∧ (if (xA_wideLasts σ (v3).toNatClampNeg) = 0 then (K193 (0 : Int32) σ) else (K188 σ)))) else (∃ n81, wx_joins_l81 P ih n81 v1 v2 v3 v4 (0 : Int32) σ)) n
theorem wx_joins_l72_s (P : Int32 → St → Prop) (K188 : St → Prop) (K193 : Int32 → St → Prop) (n : Nat) (v1 : Int32) (v2 : Int32) (v3 : Int32) (v4 : Int32) (σ : St) : wx_joins_l72 P K188 K193 (n + 1) v1 v2 v3 v4 σ = (if v3 < v4 then (if v3 = 0 then (K188 σ) else (vp_in v3 2048 ∧ (if (xA_wideLasts σ (v3).toNatClampNeg) = 0 then (K193 (0 : Int32) σ) else (K188 σ)))) else (∃ n81, wx_joins_l81 P (wx_joins_l72 P K188 K193 n) n81 v1 v2 v3 v4 (0 : Int32) σ)) := rfl
def wx_joins_j193 (P : Int32 → St → Prop)  (s0 : Int32) (σ : St) : Prop :=
  nzB s0 ∧ P s0 σ
def wx_joins_j188 (P : Int32 → St → Prop)  (σ : St) : Prop :=
  wx_joins_j193 P  (1 : Int32) σ
def wx_joins_j13 (P : Int32 → St → Prop)  (v1 : Int32) (s0 : Int32) (s1 : Int32) (σ : St) : Prop :=
  sx_isFineWith σ (((1 : Int32) <<< ((s0 + s1) &&& 31)) - (1 : Int32)) v1 (fun r24 σ24 => if r24 = 0 then (P (0 : Int32) σ24) else (∃ n35, wx_joins_l35 P (fun v1 v2 v3 v4 σ => ∃ n72, wx_joins_l72 P (wx_joins_j188 P) (wx_joins_j193 P) n72 v1 v2 v3 v4 σ) n35 v1 (s0 + s1) (((1 : Int32) <<< ((s0 + s1) &&& 31)) - (1 : Int32)) (0 : Int32) σ24))
def wx_joins (σ : St) (v1 : Int32) (P : Int32 → St → Prop) : Prop :=
  if v1 = 0 then (wx_joins_j13 P  v1 (xI_dishes σ) (0 : Int32) σ) else (wx_joins_j13 P  v1 (xI_dishes σ) (1 : Int32) σ)
abbrev sx_joins := @wx_joins
theorem sx_joins_ok {σ : St} {v1 : Int32} {P : Int32 → St → Prop} (h : sx_joins σ v1 P) : wx_joins σ v1 P := h
/-! x.laysOut -/
def wx_laysOut_j44 (P : St → Prop) (K2 : Int32 → St → Prop) (v1 : Int32) (s1 : Int32) (s2 : Int32) (σ : St) : Prop :=
  vp_in s1 1024 ∧ (K2 (v1 + (1 : Int32)) (xU_fine σ s1 s2))
def wx_laysOut_j43 (P : St → Prop) (K2 : Int32 → St → Prop) (v1 : Int32) (s1 : Int32) (σ : St) : Prop :=
  wx_laysOut_j44 P K2 v1 s1 (0 : Int32) σ
noncomputable def wx_laysOut_l2 (P : St → Prop)  (n : Nat) : Int32 → St → Prop :=
  Nat.rec (fun _ _ => False) (fun _ ih v1 σ => if ((1 : Int32) <<< ((xI_dishes σ) &&& 31)) ≤ v1 then (P (xS_allowed σ (((1 : Int32) <<< ((xI_dishes σ) &&& 31)) - (1 : Int32)))) else (sx_mostOf σ v1 (fun r19 σ19 => vp_in (1 : Int32) 3 ∧ (if (xA_law σ19 ((1 : Int32)).toNatClampNeg) < r19 then (wx_laysOut_j43 P ih v1 v1 σ19) else (sx_isStored σ19 v1 (fun r33 σ33 => if r33 = 0 then (wx_laysOut_j43 P ih v1 v1 σ33) else (wx_laysOut_j44 P ih v1 v1 (1 : Int32) σ33))))))) n
theorem wx_laysOut_l2_s (P : St → Prop)  (n : Nat) (v1 : Int32) (σ : St) : wx_laysOut_l2 P  (n + 1) v1 σ = (if ((1 : Int32) <<< ((xI_dishes σ) &&& 31)) ≤ v1 then (P (xS_allowed σ (((1 : Int32) <<< ((xI_dishes σ) &&& 31)) - (1 : Int32)))) else (sx_mostOf σ v1 (fun r19 σ19 => vp_in (1 : Int32) 3 ∧ (if (xA_law σ19 ((1 : Int32)).toNatClampNeg) < r19 then (wx_laysOut_j43 P (wx_laysOut_l2 P  n) v1 v1 σ19) else (sx_isStored σ19 v1 (fun r33 σ33 => if r33 = 0 then (wx_laysOut_j43 P (wx_laysOut_l2 P  n) v1 v1 σ33) else (wx_laysOut_j44 P (wx_laysOut_l2 P  n) v1 v1 (1 : Int32) σ33))))))) := rfl
def wx_laysOut (σ : St)  (P : St → Prop) : Prop :=
  ∃ n2, wx_laysOut_l2 P  n2 (0 : Int32) σ
abbrev sx_laysOut := @wx_laysOut
theorem sx_laysOut_ok {σ : St} {P : St → Prop} (h : sx_laysOut σ  P) : wx_laysOut σ  P := h
/-! x.measures -/
def wx_measures_j134 (P : St → Prop) (K88 : Int32 → Int32 → Int32 → Int32 → Int32 → Int32 → St → Prop) (v1 : Int32) (v2 : Int32) (v3 : Int32) (v4 : Int32) (v6 : Int32) (v7 : Int32) (σ : St) : Prop :=
  K88 v1 v2 v3 v4 v6 (v7 + (1 : Int32)) σ
noncomputable def wx_measures_l88 (P : St → Prop) (K153 : Int32 → Int32 → Int32 → Int32 → St → Prop) (n : Nat) : Int32 → Int32 → Int32 → Int32 → Int32 → Int32 → St → Prop :=
  Nat.rec (fun _ _ _ _ _ _ _ => False) (fun _ ih v1 v2 v3 v4 v6 v7 σ => if (xI_dishes σ) ≤ v7 then (sx_stateOf v3 v4 (fun r147 => vp_in r147 11264 ∧ (K153 v1 v2 v3 v4 (xU_value σ r147 v6)))) else (sx_goesOn σ v3 v4 v7 (fun r103 σ103 => if r103 = 0 then (wx_measures_j134 P ih v1 v2 v3 v4 v6 v7 σ103) else (sx_stateOf (v3 ||| ((1 : Int32) <<< (v7 &&& 31))) v7 (fun r124 => vp_in r124 11264 ∧ (wx_measures_j134 P ih v1 v2 v3 v4 (jmax v6 ((1 : Int32) + (xA_value σ103 (r124).toNatClampNeg))) v7 σ103)))))) n
theorem wx_measures_l88_s (P : St → Prop) (K153 : Int32 → Int32 → Int32 → Int32 → St → Prop) (n : Nat) (v1 : Int32) (v2 : Int32) (v3 : Int32) (v4 : Int32) (v6 : Int32) (v7 : Int32) (σ : St) : wx_measures_l88 P K153 (n + 1) v1 v2 v3 v4 v6 v7 σ = (if (xI_dishes σ) ≤ v7 then (sx_stateOf v3 v4 (fun r147 => vp_in r147 11264 ∧ (K153 v1 v2 v3 v4 (xU_value σ r147 v6)))) else (sx_goesOn σ v3 v4 v7 (fun r103 σ103 => if r103 = 0 then (wx_measures_j134 P (wx_measures_l88 P K153 n) v1 v2 v3 v4 v6 v7 σ103) else (sx_stateOf (v3 ||| ((1 : Int32) <<< (v7 &&& 31))) v7 (fun r124 => vp_in r124 11264 ∧ (wx_measures_j134 P (wx_measures_l88 P K153 n) v1 v2 v3 v4 (jmax v6 ((1 : Int32) + (xA_value σ103 (r124).toNatClampNeg))) v7 σ103)))))) := rfl
def wx_measures_j153 (P : St → Prop) (K16 : Int32 → Int32 → Int32 → Int32 → St → Prop) (v1 : Int32) (v2 : Int32) (v3 : Int32) (v4 : Int32) (σ : St) : Prop :=
  K16 v1 v2 v3 (v4 + (1 : Int32)) σ
def wx_measures_j83 (P : St → Prop) (K16 : Int32 → Int32 → Int32 → Int32 → St → Prop) (v1 : Int32) (v2 : Int32) (v3 : Int32) (v4 : Int32) (s0 : Int32) (σ : St) : Prop :=
  ∃ n88, wx_measures_l88 P (wx_measures_j153 P K16) n88 v1 v2 v3 v4 s0 (0 : Int32) σ
def wx_measures_j69 (P : St → Prop) (K16 : Int32 → Int32 → Int32 → Int32 → St → Prop) (v1 : Int32) (v2 : Int32) (v3 : Int32) (v4 : Int32) (s0 : Int32) (σ : St) : Prop :=
  if s0 = 0 then (wx_measures_j83 P K16 v1 v2 v3 v4 (-1000000 : Int32) σ) else (wx_measures_j83 P K16 v1 v2 v3 v4 (0 : Int32) σ)
def wx_measures_j64 (P : St → Prop) (K16 : Int32 → Int32 → Int32 → Int32 → St → Prop) (v1 : Int32) (v2 : Int32) (v3 : Int32) (v4 : Int32) (σ : St) : Prop :=
  wx_measures_j69 P K16 v1 v2 v3 v4 (1 : Int32) σ
def wx_measures_j68 (P : St → Prop) (K16 : Int32 → Int32 → Int32 → Int32 → St → Prop) (v1 : Int32) (v2 : Int32) (v3 : Int32) (v4 : Int32) (σ : St) : Prop :=
  wx_measures_j69 P K16 v1 v2 v3 v4 (0 : Int32) σ
noncomputable def wx_measures_l16 (P : St → Prop) (K9 : Int32 → Int32 → Int32 → St → Prop) (n : Nat) : Int32 → Int32 → Int32 → Int32 → St → Prop :=
  Nat.rec (fun _ _ _ _ _ => False) (fun _ ih v1 v2 v3 v4 σ => if (xI_dishes σ) ≤ v4 then (K9 v1 v2 (v3 + (-1 : Int32)) σ) else (sx_isLastOf σ v3 v4 (fun r29 σ29 => if r29 = 0 then (wx_measures_j153 P ih v1 v2 v3 v4 σ29) else (if v1 < 0 then (wx_measures_j64 P ih v1 v2 v3 v4 σ29) else (if v4 < 0 then (wx_measures_j68 P ih v1 v2 v3 v4 σ29) else (sx_has v1 v4 (fun r50 => if r50 = 0 then (wx_measures_j68 P ih v1 v2 v3 v4 σ29) else (if (bitC v3) < v2 then (wx_measures_j68 P ih v1 v2 v3 v4 σ29) else (wx_measures_j64 P ih v1 v2 v3 v4 σ29))))))))) n
theorem wx_measures_l16_s (P : St → Prop) (K9 : Int32 → Int32 → Int32 → St → Prop) (n : Nat) (v1 : Int32) (v2 : Int32) (v3 : Int32) (v4 : Int32) (σ : St) : wx_measures_l16 P K9 (n + 1) v1 v2 v3 v4 σ = (if (xI_dishes σ) ≤ v4 then (K9 v1 v2 (v3 + (-1 : Int32)) σ) else (sx_isLastOf σ v3 v4 (fun r29 σ29 => if r29 = 0 then (wx_measures_j153 P (wx_measures_l16 P K9 n) v1 v2 v3 v4 σ29) else (if v1 < 0 then (wx_measures_j64 P (wx_measures_l16 P K9 n) v1 v2 v3 v4 σ29) else (if v4 < 0 then (wx_measures_j68 P (wx_measures_l16 P K9 n) v1 v2 v3 v4 σ29) else (sx_has v1 v4 (fun r50 => if r50 = 0 then (wx_measures_j68 P (wx_measures_l16 P K9 n) v1 v2 v3 v4 σ29) else (if (bitC v3) < v2 then (wx_measures_j68 P (wx_measures_l16 P K9 n) v1 v2 v3 v4 σ29) else (wx_measures_j64 P (wx_measures_l16 P K9 n) v1 v2 v3 v4 σ29))))))))) := rfl
noncomputable def wx_measures_l9 (P : St → Prop)  (n : Nat) : Int32 → Int32 → Int32 → St → Prop :=
  Nat.rec (fun _ _ _ _ => False) (fun _ ih v1 v2 v3 σ => if v3 < 0 then (P σ) else (∃ n16, wx_measures_l16 P ih n16 v1 v2 v3 (-1 : Int32) σ)) n
theorem wx_measures_l9_s (P : St → Prop)  (n : Nat) (v1 : Int32) (v2 : Int32) (v3 : Int32) (σ : St) : wx_measures_l9 P  (n + 1) v1 v2 v3 σ = (if v3 < 0 then (P σ) else (∃ n16, wx_measures_l16 P (wx_measures_l9 P  n) n16 v1 v2 v3 (-1 : Int32) σ)) := rfl
def wx_measures (σ : St) (v1 : Int32) (v2 : Int32) (P : St → Prop) : Prop :=
  ∃ n9, wx_measures_l9 P  n9 v1 v2 (((1 : Int32) <<< ((xI_dishes σ) &&& 31)) - (1 : Int32)) σ
abbrev sx_measures := @wx_measures
theorem sx_measures_ok {σ : St} {v1 : Int32} {v2 : Int32} {P : St → Prop} (h : sx_measures σ v1 v2 P) : wx_measures σ v1 v2 P := h
/-! x.measuresLeast -/
def wx_measuresLeast_j101 (P : St → Prop) (K51 : Int32 → Int32 → Int32 → Int32 → Int32 → St → Prop) (v1 : Int32) (v2 : Int32) (v3 : Int32) (v4 : Int32) (v5 : Int32) (σ : St) : Prop :=
  K51 v1 v2 v3 v4 (v5 + (1 : Int32)) σ
noncomputable def wx_measuresLeast_l51 (P : St → Prop) (K107 : Int32 → Int32 → Int32 → Int32 → St → Prop) (n : Nat) : Int32 → Int32 → Int32 → Int32 → Int32 → St → Prop :=
  Nat.rec (fun _ _ _ _ _ _ => False) (fun _ ih v1 v2 v3 v4 v5 σ => if (xI_dishes σ) ≤ v5 then (K107 v1 v2 v3 v4 σ) else (if v4 ≤ 0 then (K107 v1 v2 v3 v4 σ) else (sx_goesOn σ v2 v3 v5 (fun r70 σ70 => if r70 = 0 then (wx_measuresLeast_j101 P ih v1 v2 v3 v4 v5 σ70) else (sx_stateOf (v2 ||| ((1 : Int32) <<< (v5 &&& 31))) v5 (fun r91 => vp_in r91 11264 ∧ (wx_measuresLeast_j101 P ih v1 v2 v3 (jmin v4 ((1 : Int32) + (xA_value σ70 (r91).toNatClampNeg))) v5 σ70))))))) n
theorem wx_measuresLeast_l51_s (P : St → Prop) (K107 : Int32 → Int32 → Int32 → Int32 → St → Prop) (n : Nat) (v1 : Int32) (v2 : Int32) (v3 : Int32) (v4 : Int32) (v5 : Int32) (σ : St) : wx_measuresLeast_l51 P K107 (n + 1) v1 v2 v3 v4 v5 σ = (if (xI_dishes σ) ≤ v5 then (K107 v1 v2 v3 v4 σ) else (if v4 ≤ 0 then (K107 v1 v2 v3 v4 σ) else (sx_goesOn σ v2 v3 v5 (fun r70 σ70 => if r70 = 0 then (wx_measuresLeast_j101 P (wx_measuresLeast_l51 P K107 n) v1 v2 v3 v4 v5 σ70) else (sx_stateOf (v2 ||| ((1 : Int32) <<< (v5 &&& 31))) v5 (fun r91 => vp_in r91 11264 ∧ (wx_measuresLeast_j101 P (wx_measuresLeast_l51 P K107 n) v1 v2 v3 (jmin v4 ((1 : Int32) + (xA_value σ70 (r91).toNatClampNeg))) v5 σ70))))))) := rfl
def wx_measuresLeast_j119 (P : St → Prop) (K15 : Int32 → Int32 → Int32 → St → Prop) (v1 : Int32) (v2 : Int32) (v3 : Int32) (σ : St) : Prop :=
  K15 v1 v2 (v3 + (1 : Int32)) σ
def wx_measuresLeast_j107 (P : St → Prop) (K15 : Int32 → Int32 → Int32 → St → Prop) (v1 : Int32) (v2 : Int32) (v3 : Int32) (v4 : Int32) (σ : St) : Prop :=
  sx_stateOf v2 v3 (fun r113 => vp_in r113 11264 ∧ (wx_measuresLeast_j119 P K15 v1 v2 v3 (xU_value σ r113 v4)))
def wx_measuresLeast_j46 (P : St → Prop) (K15 : Int32 → Int32 → Int32 → St → Prop) (v1 : Int32) (v2 : Int32) (v3 : Int32) (s0 : Int32) (σ : St) : Prop :=
  ∃ n51, wx_measuresLeast_l51 P (wx_measuresLeast_j107 P K15) n51 v1 v2 v3 s0 (0 : Int32) σ
noncomputable def wx_measuresLeast_l15 (P : St → Prop) (K9 : Int32 → Int32 → St → Prop) (n : Nat) : Int32 → Int32 → Int32 → St → Prop :=
  Nat.rec (fun _ _ _ _ => False) (fun _ ih v1 v2 v3 σ => if (xI_dishes σ) ≤ v3 then (K9 v1 (v2 + (-1 : Int32)) σ) else (sx_has v2 v3 (fun r25 => if r25 = 0 then (wx_measuresLeast_j119 P ih v1 v2 v3 σ) else (if v3 = v1 then (wx_measuresLeast_j46 P ih v1 v2 v3 (0 : Int32) σ) else (wx_measuresLeast_j46 P ih v1 v2 v3 (1000000 : Int32) σ))))) n
theorem wx_measuresLeast_l15_s (P : St → Prop) (K9 : Int32 → Int32 → St → Prop) (n : Nat) (v1 : Int32) (v2 : Int32) (v3 : Int32) (σ : St) : wx_measuresLeast_l15 P K9 (n + 1) v1 v2 v3 σ = (if (xI_dishes σ) ≤ v3 then (K9 v1 (v2 + (-1 : Int32)) σ) else (sx_has v2 v3 (fun r25 => if r25 = 0 then (wx_measuresLeast_j119 P (wx_measuresLeast_l15 P K9 n) v1 v2 v3 σ) else (if v3 = v1 then (wx_measuresLeast_j46 P (wx_measuresLeast_l15 P K9 n) v1 v2 v3 (0 : Int32) σ) else (wx_measuresLeast_j46 P (wx_measuresLeast_l15 P K9 n) v1 v2 v3 (1000000 : Int32) σ))))) := rfl
noncomputable def wx_measuresLeast_l9 (P : St → Prop)  (n : Nat) : Int32 → Int32 → St → Prop :=
  Nat.rec (fun _ _ _ => False) (fun _ ih v1 v2 σ => if v2 ≤ 0 then (P σ) else (∃ n15, wx_measuresLeast_l15 P ih n15 v1 v2 (0 : Int32) σ)) n
theorem wx_measuresLeast_l9_s (P : St → Prop)  (n : Nat) (v1 : Int32) (v2 : Int32) (σ : St) : wx_measuresLeast_l9 P  (n + 1) v1 v2 σ = (if v2 ≤ 0 then (P σ) else (∃ n15, wx_measuresLeast_l15 P (wx_measuresLeast_l9 P  n) n15 v1 v2 (0 : Int32) σ)) := rfl
def wx_measuresLeast (σ : St) (v1 : Int32) (P : St → Prop) : Prop :=
  ∃ n9, wx_measuresLeast_l9 P  n9 v1 (((1 : Int32) <<< ((xI_dishes σ) &&& 31)) - (1 : Int32)) σ
abbrev sx_measuresLeast := @wx_measuresLeast
theorem sx_measuresLeast_ok {σ : St} {v1 : Int32} {P : St → Prop} (h : sx_measuresLeast σ v1 P) : wx_measuresLeast σ v1 P := h
/-! x.partOf -/
def wx_partOf_j46 (P : Int32 → St → Prop) (K17 : Int32 → Int32 → Int32 → St → Prop) (v3 : Int32) (v4 : Int32) (s0 : Int32) (s1 : Int32) (σ : St) : Prop :=
  K17 (s0 ||| s1) v3 (v4 + (1 : Int32)) σ
noncomputable def wx_partOf_l17 (P : Int32 → St → Prop) (K6 : Int32 → Int32 → St → Prop) (n : Nat) : Int32 → Int32 → Int32 → St → Prop :=
  Nat.rec (fun _ _ _ _ => False) (fun _ ih v2 v3 v4 σ => if (xI_dishes σ) ≤ v4 then (K6 v2 (v3 + (1 : Int32)) σ) else (sx_has v2 v4 (fun r30 => if r30 = 0 then (wx_partOf_j46 P ih v3 v4 v2 (0 : Int32) σ) else (sx_pairsOf σ v4 (fun r39 σ39 => wx_partOf_j46 P ih v3 v4 v2 r39 σ39))))) n
theorem wx_partOf_l17_s (P : Int32 → St → Prop) (K6 : Int32 → Int32 → St → Prop) (n : Nat) (v2 : Int32) (v3 : Int32) (v4 : Int32) (σ : St) : wx_partOf_l17 P K6 (n + 1) v2 v3 v4 σ = (if (xI_dishes σ) ≤ v4 then (K6 v2 (v3 + (1 : Int32)) σ) else (sx_has v2 v4 (fun r30 => if r30 = 0 then (wx_partOf_j46 P (wx_partOf_l17 P K6 n) v3 v4 v2 (0 : Int32) σ) else (sx_pairsOf σ v4 (fun r39 σ39 => wx_partOf_j46 P (wx_partOf_l17 P K6 n) v3 v4 v2 r39 σ39))))) := rfl
noncomputable def wx_partOf_l6 (P : Int32 → St → Prop)  (n : Nat) : Int32 → Int32 → St → Prop :=
  Nat.rec (fun _ _ _ => False) (fun _ ih v2 v3 σ => if (xI_dishes σ) ≤ v3 then (P v2 σ) else (∃ n17, wx_partOf_l17 P ih n17 v2 v3 (0 : Int32) σ)) n
theorem wx_partOf_l6_s (P : Int32 → St → Prop)  (n : Nat) (v2 : Int32) (v3 : Int32) (σ : St) : wx_partOf_l6 P  (n + 1) v2 v3 σ = (if (xI_dishes σ) ≤ v3 then (P v2 σ) else (∃ n17, wx_partOf_l17 P (wx_partOf_l6 P  n) n17 v2 v3 (0 : Int32) σ)) := rfl
def wx_partOf (σ : St) (v1 : Int32) (P : Int32 → St → Prop) : Prop :=
  ∃ n6, wx_partOf_l6 P  n6 ((1 : Int32) <<< (v1 &&& 31)) (0 : Int32) σ
abbrev sx_partOf := @wx_partOf
theorem sx_partOf_ok {σ : St} {v1 : Int32} {P : Int32 → St → Prop} (h : sx_partOf σ v1 P) : wx_partOf σ v1 P := h
/-! x.plays -/
def wx_plays_j167 (P : St → Prop) (K43 : Int32 → Int32 → Int32 → Int32 → Int32 → St → Prop) (v1 : Int32) (v2 : Int32) (v3 : Int32) (v4 : Int32) (v5 : Int32) (σ : St) : Prop :=
  K43 v1 v2 v3 v4 (v5 + (1 : Int32)) σ
def wx_plays_j165 (P : St → Prop) (K43 : Int32 → Int32 → Int32 → Int32 → Int32 → St → Prop) (v1 : Int32) (v2 : Int32) (v3 : Int32) (v5 : Int32) (s0 : Int32) (σ : St) : Prop :=
  wx_plays_j167 P K43 v1 v2 v3 s0 v5 σ
def wx_plays_j160 (P : St → Prop) (K43 : Int32 → Int32 → Int32 → Int32 → Int32 → St → Prop) (v1 : Int32) (v2 : Int32) (v3 : Int32) (v5 : Int32) (σ : St) : Prop :=
  wx_plays_j165 P K43 v1 v2 v3 v5 (1 : Int32) σ
def wx_plays_j149 (P : St → Prop) (K43 : Int32 → Int32 → Int32 → Int32 → Int32 → St → Prop) (v1 : Int32) (v2 : Int32) (v4 : Int32) (v5 : Int32) (v7 : Int32) (s0 : Int32) (σ : St) : Prop :=
  if v4 = 0 then (if v7 = 0 then (wx_plays_j165 P K43 v1 v2 s0 v5 (0 : Int32) σ) else (wx_plays_j160 P K43 v1 v2 s0 v5 σ)) else (wx_plays_j160 P K43 v1 v2 s0 v5 σ)
def wx_plays_j95 (P : St → Prop) (K43 : Int32 → Int32 → Int32 → Int32 → Int32 → St → Prop) (v1 : Int32) (v2 : Int32) (v3 : Int32) (v4 : Int32) (v5 : Int32) (v6 : Int32) (s0 : Int32) (σ : St) : Prop :=
  vp_in v6 11264 ∧ (if s0 = v4 then (if s0 = 0 then (wx_plays_j149 P K43 v1 v2 v4 v5 s0 (jmax v3 ((1 : Int32) + (xA_length σ (v6).toNatClampNeg))) σ) else (wx_plays_j149 P K43 v1 v2 v4 v5 s0 (jmin v3 ((1 : Int32) + (xA_length σ (v6).toNatClampNeg))) σ)) else (if s0 = 0 then (wx_plays_j149 P K43 v1 v2 v4 v5 s0 v3 σ) else (wx_plays_j149 P K43 v1 v2 v4 v5 s0 ((1 : Int32) + (xA_length σ (v6).toNatClampNeg)) σ)))
noncomputable def wx_plays_l43 (P : St → Prop) (K192 : Int32 → Int32 → Int32 → Int32 → Int32 → St → Prop) (n : Nat) : Int32 → Int32 → Int32 → Int32 → Int32 → St → Prop :=
  Nat.rec (fun _ _ _ _ _ _ => False) (fun _ ih v1 v2 v3 v4 v5 σ => if (xI_dishes σ) ≤ v5 then (sx_stateOf v1 v2 (fun r179 => if v4 = 0 then (K192 v1 v2 v3 r179 (2 : Int32) σ) else (K192 v1 v2 v3 r179 (1 : Int32) σ))) else (sx_goesOn σ v1 v2 v5 (fun r57 σ57 => if r57 = 0 then (wx_plays_j167 P ih v1 v2 v3 v4 v5 σ57) else (sx_stateOf (v1 ||| ((1 : Int32) <<< (v5 &&& 31))) v5 (fun r74 => vp_in r74 11264 ∧ (if (xA_value σ57 (r74).toNatClampNeg) = (2 : Int32) then (wx_plays_j95 P ih v1 v2 v3 v4 v5 r74 (1 : Int32) σ57) else (wx_plays_j95 P ih v1 v2 v3 v4 v5 r74 (0 : Int32) σ57))))))) n
theorem wx_plays_l43_s (P : St → Prop) (K192 : Int32 → Int32 → Int32 → Int32 → Int32 → St → Prop) (n : Nat) (v1 : Int32) (v2 : Int32) (v3 : Int32) (v4 : Int32) (v5 : Int32) (σ : St) : wx_plays_l43 P K192 (n + 1) v1 v2 v3 v4 v5 σ = (if (xI_dishes σ) ≤ v5 then (sx_stateOf v1 v2 (fun r179 => if v4 = 0 then (K192 v1 v2 v3 r179 (2 : Int32) σ) else (K192 v1 v2 v3 r179 (1 : Int32) σ))) else (sx_goesOn σ v1 v2 v5 (fun r57 σ57 => if r57 = 0 then (wx_plays_j167 P (wx_plays_l43 P K192 n) v1 v2 v3 v4 v5 σ57) else (sx_stateOf (v1 ||| ((1 : Int32) <<< (v5 &&& 31))) v5 (fun r74 => vp_in r74 11264 ∧ (if (xA_value σ57 (r74).toNatClampNeg) = (2 : Int32) then (wx_plays_j95 P (wx_plays_l43 P K192 n) v1 v2 v3 v4 v5 r74 (1 : Int32) σ57) else (wx_plays_j95 P (wx_plays_l43 P K192 n) v1 v2 v3 v4 v5 r74 (0 : Int32) σ57))))))) := rfl
def wx_plays_j204 (P : St → Prop) (K15 : Int32 → Int32 → St → Prop) (v1 : Int32) (v2 : Int32) (σ : St) : Prop :=
  K15 v1 (v2 + (1 : Int32)) σ
def wx_plays_j192 (P : St → Prop) (K15 : Int32 → Int32 → St → Prop) (v1 : Int32) (v2 : Int32) (v3 : Int32) (s1 : Int32) (s2 : Int32) (σ : St) : Prop :=
  vp_in s1 11264 ∧ (sx_stateOf v1 v2 (fun r199 => vp_in r199 11264 ∧ (wx_plays_j204 P K15 v1 v2 (xU_length (xU_value σ s1 s2) r199 v3))))
noncomputable def wx_plays_l15 (P : St → Prop) (K9 : Int32 → St → Prop) (n : Nat) : Int32 → Int32 → St → Prop :=
  Nat.rec (fun _ _ _ => False) (fun _ ih v1 v2 σ => if (xI_dishes σ) ≤ v2 then (K9 (v1 + (-1 : Int32)) σ) else (sx_isLastOf σ v1 v2 (fun r26 σ26 => if r26 = 0 then (wx_plays_j204 P ih v1 v2 σ26) else (∃ n43, wx_plays_l43 P (wx_plays_j192 P ih) n43 v1 v2 (0 : Int32) (0 : Int32) (0 : Int32) σ26)))) n
theorem wx_plays_l15_s (P : St → Prop) (K9 : Int32 → St → Prop) (n : Nat) (v1 : Int32) (v2 : Int32) (σ : St) : wx_plays_l15 P K9 (n + 1) v1 v2 σ = (if (xI_dishes σ) ≤ v2 then (K9 (v1 + (-1 : Int32)) σ) else (sx_isLastOf σ v1 v2 (fun r26 σ26 => if r26 = 0 then (wx_plays_j204 P (wx_plays_l15 P K9 n) v1 v2 σ26) else (∃ n43, wx_plays_l43 P (wx_plays_j192 P (wx_plays_l15 P K9 n)) n43 v1 v2 (0 : Int32) (0 : Int32) (0 : Int32) σ26)))) := rfl
noncomputable def wx_plays_l9 (P : St → Prop)  (n : Nat) : Int32 → St → Prop :=
  Nat.rec (fun _ _ => False) (fun _ ih v1 σ => if v1 < 0 then (P σ) else (∃ n15, wx_plays_l15 P ih n15 v1 (-1 : Int32) σ)) n
theorem wx_plays_l9_s (P : St → Prop)  (n : Nat) (v1 : Int32) (σ : St) : wx_plays_l9 P  (n + 1) v1 σ = (if v1 < 0 then (P σ) else (∃ n15, wx_plays_l15 P (wx_plays_l9 P  n) n15 v1 (-1 : Int32) σ)) := rfl
def wx_plays (σ : St)  (P : St → Prop) : Prop :=
  ∃ n9, wx_plays_l9 P  n9 (((1 : Int32) <<< ((xI_dishes σ) &&& 31)) - (1 : Int32)) σ
abbrev sx_plays := @wx_plays
theorem sx_plays_ok {σ : St} {P : St → Prop} (h : sx_plays σ  P) : wx_plays σ  P := h
/-! x.reaches -/
def wx_reaches_j38 (P : St → Prop) (K2 : Int32 → Int32 → Int32 → St → Prop) (v1 : Int32) (v2 : Int32) (v3 : Int32) (s1 : Int32) (s2 : Int32) (σ : St) : Prop :=
  vp_in s1 1024 ∧ (K2 v1 v2 (v3 + (1 : Int32)) (xU_lasts σ s1 s2))
def wx_reaches_j33 (P : St → Prop) (K2 : Int32 → Int32 → Int32 → St → Prop) (v1 : Int32) (v2 : Int32) (v3 : Int32) (s1 : Int32) (s2 : Int32) (s3 : Int32) (σ : St) : Prop :=
  wx_reaches_j38 P K2 v1 v2 v3 s1 (s2 <<< (s3 &&& 31)) σ
noncomputable def wx_reaches_l2 (P : St → Prop) (K47 : Int32 → St → Prop) (n : Nat) : Int32 → Int32 → Int32 → St → Prop :=
  Nat.rec (fun _ _ _ _ => False) (fun _ ih v1 v2 v3 σ => if ((1 : Int32) <<< ((xI_dishes σ) &&& 31)) ≤ v3 then (K47 (0 : Int32) σ) else (if v3 = v1 then (if 0 ≤ v2 then (wx_reaches_j33 P ih v1 v2 v3 v3 (1 : Int32) v2 σ) else (wx_reaches_j33 P ih v1 v2 v3 v3 (1 : Int32) (10 : Int32) σ)) else (wx_reaches_j38 P ih v1 v2 v3 v3 (0 : Int32) σ))) n
theorem wx_reaches_l2_s (P : St → Prop) (K47 : Int32 → St → Prop) (n : Nat) (v1 : Int32) (v2 : Int32) (v3 : Int32) (σ : St) : wx_reaches_l2 P K47 (n + 1) v1 v2 v3 σ = (if ((1 : Int32) <<< ((xI_dishes σ) &&& 31)) ≤ v3 then (K47 (0 : Int32) σ) else (if v3 = v1 then (if 0 ≤ v2 then (wx_reaches_j33 P (wx_reaches_l2 P K47 n) v1 v2 v3 v3 (1 : Int32) v2 σ) else (wx_reaches_j33 P (wx_reaches_l2 P K47 n) v1 v2 v3 v3 (1 : Int32) (10 : Int32) σ)) else (wx_reaches_j38 P (wx_reaches_l2 P K47 n) v1 v2 v3 v3 (0 : Int32) σ))) := rfl
def wx_reaches_j138 (P : St → Prop) (K99 : Int32 → Int32 → Int32 → St → Prop) (v3 : Int32) (v4 : Int32) (v5 : Int32) (σ : St) : Prop :=
  K99 v3 v4 (v5 + (1 : Int32)) σ
noncomputable def wx_reaches_l99 (P : St → Prop) (K144 : Int32 → Int32 → St → Prop) (n : Nat) : Int32 → Int32 → Int32 → St → Prop :=
  Nat.rec (fun _ _ _ _ => False) (fun _ ih v3 v4 v5 σ => if (xI_dishes σ) ≤ v5 then (K144 v3 v4 σ) else (sx_goesOn σ v3 v4 v5 (fun r114 σ114 => if r114 = 0 then (wx_reaches_j138 P ih v3 v4 v5 σ114) else (vp_in (v3 ||| ((1 : Int32) <<< (v5 &&& 31))) 1024 ∧ (vp_in (v3 ||| ((1 : Int32) <<< (v5 &&& 31))) 1024 ∧ (wx_reaches_j138 P ih v3 v4 v5 (xU_lasts σ114 (v3 ||| ((1 : Int32) <<< (v5 &&& 31))) ((xA_lasts σ114 ((v3 ||| ((1 : Int32) <<< (v5 &&& 31)))).toNatClampNeg) ||| ((1 : Int32) <<< (v5 &&& 31)))))))))) n
theorem wx_reaches_l99_s (P : St → Prop) (K144 : Int32 → Int32 → St → Prop) (n : Nat) (v3 : Int32) (v4 : Int32) (v5 : Int32) (σ : St) : wx_reaches_l99 P K144 (n + 1) v3 v4 v5 σ = (if (xI_dishes σ) ≤ v5 then (K144 v3 v4 σ) else (sx_goesOn σ v3 v4 v5 (fun r114 σ114 => if r114 = 0 then (wx_reaches_j138 P (wx_reaches_l99 P K144 n) v3 v4 v5 σ114) else (vp_in (v3 ||| ((1 : Int32) <<< (v5 &&& 31))) 1024 ∧ (vp_in (v3 ||| ((1 : Int32) <<< (v5 &&& 31))) 1024 ∧ (wx_reaches_j138 P (wx_reaches_l99 P K144 n) v3 v4 v5 (xU_lasts σ114 (v3 ||| ((1 : Int32) <<< (v5 &&& 31))) ((xA_lasts σ114 ((v3 ||| ((1 : Int32) <<< (v5 &&& 31)))).toNatClampNeg) ||| ((1 : Int32) <<< (v5 &&& 31)))))))))) := rfl
def wx_reaches_j144 (P : St → Prop) (K60 : Int32 → Int32 → St → Prop) (v3 : Int32) (v4 : Int32) (σ : St) : Prop :=
  K60 v3 (v4 + (1 : Int32)) σ
def wx_reaches_j87 (P : St → Prop) (K60 : Int32 → Int32 → St → Prop) (v3 : Int32) (v4 : Int32) (s0 : Int32) (s1 : Int32) (σ : St) : Prop :=
  sx_has s0 s1 (fun r87 => if r87 = 0 then (wx_reaches_j144 P K60 v3 v4 σ) else (∃ n99, wx_reaches_l99 P (wx_reaches_j144 P K60) n99 v3 v4 (0 : Int32) σ))
noncomputable def wx_reaches_l60 (P : St → Prop) (K47 : Int32 → St → Prop) (n : Nat) : Int32 → Int32 → St → Prop :=
  Nat.rec (fun _ _ _ => False) (fun _ ih v3 v4 σ => if (xI_dishes σ) ≤ v4 then (K47 (v3 + (1 : Int32)) σ) else (vp_in v3 1024 ∧ (if 0 ≤ v4 then (wx_reaches_j87 P ih v3 v4 (xA_lasts σ (v3).toNatClampNeg) v4 σ) else (wx_reaches_j87 P ih v3 v4 (xA_lasts σ (v3).toNatClampNeg) (10 : Int32) σ)))) n
theorem wx_reaches_l60_s (P : St → Prop) (K47 : Int32 → St → Prop) (n : Nat) (v3 : Int32) (v4 : Int32) (σ : St) : wx_reaches_l60 P K47 (n + 1) v3 v4 σ = (if (xI_dishes σ) ≤ v4 then (K47 (v3 + (1 : Int32)) σ) else (vp_in v3 1024 ∧ (if 0 ≤ v4 then (wx_reaches_j87 P (wx_reaches_l60 P K47 n) v3 v4 (xA_lasts σ (v3).toNatClampNeg) v4 σ) else (wx_reaches_j87 P (wx_reaches_l60 P K47 n) v3 v4 (xA_lasts σ (v3).toNatClampNeg) (10 : Int32) σ)))) := rfl
noncomputable def wx_reaches_l47 (P : St → Prop)  (n : Nat) : Int32 → St → Prop :=
  Nat.rec (fun _ _ => False) (fun _ ih v3 σ => if ((1 : Int32) <<< ((xI_dishes σ) &&& 31)) ≤ v3 then (P σ) else (∃ n60, wx_reaches_l60 P ih n60 v3 (-1 : Int32) σ)) n
theorem wx_reaches_l47_s (P : St → Prop)  (n : Nat) (v3 : Int32) (σ : St) : wx_reaches_l47 P  (n + 1) v3 σ = (if ((1 : Int32) <<< ((xI_dishes σ) &&& 31)) ≤ v3 then (P σ) else (∃ n60, wx_reaches_l60 P (wx_reaches_l47 P  n) n60 v3 (-1 : Int32) σ)) := rfl
def wx_reaches (σ : St) (v1 : Int32) (v2 : Int32) (P : St → Prop) : Prop :=
  ∃ n2, wx_reaches_l2 P (fun v3 σ => ∃ n47, wx_reaches_l47 P  n47 v3 σ) n2 v1 v2 (0 : Int32) σ
abbrev sx_reaches := @wx_reaches
theorem sx_reaches_ok {σ : St} {v1 : Int32} {v2 : Int32} {P : St → Prop} (h : sx_reaches σ v1 v2 P) : wx_reaches σ v1 v2 P := h
/-! x.reachesBy -/
def wx_reachesBy_j28 (P : St → Prop) (K2 : Int32 → Int32 → St → Prop) (v1 : Int32) (v2 : Int32) (s1 : Int32) (s2 : Int32) (σ : St) : Prop :=
  vp_in s1 1024 ∧ (K2 v1 (v2 + (1 : Int32)) (xU_lasts σ s1 s2))
noncomputable def wx_reachesBy_l2 (P : St → Prop) (K37 : Int32 → Int32 → St → Prop) (n : Nat) : Int32 → Int32 → St → Prop :=
  Nat.rec (fun _ _ _ => False) (fun _ ih v1 v2 σ => if ((1 : Int32) <<< ((xI_dishes σ) &&& 31)) ≤ v2 then (K37 v1 (0 : Int32) σ) else (if v2 = 0 then (wx_reachesBy_j28 P ih v1 v2 v2 (1024 : Int32) σ) else (wx_reachesBy_j28 P ih v1 v2 v2 (0 : Int32) σ))) n
theorem wx_reachesBy_l2_s (P : St → Prop) (K37 : Int32 → Int32 → St → Prop) (n : Nat) (v1 : Int32) (v2 : Int32) (σ : St) : wx_reachesBy_l2 P K37 (n + 1) v1 v2 σ = (if ((1 : Int32) <<< ((xI_dishes σ) &&& 31)) ≤ v2 then (K37 v1 (0 : Int32) σ) else (if v2 = 0 then (wx_reachesBy_j28 P (wx_reachesBy_l2 P K37 n) v1 v2 v2 (1024 : Int32) σ) else (wx_reachesBy_j28 P (wx_reachesBy_l2 P K37 n) v1 v2 v2 (0 : Int32) σ))) := rfl
def wx_reachesBy_j154 (P : St → Prop) (K104 : Int32 → Int32 → Int32 → Int32 → Int32 → St → Prop) (v1 : Int32) (v2 : Int32) (v3 : Int32) (v4 : Int32) (v5 : Int32) (σ : St) : Prop :=
  K104 v1 v2 v3 v4 (v5 + (1 : Int32)) σ
noncomputable def wx_reachesBy_l104 (P : St → Prop) (K160 : Int32 → Int32 → Int32 → Int32 → St → Prop) (n : Nat) : Int32 → Int32 → Int32 → Int32 → Int32 → St → Prop :=
  Nat.rec (fun _ _ _ _ _ _ => False) (fun _ ih v1 v2 v3 v4 v5 σ => if (xI_dishes σ) ≤ v5 then (K160 v1 v2 v3 v4 σ) else (sx_fits σ v1 v3 v5 (fun r118 σ118 => if r118 = 0 then (wx_reachesBy_j154 P ih v1 v2 v3 v4 v5 σ118) else (sx_goesOn σ118 v2 v4 v5 (fun r130 σ130 => if r130 = 0 then (wx_reachesBy_j154 P ih v1 v2 v3 v4 v5 σ130) else (vp_in (v2 ||| ((1 : Int32) <<< (v5 &&& 31))) 1024 ∧ (vp_in (v2 ||| ((1 : Int32) <<< (v5 &&& 31))) 1024 ∧ (wx_reachesBy_j154 P ih v1 v2 v3 v4 v5 (xU_lasts σ130 (v2 ||| ((1 : Int32) <<< (v5 &&& 31))) ((xA_lasts σ130 ((v2 ||| ((1 : Int32) <<< (v5 &&& 31)))).toNatClampNeg) ||| ((1 : Int32) <<< (v5 &&& 31)))))))))))) n
theorem wx_reachesBy_l104_s (P : St → Prop) (K160 : Int32 → Int32 → Int32 → Int32 → St → Prop) (n : Nat) (v1 : Int32) (v2 : Int32) (v3 : Int32) (v4 : Int32) (v5 : Int32) (σ : St) : wx_reachesBy_l104 P K160 (n + 1) v1 v2 v3 v4 v5 σ = (if (xI_dishes σ) ≤ v5 then (K160 v1 v2 v3 v4 σ) else (sx_fits σ v1 v3 v5 (fun r118 σ118 => if r118 = 0 then (wx_reachesBy_j154 P (wx_reachesBy_l104 P K160 n) v1 v2 v3 v4 v5 σ118) else (sx_goesOn σ118 v2 v4 v5 (fun r130 σ130 => if r130 = 0 then (wx_reachesBy_j154 P (wx_reachesBy_l104 P K160 n) v1 v2 v3 v4 v5 σ130) else (vp_in (v2 ||| ((1 : Int32) <<< (v5 &&& 31))) 1024 ∧ (vp_in (v2 ||| ((1 : Int32) <<< (v5 &&& 31))) 1024 ∧ (wx_reachesBy_j154 P (wx_reachesBy_l104 P K160 n) v1 v2 v3 v4 v5 (xU_lasts σ130 (v2 ||| ((1 : Int32) <<< (v5 &&& 31))) ((xA_lasts σ130 ((v2 ||| ((1 : Int32) <<< (v5 &&& 31)))).toNatClampNeg) ||| ((1 : Int32) <<< (v5 &&& 31)))))))))))) := rfl
def wx_reachesBy_j160 (P : St → Prop) (K55 : Int32 → Int32 → Int32 → Int32 → St → Prop) (v1 : Int32) (v2 : Int32) (v3 : Int32) (v4 : Int32) (σ : St) : Prop :=
  K55 v1 v2 v3 (v4 + (1 : Int32)) σ
def wx_reachesBy_j92 (P : St → Prop) (K55 : Int32 → Int32 → Int32 → Int32 → St → Prop) (v1 : Int32) (v2 : Int32) (v3 : Int32) (v4 : Int32) (s0 : Int32) (s1 : Int32) (σ : St) : Prop :=
  sx_has s0 s1 (fun r92 => if r92 = 0 then (wx_reachesBy_j160 P K55 v1 v2 v3 v4 σ) else (∃ n104, wx_reachesBy_l104 P (wx_reachesBy_j160 P K55) n104 v1 v2 v3 v4 (0 : Int32) σ))
noncomputable def wx_reachesBy_l55 (P : St → Prop) (K166 : Int32 → Int32 → St → Prop) (n : Nat) : Int32 → Int32 → Int32 → Int32 → St → Prop :=
  Nat.rec (fun _ _ _ _ _ => False) (fun _ ih v1 v2 v3 v4 σ => if (xI_dishes σ) ≤ v4 then (K166 v1 v2 σ) else (vp_in v1 3 ∧ (if (xA_menuMany σ (v1).toNatClampNeg) ≤ v3 then (K166 v1 v2 σ) else (vp_in v2 1024 ∧ (if 0 ≤ v4 then (wx_reachesBy_j92 P ih v1 v2 v3 v4 (xA_lasts σ (v2).toNatClampNeg) v4 σ) else (wx_reachesBy_j92 P ih v1 v2 v3 v4 (xA_lasts σ (v2).toNatClampNeg) (10 : Int32) σ)))))) n
theorem wx_reachesBy_l55_s (P : St → Prop) (K166 : Int32 → Int32 → St → Prop) (n : Nat) (v1 : Int32) (v2 : Int32) (v3 : Int32) (v4 : Int32) (σ : St) : wx_reachesBy_l55 P K166 (n + 1) v1 v2 v3 v4 σ = (if (xI_dishes σ) ≤ v4 then (K166 v1 v2 σ) else (vp_in v1 3 ∧ (if (xA_menuMany σ (v1).toNatClampNeg) ≤ v3 then (K166 v1 v2 σ) else (vp_in v2 1024 ∧ (if 0 ≤ v4 then (wx_reachesBy_j92 P (wx_reachesBy_l55 P K166 n) v1 v2 v3 v4 (xA_lasts σ (v2).toNatClampNeg) v4 σ) else (wx_reachesBy_j92 P (wx_reachesBy_l55 P K166 n) v1 v2 v3 v4 (xA_lasts σ (v2).toNatClampNeg) (10 : Int32) σ)))))) := rfl
def wx_reachesBy_j166 (P : St → Prop) (K37 : Int32 → Int32 → St → Prop) (v1 : Int32) (v2 : Int32) (σ : St) : Prop :=
  K37 v1 (v2 + (1 : Int32)) σ
noncomputable def wx_reachesBy_l37 (P : St → Prop)  (n : Nat) : Int32 → Int32 → St → Prop :=
  Nat.rec (fun _ _ _ => False) (fun _ ih v1 v2 σ => if ((1 : Int32) <<< ((xI_dishes σ) &&& 31)) ≤ v2 then (P σ) else (∃ n55, wx_reachesBy_l55 P (wx_reachesBy_j166 P ih) n55 v1 v2 (bitC v2) (-1 : Int32) σ)) n
theorem wx_reachesBy_l37_s (P : St → Prop)  (n : Nat) (v1 : Int32) (v2 : Int32) (σ : St) : wx_reachesBy_l37 P  (n + 1) v1 v2 σ = (if ((1 : Int32) <<< ((xI_dishes σ) &&& 31)) ≤ v2 then (P σ) else (∃ n55, wx_reachesBy_l55 P (wx_reachesBy_j166 P (wx_reachesBy_l37 P  n)) n55 v1 v2 (bitC v2) (-1 : Int32) σ)) := rfl
def wx_reachesBy (σ : St) (v1 : Int32) (P : St → Prop) : Prop :=
  ∃ n2, wx_reachesBy_l2 P (fun v1 v2 σ => ∃ n37, wx_reachesBy_l37 P  n37 v1 v2 σ) n2 v1 (0 : Int32) σ
abbrev sx_reachesBy := @wx_reachesBy
theorem sx_reachesBy_ok {σ : St} {v1 : Int32} {P : St → Prop} (h : sx_reachesBy σ v1 P) : wx_reachesBy σ v1 P := h
/-! x.readsDish -/
def wx_readsDish_j128 (P : Int32 → St → Prop)  (s0 : Int32) (σ : St) : Prop :=
  nzB s0 ∧ P s0 σ
def wx_readsDish_j103 (P : Int32 → St → Prop)  (v1 : Int32) (s1 : Int32) (s2 : Int32) (σ : St) : Prop :=
  vp_in s1 10 ∧ (vp_in v1 10 ∧ (if (xA_readHours (xS_readDishes (xU_readHours σ s1 s2) ((xI_readDishes (xU_readHours σ s1 s2)) + (1 : Int32))) (v1).toNatClampNeg) < 0 then (wx_readsDish_j128 P  (0 : Int32) (xS_readDishes (xU_readHours σ s1 s2) ((xI_readDishes (xU_readHours σ s1 s2)) + (1 : Int32)))) else (wx_readsDish_j128 P  (1 : Int32) (xS_readDishes (xU_readHours σ s1 s2) ((xI_readDishes (xU_readHours σ s1 s2)) + (1 : Int32))))))
def wx_readsDish_j76 (P : Int32 → St → Prop)  (v1 : Int32) (s1 : Int32) (s2 : Int32) (σ : St) : Prop :=
  sx_takes (xS_readHot σ (s1 ||| s2)) (43 : Int32) (fun r88 σ88 => if r88 = 0 then (wx_readsDish_j103 P  v1 v1 (0 : Int32) σ88) else (sx_number σ88 (1 : Int32) (fun r96 σ96 => wx_readsDish_j103 P  v1 v1 r96 σ96)))
def wx_readsDish (σ : St)  (P : Int32 → St → Prop) : Prop :=
  sx_isStuff σ  (fun r1 σ1 => if r1 = 0 then (P (0 : Int32) σ1) else (if (xI_readDishes σ1) = (10 : Int32) then (P (0 : Int32) σ1) else (sx_letters σ1  (fun r29 σ29 => vp_in (xI_readDishes σ1) 10 ∧ (sx_number (xU_readStuffs σ29 (xI_readDishes σ1) r29) (2 : Int32) (fun r40 σ40 => vp_in (xI_readDishes σ1) 10 ∧ (vp_in (xI_readDishes σ1) 10 ∧ (if 0 ≤ (xA_readCost (xU_readCost σ40 (xI_readDishes σ1) r40) ((xI_readDishes σ1)).toNatClampNeg) then (sx_takes (xU_readCost σ40 (xI_readDishes σ1) r40) (72 : Int32) (fun r63 σ63 => if r63 = 0 then (wx_readsDish_j76 P  (xI_readDishes σ1) (xI_readHot (xU_readCost σ40 (xI_readDishes σ1) r40)) (0 : Int32) σ63) else (wx_readsDish_j76 P  (xI_readDishes σ1) (xI_readHot (xU_readCost σ40 (xI_readDishes σ1) r40)) ((1 : Int32) <<< ((xI_readDishes σ1) &&& 31)) σ63))) else (P (0 : Int32) (xU_readCost σ40 (xI_readDishes σ1) r40))))))))))
abbrev sx_readsDish := @wx_readsDish
theorem sx_readsDish_ok {σ : St} {P : Int32 → St → Prop} (h : sx_readsDish σ  P) : wx_readsDish σ  P := h
/-! x.readsGuest -/
def wx_readsGuest (σ : St)  (P : Int32 → St → Prop) : Prop :=
  if (xI_readGuests σ) = (6 : Int32) then (P (0 : Int32) σ) else (sx_letters (xS_at σ ((xI_at σ) + (1 : Int32)))  (fun r29 σ29 => vp_in (xI_readGuests σ) 6 ∧ (sx_takes (xU_readLoves σ29 (xI_readGuests σ) r29) (45 : Int32) (fun r36 σ36 => if r36 = 0 then (P (0 : Int32) σ36) else (sx_letters σ36  (fun r50 σ50 => vp_in (xI_readGuests σ) 6 ∧ (P (1 : Int32) (xS_readGuests (xU_readBars σ50 (xI_readGuests σ) r50) ((xI_readGuests (xU_readBars σ50 (xI_readGuests σ) r50)) + (1 : Int32))))))))))
abbrev sx_readsGuest := @wx_readsGuest
theorem sx_readsGuest_ok {σ : St} {P : Int32 → St → Prop} (h : sx_readsGuest σ  P) : wx_readsGuest σ  P := h
/-! x.tellsMost -/
def wx_tellsMost_j65 (P : St → Prop) (K28 : Int32 → Int32 → Int32 → Int32 → St → Prop) (v4 : Int32) (v5 : Int32) (v6 : Int32) (v7 : Int32) (σ : St) : Prop :=
  K28 v4 v5 v6 (v7 + (1 : Int32)) σ
noncomputable def wx_tellsMost_l28 (P : St → Prop) (K20 : Int32 → Int32 → Int32 → St → Prop) (n : Nat) : Int32 → Int32 → Int32 → Int32 → St → Prop :=
  Nat.rec (fun _ _ _ _ _ => False) (fun _ ih v4 v5 v6 v7 σ => sx_goesOn σ v4 v5 v7 (fun r35 σ35 => if r35 = 0 then (wx_tellsMost_j65 P ih v4 v5 v6 v7 σ35) else (sx_stateOf (v4 ||| ((1 : Int32) <<< (v7 &&& 31))) v7 (fun r54 => vp_in r54 11264 ∧ (if (xA_value σ35 (r54).toNatClampNeg) = (v6 - (1 : Int32)) then (sx_tells σ35 v7 (fun σ74 => K20 (v4 ||| ((1 : Int32) <<< (v7 &&& 31))) v7 (v6 + (-1 : Int32)) σ74)) else (wx_tellsMost_j65 P ih v4 v5 v6 v7 σ35)))))) n
theorem wx_tellsMost_l28_s (P : St → Prop) (K20 : Int32 → Int32 → Int32 → St → Prop) (n : Nat) (v4 : Int32) (v5 : Int32) (v6 : Int32) (v7 : Int32) (σ : St) : wx_tellsMost_l28 P K20 (n + 1) v4 v5 v6 v7 σ = (sx_goesOn σ v4 v5 v7 (fun r35 σ35 => if r35 = 0 then (wx_tellsMost_j65 P (wx_tellsMost_l28 P K20 n) v4 v5 v6 v7 σ35) else (sx_stateOf (v4 ||| ((1 : Int32) <<< (v7 &&& 31))) v7 (fun r54 => vp_in r54 11264 ∧ (if (xA_value σ35 (r54).toNatClampNeg) = (v6 - (1 : Int32)) then (sx_tells σ35 v7 (fun σ74 => K20 (v4 ||| ((1 : Int32) <<< (v7 &&& 31))) v7 (v6 + (-1 : Int32)) σ74)) else (wx_tellsMost_j65 P (wx_tellsMost_l28 P K20 n) v4 v5 v6 v7 σ35)))))) := rfl
noncomputable def wx_tellsMost_l20 (P : St → Prop)  (n : Nat) : Int32 → Int32 → Int32 → St → Prop :=
  Nat.rec (fun _ _ _ _ => False) (fun _ ih v4 v5 v6 σ => if v6 ≤ 0 then (P σ) else (∃ n28, wx_tellsMost_l28 P ih n28 v4 v5 v6 (0 : Int32) σ)) n
theorem wx_tellsMost_l20_s (P : St → Prop)  (n : Nat) (v4 : Int32) (v5 : Int32) (v6 : Int32) (σ : St) : wx_tellsMost_l20 P  (n + 1) v4 v5 v6 σ = (if v6 ≤ 0 then (P σ) else (∃ n28, wx_tellsMost_l28 P (wx_tellsMost_l20 P  n) n28 v4 v5 v6 (0 : Int32) σ)) := rfl
def wx_tellsMost (σ : St) (v1 : Int32) (v2 : Int32) (P : St → Prop) : Prop :=
  sx_stateOf v1 v2 (fun r6 => vp_in r6 11264 ∧ (∃ n20, wx_tellsMost_l20 P  n20 v1 v2 (xA_value σ (r6).toNatClampNeg) σ))
abbrev sx_tellsMost := @wx_tellsMost
theorem sx_tellsMost_ok {σ : St} {v1 : Int32} {v2 : Int32} {P : St → Prop} (h : sx_tellsMost σ v1 v2 P) : wx_tellsMost σ v1 v2 P := h
/-! x.turn -/
noncomputable def wx_turn_l12 (P : Int32 → St → Prop)  (n : Nat) : Int32 → Int32 → St → Prop :=
  Nat.rec (fun _ _ _ => False) (fun _ ih v1 v2 σ => vp_in v1 3 ∧ (if ((xA_menuMany σ (v1).toNatClampNeg) - (1 : Int32)) ≤ ((2 : Int32) * v2) then (P (1 : Int32) σ) else (vp_in v1 3 ∧ (sx_swaps σ v1 v2 (((xA_menuMany σ (v1).toNatClampNeg) - (1 : Int32)) - v2) (fun σ39 => ih v1 (v2 + (1 : Int32)) σ39))))) n
theorem wx_turn_l12_s (P : Int32 → St → Prop)  (n : Nat) (v1 : Int32) (v2 : Int32) (σ : St) : wx_turn_l12 P  (n + 1) v1 v2 σ = (vp_in v1 3 ∧ (if ((xA_menuMany σ (v1).toNatClampNeg) - (1 : Int32)) ≤ ((2 : Int32) * v2) then (P (1 : Int32) σ) else (vp_in v1 3 ∧ (sx_swaps σ v1 v2 (((xA_menuMany σ (v1).toNatClampNeg) - (1 : Int32)) - v2) (fun σ39 => wx_turn_l12 P  n v1 (v2 + (1 : Int32)) σ39))))) := rfl
def wx_turn (σ : St) (v1 : Int32) (P : Int32 → St → Prop) : Prop :=
  sx_isLaid σ v1 (fun r2 σ2 => if r2 = 0 then (P (0 : Int32) σ2) else (∃ n12, wx_turn_l12 P  n12 v1 (0 : Int32) σ2))
abbrev sx_turn := @wx_turn
theorem sx_turn_ok {σ : St} {v1 : Int32} {P : Int32 → St → Prop} (h : sx_turn σ v1 P) : wx_turn σ v1 P := h
/-! x.whyNot -/
def wx_whyNot_j86 (P : Int32 → St → Prop)  (s0 : Int32) (σ : St) : Prop :=
  P s0 σ
def wx_whyNot_j44 (P : Int32 → St → Prop)  (v1 : Int32) (v3 : Int32) (σ : St) : Prop :=
  sx_mostOf σ (v1 ||| ((1 : Int32) <<< (v3 &&& 31))) (fun r54 σ54 => vp_in (1 : Int32) 3 ∧ (if r54 ≤ (xA_law σ54 ((1 : Int32)).toNatClampNeg) then (sx_isStored σ54 (v1 ||| ((1 : Int32) <<< (v3 &&& 31))) (fun r74 σ74 => if r74 = 0 then (wx_whyNot_j86 P  (-6 : Int32) σ74) else (wx_whyNot_j86 P  (0 : Int32) σ74))) else (wx_whyNot_j86 P  (-5 : Int32) σ54)))
def wx_whyNot_j27 (P : Int32 → St → Prop)  (v1 : Int32) (v2 : Int32) (v3 : Int32) (σ : St) : Prop :=
  if v2 < 0 then (wx_whyNot_j44 P  v1 v3 σ) else (sx_isWarm σ v1 v2 v3 (fun r35 σ35 => if r35 = 0 then (P (-4 : Int32) σ35) else (wx_whyNot_j44 P  v1 v3 σ35)))
def wx_whyNot (σ : St) (v1 : Int32) (v2 : Int32) (v3 : Int32) (P : Int32 → St → Prop) : Prop :=
  sx_has v1 v3 (fun r2 => if r2 = 0 then (if v2 < 0 then (wx_whyNot_j27 P  v1 v2 v3 σ) else (sx_arePair σ v2 v3 (fun r18 σ18 => if r18 = 0 then (P (-3 : Int32) σ18) else (wx_whyNot_j27 P  v1 v2 v3 σ18)))) else (P (-2 : Int32) σ))
/-! x.bears -/
def wx_bears_j50 (P : Int32 → St → Prop) (K16 : Int32 → Int32 → St → Prop) (v1 : Int32) (v2 : Int32) (s1 : Int32) (s2 : Int32) (σ : St) : Prop :=
  K16 v1 (v2 + (1 : Int32)) (xS_allowed σ (s1 &&& s2))
noncomputable def wx_bears_l16 (P : Int32 → St → Prop)  (n : Nat) : Int32 → Int32 → St → Prop :=
  Nat.rec (fun _ _ _ => False) (fun _ ih v1 v2 σ => if (xI_dishes σ) ≤ v2 then (sx_measures σ (-1 : Int32) (0 : Int32) (fun σ63 => sx_setNow (xS_rowMany σ63 (0 : Int32))  (fun r73 σ73 => sx_lastNow σ73  (fun r77 σ77 => sx_tellsMost σ77 r73 r77 (fun σ80 => sx_setNow σ80  (fun r88 σ88 => sx_lastNow σ88  (fun r92 σ92 => sx_stateOf r88 r92 (fun r95 => vp_in r95 11264 ∧ (P (xA_value σ92 (r95).toNatClampNeg) σ92))))))))) else (sx_hungryAt σ v2 (fun r31 σ31 => sx_has r31 v1 (fun r35 => if r35 = 0 then (wx_bears_j50 P ih v1 v2 (xI_allowed σ) (-1 : Int32) σ31) else (wx_bears_j50 P ih v1 v2 (xI_allowed σ) (((1 : Int32) <<< (v2 &&& 31)) ^^^ (-1 : Int32)) σ31))))) n
theorem wx_bears_l16_s (P : Int32 → St → Prop)  (n : Nat) (v1 : Int32) (v2 : Int32) (σ : St) : wx_bears_l16 P  (n + 1) v1 v2 σ = (if (xI_dishes σ) ≤ v2 then (sx_measures σ (-1 : Int32) (0 : Int32) (fun σ63 => sx_setNow (xS_rowMany σ63 (0 : Int32))  (fun r73 σ73 => sx_lastNow σ73  (fun r77 σ77 => sx_tellsMost σ77 r73 r77 (fun σ80 => sx_setNow σ80  (fun r88 σ88 => sx_lastNow σ88  (fun r92 σ92 => sx_stateOf r88 r92 (fun r95 => vp_in r95 11264 ∧ (P (xA_value σ92 (r95).toNatClampNeg) σ92))))))))) else (sx_hungryAt σ v2 (fun r31 σ31 => sx_has r31 v1 (fun r35 => if r35 = 0 then (wx_bears_j50 P (wx_bears_l16 P  n) v1 v2 (xI_allowed σ) (-1 : Int32) σ31) else (wx_bears_j50 P (wx_bears_l16 P  n) v1 v2 (xI_allowed σ) (((1 : Int32) <<< (v2 &&& 31)) ^^^ (-1 : Int32)) σ31))))) := rfl
def wx_bears (σ : St) (v1 : Int32) (P : Int32 → St → Prop) : Prop :=
  sx_isGuest σ v1 (fun r2 σ2 => if r2 = 0 then (P (-1 : Int32) σ2) else (sx_laysOut σ2  (fun σ11 => ∃ n16, wx_bears_l16 P  n16 v1 (0 : Int32) σ11)))
abbrev sx_bears := @wx_bears
theorem sx_bears_ok {σ : St} {v1 : Int32} {P : Int32 → St → Prop} (h : sx_bears σ v1 P) : wx_bears σ v1 P := h
/-! x.bestSet -/
def wx_bestSet_j71 (P : Int32 → St → Prop) (K22 : Int32 → Int32 → Int32 → Int32 → Int32 → St → Prop) (v1 : Int32) (v2 : Int32) (v3 : Int32) (v4 : Int32) (v5 : Int32) (σ : St) : Prop :=
  K22 v1 v2 v3 v4 (v5 + (1 : Int32)) σ
noncomputable def wx_bestSet_l22 (P : Int32 → St → Prop) (K99 : Int32 → Int32 → Int32 → Int32 → Int32 → St → Prop) (n : Nat) : Int32 → Int32 → Int32 → Int32 → Int32 → St → Prop :=
  Nat.rec (fun _ _ _ _ _ _ => False) (fun _ ih v1 v2 v3 v4 v5 σ => if ((1 : Int32) <<< ((xI_dishes σ) &&& 31)) ≤ v5 then (if v4 = (-1000000 : Int32) then (P (-1000000 : Int32) σ) else (K99 v1 v2 v3 v4 (((1 : Int32) <<< ((xI_dishes σ) &&& 31)) - (1 : Int32)) σ)) else (vp_in v5 1024 ∧ (if (xA_lasts σ (v5).toNatClampNeg) = 0 then (wx_bestSet_j71 P ih v1 v2 v3 v4 v5 σ) else (if (bitC v5) = ((xI_servedMany σ) + v1) then (vp_in v5 1024 ∧ (wx_bestSet_j71 P ih v1 v2 v3 (jmax v4 (xA_worth σ (v5).toNatClampNeg)) v5 σ)) else (wx_bestSet_j71 P ih v1 v2 v3 v4 v5 σ))))) n
theorem wx_bestSet_l22_s (P : Int32 → St → Prop) (K99 : Int32 → Int32 → Int32 → Int32 → Int32 → St → Prop) (n : Nat) (v1 : Int32) (v2 : Int32) (v3 : Int32) (v4 : Int32) (v5 : Int32) (σ : St) : wx_bestSet_l22 P K99 (n + 1) v1 v2 v3 v4 v5 σ = (if ((1 : Int32) <<< ((xI_dishes σ) &&& 31)) ≤ v5 then (if v4 = (-1000000 : Int32) then (P (-1000000 : Int32) σ) else (K99 v1 v2 v3 v4 (((1 : Int32) <<< ((xI_dishes σ) &&& 31)) - (1 : Int32)) σ)) else (vp_in v5 1024 ∧ (if (xA_lasts σ (v5).toNatClampNeg) = 0 then (wx_bestSet_j71 P (wx_bestSet_l22 P K99 n) v1 v2 v3 v4 v5 σ) else (if (bitC v5) = ((xI_servedMany σ) + v1) then (vp_in v5 1024 ∧ (wx_bestSet_j71 P (wx_bestSet_l22 P K99 n) v1 v2 v3 (jmax v4 (xA_worth σ (v5).toNatClampNeg)) v5 σ)) else (wx_bestSet_j71 P (wx_bestSet_l22 P K99 n) v1 v2 v3 v4 v5 σ))))) := rfl
def wx_bestSet_j227 (P : Int32 → St → Prop) (K178 : Int32 → Int32 → Int32 → Int32 → Int32 → Int32 → Int32 → Int32 → Int32 → St → Prop) (v1 : Int32) (v2 : Int32) (v3 : Int32) (v4 : Int32) (v5 : Int32) (v6 : Int32) (v7 : Int32) (v8 : Int32) (v9 : Int32) (σ : St) : Prop :=
  K178 v1 v2 v3 v4 v5 v6 v7 v8 (v9 + (1 : Int32)) σ
noncomputable def wx_bestSet_l178 (P : Int32 → St → Prop) (K233 : Int32 → Int32 → Int32 → Int32 → Int32 → Int32 → Int32 → St → Prop) (n : Nat) : Int32 → Int32 → Int32 → Int32 → Int32 → Int32 → Int32 → Int32 → Int32 → St → Prop :=
  Nat.rec (fun _ _ _ _ _ _ _ _ _ _ => False) (fun _ ih v1 v2 v3 v4 v5 v6 v7 v8 v9 σ => if (xI_dishes σ) ≤ v9 then (K233 v1 v2 v3 v4 v5 v6 v8 σ) else (if v7 = 0 then (sx_goesOn σ v5 v6 v9 (fun r199 σ199 => if r199 = 0 then (wx_bestSet_j227 P ih v1 v2 v3 v4 v5 v6 v7 v8 v9 σ199) else (sx_stateOf (v5 ||| ((1 : Int32) <<< (v9 &&& 31))) v9 (fun r220 => vp_in r220 11264 ∧ (wx_bestSet_j227 P ih v1 v2 v3 v4 v5 v6 v7 (v8 ||| (xA_value σ199 (r220).toNatClampNeg)) v9 σ199))))) else (K233 v1 v2 v3 v4 v5 v6 v8 σ))) n
theorem wx_bestSet_l178_s (P : Int32 → St → Prop) (K233 : Int32 → Int32 → Int32 → Int32 → Int32 → Int32 → Int32 → St → Prop) (n : Nat) (v1 : Int32) (v2 : Int32) (v3 : Int32) (v4 : Int32) (v5 : Int32) (v6 : Int32) (v7 : Int32) (v8 : Int32) (v9 : Int32) (σ : St) : wx_bestSet_l178 P K233 (n + 1) v1 v2 v3 v4 v5 v6 v7 v8 v9 σ = (if (xI_dishes σ) ≤ v9 then (K233 v1 v2 v3 v4 v5 v6 v8 σ) else (if v7 = 0 then (sx_goesOn σ v5 v6 v9 (fun r199 σ199 => if r199 = 0 then (wx_bestSet_j227 P (wx_bestSet_l178 P K233 n) v1 v2 v3 v4 v5 v6 v7 v8 v9 σ199) else (sx_stateOf (v5 ||| ((1 : Int32) <<< (v9 &&& 31))) v9 (fun r220 => vp_in r220 11264 ∧ (wx_bestSet_j227 P (wx_bestSet_l178 P K233 n) v1 v2 v3 v4 v5 v6 v7 (v8 ||| (xA_value σ199 (r220).toNatClampNeg)) v9 σ199))))) else (K233 v1 v2 v3 v4 v5 v6 v8 σ))) := rfl
def wx_bestSet_j247 (P : Int32 → St → Prop) (K107 : Int32 → Int32 → Int32 → Int32 → Int32 → Int32 → St → Prop) (v1 : Int32) (v2 : Int32) (v3 : Int32) (v4 : Int32) (v5 : Int32) (v6 : Int32) (σ : St) : Prop :=
  K107 v1 v2 v3 v4 v5 (v6 + (1 : Int32)) σ
def wx_bestSet_j233 (P : Int32 → St → Prop) (K107 : Int32 → Int32 → Int32 → Int32 → Int32 → Int32 → St → Prop) (v1 : Int32) (v2 : Int32) (v3 : Int32) (v4 : Int32) (v5 : Int32) (v6 : Int32) (v8 : Int32) (σ : St) : Prop :=
  sx_stateOf v5 v6 (fun r241 => vp_in r241 11264 ∧ (wx_bestSet_j247 P K107 v1 v2 v3 v4 v5 v6 (xU_value σ r241 v8)))
def wx_bestSet_j173 (P : Int32 → St → Prop) (K107 : Int32 → Int32 → Int32 → Int32 → Int32 → Int32 → St → Prop) (v1 : Int32) (v2 : Int32) (v3 : Int32) (v4 : Int32) (v5 : Int32) (v6 : Int32) (v7 : Int32) (s0 : Int32) (σ : St) : Prop :=
  ∃ n178, wx_bestSet_l178 P (wx_bestSet_j233 P K107) n178 v1 v2 v3 v4 v5 v6 v7 s0 (0 : Int32) σ
def wx_bestSet_j172 (P : Int32 → St → Prop) (K107 : Int32 → Int32 → Int32 → Int32 → Int32 → Int32 → St → Prop) (v1 : Int32) (v2 : Int32) (v3 : Int32) (v4 : Int32) (v5 : Int32) (v6 : Int32) (v7 : Int32) (σ : St) : Prop :=
  wx_bestSet_j173 P K107 v1 v2 v3 v4 v5 v6 v7 (0 : Int32) σ
def wx_bestSet_j149 (P : Int32 → St → Prop) (K107 : Int32 → Int32 → Int32 → Int32 → Int32 → Int32 → St → Prop) (v1 : Int32) (v2 : Int32) (v3 : Int32) (v4 : Int32) (v5 : Int32) (v6 : Int32) (s0 : Int32) (σ : St) : Prop :=
  if s0 = 0 then (wx_bestSet_j172 P K107 v1 v2 v3 v4 v5 v6 s0 σ) else (vp_in v5 1024 ∧ (if (xA_worth σ (v5).toNatClampNeg) = v4 then (wx_bestSet_j173 P K107 v1 v2 v3 v4 v5 v6 s0 (1 : Int32) σ) else (wx_bestSet_j172 P K107 v1 v2 v3 v4 v5 v6 s0 σ)))
noncomputable def wx_bestSet_l107 (P : Int32 → St → Prop) (K99 : Int32 → Int32 → Int32 → Int32 → Int32 → St → Prop) (n : Nat) : Int32 → Int32 → Int32 → Int32 → Int32 → Int32 → St → Prop :=
  Nat.rec (fun _ _ _ _ _ _ _ => False) (fun _ ih v1 v2 v3 v4 v5 v6 σ => if (xI_dishes σ) ≤ v6 then (K99 v1 v2 v3 v4 (v5 + (-1 : Int32)) σ) else (sx_isLastOf σ v5 v6 (fun r121 σ121 => if r121 = 0 then (wx_bestSet_j247 P ih v1 v2 v3 v4 v5 v6 σ121) else (if (bitC v5) = ((xI_servedMany σ121) + v1) then (wx_bestSet_j149 P ih v1 v2 v3 v4 v5 v6 (1 : Int32) σ121) else (wx_bestSet_j149 P ih v1 v2 v3 v4 v5 v6 (0 : Int32) σ121))))) n
theorem wx_bestSet_l107_s (P : Int32 → St → Prop) (K99 : Int32 → Int32 → Int32 → Int32 → Int32 → St → Prop) (n : Nat) (v1 : Int32) (v2 : Int32) (v3 : Int32) (v4 : Int32) (v5 : Int32) (v6 : Int32) (σ : St) : wx_bestSet_l107 P K99 (n + 1) v1 v2 v3 v4 v5 v6 σ = (if (xI_dishes σ) ≤ v6 then (K99 v1 v2 v3 v4 (v5 + (-1 : Int32)) σ) else (sx_isLastOf σ v5 v6 (fun r121 σ121 => if r121 = 0 then (wx_bestSet_j247 P (wx_bestSet_l107 P K99 n) v1 v2 v3 v4 v5 v6 σ121) else (if (bitC v5) = ((xI_servedMany σ121) + v1) then (wx_bestSet_j149 P (wx_bestSet_l107 P K99 n) v1 v2 v3 v4 v5 v6 (1 : Int32) σ121) else (wx_bestSet_j149 P (wx_bestSet_l107 P K99 n) v1 v2 v3 v4 v5 v6 (0 : Int32) σ121))))) := rfl
noncomputable def wx_bestSet_l99 (P : Int32 → St → Prop) (K274 : Int32 → Int32 → Int32 → St → Prop) (n : Nat) : Int32 → Int32 → Int32 → Int32 → Int32 → St → Prop :=
  Nat.rec (fun _ _ _ _ _ _ => False) (fun _ ih v1 v2 v3 v4 v5 σ => if v5 < 0 then (if v2 = 0 then (K274 v1 v3 v4 (xS_rowMany σ (0 : Int32))) else (sx_tells (xS_rowMany σ (0 : Int32)) v4 (fun σ271 => K274 v1 v3 v4 σ271))) else (∃ n107, wx_bestSet_l107 P ih n107 v1 v2 v3 v4 v5 (-1 : Int32) σ)) n
theorem wx_bestSet_l99_s (P : Int32 → St → Prop) (K274 : Int32 → Int32 → Int32 → St → Prop) (n : Nat) (v1 : Int32) (v2 : Int32) (v3 : Int32) (v4 : Int32) (v5 : Int32) (σ : St) : wx_bestSet_l99 P K274 (n + 1) v1 v2 v3 v4 v5 σ = (if v5 < 0 then (if v2 = 0 then (K274 v1 v3 v4 (xS_rowMany σ (0 : Int32))) else (sx_tells (xS_rowMany σ (0 : Int32)) v4 (fun σ271 => K274 v1 v3 v4 σ271))) else (∃ n107, wx_bestSet_l107 P (wx_bestSet_l99 P K274 n) n107 v1 v2 v3 v4 v5 (-1 : Int32) σ)) := rfl
def wx_bestSet_j323 (P : Int32 → St → Prop) (K292 : Int32 → Int32 → Int32 → Int32 → Int32 → Int32 → St → Prop) (v1 : Int32) (v3 : Int32) (v4 : Int32) (v5 : Int32) (v6 : Int32) (v7 : Int32) (σ : St) : Prop :=
  K292 v1 v3 v4 v5 v6 (v7 + (1 : Int32)) σ
noncomputable def wx_bestSet_l292 (P : Int32 → St → Prop) (K283 : Int32 → Int32 → Int32 → Int32 → Int32 → St → Prop) (n : Nat) : Int32 → Int32 → Int32 → Int32 → Int32 → Int32 → St → Prop :=
  Nat.rec (fun _ _ _ _ _ _ _ => False) (fun _ ih v1 v3 v4 v5 v6 v7 σ => sx_goesOn σ v3 v5 v7 (fun r298 σ298 => if r298 = 0 then (wx_bestSet_j323 P ih v1 v3 v4 v5 v6 v7 σ298) else (sx_stateOf (v3 ||| ((1 : Int32) <<< (v7 &&& 31))) v7 (fun r316 => vp_in r316 11264 ∧ (if (xA_value σ298 (r316).toNatClampNeg) = 0 then (wx_bestSet_j323 P ih v1 v3 v4 v5 v6 v7 σ298) else (sx_tells σ298 v7 (fun σ332 => K283 v1 (v3 ||| ((1 : Int32) <<< (v7 &&& 31))) v4 v7 (v6 + (1 : Int32)) σ332))))))) n
theorem wx_bestSet_l292_s (P : Int32 → St → Prop) (K283 : Int32 → Int32 → Int32 → Int32 → Int32 → St → Prop) (n : Nat) (v1 : Int32) (v3 : Int32) (v4 : Int32) (v5 : Int32) (v6 : Int32) (v7 : Int32) (σ : St) : wx_bestSet_l292 P K283 (n + 1) v1 v3 v4 v5 v6 v7 σ = (sx_goesOn σ v3 v5 v7 (fun r298 σ298 => if r298 = 0 then (wx_bestSet_j323 P (wx_bestSet_l292 P K283 n) v1 v3 v4 v5 v6 v7 σ298) else (sx_stateOf (v3 ||| ((1 : Int32) <<< (v7 &&& 31))) v7 (fun r316 => vp_in r316 11264 ∧ (if (xA_value σ298 (r316).toNatClampNeg) = 0 then (wx_bestSet_j323 P (wx_bestSet_l292 P K283 n) v1 v3 v4 v5 v6 v7 σ298) else (sx_tells σ298 v7 (fun σ332 => K283 v1 (v3 ||| ((1 : Int32) <<< (v7 &&& 31))) v4 v7 (v6 + (1 : Int32)) σ332))))))) := rfl
noncomputable def wx_bestSet_l283 (P : Int32 → St → Prop)  (n : Nat) : Int32 → Int32 → Int32 → Int32 → Int32 → St → Prop :=
  Nat.rec (fun _ _ _ _ _ _ => False) (fun _ ih v1 v3 v4 v5 v6 σ => if v1 ≤ v6 then (P v4 σ) else (∃ n292, wx_bestSet_l292 P ih n292 v1 v3 v4 v5 v6 (0 : Int32) σ)) n
theorem wx_bestSet_l283_s (P : Int32 → St → Prop)  (n : Nat) (v1 : Int32) (v3 : Int32) (v4 : Int32) (v5 : Int32) (v6 : Int32) (σ : St) : wx_bestSet_l283 P  (n + 1) v1 v3 v4 v5 v6 σ = (if v1 ≤ v6 then (P v4 σ) else (∃ n292, wx_bestSet_l292 P (wx_bestSet_l283 P  n) n292 v1 v3 v4 v5 v6 (0 : Int32) σ)) := rfl
def wx_bestSet_j274 (P : Int32 → St → Prop)  (v1 : Int32) (v3 : Int32) (v4 : Int32) (σ : St) : Prop :=
  sx_lastNow σ  (fun r275 σ275 => ∃ n283, wx_bestSet_l283 P  n283 v1 v3 v4 r275 (0 : Int32) σ275)
def wx_bestSet (σ : St) (v1 : Int32) (v2 : Int32) (P : Int32 → St → Prop) : Prop :=
  sx_setNow σ  (fun r1 σ1 => sx_lastNow σ1  (fun r8 σ8 => sx_reaches σ8 r1 r8 (fun σ11 => ∃ n22, wx_bestSet_l22 P (fun v1 v2 v3 v4 v5 σ => ∃ n99, wx_bestSet_l99 P (wx_bestSet_j274 P) n99 v1 v2 v3 v4 v5 σ) n22 v1 v2 r1 (-1000000 : Int32) (0 : Int32) σ11)))
abbrev sx_bestSet := @wx_bestSet
theorem sx_bestSet_ok {σ : St} {v1 : Int32} {v2 : Int32} {P : Int32 → St → Prop} (h : sx_bestSet σ v1 v2 P) : wx_bestSet σ v1 v2 P := h
/-! x.between -/
def wx_between_j96 (P : Int32 → St → Prop)  (v3 : Int32) (σ : St) : Prop :=
  P (v3 + (1 : Int32)) σ
def wx_between_j65 (P : Int32 → St → Prop)  (v1 : Int32) (v2 : Int32) (s0 : Int32) (σ : St) : Prop :=
  if 0 ≤ s0 then (sx_tells (xS_rowMany σ (0 : Int32)) v1 (fun σ80 => if v1 = v2 then (wx_between_j96 P  s0 σ80) else (sx_tellsMost σ80 ((1 : Int32) <<< (v1 &&& 31)) v1 (fun σ93 => wx_between_j96 P  s0 σ93)))) else (P (-2 : Int32) σ)
def wx_between (σ : St) (v1 : Int32) (v2 : Int32) (P : Int32 → St → Prop) : Prop :=
  sx_isDish σ v1 (fun r2 σ2 => if r2 = 0 then (P (-1 : Int32) σ2) else (sx_isDish σ2 v2 (fun r10 σ10 => if r10 = 0 then (P (-1 : Int32) σ10) else (sx_laysOut σ10  (fun σ19 => vp_in ((1 : Int32) <<< (v1 &&& 31)) 1024 ∧ (if (xA_fine σ19 (((1 : Int32) <<< (v1 &&& 31))).toNatClampNeg) = 0 then (P (-2 : Int32) σ19) else (sx_measures σ19 ((1 : Int32) <<< (v2 &&& 31)) (0 : Int32) (fun σ41 => if v1 = v2 then (wx_between_j65 P  v1 v2 (0 : Int32) σ41) else (sx_stateOf ((1 : Int32) <<< (v1 &&& 31)) v1 (fun r61 => vp_in r61 11264 ∧ (wx_between_j65 P  v1 v2 (xA_value σ41 (r61).toNatClampNeg) σ41)))))))))))
abbrev sx_between := @wx_between
theorem sx_between_ok {σ : St} {v1 : Int32} {v2 : Int32} {P : Int32 → St → Prop} (h : sx_between σ v1 v2 P) : wx_between σ v1 v2 P := h
/-! x.can -/
def wx_can_j36 (P : Int32 → St → Prop) (K4 : Int32 → Int32 → St → Prop) (v2 : Int32) (s0 : Int32) (s1 : Int32) (σ : St) : Prop :=
  K4 (s0 ||| s1) (v2 + (1 : Int32)) σ
noncomputable def wx_can_l4 (P : Int32 → St → Prop)  (n : Nat) : Int32 → Int32 → St → Prop :=
  Nat.rec (fun _ _ _ => False) (fun _ ih v1 v2 σ => if (xI_dishes σ) ≤ v2 then (P v1 σ) else (sx_setNow σ  (fun r15 σ15 => sx_lastNow σ15  (fun r19 σ19 => sx_whyNot σ19 r15 r19 v2 (fun r23 σ23 => if r23 = 0 then (wx_can_j36 P ih v2 v1 ((1 : Int32) <<< (v2 &&& 31)) σ23) else (wx_can_j36 P ih v2 v1 (0 : Int32) σ23)))))) n
theorem wx_can_l4_s (P : Int32 → St → Prop)  (n : Nat) (v1 : Int32) (v2 : Int32) (σ : St) : wx_can_l4 P  (n + 1) v1 v2 σ = (if (xI_dishes σ) ≤ v2 then (P v1 σ) else (sx_setNow σ  (fun r15 σ15 => sx_lastNow σ15  (fun r19 σ19 => sx_whyNot σ19 r15 r19 v2 (fun r23 σ23 => if r23 = 0 then (wx_can_j36 P (wx_can_l4 P  n) v2 v1 ((1 : Int32) <<< (v2 &&& 31)) σ23) else (wx_can_j36 P (wx_can_l4 P  n) v2 v1 (0 : Int32) σ23)))))) := rfl
def wx_can (σ : St)  (P : Int32 → St → Prop) : Prop :=
  ∃ n4, wx_can_l4 P  n4 (0 : Int32) (0 : Int32) σ
abbrev sx_can := @wx_can
theorem sx_can_ok {σ : St} {P : Int32 → St → Prop} (h : sx_can σ  P) : wx_can σ  P := h
/-! x.countsFills -/
def wx_countsFills_j137 (P : St → Prop) (K77 : Int32 → Int32 → Int32 → Int32 → Int32 → Int64 → Int32 → St → Prop) (v1 : Int32) (v2 : Int32) (v3 : Int32) (v4 : Int32) (v5 : Int32) (v6 : Int64) (v8 : Int32) (σ : St) : Prop :=
  K77 v1 v2 v3 v4 v5 v6 (v8 + (1 : Int32)) σ
noncomputable def wx_countsFills_l77 (P : St → Prop) (K143 : Int32 → Int32 → Int32 → Int32 → Int32 → Int64 → St → Prop) (n : Nat) : Int32 → Int32 → Int32 → Int32 → Int32 → Int64 → Int32 → St → Prop :=
  Nat.rec (fun _ _ _ _ _ _ _ _ => False) (fun _ ih v1 v2 v3 v4 v5 v6 v8 σ => if (xI_dishes σ) ≤ v8 then (K143 v1 v2 v3 v4 v5 v6 σ) else (if v2 ≤ v4 then (K143 v1 v2 v3 v4 v5 v6 σ) else (sx_fits σ v1 v4 v8 (fun r98 σ98 => if r98 = 0 then (wx_countsFills_j137 P ih v1 v2 v3 v4 v5 v6 v8 σ98) else (sx_goesOn σ98 v3 v5 v8 (fun r110 σ110 => if r110 = 0 then (wx_countsFills_j137 P ih v1 v2 v3 v4 v5 v6 v8 σ110) else (sx_stateOf (v3 ||| ((1 : Int32) <<< (v8 &&& 31))) v8 (fun r130 => vp_in r130 11264 ∧ (wx_countsFills_j137 P ih v1 v2 v3 v4 v5 (v6 + (xA_many σ110 (r130).toNatClampNeg)) v8 σ110))))))))) n
theorem wx_countsFills_l77_s (P : St → Prop) (K143 : Int32 → Int32 → Int32 → Int32 → Int32 → Int64 → St → Prop) (n : Nat) (v1 : Int32) (v2 : Int32) (v3 : Int32) (v4 : Int32) (v5 : Int32) (v6 : Int64) (v8 : Int32) (σ : St) : wx_countsFills_l77 P K143 (n + 1) v1 v2 v3 v4 v5 v6 v8 σ = (if (xI_dishes σ) ≤ v8 then (K143 v1 v2 v3 v4 v5 v6 σ) else (if v2 ≤ v4 then (K143 v1 v2 v3 v4 v5 v6 σ) else (sx_fits σ v1 v4 v8 (fun r98 σ98 => if r98 = 0 then (wx_countsFills_j137 P (wx_countsFills_l77 P K143 n) v1 v2 v3 v4 v5 v6 v8 σ98) else (sx_goesOn σ98 v3 v5 v8 (fun r110 σ110 => if r110 = 0 then (wx_countsFills_j137 P (wx_countsFills_l77 P K143 n) v1 v2 v3 v4 v5 v6 v8 σ110) else (sx_stateOf (v3 ||| ((1 : Int32) <<< (v8 &&& 31))) v8 (fun r130 => vp_in r130 11264 ∧ (wx_countsFills_j137 P (wx_countsFills_l77 P K143 n) v1 v2 v3 v4 v5 (v6 + (xA_many σ110 (r130).toNatClampNeg)) v8 σ110))))))))) := rfl
def wx_countsFills_j156 (P : St → Prop) (K33 : Int32 → Int32 → Int32 → Int32 → Int32 → St → Prop) (v1 : Int32) (v2 : Int32) (v3 : Int32) (v4 : Int32) (v5 : Int32) (σ : St) : Prop :=
  K33 v1 v2 v3 v4 (v5 + (1 : Int32)) σ
def wx_countsFills_j143 (P : St → Prop) (K33 : Int32 → Int32 → Int32 → Int32 → Int32 → St → Prop) (v1 : Int32) (v2 : Int32) (v3 : Int32) (v4 : Int32) (v5 : Int32) (v6 : Int64) (σ : St) : Prop :=
  sx_stateOf v3 v5 (fun r150 => vp_in r150 11264 ∧ (wx_countsFills_j156 P K33 v1 v2 v3 v4 v5 (xU_many σ r150 v6)))
def wx_countsFills_j72 (P : St → Prop) (K33 : Int32 → Int32 → Int32 → Int32 → Int32 → St → Prop) (v1 : Int32) (v2 : Int32) (v3 : Int32) (v4 : Int32) (v5 : Int32) (s0 : Int64) (σ : St) : Prop :=
  ∃ n77, wx_countsFills_l77 P (wx_countsFills_j143 P K33) n77 v1 v2 v3 v4 v5 s0 (0 : Int32) σ
noncomputable def wx_countsFills_l33 (P : St → Prop) (K162 : Int32 → Int32 → Int32 → St → Prop) (n : Nat) : Int32 → Int32 → Int32 → Int32 → Int32 → St → Prop :=
  Nat.rec (fun _ _ _ _ _ _ => False) (fun _ ih v1 v2 v3 v4 v5 σ => if (xI_dishes σ) ≤ v5 then (K162 v1 v2 v3 σ) else (if v2 < v4 then (K162 v1 v2 v3 σ) else (sx_isLastOf σ v3 v5 (fun r52 σ52 => if r52 = 0 then (wx_countsFills_j156 P ih v1 v2 v3 v4 v5 σ52) else (if v4 = v2 then (wx_countsFills_j72 P ih v1 v2 v3 v4 v5 (1 : Int64) σ52) else (wx_countsFills_j72 P ih v1 v2 v3 v4 v5 (0 : Int64) σ52)))))) n
theorem wx_countsFills_l33_s (P : St → Prop) (K162 : Int32 → Int32 → Int32 → St → Prop) (n : Nat) (v1 : Int32) (v2 : Int32) (v3 : Int32) (v4 : Int32) (v5 : Int32) (σ : St) : wx_countsFills_l33 P K162 (n + 1) v1 v2 v3 v4 v5 σ = (if (xI_dishes σ) ≤ v5 then (K162 v1 v2 v3 σ) else (if v2 < v4 then (K162 v1 v2 v3 σ) else (sx_isLastOf σ v3 v5 (fun r52 σ52 => if r52 = 0 then (wx_countsFills_j156 P (wx_countsFills_l33 P K162 n) v1 v2 v3 v4 v5 σ52) else (if v4 = v2 then (wx_countsFills_j72 P (wx_countsFills_l33 P K162 n) v1 v2 v3 v4 v5 (1 : Int64) σ52) else (wx_countsFills_j72 P (wx_countsFills_l33 P K162 n) v1 v2 v3 v4 v5 (0 : Int64) σ52)))))) := rfl
def wx_countsFills_j162 (P : St → Prop) (K20 : Int32 → Int32 → Int32 → St → Prop) (v1 : Int32) (v2 : Int32) (v3 : Int32) (σ : St) : Prop :=
  K20 v1 v2 (v3 + (-1 : Int32)) σ
noncomputable def wx_countsFills_l20 (P : St → Prop)  (n : Nat) : Int32 → Int32 → Int32 → St → Prop :=
  Nat.rec (fun _ _ _ _ => False) (fun _ ih v1 v2 v3 σ => if v3 < 0 then (P σ) else (∃ n33, wx_countsFills_l33 P (wx_countsFills_j162 P ih) n33 v1 v2 v3 (bitC v3) (-1 : Int32) σ)) n
theorem wx_countsFills_l20_s (P : St → Prop)  (n : Nat) (v1 : Int32) (v2 : Int32) (v3 : Int32) (σ : St) : wx_countsFills_l20 P  (n + 1) v1 v2 v3 σ = (if v3 < 0 then (P σ) else (∃ n33, wx_countsFills_l33 P (wx_countsFills_j162 P (wx_countsFills_l20 P  n)) n33 v1 v2 v3 (bitC v3) (-1 : Int32) σ)) := rfl
def wx_countsFills (σ : St) (v1 : Int32) (P : St → Prop) : Prop :=
  sx_laysOut σ  (fun σ1 => vp_in v1 3 ∧ (∃ n20, wx_countsFills_l20 P  n20 v1 (xA_menuMany σ1 (v1).toNatClampNeg) (((1 : Int32) <<< ((xI_dishes σ1) &&& 31)) - (1 : Int32)) σ1))
abbrev sx_countsFills := @wx_countsFills
theorem sx_countsFills_ok {σ : St} {v1 : Int32} {P : St → Prop} (h : sx_countsFills σ v1 P) : wx_countsFills σ v1 P := h
/-! x.firstBad -/
def wx_firstBad_j53 (P : Int32 → St → Prop) (K12 : Int32 → Int32 → Int32 → Int32 → St → Prop) (v1 : Int32) (v2 : Int32) (v4 : Int32) (s1 : Int32) (σ : St) : Prop :=
  if 0 ≤ (xI_whyThen (xS_whyThen σ s1)) then (sx_dishAt (xS_whyThen σ s1) v1 v4 (fun r70 σ70 => K12 v1 (v2 ||| ((1 : Int32) <<< (r70 &&& 31))) r70 (v4 + (1 : Int32)) σ70)) else (P v4 (xS_whyThen σ s1))
noncomputable def wx_firstBad_l12 (P : Int32 → St → Prop)  (n : Nat) : Int32 → Int32 → Int32 → Int32 → St → Prop :=
  Nat.rec (fun _ _ _ _ _ => False) (fun _ ih v1 v2 v3 v4 σ => vp_in v1 3 ∧ (if (xA_menuMany σ (v1).toNatClampNeg) ≤ v4 then (P (-2 : Int32) σ) else (sx_dishAt σ v1 v4 (fun r28 σ28 => if r28 = (99 : Int32) then (wx_firstBad_j53 P ih v1 v2 v4 (-1 : Int32) σ28) else (sx_dishAt σ28 v1 v4 (fun r47 σ47 => sx_whyNot σ47 v2 v3 r47 (fun r50 σ50 => wx_firstBad_j53 P ih v1 v2 v4 r50 σ50))))))) n
theorem wx_firstBad_l12_s (P : Int32 → St → Prop)  (n : Nat) (v1 : Int32) (v2 : Int32) (v3 : Int32) (v4 : Int32) (σ : St) : wx_firstBad_l12 P  (n + 1) v1 v2 v3 v4 σ = (vp_in v1 3 ∧ (if (xA_menuMany σ (v1).toNatClampNeg) ≤ v4 then (P (-2 : Int32) σ) else (sx_dishAt σ v1 v4 (fun r28 σ28 => if r28 = (99 : Int32) then (wx_firstBad_j53 P (wx_firstBad_l12 P  n) v1 v2 v4 (-1 : Int32) σ28) else (sx_dishAt σ28 v1 v4 (fun r47 σ47 => sx_whyNot σ47 v2 v3 r47 (fun r50 σ50 => wx_firstBad_j53 P (wx_firstBad_l12 P  n) v1 v2 v4 r50 σ50))))))) := rfl
def wx_firstBad (σ : St) (v1 : Int32) (P : Int32 → St → Prop) : Prop :=
  ∃ n12, wx_firstBad_l12 P  n12 v1 (0 : Int32) (-1 : Int32) (0 : Int32) (xS_whyThen σ (0 : Int32))
abbrev sx_firstBad := @wx_firstBad
theorem sx_firstBad_ok {σ : St} {v1 : Int32} {P : Int32 → St → Prop} (h : sx_firstBad σ v1 P) : wx_firstBad σ v1 P := h
/-! x.game -/
def wx_game_j110 (P : Int32 → St → Prop) (K35 : Int32 → Int32 → Int32 → Int32 → Int32 → St → Prop) (v1 : Int32) (v2 : Int32) (v3 : Int32) (v4 : Int32) (v5 : Int32) (σ : St) : Prop :=
  K35 v1 v2 v3 v4 (v5 + (-1 : Int32)) σ
def wx_game_j108 (P : Int32 → St → Prop) (K35 : Int32 → Int32 → Int32 → Int32 → Int32 → St → Prop) (v1 : Int32) (v2 : Int32) (v3 : Int32) (v5 : Int32) (s0 : Int32) (σ : St) : Prop :=
  wx_game_j110 P K35 v1 v2 v3 s0 v5 σ
def wx_game_j106 (P : Int32 → St → Prop) (K35 : Int32 → Int32 → Int32 → Int32 → Int32 → St → Prop) (v1 : Int32) (v2 : Int32) (v3 : Int32) (v4 : Int32) (v5 : Int32) (σ : St) : Prop :=
  wx_game_j108 P K35 v1 v2 v3 v5 v4 σ
noncomputable def wx_game_l35 (P : Int32 → St → Prop) (K138 : Int32 → Int32 → St → Prop) (n : Nat) : Int32 → Int32 → Int32 → Int32 → Int32 → St → Prop :=
  Nat.rec (fun _ _ _ _ _ _ => False) (fun _ ih v1 v2 v3 v4 v5 σ => if v5 < 0 then (vp_in v3 11264 ∧ (if (xA_value (xS_rowMany σ (0 : Int32)) (v3).toNatClampNeg) = (1 : Int32) then (K138 v3 v4 (xS_rowMany σ (0 : Int32))) else (K138 v3 (-1 : Int32) (xS_rowMany σ (0 : Int32))))) else (sx_goesOn σ v1 v2 v5 (fun r45 σ45 => if r45 = 0 then (wx_game_j110 P ih v1 v2 v3 v4 v5 σ45) else (sx_stateOf (v1 ||| ((1 : Int32) <<< (v5 &&& 31))) v5 (fun r62 => vp_in r62 11264 ∧ (vp_in v3 11264 ∧ (if (xA_value σ45 (r62).toNatClampNeg) = (xA_value σ45 (v3).toNatClampNeg) then (wx_game_j106 P ih v1 v2 v3 v4 v5 σ45) else (vp_in r62 11264 ∧ (vp_in v3 11264 ∧ (if ((1 : Int32) + (xA_length σ45 (r62).toNatClampNeg)) = (xA_length σ45 (v3).toNatClampNeg) then (wx_game_j108 P ih v1 v2 v3 v5 v5 σ45) else (wx_game_j106 P ih v1 v2 v3 v4 v5 σ45))))))))))) n
theorem wx_game_l35_s (P : Int32 → St → Prop) (K138 : Int32 → Int32 → St → Prop) (n : Nat) (v1 : Int32) (v2 : Int32) (v3 : Int32) (v4 : Int32) (v5 : Int32) (σ : St) : wx_game_l35 P K138 (n + 1) v1 v2 v3 v4 v5 σ = (if v5 < 0 then (vp_in v3 11264 ∧ (if (xA_value (xS_rowMany σ (0 : Int32)) (v3).toNatClampNeg) = (1 : Int32) then (K138 v3 v4 (xS_rowMany σ (0 : Int32))) else (K138 v3 (-1 : Int32) (xS_rowMany σ (0 : Int32))))) else (sx_goesOn σ v1 v2 v5 (fun r45 σ45 => if r45 = 0 then (wx_game_j110 P (wx_game_l35 P K138 n) v1 v2 v3 v4 v5 σ45) else (sx_stateOf (v1 ||| ((1 : Int32) <<< (v5 &&& 31))) v5 (fun r62 => vp_in r62 11264 ∧ (vp_in v3 11264 ∧ (if (xA_value σ45 (r62).toNatClampNeg) = (xA_value σ45 (v3).toNatClampNeg) then (wx_game_j106 P (wx_game_l35 P K138 n) v1 v2 v3 v4 v5 σ45) else (vp_in r62 11264 ∧ (vp_in v3 11264 ∧ (if ((1 : Int32) + (xA_length σ45 (r62).toNatClampNeg)) = (xA_length σ45 (v3).toNatClampNeg) then (wx_game_j108 P (wx_game_l35 P K138 n) v1 v2 v3 v5 v5 σ45) else (wx_game_j106 P (wx_game_l35 P K138 n) v1 v2 v3 v4 v5 σ45))))))))))) := rfl
def wx_game_j166 (P : Int32 → St → Prop)  (s0 : Int32) (σ : St) : Prop :=
  P s0 σ
def wx_game_j138 (P : Int32 → St → Prop)  (v3 : Int32) (s1 : Int32) (σ : St) : Prop :=
  sx_tells σ s1 (fun σ138 => vp_in v3 11264 ∧ (sx_tells σ138 (xA_length σ138 (v3).toNatClampNeg) (fun σ148 => vp_in v3 11264 ∧ (if (xA_value σ148 (v3).toNatClampNeg) = (1 : Int32) then (wx_game_j166 P  (1 : Int32) σ148) else (wx_game_j166 P  (0 : Int32) σ148)))))
def wx_game (σ : St)  (P : Int32 → St → Prop) : Prop :=
  sx_laysOut σ  (fun σ1 => sx_plays σ1  (fun σ5 => sx_setNow σ5  (fun r9 σ9 => sx_lastNow σ9  (fun r14 σ14 => sx_stateOf r9 r14 (fun r20 => ∃ n35, wx_game_l35 P (wx_game_j138 P) n35 r9 r14 r20 (-1 : Int32) ((xI_dishes σ14) - (1 : Int32)) σ14)))))
abbrev sx_game := @wx_game
theorem sx_game_ok {σ : St} {P : Int32 → St → Prop} (h : sx_game σ  P) : wx_game σ  P := h
/-! x.hearths -/
def wx_hearths_j76 (P : Int32 → St → Prop) (K27 : Int32 → Int32 → Int32 → Int32 → Int32 → St → Prop) (v1 : Int32) (v2 : Int32) (v3 : Int32) (v5 : Int32) (s0 : Int32) (s1 : Int32) (σ : St) : Prop :=
  K27 v1 v2 v3 (s0 + s1) (v5 + (1 : Int32)) σ
def wx_hearths_j75 (P : Int32 → St → Prop) (K27 : Int32 → Int32 → Int32 → Int32 → Int32 → St → Prop) (v1 : Int32) (v2 : Int32) (v3 : Int32) (v5 : Int32) (s0 : Int32) (σ : St) : Prop :=
  wx_hearths_j76 P K27 v1 v2 v3 v5 s0 (0 : Int32) σ
noncomputable def wx_hearths_l27 (P : Int32 → St → Prop) (K15 : Int32 → Int32 → Int32 → St → Prop) (n : Nat) : Int32 → Int32 → Int32 → Int32 → Int32 → St → Prop :=
  Nat.rec (fun _ _ _ _ _ _ => False) (fun _ ih v1 v2 v3 v4 v5 σ => vp_in v1 3 ∧ (if (xA_menuMany σ (v1).toNatClampNeg) ≤ v5 then (K15 v1 (jmax v2 v4) (v3 + (1 : Int32)) σ) else (sx_dishAt σ v1 v5 (fun r54 σ54 => vp_in r54 10 ∧ (if v3 < (((10 : Int32) + v5) - (xA_hours σ54 (r54).toNatClampNeg)) then (wx_hearths_j75 P ih v1 v2 v3 v5 v4 σ54) else (if ((10 : Int32) + v5) ≤ v3 then (wx_hearths_j75 P ih v1 v2 v3 v5 v4 σ54) else (wx_hearths_j76 P ih v1 v2 v3 v5 v4 (1 : Int32) σ54))))))) n
theorem wx_hearths_l27_s (P : Int32 → St → Prop) (K15 : Int32 → Int32 → Int32 → St → Prop) (n : Nat) (v1 : Int32) (v2 : Int32) (v3 : Int32) (v4 : Int32) (v5 : Int32) (σ : St) : wx_hearths_l27 P K15 (n + 1) v1 v2 v3 v4 v5 σ = (vp_in v1 3 ∧ (if (xA_menuMany σ (v1).toNatClampNeg) ≤ v5 then (K15 v1 (jmax v2 v4) (v3 + (1 : Int32)) σ) else (sx_dishAt σ v1 v5 (fun r54 σ54 => vp_in r54 10 ∧ (if v3 < (((10 : Int32) + v5) - (xA_hours σ54 (r54).toNatClampNeg)) then (wx_hearths_j75 P (wx_hearths_l27 P K15 n) v1 v2 v3 v5 v4 σ54) else (if ((10 : Int32) + v5) ≤ v3 then (wx_hearths_j75 P (wx_hearths_l27 P K15 n) v1 v2 v3 v5 v4 σ54) else (wx_hearths_j76 P (wx_hearths_l27 P K15 n) v1 v2 v3 v5 v4 (1 : Int32) σ54))))))) := rfl
noncomputable def wx_hearths_l15 (P : Int32 → St → Prop) (K105 : Int32 → Int32 → Int32 → St → Prop) (n : Nat) : Int32 → Int32 → Int32 → St → Prop :=
  Nat.rec (fun _ _ _ _ => False) (fun _ ih v1 v2 v3 σ => if (20 : Int32) ≤ v3 then (K105 v1 v2 (0 : Int32) (xS_rowMany σ (0 : Int32))) else (∃ n27, wx_hearths_l27 P ih n27 v1 v2 v3 (0 : Int32) (0 : Int32) σ)) n
theorem wx_hearths_l15_s (P : Int32 → St → Prop) (K105 : Int32 → Int32 → Int32 → St → Prop) (n : Nat) (v1 : Int32) (v2 : Int32) (v3 : Int32) (σ : St) : wx_hearths_l15 P K105 (n + 1) v1 v2 v3 σ = (if (20 : Int32) ≤ v3 then (K105 v1 v2 (0 : Int32) (xS_rowMany σ (0 : Int32))) else (∃ n27, wx_hearths_l27 P (wx_hearths_l15 P K105 n) n27 v1 v2 v3 (0 : Int32) (0 : Int32) σ)) := rfl
noncomputable def wx_hearths_l105 (P : Int32 → St → Prop)  (n : Nat) : Int32 → Int32 → Int32 → St → Prop :=
  Nat.rec (fun _ _ _ _ => False) (fun _ ih v1 v2 v3 σ => vp_in v1 3 ∧ (if (xA_menuMany σ (v1).toNatClampNeg) ≤ v3 then (P v2 σ) else (sx_dishAt σ v1 v3 (fun r127 σ127 => vp_in r127 10 ∧ (sx_tells σ127 (((10 : Int32) + v3) - (xA_hours σ127 (r127).toNatClampNeg)) (fun σ132 => ih v1 v2 (v3 + (1 : Int32)) σ132)))))) n
theorem wx_hearths_l105_s (P : Int32 → St → Prop)  (n : Nat) (v1 : Int32) (v2 : Int32) (v3 : Int32) (σ : St) : wx_hearths_l105 P  (n + 1) v1 v2 v3 σ = (vp_in v1 3 ∧ (if (xA_menuMany σ (v1).toNatClampNeg) ≤ v3 then (P v2 σ) else (sx_dishAt σ v1 v3 (fun r127 σ127 => vp_in r127 10 ∧ (sx_tells σ127 (((10 : Int32) + v3) - (xA_hours σ127 (r127).toNatClampNeg)) (fun σ132 => wx_hearths_l105 P  n v1 v2 (v3 + (1 : Int32)) σ132)))))) := rfl
def wx_hearths (σ : St) (v1 : Int32) (P : Int32 → St → Prop) : Prop :=
  sx_isWhole σ v1 (fun r2 σ2 => if r2 = 0 then (P (-3 : Int32) σ2) else (∃ n15, wx_hearths_l15 P (fun v1 v2 v3 σ => ∃ n105, wx_hearths_l105 P  n105 v1 v2 v3 σ) n15 v1 (0 : Int32) (0 : Int32) σ2))
abbrev sx_hearths := @wx_hearths
theorem sx_hearths_ok {σ : St} {v1 : Int32} {P : Int32 → St → Prop} (h : sx_hearths σ v1 P) : wx_hearths σ v1 P := h
/-! x.joined -/
def wx_joined_j16 (P : Int32 → St → Prop)  (σ : St) : Prop :=
  P (-3 : Int32) σ
def wx_joined_j127 (P : Int32 → St → Prop) (K34 : Int32 → Int32 → Int32 → Int32 → Int32 → Int32 → Int32 → St → Prop) (v1 : Int32) (v2 : Int32) (v3 : Int32) (v5 : Int32) (v7 : Int32) (v8 : Int32) (s0 : Int32) (σ : St) : Prop :=
  K34 v1 v2 (v3 ||| ((1 : Int32) <<< (v8 &&& 31))) v8 v5 s0 (v7 + (1 : Int32)) σ
def wx_joined_j102 (P : Int32 → St → Prop) (K34 : Int32 → Int32 → Int32 → Int32 → Int32 → Int32 → Int32 → St → Prop) (v1 : Int32) (v2 : Int32) (v3 : Int32) (v4 : Int32) (v6 : Int32) (v7 : Int32) (s0 : Int32) (σ : St) : Prop :=
  sx_whyNot σ v3 v4 s0 (fun r110 σ110 => if 0 ≤ r110 then (wx_joined_j127 P K34 v1 v2 v3 r110 v7 s0 v6 σ110) else (wx_joined_j127 P K34 v1 v2 v3 r110 v7 s0 v7 σ110))
noncomputable def wx_joined_l34 (P : Int32 → St → Prop) (K146 : Int32 → Int32 → St → Prop) (n : Nat) : Int32 → Int32 → Int32 → Int32 → Int32 → Int32 → Int32 → St → Prop :=
  Nat.rec (fun _ _ _ _ _ _ _ _ => False) (fun _ ih v1 v2 v3 v4 v5 v6 v7 σ => vp_in v1 3 ∧ (vp_in v2 3 ∧ (if ((xA_menuMany σ (v1).toNatClampNeg) + (xA_menuMany σ (v2).toNatClampNeg)) ≤ v7 then (K146 v5 v6 σ) else (if 0 ≤ v6 then (K146 v5 v6 σ) else (vp_in v1 3 ∧ (if (xA_menuMany σ (v1).toNatClampNeg) ≤ v7 then (vp_in v1 3 ∧ (vp_in ((((10 : Int32) * v2) + v7) - (xA_menuMany σ (v1).toNatClampNeg)) 30 ∧ (wx_joined_j102 P ih v1 v2 v3 v4 v6 v7 (xA_menu σ (((((10 : Int32) * v2) + v7) - (xA_menuMany σ (v1).toNatClampNeg))).toNatClampNeg) σ))) else (vp_in (((10 : Int32) * v1) + v7) 30 ∧ (wx_joined_j102 P ih v1 v2 v3 v4 v6 v7 (xA_menu σ ((((10 : Int32) * v1) + v7)).toNatClampNeg) σ)))))))) n
theorem wx_joined_l34_s (P : Int32 → St → Prop) (K146 : Int32 → Int32 → St → Prop) (n : Nat) (v1 : Int32) (v2 : Int32) (v3 : Int32) (v4 : Int32) (v5 : Int32) (v6 : Int32) (v7 : Int32) (σ : St) : wx_joined_l34 P K146 (n + 1) v1 v2 v3 v4 v5 v6 v7 σ = (vp_in v1 3 ∧ (vp_in v2 3 ∧ (if ((xA_menuMany σ (v1).toNatClampNeg) + (xA_menuMany σ (v2).toNatClampNeg)) ≤ v7 then (K146 v5 v6 σ) else (if 0 ≤ v6 then (K146 v5 v6 σ) else (vp_in v1 3 ∧ (if (xA_menuMany σ (v1).toNatClampNeg) ≤ v7 then (vp_in v1 3 ∧ (vp_in ((((10 : Int32) * v2) + v7) - (xA_menuMany σ (v1).toNatClampNeg)) 30 ∧ (wx_joined_j102 P (wx_joined_l34 P K146 n) v1 v2 v3 v4 v6 v7 (xA_menu σ (((((10 : Int32) * v2) + v7) - (xA_menuMany σ (v1).toNatClampNeg))).toNatClampNeg) σ))) else (vp_in (((10 : Int32) * v1) + v7) 30 ∧ (wx_joined_j102 P (wx_joined_l34 P K146 n) v1 v2 v3 v4 v6 v7 (xA_menu σ ((((10 : Int32) * v1) + v7)).toNatClampNeg) σ)))))))) := rfl
def wx_joined_j146 (P : Int32 → St → Prop)  (v5 : Int32) (v6 : Int32) (σ : St) : Prop :=
  sx_tells (xS_rowMany σ (0 : Int32)) v5 (fun σ154 => P v6 σ154)
def wx_joined (σ : St) (v1 : Int32) (v2 : Int32) (P : Int32 → St → Prop) : Prop :=
  sx_isWhole σ v1 (fun r2 σ2 => if r2 = 0 then (wx_joined_j16 P  σ2) else (sx_isWhole σ2 v2 (fun r10 σ10 => if r10 = 0 then (wx_joined_j16 P  σ10) else (∃ n34, wx_joined_l34 P (wx_joined_j146 P) n34 v1 v2 (0 : Int32) (-1 : Int32) (0 : Int32) (-2 : Int32) (0 : Int32) σ10))))
abbrev sx_joined := @wx_joined
theorem sx_joined_ok {σ : St} {v1 : Int32} {v2 : Int32} {P : Int32 → St → Prop} (h : sx_joined σ v1 v2 P) : wx_joined σ v1 v2 P := h
/-! x.kitchen -/
def wx_kitchen_j93 (P : Int32 → St → Prop) (K46 : Int32 → Int32 → Int32 → Int32 → St → Prop) (v1 : Int32) (v2 : Int32) (v3 : Int32) (s0 : Int32) (σ : St) : Prop :=
  K46 v1 v2 v3 s0 σ
def wx_kitchen_j92 (P : Int32 → St → Prop) (K46 : Int32 → Int32 → Int32 → Int32 → St → Prop) (v1 : Int32) (v2 : Int32) (v3 : Int32) (σ : St) : Prop :=
  wx_kitchen_j93 P K46 v1 v2 v3 (0 : Int32) σ
def wx_kitchen_j71 (P : Int32 → St → Prop) (K46 : Int32 → Int32 → Int32 → Int32 → St → Prop) (v1 : Int32) (v2 : Int32) (s0 : Int32) (σ : St) : Prop :=
  if s0 = 0 then (wx_kitchen_j92 P K46 v1 (v2 + (1 : Int32)) s0 σ) else (sx_takes σ (59 : Int32) (fun r82 σ82 => if r82 = 0 then (wx_kitchen_j92 P K46 v1 (v2 + (1 : Int32)) s0 σ82) else (wx_kitchen_j93 P K46 v1 (v2 + (1 : Int32)) s0 (1 : Int32) σ82)))
noncomputable def wx_kitchen_l46 (P : Int32 → St → Prop) (K120 : Int32 → Int32 → St → Prop) (n : Nat) : Int32 → Int32 → Int32 → Int32 → St → Prop :=
  Nat.rec (fun _ _ _ _ _ => False) (fun _ ih v1 v2 v3 v4 σ => if v4 = 0 then (sx_faultOf σ v1 v3 (fun r101 σ101 => if 0 ≤ r101 then (K120 v2 (xI_dishes σ101) σ101) else (P r101 σ101))) else (sx_isAt σ (71 : Int32) (fun r54 σ54 => if r54 = 0 then (sx_readsDish σ54  (fun r68 σ68 => wx_kitchen_j71 P ih v1 v2 r68 σ68)) else (sx_readsGuest σ54  (fun r61 σ61 => wx_kitchen_j71 P ih v1 v2 r61 σ61))))) n
theorem wx_kitchen_l46_s (P : Int32 → St → Prop) (K120 : Int32 → Int32 → St → Prop) (n : Nat) (v1 : Int32) (v2 : Int32) (v3 : Int32) (v4 : Int32) (σ : St) : wx_kitchen_l46 P K120 (n + 1) v1 v2 v3 v4 σ = (if v4 = 0 then (sx_faultOf σ v1 v3 (fun r101 σ101 => if 0 ≤ r101 then (K120 v2 (xI_dishes σ101) σ101) else (P r101 σ101))) else (sx_isAt σ (71 : Int32) (fun r54 σ54 => if r54 = 0 then (sx_readsDish σ54  (fun r68 σ68 => wx_kitchen_j71 P (wx_kitchen_l46 P K120 n) v1 v2 r68 σ68)) else (sx_readsGuest σ54  (fun r61 σ61 => wx_kitchen_j71 P (wx_kitchen_l46 P K120 n) v1 v2 r61 σ61))))) := rfl
noncomputable def wx_kitchen_l120 (P : Int32 → St → Prop) (K183 : Int32 → Int32 → St → Prop) (n : Nat) : Int32 → Int32 → St → Prop :=
  Nat.rec (fun _ _ _ => False) (fun _ ih v2 v6 σ => if (xI_readDishes σ) ≤ v6 then (K183 v2 (xI_guests σ) σ) else (vp_in v6 10 ∧ (vp_in v6 10 ∧ (vp_in v6 10 ∧ (vp_in v6 10 ∧ (vp_in v6 10 ∧ (vp_in v6 10 ∧ (ih v2 (v6 + (1 : Int32)) (xU_hours (xU_cost (xU_stuffs σ v6 (xA_readStuffs σ (v6).toNatClampNeg)) v6 (xA_readCost (xU_stuffs σ v6 (xA_readStuffs σ (v6).toNatClampNeg)) (v6).toNatClampNeg)) v6 (xA_readHours (xU_cost (xU_stuffs σ v6 (xA_readStuffs σ (v6).toNatClampNeg)) v6 (xA_readCost (xU_stuffs σ v6 (xA_readStuffs σ (v6).toNatClampNeg)) (v6).toNatClampNeg)) (v6).toNatClampNeg)))))))))) n
theorem wx_kitchen_l120_s (P : Int32 → St → Prop) (K183 : Int32 → Int32 → St → Prop) (n : Nat) (v2 : Int32) (v6 : Int32) (σ : St) : wx_kitchen_l120 P K183 (n + 1) v2 v6 σ = (if (xI_readDishes σ) ≤ v6 then (K183 v2 (xI_guests σ) σ) else (vp_in v6 10 ∧ (vp_in v6 10 ∧ (vp_in v6 10 ∧ (vp_in v6 10 ∧ (vp_in v6 10 ∧ (vp_in v6 10 ∧ (wx_kitchen_l120 P K183 n v2 (v6 + (1 : Int32)) (xU_hours (xU_cost (xU_stuffs σ v6 (xA_readStuffs σ (v6).toNatClampNeg)) v6 (xA_readCost (xU_stuffs σ v6 (xA_readStuffs σ (v6).toNatClampNeg)) (v6).toNatClampNeg)) v6 (xA_readHours (xU_cost (xU_stuffs σ v6 (xA_readStuffs σ (v6).toNatClampNeg)) v6 (xA_readCost (xU_stuffs σ v6 (xA_readStuffs σ (v6).toNatClampNeg)) (v6).toNatClampNeg)) (v6).toNatClampNeg)))))))))) := rfl
noncomputable def wx_kitchen_l183 (P : Int32 → St → Prop)  (n : Nat) : Int32 → Int32 → St → Prop :=
  Nat.rec (fun _ _ _ => False) (fun _ ih v2 v6 σ => if (xI_readGuests σ) ≤ v6 then (P v2 (xS_hot (xS_guests (xS_dishes σ (xI_readDishes σ)) (xI_readGuests (xS_dishes σ (xI_readDishes σ)))) (xI_readHot (xS_guests (xS_dishes σ (xI_readDishes σ)) (xI_readGuests (xS_dishes σ (xI_readDishes σ))))))) else (vp_in v6 6 ∧ (vp_in v6 6 ∧ (vp_in v6 6 ∧ (vp_in v6 6 ∧ (ih v2 (v6 + (1 : Int32)) (xU_bars (xU_loves σ v6 (xA_readLoves σ (v6).toNatClampNeg)) v6 (xA_readBars (xU_loves σ v6 (xA_readLoves σ (v6).toNatClampNeg)) (v6).toNatClampNeg)))))))) n
theorem wx_kitchen_l183_s (P : Int32 → St → Prop)  (n : Nat) (v2 : Int32) (v6 : Int32) (σ : St) : wx_kitchen_l183 P  (n + 1) v2 v6 σ = (if (xI_readGuests σ) ≤ v6 then (P v2 (xS_hot (xS_guests (xS_dishes σ (xI_readDishes σ)) (xI_readGuests (xS_dishes σ (xI_readDishes σ)))) (xI_readHot (xS_guests (xS_dishes σ (xI_readDishes σ)) (xI_readGuests (xS_dishes σ (xI_readDishes σ))))))) else (vp_in v6 6 ∧ (vp_in v6 6 ∧ (vp_in v6 6 ∧ (vp_in v6 6 ∧ (wx_kitchen_l183 P  n v2 (v6 + (1 : Int32)) (xU_bars (xU_loves σ v6 (xA_readLoves σ (v6).toNatClampNeg)) v6 (xA_readBars (xU_loves σ v6 (xA_readLoves σ (v6).toNatClampNeg)) (v6).toNatClampNeg)))))))) := rfl
def wx_kitchen_j44 (P : Int32 → St → Prop)  (v1 : Int32) (v2 : Int32) (v3 : Int32) (s0 : Int32) (σ : St) : Prop :=
  ∃ n46, wx_kitchen_l46 P (fun v2 v6 σ => ∃ n120, wx_kitchen_l120 P (fun v2 v6 σ => ∃ n183, wx_kitchen_l183 P  n183 v2 v6 σ) n120 v2 v6 σ) n46 v1 v2 v3 s0 σ
def wx_kitchen (σ : St)  (P : Int32 → St → Prop) : Prop :=
  sx_begins σ (76 : Int32) (fun r3 σ3 => if r3 ≤ 0 then (wx_kitchen_j44 P  r3 (0 : Int32) (1 : Int32) (0 : Int32) (xS_readHot (xS_readGuests (xS_readDishes σ3 (xI_dishes σ3)) (xI_guests (xS_readDishes σ3 (xI_dishes σ3)))) (xI_hot (xS_readGuests (xS_readDishes σ3 (xI_dishes σ3)) (xI_guests (xS_readDishes σ3 (xI_dishes σ3))))))) else (wx_kitchen_j44 P  r3 (0 : Int32) (1 : Int32) (1 : Int32) (xS_readHot (xS_readGuests (xS_readDishes σ3 (xI_dishes σ3)) (xI_guests (xS_readDishes σ3 (xI_dishes σ3)))) (xI_hot (xS_readGuests (xS_readDishes σ3 (xI_dishes σ3)) (xI_guests (xS_readDishes σ3 (xI_dishes σ3))))))))
abbrev sx_kitchen := @wx_kitchen
theorem sx_kitchen_ok {σ : St} {P : Int32 → St → Prop} (h : sx_kitchen σ  P) : wx_kitchen σ  P := h
/-! x.late -/
noncomputable def wx_late_l27 (P : Int32 → St → Prop) (K55 : Int32 → Int32 → Int32 → Int32 → St → Prop) (n : Nat) : Int32 → Int32 → Int32 → St → Prop :=
  Nat.rec (fun _ _ _ _ => False) (fun _ ih v1 v2 v3 σ => if v2 ≤ v3 then (K55 v1 v2 (0 : Int32) (0 : Int32) (xS_rowMany σ (0 : Int32))) else (vp_in v3 9 ∧ (ih v1 v2 (v3 + (1 : Int32)) (xU_freeAt σ v3 (0 : Int32))))) n
theorem wx_late_l27_s (P : Int32 → St → Prop) (K55 : Int32 → Int32 → Int32 → Int32 → St → Prop) (n : Nat) (v1 : Int32) (v2 : Int32) (v3 : Int32) (σ : St) : wx_late_l27 P K55 (n + 1) v1 v2 v3 σ = (if v2 ≤ v3 then (K55 v1 v2 (0 : Int32) (0 : Int32) (xS_rowMany σ (0 : Int32))) else (vp_in v3 9 ∧ (wx_late_l27 P K55 n v1 v2 (v3 + (1 : Int32)) (xU_freeAt σ v3 (0 : Int32))))) := rfl
def wx_late_j102 (P : Int32 → St → Prop) (K72 : Int32 → Int32 → Int32 → Int32 → Int32 → Int32 → St → Prop) (v1 : Int32) (v2 : Int32) (v3 : Int32) (v4 : Int32) (v6 : Int32) (s0 : Int32) (σ : St) : Prop :=
  K72 v1 v2 v3 v4 s0 (v6 + (1 : Int32)) σ
noncomputable def wx_late_l72 (P : Int32 → St → Prop) (K55 : Int32 → Int32 → Int32 → Int32 → St → Prop) (n : Nat) : Int32 → Int32 → Int32 → Int32 → Int32 → Int32 → St → Prop :=
  Nat.rec (fun _ _ _ _ _ _ _ => False) (fun _ ih v1 v2 v3 v4 v5 v6 σ => if v2 ≤ v6 then (vp_in v5 9 ∧ (sx_dishAt σ v1 v4 (fun r126 σ126 => vp_in r126 10 ∧ (vp_in v5 9 ∧ (vp_in v5 9 ∧ (sx_tells (xU_freeAt σ126 v5 ((xA_freeAt σ (v5).toNatClampNeg) + (xA_hours σ126 (r126).toNatClampNeg))) (xA_freeAt (xU_freeAt σ126 v5 ((xA_freeAt σ (v5).toNatClampNeg) + (xA_hours σ126 (r126).toNatClampNeg))) (v5).toNatClampNeg) (fun σ140 => vp_in v5 9 ∧ (K55 v1 v2 (jmax v3 (((xA_freeAt σ140 (v5).toNatClampNeg) - (10 : Int32)) - v4)) (v4 + (1 : Int32)) σ140)))))))) else (vp_in v6 9 ∧ (vp_in v5 9 ∧ (if (xA_freeAt σ (v5).toNatClampNeg) ≤ (xA_freeAt σ (v6).toNatClampNeg) then (wx_late_j102 P ih v1 v2 v3 v4 v6 v5 σ) else (wx_late_j102 P ih v1 v2 v3 v4 v6 v6 σ))))) n
theorem wx_late_l72_s (P : Int32 → St → Prop) (K55 : Int32 → Int32 → Int32 → Int32 → St → Prop) (n : Nat) (v1 : Int32) (v2 : Int32) (v3 : Int32) (v4 : Int32) (v5 : Int32) (v6 : Int32) (σ : St) : wx_late_l72 P K55 (n + 1) v1 v2 v3 v4 v5 v6 σ = (if v2 ≤ v6 then (vp_in v5 9 ∧ (sx_dishAt σ v1 v4 (fun r126 σ126 => vp_in r126 10 ∧ (vp_in v5 9 ∧ (vp_in v5 9 ∧ (sx_tells (xU_freeAt σ126 v5 ((xA_freeAt σ (v5).toNatClampNeg) + (xA_hours σ126 (r126).toNatClampNeg))) (xA_freeAt (xU_freeAt σ126 v5 ((xA_freeAt σ (v5).toNatClampNeg) + (xA_hours σ126 (r126).toNatClampNeg))) (v5).toNatClampNeg) (fun σ140 => vp_in v5 9 ∧ (K55 v1 v2 (jmax v3 (((xA_freeAt σ140 (v5).toNatClampNeg) - (10 : Int32)) - v4)) (v4 + (1 : Int32)) σ140)))))))) else (vp_in v6 9 ∧ (vp_in v5 9 ∧ (if (xA_freeAt σ (v5).toNatClampNeg) ≤ (xA_freeAt σ (v6).toNatClampNeg) then (wx_late_j102 P (wx_late_l72 P K55 n) v1 v2 v3 v4 v6 v5 σ) else (wx_late_j102 P (wx_late_l72 P K55 n) v1 v2 v3 v4 v6 v6 σ))))) := rfl
noncomputable def wx_late_l55 (P : Int32 → St → Prop)  (n : Nat) : Int32 → Int32 → Int32 → Int32 → St → Prop :=
  Nat.rec (fun _ _ _ _ _ => False) (fun _ ih v1 v2 v3 v4 σ => vp_in v1 3 ∧ (if (xA_menuMany σ (v1).toNatClampNeg) ≤ v4 then (P v3 σ) else (∃ n72, wx_late_l72 P ih n72 v1 v2 v3 v4 (0 : Int32) (1 : Int32) σ))) n
theorem wx_late_l55_s (P : Int32 → St → Prop)  (n : Nat) (v1 : Int32) (v2 : Int32) (v3 : Int32) (v4 : Int32) (σ : St) : wx_late_l55 P  (n + 1) v1 v2 v3 v4 σ = (vp_in v1 3 ∧ (if (xA_menuMany σ (v1).toNatClampNeg) ≤ v4 then (P v3 σ) else (∃ n72, wx_late_l72 P (wx_late_l55 P  n) n72 v1 v2 v3 v4 (0 : Int32) (1 : Int32) σ))) := rfl
def wx_late (σ : St) (v1 : Int32) (v2 : Int32) (P : Int32 → St → Prop) : Prop :=
  sx_in ((v2).toInt64) (1 : Int64) (9 : Int64) (fun r6 => if r6 = 0 then (P (-1 : Int32) σ) else (sx_isWhole σ v1 (fun r16 σ16 => if r16 = 0 then (P (-3 : Int32) σ16) else (∃ n27, wx_late_l27 P (fun v1 v2 v3 v4 σ => ∃ n55, wx_late_l55 P  n55 v1 v2 v3 v4 σ) n27 v1 v2 (0 : Int32) σ16))))
abbrev sx_late := @wx_late
theorem sx_late_ok {σ : St} {v1 : Int32} {v2 : Int32} {P : Int32 → St → Prop} (h : sx_late σ v1 v2 P) : wx_late σ v1 v2 P := h
/-! x.longest -/
def wx_longest (σ : St)  (P : Int32 → St → Prop) : Prop :=
  sx_laysOut σ  (fun σ1 => sx_measures σ1 (-1 : Int32) (0 : Int32) (fun σ7 => sx_setNow (xS_rowMany σ7 (0 : Int32))  (fun r17 σ17 => sx_lastNow σ17  (fun r21 σ21 => sx_tellsMost σ21 r17 r21 (fun σ24 => sx_setNow σ24  (fun r32 σ32 => sx_lastNow σ32  (fun r36 σ36 => sx_stateOf r32 r36 (fun r39 => vp_in r39 11264 ∧ (P (xA_value σ36 (r39).toNatClampNeg) σ36)))))))))
abbrev sx_longest := @wx_longest
theorem sx_longest_ok {σ : St} {P : Int32 → St → Prop} (h : sx_longest σ  P) : wx_longest σ  P := h
/-! x.made -/
def wx_made_j68 (P : Int32 → St → Prop) (K30 : Int32 → Int32 → St → Prop) (v1 : Int32) (v2 : Int32) (σ : St) : Prop :=
  K30 v1 (v2 + (1 : Int32)) σ
noncomputable def wx_made_l30 (P : Int32 → St → Prop) (K22 : Int32 → St → Prop) (n : Nat) : Int32 → Int32 → St → Prop :=
  Nat.rec (fun _ _ _ => False) (fun _ ih v1 v2 σ => if (256 : Int32) ≤ v2 then (K22 (v1 + (1 : Int32)) σ) else (if (bitC v2) = v1 then (sx_joins σ v2 (fun r47 σ47 => if r47 = 0 then (wx_made_j68 P ih v1 v2 σ47) else (sx_tells (xS_rowMany σ47 (0 : Int32)) v2 (fun σ63 => P v1 σ63)))) else (wx_made_j68 P ih v1 v2 σ))) n
theorem wx_made_l30_s (P : Int32 → St → Prop) (K22 : Int32 → St → Prop) (n : Nat) (v1 : Int32) (v2 : Int32) (σ : St) : wx_made_l30 P K22 (n + 1) v1 v2 σ = (if (256 : Int32) ≤ v2 then (K22 (v1 + (1 : Int32)) σ) else (if (bitC v2) = v1 then (sx_joins σ v2 (fun r47 σ47 => if r47 = 0 then (wx_made_j68 P (wx_made_l30 P K22 n) v1 v2 σ47) else (sx_tells (xS_rowMany σ47 (0 : Int32)) v2 (fun σ63 => P v1 σ63)))) else (wx_made_j68 P (wx_made_l30 P K22 n) v1 v2 σ))) := rfl
noncomputable def wx_made_l22 (P : Int32 → St → Prop)  (n : Nat) : Int32 → St → Prop :=
  Nat.rec (fun _ _ => False) (fun _ ih v1 σ => if (8 : Int32) < v1 then (P (-2 : Int32) σ) else (∃ n30, wx_made_l30 P ih n30 v1 (1 : Int32) σ)) n
theorem wx_made_l22_s (P : Int32 → St → Prop)  (n : Nat) (v1 : Int32) (σ : St) : wx_made_l22 P  (n + 1) v1 σ = (if (8 : Int32) < v1 then (P (-2 : Int32) σ) else (∃ n30, wx_made_l30 P (wx_made_l22 P  n) n30 v1 (1 : Int32) σ)) := rfl
def wx_made (σ : St)  (P : Int32 → St → Prop) : Prop :=
  sx_joins σ (0 : Int32) (fun r2 σ2 => if r2 = 0 then (∃ n22, wx_made_l22 P  n22 (1 : Int32) σ2) else (sx_tells (xS_rowMany σ2 (0 : Int32)) (0 : Int32) (fun σ15 => P (0 : Int32) σ15)))
abbrev sx_made := @wx_made
theorem sx_made_ok {σ : St} {P : Int32 → St → Prop} (h : sx_made σ  P) : wx_made σ  P := h
/-! x.mend -/
def wx_mend_j72 (P : Int32 → St → Prop) (K33 : Int32 → Int32 → Int32 → St → Prop) (v1 : Int32) (v2 : Int32) (v3 : Int32) (s1 : Int32) (s2 : Int32) (σ : St) : Prop :=
  K33 v1 v2 (v3 + (1 : Int32)) (xS_allowed σ (s1 &&& s2))
def wx_mend_j71 (P : Int32 → St → Prop) (K33 : Int32 → Int32 → Int32 → St → Prop) (v1 : Int32) (v2 : Int32) (v3 : Int32) (s1 : Int32) (σ : St) : Prop :=
  wx_mend_j72 P K33 v1 v2 v3 s1 (-1 : Int32) σ
noncomputable def wx_mend_l33 (P : Int32 → St → Prop) (K99 : Int32 → Int32 → Int32 → St → Prop) (n : Nat) : Int32 → Int32 → Int32 → St → Prop :=
  Nat.rec (fun _ _ _ _ => False) (fun _ ih v1 v2 v3 σ => if (xI_dishes σ) ≤ v3 then (vp_in v1 3 ∧ (K99 v1 (xA_menuMany σ (v1).toNatClampNeg) (((1 : Int32) <<< ((xI_dishes σ) &&& 31)) - (1 : Int32)) σ)) else (if v2 < 0 then (wx_mend_j71 P ih v1 v2 v3 (xI_allowed σ) σ) else (vp_in v3 10 ∧ (sx_has (xA_stuffs σ (v3).toNatClampNeg) v2 (fun r57 => if r57 = 0 then (wx_mend_j71 P ih v1 v2 v3 (xI_allowed σ) σ) else (wx_mend_j72 P ih v1 v2 v3 (xI_allowed σ) (((1 : Int32) <<< (v3 &&& 31)) ^^^ (-1 : Int32)) σ)))))) n
theorem wx_mend_l33_s (P : Int32 → St → Prop) (K99 : Int32 → Int32 → Int32 → St → Prop) (n : Nat) (v1 : Int32) (v2 : Int32) (v3 : Int32) (σ : St) : wx_mend_l33 P K99 (n + 1) v1 v2 v3 σ = (if (xI_dishes σ) ≤ v3 then (vp_in v1 3 ∧ (K99 v1 (xA_menuMany σ (v1).toNatClampNeg) (((1 : Int32) <<< ((xI_dishes σ) &&& 31)) - (1 : Int32)) σ)) else (if v2 < 0 then (wx_mend_j71 P (wx_mend_l33 P K99 n) v1 v2 v3 (xI_allowed σ) σ) else (vp_in v3 10 ∧ (sx_has (xA_stuffs σ (v3).toNatClampNeg) v2 (fun r57 => if r57 = 0 then (wx_mend_j71 P (wx_mend_l33 P K99 n) v1 v2 v3 (xI_allowed σ) σ) else (wx_mend_j72 P (wx_mend_l33 P K99 n) v1 v2 v3 (xI_allowed σ) (((1 : Int32) <<< (v3 &&& 31)) ^^^ (-1 : Int32)) σ)))))) := rfl
def wx_mend_j205 (P : Int32 → St → Prop) (K161 : Int32 → Int32 → Int32 → Int32 → Int32 → Int32 → Int32 → St → Prop) (v1 : Int32) (v3 : Int32) (v4 : Int32) (v5 : Int32) (v6 : Int32) (v7 : Int32) (v8 : Int32) (σ : St) : Prop :=
  K161 v1 v3 v4 v5 v6 v7 (v8 + (1 : Int32)) σ
noncomputable def wx_mend_l161 (P : Int32 → St → Prop) (K211 : Int32 → Int32 → Int32 → Int32 → Int32 → Int32 → St → Prop) (n : Nat) : Int32 → Int32 → Int32 → Int32 → Int32 → Int32 → Int32 → St → Prop :=
  Nat.rec (fun _ _ _ _ _ _ _ _ => False) (fun _ ih v1 v3 v4 v5 v6 v7 v8 σ => if (xI_dishes σ) ≤ v8 then (K211 v1 v3 v4 v5 v6 v7 σ) else (if v3 ≤ v5 then (K211 v1 v3 v4 v5 v6 v7 σ) else (sx_goesOn σ v4 v6 v8 (fun r183 σ183 => if r183 = 0 then (wx_mend_j205 P ih v1 v3 v4 v5 v6 v7 v8 σ183) else (sx_mendBy σ183 v1 v4 v8 (fun r197 σ197 => wx_mend_j205 P ih v1 v3 v4 v5 v6 (jmin v7 r197) v8 σ197)))))) n
theorem wx_mend_l161_s (P : Int32 → St → Prop) (K211 : Int32 → Int32 → Int32 → Int32 → Int32 → Int32 → St → Prop) (n : Nat) (v1 : Int32) (v3 : Int32) (v4 : Int32) (v5 : Int32) (v6 : Int32) (v7 : Int32) (v8 : Int32) (σ : St) : wx_mend_l161 P K211 (n + 1) v1 v3 v4 v5 v6 v7 v8 σ = (if (xI_dishes σ) ≤ v8 then (K211 v1 v3 v4 v5 v6 v7 σ) else (if v3 ≤ v5 then (K211 v1 v3 v4 v5 v6 v7 σ) else (sx_goesOn σ v4 v6 v8 (fun r183 σ183 => if r183 = 0 then (wx_mend_j205 P (wx_mend_l161 P K211 n) v1 v3 v4 v5 v6 v7 v8 σ183) else (sx_mendBy σ183 v1 v4 v8 (fun r197 σ197 => wx_mend_j205 P (wx_mend_l161 P K211 n) v1 v3 v4 v5 v6 (jmin v7 r197) v8 σ197)))))) := rfl
def wx_mend_j225 (P : Int32 → St → Prop) (K114 : Int32 → Int32 → Int32 → Int32 → Int32 → St → Prop) (v1 : Int32) (v3 : Int32) (v4 : Int32) (v5 : Int32) (v6 : Int32) (σ : St) : Prop :=
  K114 v1 v3 v4 v5 (v6 + (1 : Int32)) σ
def wx_mend_j211 (P : Int32 → St → Prop) (K114 : Int32 → Int32 → Int32 → Int32 → Int32 → St → Prop) (v1 : Int32) (v3 : Int32) (v4 : Int32) (v5 : Int32) (v6 : Int32) (v7 : Int32) (σ : St) : Prop :=
  sx_stateOf v4 v6 (fun r219 => vp_in r219 11264 ∧ (wx_mend_j225 P K114 v1 v3 v4 v5 v6 (xU_value σ r219 v7)))
def wx_mend_j156 (P : Int32 → St → Prop) (K114 : Int32 → Int32 → Int32 → Int32 → Int32 → St → Prop) (v1 : Int32) (v3 : Int32) (v4 : Int32) (v5 : Int32) (v6 : Int32) (s0 : Int32) (σ : St) : Prop :=
  ∃ n161, wx_mend_l161 P (wx_mend_j211 P K114) n161 v1 v3 v4 v5 v6 s0 (0 : Int32) σ
noncomputable def wx_mend_l114 (P : Int32 → St → Prop) (K231 : Int32 → Int32 → Int32 → St → Prop) (n : Nat) : Int32 → Int32 → Int32 → Int32 → Int32 → St → Prop :=
  Nat.rec (fun _ _ _ _ _ _ => False) (fun _ ih v1 v3 v4 v5 v6 σ => if (xI_dishes σ) ≤ v6 then (K231 v1 v3 v4 σ) else (if v3 < v5 then (K231 v1 v3 v4 σ) else (sx_isLastOf σ v4 v6 (fun r134 σ134 => if r134 = 0 then (wx_mend_j225 P ih v1 v3 v4 v5 v6 σ134) else (if v5 = v3 then (wx_mend_j156 P ih v1 v3 v4 v5 v6 (0 : Int32) σ134) else (wx_mend_j156 P ih v1 v3 v4 v5 v6 (1000000 : Int32) σ134)))))) n
theorem wx_mend_l114_s (P : Int32 → St → Prop) (K231 : Int32 → Int32 → Int32 → St → Prop) (n : Nat) (v1 : Int32) (v3 : Int32) (v4 : Int32) (v5 : Int32) (v6 : Int32) (σ : St) : wx_mend_l114 P K231 (n + 1) v1 v3 v4 v5 v6 σ = (if (xI_dishes σ) ≤ v6 then (K231 v1 v3 v4 σ) else (if v3 < v5 then (K231 v1 v3 v4 σ) else (sx_isLastOf σ v4 v6 (fun r134 σ134 => if r134 = 0 then (wx_mend_j225 P (wx_mend_l114 P K231 n) v1 v3 v4 v5 v6 σ134) else (if v5 = v3 then (wx_mend_j156 P (wx_mend_l114 P K231 n) v1 v3 v4 v5 v6 (0 : Int32) σ134) else (wx_mend_j156 P (wx_mend_l114 P K231 n) v1 v3 v4 v5 v6 (1000000 : Int32) σ134)))))) := rfl
def wx_mend_j231 (P : Int32 → St → Prop) (K99 : Int32 → Int32 → Int32 → St → Prop) (v1 : Int32) (v3 : Int32) (v4 : Int32) (σ : St) : Prop :=
  K99 v1 v3 (v4 + (-1 : Int32)) σ
noncomputable def wx_mend_l99 (P : Int32 → St → Prop) (K274 : Int32 → Int32 → Int32 → Int32 → Int32 → Int32 → St → Prop) (n : Nat) : Int32 → Int32 → Int32 → St → Prop :=
  Nat.rec (fun _ _ _ _ => False) (fun _ ih v1 v3 v4 σ => if v4 < 0 then (sx_stateOf (0 : Int32) (-1 : Int32) (fun r243 => vp_in r243 11264 ∧ (if (xA_value σ (r243).toNatClampNeg) < (1000000 : Int32) then (K274 v1 v3 (xA_value σ (r243).toNatClampNeg) (0 : Int32) (-1 : Int32) (0 : Int32) (xS_rowMany σ (0 : Int32))) else (P (-2 : Int32) σ)))) else (∃ n114, wx_mend_l114 P (wx_mend_j231 P ih) n114 v1 v3 v4 (bitC v4) (-1 : Int32) σ)) n
theorem wx_mend_l99_s (P : Int32 → St → Prop) (K274 : Int32 → Int32 → Int32 → Int32 → Int32 → Int32 → St → Prop) (n : Nat) (v1 : Int32) (v3 : Int32) (v4 : Int32) (σ : St) : wx_mend_l99 P K274 (n + 1) v1 v3 v4 σ = (if v4 < 0 then (sx_stateOf (0 : Int32) (-1 : Int32) (fun r243 => vp_in r243 11264 ∧ (if (xA_value σ (r243).toNatClampNeg) < (1000000 : Int32) then (K274 v1 v3 (xA_value σ (r243).toNatClampNeg) (0 : Int32) (-1 : Int32) (0 : Int32) (xS_rowMany σ (0 : Int32))) else (P (-2 : Int32) σ)))) else (∃ n114, wx_mend_l114 P (wx_mend_j231 P (wx_mend_l99 P K274 n)) n114 v1 v3 v4 (bitC v4) (-1 : Int32) σ)) := rfl
def wx_mend_j320 (P : Int32 → St → Prop) (K283 : Int32 → Int32 → Int32 → Int32 → Int32 → Int32 → Int32 → St → Prop) (v1 : Int32) (v3 : Int32) (v4 : Int32) (v5 : Int32) (v6 : Int32) (v7 : Int32) (v8 : Int32) (σ : St) : Prop :=
  K283 v1 v3 v4 v5 v6 v7 (v8 + (1 : Int32)) σ
noncomputable def wx_mend_l283 (P : Int32 → St → Prop) (K274 : Int32 → Int32 → Int32 → Int32 → Int32 → Int32 → St → Prop) (n : Nat) : Int32 → Int32 → Int32 → Int32 → Int32 → Int32 → Int32 → St → Prop :=
  Nat.rec (fun _ _ _ _ _ _ _ _ => False) (fun _ ih v1 v3 v4 v5 v6 v7 v8 σ => sx_goesOn σ v5 v6 v8 (fun r290 σ290 => if r290 = 0 then (wx_mend_j320 P ih v1 v3 v4 v5 v6 v7 v8 σ290) else (sx_mendBy σ290 v1 v5 v8 (fun r302 σ302 => sx_stateOf v5 v6 (fun r313 => vp_in r313 11264 ∧ (if r302 = (xA_value σ302 (r313).toNatClampNeg) then (sx_tells σ302 v8 (fun σ329 => K274 v1 v3 v4 (v5 ||| ((1 : Int32) <<< (v8 &&& 31))) v8 (v7 + (1 : Int32)) σ329)) else (wx_mend_j320 P ih v1 v3 v4 v5 v6 v7 v8 σ302))))))) n
theorem wx_mend_l283_s (P : Int32 → St → Prop) (K274 : Int32 → Int32 → Int32 → Int32 → Int32 → Int32 → St → Prop) (n : Nat) (v1 : Int32) (v3 : Int32) (v4 : Int32) (v5 : Int32) (v6 : Int32) (v7 : Int32) (v8 : Int32) (σ : St) : wx_mend_l283 P K274 (n + 1) v1 v3 v4 v5 v6 v7 v8 σ = (sx_goesOn σ v5 v6 v8 (fun r290 σ290 => if r290 = 0 then (wx_mend_j320 P (wx_mend_l283 P K274 n) v1 v3 v4 v5 v6 v7 v8 σ290) else (sx_mendBy σ290 v1 v5 v8 (fun r302 σ302 => sx_stateOf v5 v6 (fun r313 => vp_in r313 11264 ∧ (if r302 = (xA_value σ302 (r313).toNatClampNeg) then (sx_tells σ302 v8 (fun σ329 => K274 v1 v3 v4 (v5 ||| ((1 : Int32) <<< (v8 &&& 31))) v8 (v7 + (1 : Int32)) σ329)) else (wx_mend_j320 P (wx_mend_l283 P K274 n) v1 v3 v4 v5 v6 v7 v8 σ302))))))) := rfl
noncomputable def wx_mend_l274 (P : Int32 → St → Prop)  (n : Nat) : Int32 → Int32 → Int32 → Int32 → Int32 → Int32 → St → Prop :=
  Nat.rec (fun _ _ _ _ _ _ _ => False) (fun _ ih v1 v3 v4 v5 v6 v7 σ => if v3 ≤ v7 then (P v4 σ) else (∃ n283, wx_mend_l283 P ih n283 v1 v3 v4 v5 v6 v7 (0 : Int32) σ)) n
theorem wx_mend_l274_s (P : Int32 → St → Prop)  (n : Nat) (v1 : Int32) (v3 : Int32) (v4 : Int32) (v5 : Int32) (v6 : Int32) (v7 : Int32) (σ : St) : wx_mend_l274 P  (n + 1) v1 v3 v4 v5 v6 v7 σ = (if v3 ≤ v7 then (P v4 σ) else (∃ n283, wx_mend_l283 P (wx_mend_l274 P  n) n283 v1 v3 v4 v5 v6 v7 (0 : Int32) σ)) := rfl
def wx_mend (σ : St) (v1 : Int32) (v2 : Int32) (P : Int32 → St → Prop) : Prop :=
  sx_in ((v2).toInt64) (-1 : Int64) (7 : Int64) (fun r8 => if r8 = 0 then (P (-1 : Int32) σ) else (sx_isWhole σ v1 (fun r18 σ18 => if r18 = 0 then (P (-3 : Int32) σ18) else (sx_laysOut σ18  (fun σ28 => ∃ n33, wx_mend_l33 P (fun v1 v3 v4 σ => ∃ n99, wx_mend_l99 P (fun v1 v3 v4 v5 v6 v7 σ => ∃ n274, wx_mend_l274 P  n274 v1 v3 v4 v5 v6 v7 σ) n99 v1 v3 v4 σ) n33 v1 v2 (0 : Int32) σ28)))))
abbrev sx_mend := @wx_mend
theorem sx_mend_ok {σ : St} {v1 : Int32} {v2 : Int32} {P : Int32 → St → Prop} (h : sx_mend σ v1 v2 P) : wx_mend σ v1 v2 P := h
/-! x.parts -/
def wx_parts_j45 (P : Int32 → St → Prop) (K9 : Int32 → Int32 → St → Prop) (v1 : Int32) (v2 : Int32) (σ : St) : Prop :=
  K9 v1 (v2 + (1 : Int32)) σ
noncomputable def wx_parts_l9 (P : Int32 → St → Prop)  (n : Nat) : Int32 → Int32 → St → Prop :=
  Nat.rec (fun _ _ _ => False) (fun _ ih v1 v2 σ => if (xI_dishes σ) ≤ v2 then (P (xI_rowMany σ) σ) else (sx_has v1 v2 (fun r19 => if r19 = 0 then (sx_partOf σ v2 (fun r31 σ31 => sx_partOf σ31 v2 (fun r39 σ39 => sx_tells σ39 r39 (fun σ42 => wx_parts_j45 P ih (v1 ||| r31) v2 σ42)))) else (wx_parts_j45 P ih v1 v2 σ)))) n
theorem wx_parts_l9_s (P : Int32 → St → Prop)  (n : Nat) (v1 : Int32) (v2 : Int32) (σ : St) : wx_parts_l9 P  (n + 1) v1 v2 σ = (if (xI_dishes σ) ≤ v2 then (P (xI_rowMany σ) σ) else (sx_has v1 v2 (fun r19 => if r19 = 0 then (sx_partOf σ v2 (fun r31 σ31 => sx_partOf σ31 v2 (fun r39 σ39 => sx_tells σ39 r39 (fun σ42 => wx_parts_j45 P (wx_parts_l9 P  n) (v1 ||| r31) v2 σ42)))) else (wx_parts_j45 P (wx_parts_l9 P  n) v1 v2 σ)))) := rfl
def wx_parts (σ : St)  (P : Int32 → St → Prop) : Prop :=
  ∃ n9, wx_parts_l9 P  n9 (0 : Int32) (0 : Int32) (xS_rowMany σ (0 : Int32))
abbrev sx_parts := @wx_parts
theorem sx_parts_ok {σ : St} {P : Int32 → St → Prop} (h : sx_parts σ  P) : wx_parts σ  P := h
/-! x.poison -/
def wx_poison_j76 (P : Int32 → St → Prop) (K38 : Int32 → Int32 → Int32 → Int32 → St → Prop) (v1 : Int32) (v2 : Int32) (v4 : Int32) (s0 : Int32) (s1 : Int32) (σ : St) : Prop :=
  K38 v1 v2 (s0 &&& s1) (v4 + (1 : Int32)) σ
noncomputable def wx_poison_l38 (P : Int32 → St → Prop)  (n : Nat) : Int32 → Int32 → Int32 → Int32 → St → Prop :=
  Nat.rec (fun _ _ _ _ _ => False) (fun _ ih v1 v2 v3 v4 σ => if (xI_guests σ) ≤ v4 then (P v3 σ) else (sx_has v2 v4 (fun r51 => if r51 = 0 then (sx_eatenBy σ v1 v4 (fun r71 σ71 => wx_poison_j76 P ih v1 v2 v4 v3 (r71 ^^^ (-1 : Int32)) σ71)) else (sx_eatenBy σ v1 v4 (fun r61 σ61 => wx_poison_j76 P ih v1 v2 v4 v3 r61 σ61))))) n
theorem wx_poison_l38_s (P : Int32 → St → Prop)  (n : Nat) (v1 : Int32) (v2 : Int32) (v3 : Int32) (v4 : Int32) (σ : St) : wx_poison_l38 P  (n + 1) v1 v2 v3 v4 σ = (if (xI_guests σ) ≤ v4 then (P v3 σ) else (sx_has v2 v4 (fun r51 => if r51 = 0 then (sx_eatenBy σ v1 v4 (fun r71 σ71 => wx_poison_j76 P (wx_poison_l38 P  n) v1 v2 v4 v3 (r71 ^^^ (-1 : Int32)) σ71)) else (sx_eatenBy σ v1 v4 (fun r61 σ61 => wx_poison_j76 P (wx_poison_l38 P  n) v1 v2 v4 v3 r61 σ61))))) := rfl
def wx_poison (σ : St) (v1 : Int32) (v2 : Int32) (P : Int32 → St → Prop) : Prop :=
  sx_in ((v2).toInt64) (0 : Int64) (((((1 : Int32) <<< ((xI_guests σ) &&& 31)) - (1 : Int32))).toInt64) (fun r12 => if r12 = 0 then (P (-1 : Int32) σ) else (sx_isWhole σ v1 (fun r22 σ22 => if r22 = 0 then (P (-3 : Int32) σ22) else (∃ n38, wx_poison_l38 P  n38 v1 v2 (255 : Int32) (0 : Int32) σ22))))
abbrev sx_poison := @wx_poison
theorem sx_poison_ok {σ : St} {v1 : Int32} {v2 : Int32} {P : Int32 → St → Prop} (h : sx_poison σ v1 v2 P) : wx_poison σ v1 v2 P := h
/-! x.round -/
def wx_round_j75 (P : Int32 → St → Prop) (K10 : Int32 → Int32 → Int32 → St → Prop) (v1 : Int32) (v2 : Int32) (v3 : Int32) (σ : St) : Prop :=
  K10 v1 v2 (v3 + (1 : Int32)) σ
def wx_round_j67 (P : Int32 → St → Prop) (K10 : Int32 → Int32 → Int32 → St → Prop) (v2 : Int32) (v3 : Int32) (v4 : Int32) (s0 : Int32) (σ : St) : Prop :=
  wx_round_j75 P K10 s0 (jmax v2 v4) v3 σ
noncomputable def wx_round_l10 (P : Int32 → St → Prop)  (n : Nat) : Int32 → Int32 → Int32 → St → Prop :=
  Nat.rec (fun _ _ _ _ => False) (fun _ ih v1 v2 v3 σ => if (xI_dishes σ) ≤ v3 then (if 0 ≤ v1 then (sx_pairsOf σ v1 (fun r91 σ91 => sx_measures σ91 r91 (3 : Int32) (fun σ95 => sx_tells (xS_rowMany σ95 (0 : Int32)) v1 (fun σ105 => sx_tellsMost σ105 ((1 : Int32) <<< (v1 &&& 31)) v1 (fun σ113 => P (v2 + (1 : Int32)) σ113))))) else (P (-2 : Int32) σ)) else (vp_in ((1 : Int32) <<< (v3 &&& 31)) 1024 ∧ (if (xA_fine σ (((1 : Int32) <<< (v3 &&& 31))).toNatClampNeg) = 0 then (wx_round_j75 P ih v1 v2 v3 σ) else (sx_pairsOf σ v3 (fun r35 σ35 => sx_measures σ35 r35 (3 : Int32) (fun σ39 => sx_stateOf ((1 : Int32) <<< (v3 &&& 31)) v3 (fun r50 => vp_in r50 11264 ∧ (if (xA_value σ39 (r50).toNatClampNeg) ≤ v2 then (wx_round_j67 P ih v2 v3 (xA_value σ39 (r50).toNatClampNeg) v1 σ39) else (wx_round_j67 P ih v2 v3 (xA_value σ39 (r50).toNatClampNeg) v3 σ39))))))))) n
theorem wx_round_l10_s (P : Int32 → St → Prop)  (n : Nat) (v1 : Int32) (v2 : Int32) (v3 : Int32) (σ : St) : wx_round_l10 P  (n + 1) v1 v2 v3 σ = (if (xI_dishes σ) ≤ v3 then (if 0 ≤ v1 then (sx_pairsOf σ v1 (fun r91 σ91 => sx_measures σ91 r91 (3 : Int32) (fun σ95 => sx_tells (xS_rowMany σ95 (0 : Int32)) v1 (fun σ105 => sx_tellsMost σ105 ((1 : Int32) <<< (v1 &&& 31)) v1 (fun σ113 => P (v2 + (1 : Int32)) σ113))))) else (P (-2 : Int32) σ)) else (vp_in ((1 : Int32) <<< (v3 &&& 31)) 1024 ∧ (if (xA_fine σ (((1 : Int32) <<< (v3 &&& 31))).toNatClampNeg) = 0 then (wx_round_j75 P (wx_round_l10 P  n) v1 v2 v3 σ) else (sx_pairsOf σ v3 (fun r35 σ35 => sx_measures σ35 r35 (3 : Int32) (fun σ39 => sx_stateOf ((1 : Int32) <<< (v3 &&& 31)) v3 (fun r50 => vp_in r50 11264 ∧ (if (xA_value σ39 (r50).toNatClampNeg) ≤ v2 then (wx_round_j67 P (wx_round_l10 P  n) v2 v3 (xA_value σ39 (r50).toNatClampNeg) v1 σ39) else (wx_round_j67 P (wx_round_l10 P  n) v2 v3 (xA_value σ39 (r50).toNatClampNeg) v3 σ39))))))))) := rfl
def wx_round (σ : St)  (P : Int32 → St → Prop) : Prop :=
  sx_laysOut σ  (fun σ1 => ∃ n10, wx_round_l10 P  n10 (-1 : Int32) (0 : Int32) (0 : Int32) σ1)
abbrev sx_round := @wx_round
theorem sx_round_ok {σ : St} {P : Int32 → St → Prop} (h : sx_round σ  P) : wx_round σ  P := h
/-! x.serve -/
def wx_serve (σ : St) (v1 : Int32) (P : Int32 → St → Prop) : Prop :=
  sx_isDish σ v1 (fun r2 σ2 => if r2 = 0 then (P (-1 : Int32) σ2) else (sx_setNow σ2  (fun r12 σ12 => sx_lastNow σ12  (fun r16 σ16 => sx_whyNot σ16 r12 r16 v1 (fun r20 σ20 => if 0 ≤ r20 then (vp_in (xI_servedMany σ20) 10 ∧ (P (xI_servedMany (xS_servedMany (xU_served σ20 (xI_servedMany σ20) v1) ((xI_servedMany (xU_served σ20 (xI_servedMany σ20) v1)) + (1 : Int32)))) (xS_servedMany (xU_served σ20 (xI_servedMany σ20) v1) ((xI_servedMany (xU_served σ20 (xI_servedMany σ20) v1)) + (1 : Int32))))) else (P r20 σ20))))))
abbrev sx_serve := @wx_serve
theorem sx_serve_ok {σ : St} {v1 : Int32} {P : Int32 → St → Prop} (h : sx_serve σ v1 P) : wx_serve σ v1 P := h
/-! x.shortest -/
def wx_shortest (σ : St) (v1 : Int32) (v2 : Int32) (P : Int32 → St → Prop) : Prop :=
  sx_isDish σ v1 (fun r2 σ2 => if r2 = 0 then (P (-1 : Int32) σ2) else (sx_isDish σ2 v2 (fun r10 σ10 => if r10 = 0 then (P (-1 : Int32) σ10) else (sx_laysOut σ10  (fun σ19 => vp_in ((1 : Int32) <<< (v1 &&& 31)) 1024 ∧ (if (xA_fine σ19 (((1 : Int32) <<< (v1 &&& 31))).toNatClampNeg) = 0 then (P (-2 : Int32) σ19) else (sx_measuresLeast σ19 v2 (fun σ38 => sx_stateOf ((1 : Int32) <<< (v1 &&& 31)) v1 (fun r49 => vp_in r49 11264 ∧ (if (xA_value σ38 (r49).toNatClampNeg) < (1000000 : Int32) then (sx_tells (xS_rowMany σ38 (0 : Int32)) v1 (fun σ71 => sx_tellsMost σ71 ((1 : Int32) <<< (v1 &&& 31)) v1 (fun σ79 => P ((xA_value σ38 (r49).toNatClampNeg) + (1 : Int32)) σ79))) else (P (-2 : Int32) σ38)))))))))))
abbrev sx_shortest := @wx_shortest
theorem sx_shortest_ok {σ : St} {v1 : Int32} {v2 : Int32} {P : Int32 → St → Prop} (h : sx_shortest σ v1 v2 P) : wx_shortest σ v1 v2 P := h
/-! x.shut -/
def wx_shut_j61 (P : Int32 → St → Prop) (K28 : Int32 → Int32 → Int32 → St → Prop) (v1 : Int32) (v3 : Int32) (s0 : Int32) (s1 : Int32) (σ : St) : Prop :=
  K28 v1 (s0 ||| s1) (v3 + (1 : Int32)) σ
def wx_shut_j60 (P : Int32 → St → Prop) (K28 : Int32 → Int32 → Int32 → St → Prop) (v1 : Int32) (v3 : Int32) (s0 : Int32) (σ : St) : Prop :=
  wx_shut_j61 P K28 v1 v3 s0 (0 : Int32) σ
noncomputable def wx_shut_l28 (P : Int32 → St → Prop)  (n : Nat) : Int32 → Int32 → Int32 → St → Prop :=
  Nat.rec (fun _ _ _ _ => False) (fun _ ih v1 v2 v3 σ => if ((1 : Int32) <<< ((xI_dishes σ) &&& 31)) ≤ v3 then (P ((((1 : Int32) <<< ((xI_dishes σ) &&& 31)) - (1 : Int32)) &&& (v2 ^^^ (-1 : Int32))) σ) else (vp_in v3 1024 ∧ (if (xA_lasts σ (v3).toNatClampNeg) = 0 then (wx_shut_j60 P ih v1 v3 v2 σ) else (if (bitC v3) ≤ v1 then (wx_shut_j60 P ih v1 v3 v2 σ) else (wx_shut_j61 P ih v1 v3 v2 v3 σ))))) n
theorem wx_shut_l28_s (P : Int32 → St → Prop)  (n : Nat) (v1 : Int32) (v2 : Int32) (v3 : Int32) (σ : St) : wx_shut_l28 P  (n + 1) v1 v2 v3 σ = (if ((1 : Int32) <<< ((xI_dishes σ) &&& 31)) ≤ v3 then (P ((((1 : Int32) <<< ((xI_dishes σ) &&& 31)) - (1 : Int32)) &&& (v2 ^^^ (-1 : Int32))) σ) else (vp_in v3 1024 ∧ (if (xA_lasts σ (v3).toNatClampNeg) = 0 then (wx_shut_j60 P (wx_shut_l28 P  n) v1 v3 v2 σ) else (if (bitC v3) ≤ v1 then (wx_shut_j60 P (wx_shut_l28 P  n) v1 v3 v2 σ) else (wx_shut_j61 P (wx_shut_l28 P  n) v1 v3 v2 v3 σ))))) := rfl
def wx_shut (σ : St) (v1 : Int32) (P : Int32 → St → Prop) : Prop :=
  sx_in ((v1).toInt64) (0 : Int64) (9 : Int64) (fun r6 => if r6 = 0 then (P (-1 : Int32) σ) else (sx_laysOut σ  (fun σ15 => sx_reaches σ15 (0 : Int32) (-1 : Int32) (fun σ21 => ∃ n28, wx_shut_l28 P  n28 v1 (0 : Int32) (0 : Int32) σ21))))
abbrev sx_shut := @wx_shut
theorem sx_shut_ok {σ : St} {v1 : Int32} {P : Int32 → St → Prop} (h : sx_shut σ v1 P) : wx_shut σ v1 P := h
/-! x.ways -/
def wx_ways_j133 (P : Int64 → St → Prop) (K83 : Int32 → Int32 → Int32 → Int64 → Int32 → St → Prop) (v2 : Int32) (v3 : Int32) (v4 : Int32) (v5 : Int64) (v7 : Int32) (σ : St) : Prop :=
  K83 v2 v3 v4 v5 (v7 + (1 : Int32)) σ
noncomputable def wx_ways_l83 (P : Int64 → St → Prop) (K152 : Int32 → Int32 → Int32 → St → Prop) (n : Nat) : Int32 → Int32 → Int32 → Int64 → Int32 → St → Prop :=
  Nat.rec (fun _ _ _ _ _ _ => False) (fun _ ih v2 v3 v4 v5 v7 σ => if (xI_dishes σ) ≤ v7 then (sx_stateOf v3 v4 (fun r146 => vp_in r146 11264 ∧ (K152 v2 v3 v4 (xU_many σ r146 v5)))) else (if v2 ≤ (bitC v3) then (wx_ways_j133 P ih v2 v3 v4 v5 v7 σ) else (sx_goesOn σ v3 v4 v7 (fun r106 σ106 => if r106 = 0 then (wx_ways_j133 P ih v2 v3 v4 v5 v7 σ106) else (sx_stateOf (v3 ||| ((1 : Int32) <<< (v7 &&& 31))) v7 (fun r126 => vp_in r126 11264 ∧ (wx_ways_j133 P ih v2 v3 v4 (v5 + (xA_many σ106 (r126).toNatClampNeg)) v7 σ106))))))) n
theorem wx_ways_l83_s (P : Int64 → St → Prop) (K152 : Int32 → Int32 → Int32 → St → Prop) (n : Nat) (v2 : Int32) (v3 : Int32) (v4 : Int32) (v5 : Int64) (v7 : Int32) (σ : St) : wx_ways_l83 P K152 (n + 1) v2 v3 v4 v5 v7 σ = (if (xI_dishes σ) ≤ v7 then (sx_stateOf v3 v4 (fun r146 => vp_in r146 11264 ∧ (K152 v2 v3 v4 (xU_many σ r146 v5)))) else (if v2 ≤ (bitC v3) then (wx_ways_j133 P (wx_ways_l83 P K152 n) v2 v3 v4 v5 v7 σ) else (sx_goesOn σ v3 v4 v7 (fun r106 σ106 => if r106 = 0 then (wx_ways_j133 P (wx_ways_l83 P K152 n) v2 v3 v4 v5 v7 σ106) else (sx_stateOf (v3 ||| ((1 : Int32) <<< (v7 &&& 31))) v7 (fun r126 => vp_in r126 11264 ∧ (wx_ways_j133 P (wx_ways_l83 P K152 n) v2 v3 v4 (v5 + (xA_many σ106 (r126).toNatClampNeg)) v7 σ106))))))) := rfl
def wx_ways_j152 (P : Int64 → St → Prop) (K43 : Int32 → Int32 → Int32 → St → Prop) (v2 : Int32) (v3 : Int32) (v4 : Int32) (σ : St) : Prop :=
  K43 v2 v3 (v4 + (1 : Int32)) σ
def wx_ways_j78 (P : Int64 → St → Prop) (K43 : Int32 → Int32 → Int32 → St → Prop) (v2 : Int32) (v3 : Int32) (v4 : Int32) (s0 : Int64) (σ : St) : Prop :=
  ∃ n83, wx_ways_l83 P (wx_ways_j152 P K43) n83 v2 v3 v4 s0 (0 : Int32) σ
noncomputable def wx_ways_l43 (P : Int64 → St → Prop) (K36 : Int32 → Int32 → St → Prop) (n : Nat) : Int32 → Int32 → Int32 → St → Prop :=
  Nat.rec (fun _ _ _ _ => False) (fun _ ih v2 v3 v4 σ => if (xI_dishes σ) ≤ v4 then (K36 v2 (v3 + (-1 : Int32)) σ) else (sx_isLastOf σ v3 v4 (fun r56 σ56 => if r56 = 0 then (wx_ways_j152 P ih v2 v3 v4 σ56) else (if (bitC v3) = v2 then (wx_ways_j78 P ih v2 v3 v4 (1 : Int64) σ56) else (wx_ways_j78 P ih v2 v3 v4 (0 : Int64) σ56))))) n
theorem wx_ways_l43_s (P : Int64 → St → Prop) (K36 : Int32 → Int32 → St → Prop) (n : Nat) (v2 : Int32) (v3 : Int32) (v4 : Int32) (σ : St) : wx_ways_l43 P K36 (n + 1) v2 v3 v4 σ = (if (xI_dishes σ) ≤ v4 then (K36 v2 (v3 + (-1 : Int32)) σ) else (sx_isLastOf σ v3 v4 (fun r56 σ56 => if r56 = 0 then (wx_ways_j152 P (wx_ways_l43 P K36 n) v2 v3 v4 σ56) else (if (bitC v3) = v2 then (wx_ways_j78 P (wx_ways_l43 P K36 n) v2 v3 v4 (1 : Int64) σ56) else (wx_ways_j78 P (wx_ways_l43 P K36 n) v2 v3 v4 (0 : Int64) σ56))))) := rfl
noncomputable def wx_ways_l36 (P : Int64 → St → Prop)  (n : Nat) : Int32 → Int32 → St → Prop :=
  Nat.rec (fun _ _ _ => False) (fun _ ih v2 v3 σ => if v3 < 0 then (sx_setNow σ  (fun r169 σ169 => sx_lastNow σ169  (fun r173 σ173 => sx_stateOf r169 r173 (fun r176 => vp_in r176 11264 ∧ (P (xA_many σ173 (r176).toNatClampNeg) σ173))))) else (∃ n43, wx_ways_l43 P ih n43 v2 v3 (-1 : Int32) σ)) n
theorem wx_ways_l36_s (P : Int64 → St → Prop)  (n : Nat) (v2 : Int32) (v3 : Int32) (σ : St) : wx_ways_l36 P  (n + 1) v2 v3 σ = (if v3 < 0 then (sx_setNow σ  (fun r169 σ169 => sx_lastNow σ169  (fun r173 σ173 => sx_stateOf r169 r173 (fun r176 => vp_in r176 11264 ∧ (P (xA_many σ173 (r176).toNatClampNeg) σ173))))) else (∃ n43, wx_ways_l43 P (wx_ways_l36 P  n) n43 v2 v3 (-1 : Int32) σ)) := rfl
def wx_ways (σ : St) (v1 : Int32) (P : Int64 → St → Prop) : Prop :=
  sx_in ((v1).toInt64) (0 : Int64) (10 : Int64) (fun r6 => if r6 = 0 then (P (-1 : Int64) σ) else (sx_laysOut σ  (fun σ17 => ∃ n36, wx_ways_l36 P  n36 ((xI_servedMany σ17) + v1) (((1 : Int32) <<< ((xI_dishes σ17) &&& 31)) - (1 : Int32)) σ17)))
abbrev sx_ways := @wx_ways
theorem sx_ways_ok {σ : St} {v1 : Int32} {P : Int64 → St → Prop} (h : sx_ways σ v1 P) : wx_ways σ v1 P := h
/-! x.cheap -/
def wx_cheap_j50 (P : Int32 → St → Prop) (K20 : Int32 → Int32 → St → Prop) (v1 : Int32) (v2 : Int32) (s1 : Int32) (s2 : Int32) (σ : St) : Prop :=
  K20 v1 (v2 + (1 : Int32)) (xS_allowed σ (s1 &&& s2))
noncomputable def wx_cheap_l20 (P : Int32 → St → Prop) (K62 : Int32 → Int32 → St → Prop) (n : Nat) : Int32 → Int32 → St → Prop :=
  Nat.rec (fun _ _ _ => False) (fun _ ih v1 v2 σ => if (xI_dishes σ) ≤ v2 then (K62 v1 (0 : Int32) σ) else (sx_hungryAt σ v2 (fun r35 σ35 => if r35 = 0 then (wx_cheap_j50 P ih v1 v2 (xI_allowed σ) (-1 : Int32) σ35) else (wx_cheap_j50 P ih v1 v2 (xI_allowed σ) (((1 : Int32) <<< (v2 &&& 31)) ^^^ (-1 : Int32)) σ35)))) n
theorem wx_cheap_l20_s (P : Int32 → St → Prop) (K62 : Int32 → Int32 → St → Prop) (n : Nat) (v1 : Int32) (v2 : Int32) (σ : St) : wx_cheap_l20 P K62 (n + 1) v1 v2 σ = (if (xI_dishes σ) ≤ v2 then (K62 v1 (0 : Int32) σ) else (sx_hungryAt σ v2 (fun r35 σ35 => if r35 = 0 then (wx_cheap_j50 P (wx_cheap_l20 P K62 n) v1 v2 (xI_allowed σ) (-1 : Int32) σ35) else (wx_cheap_j50 P (wx_cheap_l20 P K62 n) v1 v2 (xI_allowed σ) (((1 : Int32) <<< (v2 &&& 31)) ^^^ (-1 : Int32)) σ35)))) := rfl
noncomputable def wx_cheap_l62 (P : Int32 → St → Prop) (K118 : Int32 → St → Prop) (n : Nat) : Int32 → Int32 → St → Prop :=
  Nat.rec (fun _ _ _ => False) (fun _ ih v1 v2 σ => if ((1 : Int32) <<< ((xI_dishes σ) &&& 31)) ≤ v2 then (sx_bestSet σ v1 (0 : Int32) (fun r100 σ100 => if r100 = (-1000000 : Int32) then (K118 (-2 : Int32) σ100) else (K118 ((-r100)) σ100))) else (sx_setNow σ  (fun r80 σ80 => sx_costOf σ80 (v2 &&& (r80 ^^^ (-1 : Int32))) (fun r86 σ86 => vp_in v2 1024 ∧ (ih v1 (v2 + (1 : Int32)) (xU_worth σ86 v2 ((-r86)))))))) n
theorem wx_cheap_l62_s (P : Int32 → St → Prop) (K118 : Int32 → St → Prop) (n : Nat) (v1 : Int32) (v2 : Int32) (σ : St) : wx_cheap_l62 P K118 (n + 1) v1 v2 σ = (if ((1 : Int32) <<< ((xI_dishes σ) &&& 31)) ≤ v2 then (sx_bestSet σ v1 (0 : Int32) (fun r100 σ100 => if r100 = (-1000000 : Int32) then (K118 (-2 : Int32) σ100) else (K118 ((-r100)) σ100))) else (sx_setNow σ  (fun r80 σ80 => sx_costOf σ80 (v2 &&& (r80 ^^^ (-1 : Int32))) (fun r86 σ86 => vp_in v2 1024 ∧ (wx_cheap_l62 P K118 n v1 (v2 + (1 : Int32)) (xU_worth σ86 v2 ((-r86)))))))) := rfl
def wx_cheap_j118 (P : Int32 → St → Prop)  (s0 : Int32) (σ : St) : Prop :=
  P s0 σ
def wx_cheap (σ : St) (v1 : Int32) (P : Int32 → St → Prop) : Prop :=
  sx_in ((v1).toInt64) (0 : Int64) (10 : Int64) (fun r6 => if r6 = 0 then (P (-1 : Int32) σ) else (sx_laysOut σ  (fun σ15 => ∃ n20, wx_cheap_l20 P (fun v1 v2 σ => ∃ n62, wx_cheap_l62 P (wx_cheap_j118 P) n62 v1 v2 σ) n20 v1 (0 : Int32) σ15)))
abbrev sx_cheap := @wx_cheap
theorem sx_cheap_ok {σ : St} {v1 : Int32} {P : Int32 → St → Prop} (h : sx_cheap σ v1 P) : wx_cheap σ v1 P := h
/-! x.dear -/
noncomputable def wx_dear_l20 (P : Int32 → St → Prop) (K74 : Int32 → St → Prop) (n : Nat) : Int32 → Int32 → St → Prop :=
  Nat.rec (fun _ _ _ => False) (fun _ ih v1 v2 σ => if ((1 : Int32) <<< ((xI_dishes σ) &&& 31)) ≤ v2 then (sx_bestSet σ v1 (0 : Int32) (fun r57 σ57 => if r57 = (-1000000 : Int32) then (K74 (-2 : Int32) σ57) else (K74 r57 σ57))) else (sx_setNow σ  (fun r38 σ38 => sx_costOf σ38 (v2 &&& (r38 ^^^ (-1 : Int32))) (fun r44 σ44 => vp_in v2 1024 ∧ (ih v1 (v2 + (1 : Int32)) (xU_worth σ44 v2 r44)))))) n
theorem wx_dear_l20_s (P : Int32 → St → Prop) (K74 : Int32 → St → Prop) (n : Nat) (v1 : Int32) (v2 : Int32) (σ : St) : wx_dear_l20 P K74 (n + 1) v1 v2 σ = (if ((1 : Int32) <<< ((xI_dishes σ) &&& 31)) ≤ v2 then (sx_bestSet σ v1 (0 : Int32) (fun r57 σ57 => if r57 = (-1000000 : Int32) then (K74 (-2 : Int32) σ57) else (K74 r57 σ57))) else (sx_setNow σ  (fun r38 σ38 => sx_costOf σ38 (v2 &&& (r38 ^^^ (-1 : Int32))) (fun r44 σ44 => vp_in v2 1024 ∧ (wx_dear_l20 P K74 n v1 (v2 + (1 : Int32)) (xU_worth σ44 v2 r44)))))) := rfl
def wx_dear_j74 (P : Int32 → St → Prop)  (s0 : Int32) (σ : St) : Prop :=
  P s0 σ
def wx_dear (σ : St) (v1 : Int32) (P : Int32 → St → Prop) : Prop :=
  sx_in ((v1).toInt64) (0 : Int64) (10 : Int64) (fun r6 => if r6 = 0 then (P (-1 : Int32) σ) else (sx_laysOut σ  (fun σ15 => ∃ n20, wx_dear_l20 P (wx_dear_j74 P) n20 v1 (0 : Int32) σ15)))
abbrev sx_dear := @wx_dear
theorem sx_dear_ok {σ : St} {v1 : Int32} {P : Int32 → St → Prop} (h : sx_dear σ v1 P) : wx_dear σ v1 P := h
/-! x.falls -/
def wx_falls_j66 (P : Int32 → St → Prop) (K32 : Int32 → Int32 → Int32 → Int32 → Int32 → St → Prop) (v1 : Int32) (v2 : Int32) (v3 : Int32) (v5 : Int32) (s0 : Int32) (s1 : Int32) (σ : St) : Prop :=
  K32 v1 v2 v3 (s0 ||| s1) (v5 + (1 : Int32)) σ
def wx_falls_j65 (P : Int32 → St → Prop) (K32 : Int32 → Int32 → Int32 → Int32 → Int32 → St → Prop) (v1 : Int32) (v2 : Int32) (v3 : Int32) (v5 : Int32) (s0 : Int32) (σ : St) : Prop :=
  wx_falls_j66 P K32 v1 v2 v3 v5 s0 (0 : Int32) σ
noncomputable def wx_falls_l32 (P : Int32 → St → Prop) (K123 : Int32 → Int32 → Int32 → Int32 → Int32 → St → Prop) (n : Nat) : Int32 → Int32 → Int32 → Int32 → Int32 → St → Prop :=
  Nat.rec (fun _ _ _ _ _ _ => False) (fun _ ih v1 v2 v3 v4 v5 σ => if (3 : Int32) ≤ v5 then (vp_in (0 : Int32) 3 ∧ (vp_in (1 : Int32) 3 ∧ (vp_in (2 : Int32) 3 ∧ (vp_in (0 : Int32) 3 ∧ (vp_in (1 : Int32) 3 ∧ (vp_in (2 : Int32) 3 ∧ (K123 v4 (xA_law σ ((0 : Int32)).toNatClampNeg) (xA_law σ ((1 : Int32)).toNatClampNeg) (xA_law σ ((2 : Int32)).toNatClampNeg) (0 : Int32) (xU_law (xU_law (xU_law σ (0 : Int32) v1) (1 : Int32) v2) (2 : Int32) v3)))))))) else (sx_isWhole σ v5 (fun r43 σ43 => if r43 = 0 then (wx_falls_j65 P ih v1 v2 v3 v5 v4 σ43) else (sx_firstBad σ43 v5 (fun r52 σ52 => if 0 ≤ r52 then (wx_falls_j65 P ih v1 v2 v3 v5 v4 σ52) else (wx_falls_j66 P ih v1 v2 v3 v5 v4 ((1 : Int32) <<< (v5 &&& 31)) σ52)))))) n
theorem wx_falls_l32_s (P : Int32 → St → Prop) (K123 : Int32 → Int32 → Int32 → Int32 → Int32 → St → Prop) (n : Nat) (v1 : Int32) (v2 : Int32) (v3 : Int32) (v4 : Int32) (v5 : Int32) (σ : St) : wx_falls_l32 P K123 (n + 1) v1 v2 v3 v4 v5 σ = (if (3 : Int32) ≤ v5 then (vp_in (0 : Int32) 3 ∧ (vp_in (1 : Int32) 3 ∧ (vp_in (2 : Int32) 3 ∧ (vp_in (0 : Int32) 3 ∧ (vp_in (1 : Int32) 3 ∧ (vp_in (2 : Int32) 3 ∧ (K123 v4 (xA_law σ ((0 : Int32)).toNatClampNeg) (xA_law σ ((1 : Int32)).toNatClampNeg) (xA_law σ ((2 : Int32)).toNatClampNeg) (0 : Int32) (xU_law (xU_law (xU_law σ (0 : Int32) v1) (1 : Int32) v2) (2 : Int32) v3)))))))) else (sx_isWhole σ v5 (fun r43 σ43 => if r43 = 0 then (wx_falls_j65 P (wx_falls_l32 P K123 n) v1 v2 v3 v5 v4 σ43) else (sx_firstBad σ43 v5 (fun r52 σ52 => if 0 ≤ r52 then (wx_falls_j65 P (wx_falls_l32 P K123 n) v1 v2 v3 v5 v4 σ52) else (wx_falls_j66 P (wx_falls_l32 P K123 n) v1 v2 v3 v5 v4 ((1 : Int32) <<< (v5 &&& 31)) σ52)))))) := rfl
def wx_falls_j160 (P : Int32 → St → Prop) (K123 : Int32 → Int32 → Int32 → Int32 → Int32 → St → Prop) (v5 : Int32) (v6 : Int32) (v7 : Int32) (v8 : Int32) (s0 : Int32) (s1 : Int32) (σ : St) : Prop :=
  K123 (s0 &&& s1) v5 v6 v7 (v8 + (1 : Int32)) σ
def wx_falls_j159 (P : Int32 → St → Prop) (K123 : Int32 → Int32 → Int32 → Int32 → Int32 → St → Prop) (v5 : Int32) (v6 : Int32) (v7 : Int32) (v8 : Int32) (s0 : Int32) (σ : St) : Prop :=
  wx_falls_j160 P K123 v5 v6 v7 v8 s0 (-1 : Int32) σ
noncomputable def wx_falls_l123 (P : Int32 → St → Prop)  (n : Nat) : Int32 → Int32 → Int32 → Int32 → Int32 → St → Prop :=
  Nat.rec (fun _ _ _ _ _ _ => False) (fun _ ih v4 v5 v6 v7 v8 σ => if (3 : Int32) ≤ v8 then (vp_in (0 : Int32) 3 ∧ (vp_in (1 : Int32) 3 ∧ (vp_in (2 : Int32) 3 ∧ (P v4 (xU_law (xU_law (xU_law σ (0 : Int32) v5) (1 : Int32) v6) (2 : Int32) v7))))) else (sx_has v4 v8 (fun r135 => if r135 = 0 then (wx_falls_j159 P ih v5 v6 v7 v8 v4 σ) else (sx_firstBad σ v8 (fun r144 σ144 => if 0 ≤ r144 then (wx_falls_j159 P ih v5 v6 v7 v8 v4 σ144) else (wx_falls_j160 P ih v5 v6 v7 v8 v4 (((1 : Int32) <<< (v8 &&& 31)) ^^^ (-1 : Int32)) σ144)))))) n
theorem wx_falls_l123_s (P : Int32 → St → Prop)  (n : Nat) (v4 : Int32) (v5 : Int32) (v6 : Int32) (v7 : Int32) (v8 : Int32) (σ : St) : wx_falls_l123 P  (n + 1) v4 v5 v6 v7 v8 σ = (if (3 : Int32) ≤ v8 then (vp_in (0 : Int32) 3 ∧ (vp_in (1 : Int32) 3 ∧ (vp_in (2 : Int32) 3 ∧ (P v4 (xU_law (xU_law (xU_law σ (0 : Int32) v5) (1 : Int32) v6) (2 : Int32) v7))))) else (sx_has v4 v8 (fun r135 => if r135 = 0 then (wx_falls_j159 P (wx_falls_l123 P  n) v5 v6 v7 v8 v4 σ) else (sx_firstBad σ v8 (fun r144 σ144 => if 0 ≤ r144 then (wx_falls_j159 P (wx_falls_l123 P  n) v5 v6 v7 v8 v4 σ144) else (wx_falls_j160 P (wx_falls_l123 P  n) v5 v6 v7 v8 v4 (((1 : Int32) <<< (v8 &&& 31)) ^^^ (-1 : Int32)) σ144)))))) := rfl
def wx_falls (σ : St) (v1 : Int32) (v2 : Int32) (v3 : Int32) (P : Int32 → St → Prop) : Prop :=
  sx_isLaw (0 : Int32) v1 (fun r2 => if r2 = 0 then (P (-1 : Int32) σ) else (sx_isLaw (1 : Int32) v2 (fun r10 => if r10 = 0 then (P (-1 : Int32) σ) else (sx_isLaw (2 : Int32) v3 (fun r18 => if r18 = 0 then (P (-1 : Int32) σ) else (∃ n32, wx_falls_l32 P (fun v4 v5 v6 v7 v8 σ => ∃ n123, wx_falls_l123 P  n123 v4 v5 v6 v7 v8 σ) n32 v1 v2 v3 (0 : Int32) (0 : Int32) σ))))))
abbrev sx_falls := @wx_falls
theorem sx_falls_ok {σ : St} {v1 : Int32} {v2 : Int32} {v3 : Int32} {P : Int32 → St → Prop} (h : sx_falls σ v1 v2 v3 P) : wx_falls σ v1 v2 v3 P := h
/-! x.fills -/
def wx_fills_j109 (P : Int64 → St → Prop) (K62 : Int32 → Int64 → Int32 → Int32 → Int32 → Int32 → St → Prop) (v1 : Int32) (v2 : Int64) (v4 : Int32) (v5 : Int32) (v6 : Int32) (v7 : Int32) (σ : St) : Prop :=
  K62 v1 v2 v4 v5 v6 (v7 + (1 : Int32)) σ
noncomputable def wx_fills_l62 (P : Int64 → St → Prop) (K42 : Int32 → Int64 → Int32 → Int32 → Int32 → St → Prop) (n : Nat) : Int32 → Int64 → Int32 → Int32 → Int32 → Int32 → St → Prop :=
  Nat.rec (fun _ _ _ _ _ _ _ => False) (fun _ ih v1 v2 v4 v5 v6 v7 σ => sx_fits σ v1 v6 v7 (fun r68 σ68 => if r68 = 0 then (wx_fills_j109 P ih v1 v2 v4 v5 v6 v7 σ68) else (sx_goesOn σ68 v4 v5 v7 (fun r81 σ81 => if r81 = 0 then (wx_fills_j109 P ih v1 v2 v4 v5 v6 v7 σ81) else (sx_stateOf (v4 ||| ((1 : Int32) <<< (v7 &&& 31))) v7 (fun r100 => vp_in r100 11264 ∧ (if (lg_cmp (xA_many σ81 (r100).toNatClampNeg) (0 : Int64)) = 0 then (wx_fills_j109 P ih v1 v2 v4 v5 v6 v7 σ81) else (sx_tells σ81 v7 (fun σ118 => K42 v1 v2 (v4 ||| ((1 : Int32) <<< (v7 &&& 31))) v7 (v6 + (1 : Int32)) σ118))))))))) n
theorem wx_fills_l62_s (P : Int64 → St → Prop) (K42 : Int32 → Int64 → Int32 → Int32 → Int32 → St → Prop) (n : Nat) (v1 : Int32) (v2 : Int64) (v4 : Int32) (v5 : Int32) (v6 : Int32) (v7 : Int32) (σ : St) : wx_fills_l62 P K42 (n + 1) v1 v2 v4 v5 v6 v7 σ = (sx_fits σ v1 v6 v7 (fun r68 σ68 => if r68 = 0 then (wx_fills_j109 P (wx_fills_l62 P K42 n) v1 v2 v4 v5 v6 v7 σ68) else (sx_goesOn σ68 v4 v5 v7 (fun r81 σ81 => if r81 = 0 then (wx_fills_j109 P (wx_fills_l62 P K42 n) v1 v2 v4 v5 v6 v7 σ81) else (sx_stateOf (v4 ||| ((1 : Int32) <<< (v7 &&& 31))) v7 (fun r100 => vp_in r100 11264 ∧ (if (lg_cmp (xA_many σ81 (r100).toNatClampNeg) (0 : Int64)) = 0 then (wx_fills_j109 P (wx_fills_l62 P K42 n) v1 v2 v4 v5 v6 v7 σ81) else (sx_tells σ81 v7 (fun σ118 => K42 v1 v2 (v4 ||| ((1 : Int32) <<< (v7 &&& 31))) v7 (v6 + (1 : Int32)) σ118))))))))) := rfl
noncomputable def wx_fills_l42 (P : Int64 → St → Prop) (K140 : Int64 → St → Prop) (n : Nat) : Int32 → Int64 → Int32 → Int32 → Int32 → St → Prop :=
  Nat.rec (fun _ _ _ _ _ _ => False) (fun _ ih v1 v2 v4 v5 v6 σ => vp_in v1 3 ∧ (if (xA_menuMany σ (v1).toNatClampNeg) ≤ v6 then (K140 v2 σ) else (if (lg_cmp v2 (0 : Int64)) ≤ 0 then (K140 v2 σ) else (∃ n62, wx_fills_l62 P ih n62 v1 v2 v4 v5 v6 (0 : Int32) σ)))) n
theorem wx_fills_l42_s (P : Int64 → St → Prop) (K140 : Int64 → St → Prop) (n : Nat) (v1 : Int32) (v2 : Int64) (v4 : Int32) (v5 : Int32) (v6 : Int32) (σ : St) : wx_fills_l42 P K140 (n + 1) v1 v2 v4 v5 v6 σ = (vp_in v1 3 ∧ (if (xA_menuMany σ (v1).toNatClampNeg) ≤ v6 then (K140 v2 σ) else (if (lg_cmp v2 (0 : Int64)) ≤ 0 then (K140 v2 σ) else (∃ n62, wx_fills_l62 P (wx_fills_l42 P K140 n) n62 v1 v2 v4 v5 v6 (0 : Int32) σ)))) := rfl
def wx_fills_j140 (P : Int64 → St → Prop)  (v2 : Int64) (σ : St) : Prop :=
  P v2 σ
def wx_fills (σ : St) (v1 : Int32) (P : Int64 → St → Prop) : Prop :=
  sx_isLaid σ v1 (fun r2 σ2 => if r2 = 0 then (P (-3 : Int64) σ2) else (sx_countsFills σ2 v1 (fun σ14 => sx_stateOf (0 : Int32) (-1 : Int32) (fun r23 => vp_in r23 11264 ∧ (∃ n42, wx_fills_l42 P (wx_fills_j140 P) n42 v1 (xA_many σ14 (r23).toNatClampNeg) (0 : Int32) (-1 : Int32) (0 : Int32) (xS_rowMany σ14 (0 : Int32)))))))
abbrev sx_fills := @wx_fills
theorem sx_fills_ok {σ : St} {v1 : Int32} {P : Int64 → St → Prop} (h : sx_fills σ v1 P) : wx_fills σ v1 P := h
/-! x.look -/
def wx_look_j41 (P : Int32 → St → Prop) (K25 : Int32 → Int32 → Int32 → Int32 → Int32 → St → Prop) (v1 : Int32) (v2 : Int32) (v3 : Int32) (v4 : Int32) (v5 : Int32) (s0 : Int32) (s1 : Int32) (σ : St) : Prop :=
  if s1 ≤ s0 then (sx_tells (xS_rowMany σ (0 : Int32)) (xI_whyThen (xS_rowMany σ (0 : Int32))) (fun σ91 => sx_tells σ91 v3 (fun σ96 => sx_tells σ96 v4 (fun σ102 => P v2 σ102)))) else (sx_dishAt σ v1 v5 (fun r53 σ53 => vp_in r53 10 ∧ (sx_dishAt σ53 v1 v5 (fun r66 σ66 => sx_hungryAt σ66 r66 (fun r69 σ69 => K25 v1 v2 (v3 + (xA_cost σ53 (r53).toNatClampNeg)) (v4 ||| r69) (v5 + (1 : Int32)) σ69)))))
noncomputable def wx_look_l25 (P : Int32 → St → Prop)  (n : Nat) : Int32 → Int32 → Int32 → Int32 → Int32 → St → Prop :=
  Nat.rec (fun _ _ _ _ _ _ => False) (fun _ ih v1 v2 v3 v4 v5 σ => if 0 ≤ v2 then (wx_look_j41 P ih v1 v2 v3 v4 v5 v5 v2 σ) else (vp_in v1 3 ∧ (wx_look_j41 P ih v1 v2 v3 v4 v5 v5 (xA_menuMany σ (v1).toNatClampNeg) σ))) n
theorem wx_look_l25_s (P : Int32 → St → Prop)  (n : Nat) (v1 : Int32) (v2 : Int32) (v3 : Int32) (v4 : Int32) (v5 : Int32) (σ : St) : wx_look_l25 P  (n + 1) v1 v2 v3 v4 v5 σ = (if 0 ≤ v2 then (wx_look_j41 P (wx_look_l25 P  n) v1 v2 v3 v4 v5 v5 v2 σ) else (vp_in v1 3 ∧ (wx_look_j41 P (wx_look_l25 P  n) v1 v2 v3 v4 v5 v5 (xA_menuMany σ (v1).toNatClampNeg) σ))) := rfl
def wx_look (σ : St) (v1 : Int32) (P : Int32 → St → Prop) : Prop :=
  sx_isLaid σ v1 (fun r2 σ2 => if r2 = 0 then (P (-3 : Int32) σ2) else (sx_firstBad σ2 v1 (fun r13 σ13 => ∃ n25, wx_look_l25 P  n25 v1 r13 (0 : Int32) (0 : Int32) (0 : Int32) σ13)))
abbrev sx_look := @wx_look
theorem sx_look_ok {σ : St} {v1 : Int32} {P : Int32 → St → Prop} (h : sx_look σ v1 P) : wx_look σ v1 P := h
/-! x.sure -/
def wx_sure_j26 (P : Int32 → St → Prop)  (σ : St) : Prop :=
  P (-3 : Int32) σ
def wx_sure_j136 (P : Int32 → St → Prop) (K75 : Int32 → Int32 → Int32 → Int32 → St → Prop) (v2 : Int32) (v4 : Int32) (v5 : Int32) (s0 : Int32) (s1 : Int32) (σ : St) : Prop :=
  K75 v2 (s0 ||| s1) v4 (v5 + (1 : Int32)) σ
def wx_sure_j135 (P : Int32 → St → Prop) (K75 : Int32 → Int32 → Int32 → Int32 → St → Prop) (v2 : Int32) (v4 : Int32) (v5 : Int32) (s0 : Int32) (σ : St) : Prop :=
  wx_sure_j136 P K75 v2 v4 v5 s0 (0 : Int32) σ
noncomputable def wx_sure_l75 (P : Int32 → St → Prop) (K144 : Int32 → Int32 → Int32 → St → Prop) (n : Nat) : Int32 → Int32 → Int32 → Int32 → St → Prop :=
  Nat.rec (fun _ _ _ _ _ => False) (fun _ ih v2 v3 v4 v5 σ => if (xI_dishes σ) ≤ v5 then (K144 v2 v3 v4 σ) else (if (bitC v4) = (v2 + (1 : Int32)) then (vp_in v4 1024 ∧ (sx_has (xA_lasts σ (v4).toNatClampNeg) v5 (fun r105 => if r105 = 0 then (wx_sure_j135 P ih v2 v4 v5 v3 σ) else (sx_stateOf v4 v5 (fun r119 => vp_in r119 11264 ∧ (if (lg_cmp (xA_many σ (r119).toNatClampNeg) (0 : Int64)) ≤ 0 then (wx_sure_j135 P ih v2 v4 v5 v3 σ) else (wx_sure_j136 P ih v2 v4 v5 v3 ((1 : Int32) <<< (v5 &&& 31)) σ))))))) else (K144 v2 v3 v4 σ))) n
theorem wx_sure_l75_s (P : Int32 → St → Prop) (K144 : Int32 → Int32 → Int32 → St → Prop) (n : Nat) (v2 : Int32) (v3 : Int32) (v4 : Int32) (v5 : Int32) (σ : St) : wx_sure_l75 P K144 (n + 1) v2 v3 v4 v5 σ = (if (xI_dishes σ) ≤ v5 then (K144 v2 v3 v4 σ) else (if (bitC v4) = (v2 + (1 : Int32)) then (vp_in v4 1024 ∧ (sx_has (xA_lasts σ (v4).toNatClampNeg) v5 (fun r105 => if r105 = 0 then (wx_sure_j135 P (wx_sure_l75 P K144 n) v2 v4 v5 v3 σ) else (sx_stateOf v4 v5 (fun r119 => vp_in r119 11264 ∧ (if (lg_cmp (xA_many σ (r119).toNatClampNeg) (0 : Int64)) ≤ 0 then (wx_sure_j135 P (wx_sure_l75 P K144 n) v2 v4 v5 v3 σ) else (wx_sure_j136 P (wx_sure_l75 P K144 n) v2 v4 v5 v3 ((1 : Int32) <<< (v5 &&& 31)) σ))))))) else (K144 v2 v3 v4 σ))) := rfl
def wx_sure_j144 (P : Int32 → St → Prop) (K61 : Int32 → Int32 → Int32 → St → Prop) (v2 : Int32) (v3 : Int32) (v4 : Int32) (σ : St) : Prop :=
  K61 v2 v3 (v4 + (1 : Int32)) σ
noncomputable def wx_sure_l61 (P : Int32 → St → Prop) (K163 : Int32 → St → Prop) (n : Nat) : Int32 → Int32 → Int32 → St → Prop :=
  Nat.rec (fun _ _ _ _ => False) (fun _ ih v2 v3 v4 σ => if ((1 : Int32) <<< ((xI_dishes σ) &&& 31)) ≤ v4 then (if (bitC v3) = (1 : Int32) then (K163 v3 σ) else (K163 (0 : Int32) σ)) else (∃ n75, wx_sure_l75 P (wx_sure_j144 P ih) n75 v2 v3 v4 (0 : Int32) σ)) n
theorem wx_sure_l61_s (P : Int32 → St → Prop) (K163 : Int32 → St → Prop) (n : Nat) (v2 : Int32) (v3 : Int32) (v4 : Int32) (σ : St) : wx_sure_l61 P K163 (n + 1) v2 v3 v4 σ = (if ((1 : Int32) <<< ((xI_dishes σ) &&& 31)) ≤ v4 then (if (bitC v3) = (1 : Int32) then (K163 v3 σ) else (K163 (0 : Int32) σ)) else (∃ n75, wx_sure_l75 P (wx_sure_j144 P (wx_sure_l61 P K163 n)) n75 v2 v3 v4 (0 : Int32) σ)) := rfl
def wx_sure_j163 (P : Int32 → St → Prop)  (s0 : Int32) (σ : St) : Prop :=
  P s0 σ
def wx_sure (σ : St) (v1 : Int32) (v2 : Int32) (P : Int32 → St → Prop) : Prop :=
  sx_isLaid σ v1 (fun r2 σ2 => if r2 = 0 then (wx_sure_j26 P  σ2) else (vp_in v1 3 ∧ (sx_in ((v2).toInt64) (0 : Int64) ((((xA_menuMany σ2 (v1).toNatClampNeg) - (1 : Int32))).toInt64) (fun r20 => if r20 = 0 then (wx_sure_j26 P  σ2) else (sx_countsFills σ2 v1 (fun σ31 => sx_stateOf (0 : Int32) (-1 : Int32) (fun r40 => vp_in r40 11264 ∧ (if (lg_cmp (xA_many σ31 (r40).toNatClampNeg) (0 : Int64)) = 0 then (P (0 : Int32) σ31) else (sx_reachesBy σ31 v1 (fun σ53 => ∃ n61, wx_sure_l61 P (wx_sure_j163 P) n61 v2 (0 : Int32) (0 : Int32) σ53))))))))))
abbrev sx_sure := @wx_sure
theorem sx_sure_ok {σ : St} {v1 : Int32} {v2 : Int32} {P : Int32 → St → Prop} (h : sx_sure σ v1 v2 P) : wx_sure σ v1 v2 P := h
/-! x.eats -/
def wx_eats_j85 (P : Int32 → St → Prop) (K29 : Int32 → Int32 → Int32 → Int32 → Int32 → St → Prop) (v1 : Int32) (v2 : Int32) (v3 : Int32) (v4 : Int32) (v5 : Int32) (σ : St) : Prop :=
  K29 v1 v2 v3 v4 (v5 + (1 : Int32)) σ
noncomputable def wx_eats_l29 (P : Int32 → St → Prop)  (n : Nat) : Int32 → Int32 → Int32 → Int32 → Int32 → St → Prop :=
  Nat.rec (fun _ _ _ _ _ _ => False) (fun _ ih v1 v2 v3 v4 v5 σ => vp_in v1 3 ∧ (if (xA_menuMany σ (v1).toNatClampNeg) ≤ v5 then (sx_tells (xS_rowMany σ (0 : Int32)) v3 (fun σ98 => sx_eatenBy σ98 v1 v2 (fun r105 σ105 => sx_tells σ105 r105 (fun σ108 => sx_tells σ108 v4 (fun σ114 => P (bitC v3) σ114))))) else (sx_dishAt σ v1 v5 (fun r45 σ45 => sx_hungryAt σ45 r45 (fun r48 σ48 => sx_has r48 v2 (fun r52 => if r52 = 0 then (sx_dishAt σ48 v1 v5 (fun r76 σ76 => sx_joyOf σ76 v2 r76 (fun r79 σ79 => wx_eats_j85 P ih v1 v2 (v3 ||| ((1 : Int32) <<< (v5 &&& 31))) (v4 + r79) v5 σ79))) else (wx_eats_j85 P ih v1 v2 v3 v4 v5 σ48))))))) n
theorem wx_eats_l29_s (P : Int32 → St → Prop)  (n : Nat) (v1 : Int32) (v2 : Int32) (v3 : Int32) (v4 : Int32) (v5 : Int32) (σ : St) : wx_eats_l29 P  (n + 1) v1 v2 v3 v4 v5 σ = (vp_in v1 3 ∧ (if (xA_menuMany σ (v1).toNatClampNeg) ≤ v5 then (sx_tells (xS_rowMany σ (0 : Int32)) v3 (fun σ98 => sx_eatenBy σ98 v1 v2 (fun r105 σ105 => sx_tells σ105 r105 (fun σ108 => sx_tells σ108 v4 (fun σ114 => P (bitC v3) σ114))))) else (sx_dishAt σ v1 v5 (fun r45 σ45 => sx_hungryAt σ45 r45 (fun r48 σ48 => sx_has r48 v2 (fun r52 => if r52 = 0 then (sx_dishAt σ48 v1 v5 (fun r76 σ76 => sx_joyOf σ76 v2 r76 (fun r79 σ79 => wx_eats_j85 P (wx_eats_l29 P  n) v1 v2 (v3 ||| ((1 : Int32) <<< (v5 &&& 31))) (v4 + r79) v5 σ79))) else (wx_eats_j85 P (wx_eats_l29 P  n) v1 v2 v3 v4 v5 σ48))))))) := rfl
def wx_eats (σ : St) (v1 : Int32) (v2 : Int32) (P : Int32 → St → Prop) : Prop :=
  sx_isGuest σ v2 (fun r2 σ2 => if r2 = 0 then (P (-1 : Int32) σ2) else (sx_isWhole σ2 v1 (fun r12 σ12 => if r12 = 0 then (P (-3 : Int32) σ12) else (∃ n29, wx_eats_l29 P  n29 v1 v2 (0 : Int32) (0 : Int32) (0 : Int32) σ12))))
abbrev sx_eats := @wx_eats
theorem sx_eats_ok {σ : St} {v1 : Int32} {v2 : Int32} {P : Int32 → St → Prop} (h : sx_eats σ v1 v2 P) : wx_eats σ v1 v2 P := h
/-! x.joyIn -/
def wx_joyIn_j35 (P : Int32 → St → Prop) (K5 : Int32 → Int32 → Int32 → Int32 → St → Prop) (v1 : Int32) (v2 : Int32) (v4 : Int32) (s0 : Int32) (s1 : Int32) (σ : St) : Prop :=
  K5 v1 v2 (s0 + s1) (v4 + (1 : Int32)) σ
noncomputable def wx_joyIn_l5 (P : Int32 → St → Prop)  (n : Nat) : Int32 → Int32 → Int32 → Int32 → St → Prop :=
  Nat.rec (fun _ _ _ _ _ => False) (fun _ ih v1 v2 v3 v4 σ => if (xI_dishes σ) ≤ v4 then (P v3 σ) else (sx_has v2 v4 (fun r18 => if r18 = 0 then (wx_joyIn_j35 P ih v1 v2 v4 v3 (0 : Int32) σ) else (sx_joyOf σ v1 v4 (fun r28 σ28 => wx_joyIn_j35 P ih v1 v2 v4 v3 r28 σ28))))) n
theorem wx_joyIn_l5_s (P : Int32 → St → Prop)  (n : Nat) (v1 : Int32) (v2 : Int32) (v3 : Int32) (v4 : Int32) (σ : St) : wx_joyIn_l5 P  (n + 1) v1 v2 v3 v4 σ = (if (xI_dishes σ) ≤ v4 then (P v3 σ) else (sx_has v2 v4 (fun r18 => if r18 = 0 then (wx_joyIn_j35 P (wx_joyIn_l5 P  n) v1 v2 v4 v3 (0 : Int32) σ) else (sx_joyOf σ v1 v4 (fun r28 σ28 => wx_joyIn_j35 P (wx_joyIn_l5 P  n) v1 v2 v4 v3 r28 σ28))))) := rfl
def wx_joyIn (σ : St) (v1 : Int32) (v2 : Int32) (P : Int32 → St → Prop) : Prop :=
  ∃ n5, wx_joyIn_l5 P  n5 v1 v2 (0 : Int32) (0 : Int32) σ
abbrev sx_joyIn := @wx_joyIn
theorem sx_joyIn_ok {σ : St} {v1 : Int32} {v2 : Int32} {P : Int32 → St → Prop} (h : sx_joyIn σ v1 v2 P) : wx_joyIn σ v1 v2 P := h
/-! x.joyOfAll -/
noncomputable def wx_joyOfAll_l4 (P : Int32 → St → Prop)  (n : Nat) : Int32 → Int32 → Int32 → St → Prop :=
  Nat.rec (fun _ _ _ _ => False) (fun _ ih v1 v2 v3 σ => if (xI_guests σ) ≤ v3 then (P v2 σ) else (sx_joyOf σ v3 v1 (fun r16 σ16 => ih v1 (v2 + r16) (v3 + (1 : Int32)) σ16))) n
theorem wx_joyOfAll_l4_s (P : Int32 → St → Prop)  (n : Nat) (v1 : Int32) (v2 : Int32) (v3 : Int32) (σ : St) : wx_joyOfAll_l4 P  (n + 1) v1 v2 v3 σ = (if (xI_guests σ) ≤ v3 then (P v2 σ) else (sx_joyOf σ v3 v1 (fun r16 σ16 => wx_joyOfAll_l4 P  n v1 (v2 + r16) (v3 + (1 : Int32)) σ16))) := rfl
def wx_joyOfAll (σ : St) (v1 : Int32) (P : Int32 → St → Prop) : Prop :=
  ∃ n4, wx_joyOfAll_l4 P  n4 v1 (0 : Int32) (0 : Int32) σ
abbrev sx_joyOfAll := @wx_joyOfAll
theorem sx_joyOfAll_ok {σ : St} {v1 : Int32} {P : Int32 → St → Prop} (h : sx_joyOfAll σ v1 P) : wx_joyOfAll σ v1 P := h
/-! x.best -/
noncomputable def wx_best_l43 (P : Int32 → St → Prop) (K94 : Int32 → Int32 → Int32 → Int32 → Int32 → St → Prop) (n : Nat) : Int32 → Int32 → Int32 → Int32 → Int32 → Int32 → St → Prop :=
  Nat.rec (fun _ _ _ _ _ _ _ => False) (fun _ ih v1 v2 v3 v4 v5 v6 σ => if (xI_guests σ) ≤ v6 then (sx_costOf σ v4 (fun r79 σ79 => if v2 < r79 then (K94 v1 v2 v3 v3 (-1000000 : Int32) σ79) else (K94 v1 v2 v3 v3 v5 σ79))) else (sx_joyIn σ v6 v4 (fun r59 σ59 => ih v1 v2 v3 v4 (v5 + r59) (v6 + (1 : Int32)) σ59))) n
theorem wx_best_l43_s (P : Int32 → St → Prop) (K94 : Int32 → Int32 → Int32 → Int32 → Int32 → St → Prop) (n : Nat) (v1 : Int32) (v2 : Int32) (v3 : Int32) (v4 : Int32) (v5 : Int32) (v6 : Int32) (σ : St) : wx_best_l43 P K94 (n + 1) v1 v2 v3 v4 v5 v6 σ = (if (xI_guests σ) ≤ v6 then (sx_costOf σ v4 (fun r79 σ79 => if v2 < r79 then (K94 v1 v2 v3 v3 (-1000000 : Int32) σ79) else (K94 v1 v2 v3 v3 v5 σ79))) else (sx_joyIn σ v6 v4 (fun r59 σ59 => wx_best_l43 P K94 n v1 v2 v3 v4 (v5 + r59) (v6 + (1 : Int32)) σ59))) := rfl
def wx_best_j94 (P : Int32 → St → Prop) (K17 : Int32 → Int32 → Int32 → St → Prop) (v1 : Int32) (v2 : Int32) (v3 : Int32) (s1 : Int32) (s2 : Int32) (σ : St) : Prop :=
  vp_in s1 1024 ∧ (K17 v1 v2 (v3 + (1 : Int32)) (xU_worth σ s1 s2))
noncomputable def wx_best_l17 (P : Int32 → St → Prop) (K119 : Int32 → St → Prop) (n : Nat) : Int32 → Int32 → Int32 → St → Prop :=
  Nat.rec (fun _ _ _ _ => False) (fun _ ih v1 v2 v3 σ => if ((1 : Int32) <<< ((xI_dishes σ) &&& 31)) ≤ v3 then (sx_bestSet σ v1 (1 : Int32) (fun r104 σ104 => if r104 = (-1000000 : Int32) then (K119 (-2 : Int32) σ104) else (K119 (1 : Int32) σ104))) else (sx_setNow σ  (fun r29 σ29 => ∃ n43, wx_best_l43 P (wx_best_j94 P ih) n43 v1 v2 v3 (v3 &&& (r29 ^^^ (-1 : Int32))) (0 : Int32) (0 : Int32) σ29))) n
theorem wx_best_l17_s (P : Int32 → St → Prop) (K119 : Int32 → St → Prop) (n : Nat) (v1 : Int32) (v2 : Int32) (v3 : Int32) (σ : St) : wx_best_l17 P K119 (n + 1) v1 v2 v3 σ = (if ((1 : Int32) <<< ((xI_dishes σ) &&& 31)) ≤ v3 then (sx_bestSet σ v1 (1 : Int32) (fun r104 σ104 => if r104 = (-1000000 : Int32) then (K119 (-2 : Int32) σ104) else (K119 (1 : Int32) σ104))) else (sx_setNow σ  (fun r29 σ29 => ∃ n43, wx_best_l43 P (wx_best_j94 P (wx_best_l17 P K119 n)) n43 v1 v2 v3 (v3 &&& (r29 ^^^ (-1 : Int32))) (0 : Int32) (0 : Int32) σ29))) := rfl
def wx_best_j119 (P : Int32 → St → Prop)  (s0 : Int32) (σ : St) : Prop :=
  P s0 σ
def wx_best (σ : St) (v1 : Int32) (v2 : Int32) (P : Int32 → St → Prop) : Prop :=
  sx_isPurse σ v1 v2 (fun r3 σ3 => if r3 = 0 then (P (-1 : Int32) σ3) else (sx_laysOut σ3  (fun σ12 => ∃ n17, wx_best_l17 P (wx_best_j119 P) n17 v1 v2 (0 : Int32) σ12)))
abbrev sx_best := @wx_best
theorem sx_best_ok {σ : St} {v1 : Int32} {v2 : Int32} {P : Int32 → St → Prop} (h : sx_best σ v1 v2 P) : wx_best σ v1 v2 P := h
/-! x.fair -/
noncomputable def wx_fair_l55 (P : Int32 → St → Prop) (K108 : Int32 → Int32 → Int32 → Int32 → Int32 → St → Prop) (n : Nat) : Int32 → Int32 → Int32 → Int32 → Int32 → Int32 → St → Prop :=
  Nat.rec (fun _ _ _ _ _ _ _ => False) (fun _ ih v1 v2 v3 v4 v5 v6 σ => if (xI_guests σ) ≤ v6 then (sx_costOf σ v4 (fun r93 σ93 => if v2 < r93 then (K108 v1 v2 v3 v3 (-1000000 : Int32) σ93) else (K108 v1 v2 v3 v3 v5 σ93))) else (sx_joyIn σ v6 v4 (fun r71 σ71 => ih v1 v2 v3 v4 (jmin v5 r71) (v6 + (1 : Int32)) σ71))) n
theorem wx_fair_l55_s (P : Int32 → St → Prop) (K108 : Int32 → Int32 → Int32 → Int32 → Int32 → St → Prop) (n : Nat) (v1 : Int32) (v2 : Int32) (v3 : Int32) (v4 : Int32) (v5 : Int32) (v6 : Int32) (σ : St) : wx_fair_l55 P K108 (n + 1) v1 v2 v3 v4 v5 v6 σ = (if (xI_guests σ) ≤ v6 then (sx_costOf σ v4 (fun r93 σ93 => if v2 < r93 then (K108 v1 v2 v3 v3 (-1000000 : Int32) σ93) else (K108 v1 v2 v3 v3 v5 σ93))) else (sx_joyIn σ v6 v4 (fun r71 σ71 => wx_fair_l55 P K108 n v1 v2 v3 v4 (jmin v5 r71) (v6 + (1 : Int32)) σ71))) := rfl
def wx_fair_j108 (P : Int32 → St → Prop) (K27 : Int32 → Int32 → Int32 → St → Prop) (v1 : Int32) (v2 : Int32) (v3 : Int32) (s1 : Int32) (s2 : Int32) (σ : St) : Prop :=
  vp_in s1 1024 ∧ (K27 v1 v2 (v3 + (1 : Int32)) (xU_worth σ s1 s2))
noncomputable def wx_fair_l27 (P : Int32 → St → Prop) (K133 : Int32 → St → Prop) (n : Nat) : Int32 → Int32 → Int32 → St → Prop :=
  Nat.rec (fun _ _ _ _ => False) (fun _ ih v1 v2 v3 σ => if ((1 : Int32) <<< ((xI_dishes σ) &&& 31)) ≤ v3 then (sx_bestSet σ v1 (1 : Int32) (fun r118 σ118 => if r118 = (-1000000 : Int32) then (K133 (-2 : Int32) σ118) else (K133 (1 : Int32) σ118))) else (sx_setNow σ  (fun r39 σ39 => ∃ n55, wx_fair_l55 P (wx_fair_j108 P ih) n55 v1 v2 v3 (v3 &&& (r39 ^^^ (-1 : Int32))) (1000000 : Int32) (0 : Int32) σ39))) n
theorem wx_fair_l27_s (P : Int32 → St → Prop) (K133 : Int32 → St → Prop) (n : Nat) (v1 : Int32) (v2 : Int32) (v3 : Int32) (σ : St) : wx_fair_l27 P K133 (n + 1) v1 v2 v3 σ = (if ((1 : Int32) <<< ((xI_dishes σ) &&& 31)) ≤ v3 then (sx_bestSet σ v1 (1 : Int32) (fun r118 σ118 => if r118 = (-1000000 : Int32) then (K133 (-2 : Int32) σ118) else (K133 (1 : Int32) σ118))) else (sx_setNow σ  (fun r39 σ39 => ∃ n55, wx_fair_l55 P (wx_fair_j108 P (wx_fair_l27 P K133 n)) n55 v1 v2 v3 (v3 &&& (r39 ^^^ (-1 : Int32))) (1000000 : Int32) (0 : Int32) σ39))) := rfl
def wx_fair_j133 (P : Int32 → St → Prop)  (s0 : Int32) (σ : St) : Prop :=
  P s0 σ
def wx_fair (σ : St) (v1 : Int32) (v2 : Int32) (P : Int32 → St → Prop) : Prop :=
  sx_isPurse σ v1 v2 (fun r3 σ3 => if r3 = 0 then (P (-1 : Int32) σ3) else (if (xI_guests σ3) = 0 then (P (-2 : Int32) σ3) else (sx_laysOut σ3  (fun σ22 => ∃ n27, wx_fair_l27 P (wx_fair_j133 P) n27 v1 v2 (0 : Int32) σ22))))
abbrev sx_fair := @wx_fair
theorem sx_fair_ok {σ : St} {v1 : Int32} {v2 : Int32} {P : Int32 → St → Prop} (h : sx_fair σ v1 v2 P) : wx_fair σ v1 v2 P := h
/-! x.gladdest -/
def wx_gladdest_j49 (P : Int32 → St → Prop) (K5 : Int32 → Int32 → Int32 → Int32 → St → Prop) (v1 : Int32) (v2 : Int32) (v4 : Int32) (s0 : Int32) (σ : St) : Prop :=
  K5 v1 v2 s0 (v4 + (1 : Int32)) σ
def wx_gladdest_j43 (P : Int32 → St → Prop) (K5 : Int32 → Int32 → Int32 → Int32 → St → Prop) (v1 : Int32) (v2 : Int32) (v4 : Int32) (σ : St) : Prop :=
  wx_gladdest_j49 P K5 v1 v2 v4 v4 σ
def wx_gladdest_j48 (P : Int32 → St → Prop) (K5 : Int32 → Int32 → Int32 → Int32 → St → Prop) (v1 : Int32) (v2 : Int32) (v3 : Int32) (v4 : Int32) (σ : St) : Prop :=
  wx_gladdest_j49 P K5 v1 v2 v4 v3 σ
noncomputable def wx_gladdest_l5 (P : Int32 → St → Prop)  (n : Nat) : Int32 → Int32 → Int32 → Int32 → St → Prop :=
  Nat.rec (fun _ _ _ _ _ => False) (fun _ ih v1 v2 v3 v4 σ => if (xI_dishes σ) ≤ v4 then (P v3 σ) else (sx_goesOn σ v1 v2 v4 (fun r19 σ19 => if r19 = 0 then (wx_gladdest_j48 P ih v1 v2 v3 v4 σ19) else (if v3 < 0 then (wx_gladdest_j43 P ih v1 v2 v4 σ19) else (sx_joyOfAll σ19 v4 (fun r32 σ32 => sx_joyOfAll σ32 v3 (fun r37 σ37 => if r32 ≤ r37 then (wx_gladdest_j48 P ih v1 v2 v3 v4 σ37) else (wx_gladdest_j43 P ih v1 v2 v4 σ37)))))))) n
theorem wx_gladdest_l5_s (P : Int32 → St → Prop)  (n : Nat) (v1 : Int32) (v2 : Int32) (v3 : Int32) (v4 : Int32) (σ : St) : wx_gladdest_l5 P  (n + 1) v1 v2 v3 v4 σ = (if (xI_dishes σ) ≤ v4 then (P v3 σ) else (sx_goesOn σ v1 v2 v4 (fun r19 σ19 => if r19 = 0 then (wx_gladdest_j48 P (wx_gladdest_l5 P  n) v1 v2 v3 v4 σ19) else (if v3 < 0 then (wx_gladdest_j43 P (wx_gladdest_l5 P  n) v1 v2 v4 σ19) else (sx_joyOfAll σ19 v4 (fun r32 σ32 => sx_joyOfAll σ32 v3 (fun r37 σ37 => if r32 ≤ r37 then (wx_gladdest_j48 P (wx_gladdest_l5 P  n) v1 v2 v3 v4 σ37) else (wx_gladdest_j43 P (wx_gladdest_l5 P  n) v1 v2 v4 σ37)))))))) := rfl
def wx_gladdest (σ : St) (v1 : Int32) (v2 : Int32) (P : Int32 → St → Prop) : Prop :=
  ∃ n5, wx_gladdest_l5 P  n5 v1 v2 (-1 : Int32) (0 : Int32) σ
abbrev sx_gladdest := @wx_gladdest
theorem sx_gladdest_ok {σ : St} {v1 : Int32} {v2 : Int32} {P : Int32 → St → Prop} (h : sx_gladdest σ v1 v2 P) : wx_gladdest σ v1 v2 P := h
/-! x.playsGreedy -/
def wx_playsGreedy_j96 (P : St → Prop)  (s1 : Int32) (s2 : Int32) (σ : St) : Prop :=
  vp_in s1 22528 ∧ (P (xU_greedyLength σ s1 s2))
def wx_playsGreedy_j71 (P : St → Prop)  (v4 : Int32) (v5 : Int32) (v6 : Int32) (s1 : Int32) (s2 : Int32) (σ : St) : Prop :=
  vp_in s1 22528 ∧ (if 0 ≤ v5 then (vp_in v6 22528 ∧ (wx_playsGreedy_j96 P  v4 ((1 : Int32) + (xA_greedyLength (xU_greedyValue σ s1 s2) (v6).toNatClampNeg)) (xU_greedyValue σ s1 s2))) else (wx_playsGreedy_j96 P  v4 (0 : Int32) (xU_greedyValue σ s1 s2)))
def wx_playsGreedy_j47 (P : St → Prop)  (v4 : Int32) (v5 : Int32) (s0 : Int32) (σ : St) : Prop :=
  if 0 ≤ v5 then (vp_in s0 22528 ∧ (wx_playsGreedy_j71 P  v4 v5 s0 v4 (xA_greedyValue σ (s0).toNatClampNeg) σ)) else (wx_playsGreedy_j71 P  v4 v5 s0 v4 (1 : Int32) σ)
def wx_playsGreedy_j219 (P : St → Prop) (K107 : Int32 → Int32 → Int32 → Int32 → Int32 → Int32 → St → Prop) (v1 : Int32) (v2 : Int32) (v4 : Int32) (v5 : Int32) (v6 : Int32) (v7 : Int32) (σ : St) : Prop :=
  K107 v1 v2 v4 v5 v6 (v7 + (1 : Int32)) σ
def wx_playsGreedy_j205 (P : St → Prop) (K107 : Int32 → Int32 → Int32 → Int32 → Int32 → Int32 → St → Prop) (v1 : Int32) (v2 : Int32) (v4 : Int32) (v5 : Int32) (v6 : Int32) (v7 : Int32) (v8 : Int32) (σ : St) : Prop :=
  vp_in v8 22528 ∧ (wx_playsGreedy_j219 P K107 v1 v2 v4 (jmax v5 (xA_greedyValue σ (v8).toNatClampNeg)) v6 v7 σ)
def wx_playsGreedy_j191 (P : St → Prop) (K107 : Int32 → Int32 → Int32 → Int32 → Int32 → Int32 → St → Prop) (v1 : Int32) (v2 : Int32) (v4 : Int32) (v5 : Int32) (v7 : Int32) (v8 : Int32) (s0 : Int32) (σ : St) : Prop :=
  wx_playsGreedy_j205 P K107 v1 v2 v4 v5 s0 v7 v8 σ
noncomputable def wx_playsGreedy_l107 (P : St → Prop)  (n : Nat) : Int32 → Int32 → Int32 → Int32 → Int32 → Int32 → St → Prop :=
  Nat.rec (fun _ _ _ _ _ _ _ => False) (fun _ ih v1 v2 v4 v5 v6 v7 σ => if (xI_dishes σ) ≤ v7 then (vp_in v4 22528 ∧ (vp_in v4 22528 ∧ (P (xU_greedyLength (xU_greedyValue σ v4 v5) v4 v6)))) else (sx_goesOn σ v1 v2 v7 (fun r121 σ121 => if r121 = 0 then (wx_playsGreedy_j219 P ih v1 v2 v4 v5 v6 v7 σ121) else (sx_stateOf (v1 ||| ((1 : Int32) <<< (v7 &&& 31))) v7 (fun r139 => vp_in ((2 : Int32) * r139) 22528 ∧ (vp_in ((2 : Int32) * r139) 22528 ∧ (if (xA_greedyValue σ121 (((2 : Int32) * r139)).toNatClampNeg) = v5 then (if v5 = (1 : Int32) then (wx_playsGreedy_j191 P ih v1 v2 v4 v5 v7 ((2 : Int32) * r139) (jmin v6 ((1 : Int32) + (xA_greedyLength σ121 (((2 : Int32) * r139)).toNatClampNeg))) σ121) else (wx_playsGreedy_j191 P ih v1 v2 v4 v5 v7 ((2 : Int32) * r139) (jmax v6 ((1 : Int32) + (xA_greedyLength σ121 (((2 : Int32) * r139)).toNatClampNeg))) σ121)) else (if v5 = 0 then (wx_playsGreedy_j205 P ih v1 v2 v4 v5 ((1 : Int32) + (xA_greedyLength σ121 (((2 : Int32) * r139)).toNatClampNeg)) v7 ((2 : Int32) * r139) σ121) else (wx_playsGreedy_j205 P ih v1 v2 v4 v5 v6 v7 ((2 : Int32) * r139) σ121))))))))) n
theorem wx_playsGreedy_l107_s (P : St → Prop)  (n : Nat) (v1 : Int32) (v2 : Int32) (v4 : Int32) (v5 : Int32) (v6 : Int32) (v7 : Int32) (σ : St) : wx_playsGreedy_l107 P  (n + 1) v1 v2 v4 v5 v6 v7 σ = (if (xI_dishes σ) ≤ v7 then (vp_in v4 22528 ∧ (vp_in v4 22528 ∧ (P (xU_greedyLength (xU_greedyValue σ v4 v5) v4 v6)))) else (sx_goesOn σ v1 v2 v7 (fun r121 σ121 => if r121 = 0 then (wx_playsGreedy_j219 P (wx_playsGreedy_l107 P  n) v1 v2 v4 v5 v6 v7 σ121) else (sx_stateOf (v1 ||| ((1 : Int32) <<< (v7 &&& 31))) v7 (fun r139 => vp_in ((2 : Int32) * r139) 22528 ∧ (vp_in ((2 : Int32) * r139) 22528 ∧ (if (xA_greedyValue σ121 (((2 : Int32) * r139)).toNatClampNeg) = v5 then (if v5 = (1 : Int32) then (wx_playsGreedy_j191 P (wx_playsGreedy_l107 P  n) v1 v2 v4 v5 v7 ((2 : Int32) * r139) (jmin v6 ((1 : Int32) + (xA_greedyLength σ121 (((2 : Int32) * r139)).toNatClampNeg))) σ121) else (wx_playsGreedy_j191 P (wx_playsGreedy_l107 P  n) v1 v2 v4 v5 v7 ((2 : Int32) * r139) (jmax v6 ((1 : Int32) + (xA_greedyLength σ121 (((2 : Int32) * r139)).toNatClampNeg))) σ121)) else (if v5 = 0 then (wx_playsGreedy_j205 P (wx_playsGreedy_l107 P  n) v1 v2 v4 v5 ((1 : Int32) + (xA_greedyLength σ121 (((2 : Int32) * r139)).toNatClampNeg)) v7 ((2 : Int32) * r139) σ121) else (wx_playsGreedy_j205 P (wx_playsGreedy_l107 P  n) v1 v2 v4 v5 v6 v7 ((2 : Int32) * r139) σ121))))))))) := rfl
def wx_playsGreedy (σ : St) (v1 : Int32) (v2 : Int32) (v3 : Int32) (P : St → Prop) : Prop :=
  sx_stateOf v1 v2 (fun r3 => if v3 = 0 then (sx_gladdest σ v1 v2 (fun r18 σ18 => if 0 ≤ r18 then (sx_stateOf (v1 ||| ((1 : Int32) <<< (r18 &&& 31))) r18 (fun r41 => wx_playsGreedy_j47 P  (((2 : Int32) * r3) + v3) r18 (((2 : Int32) * r41) + (1 : Int32)) σ18)) else (wx_playsGreedy_j47 P  (((2 : Int32) * r3) + v3) r18 (0 : Int32) σ18))) else (∃ n107, wx_playsGreedy_l107 P  n107 v1 v2 (((2 : Int32) * r3) + v3) (0 : Int32) (0 : Int32) (0 : Int32) σ))
abbrev sx_playsGreedy := @wx_playsGreedy
theorem sx_playsGreedy_ok {σ : St} {v1 : Int32} {v2 : Int32} {v3 : Int32} {P : St → Prop} (h : sx_playsGreedy σ v1 v2 v3 P) : wx_playsGreedy σ v1 v2 v3 P := h
/-! x.greedy -/
def wx_greedy_j53 (P : Int32 → St → Prop) (K19 : Int32 → Int32 → St → Prop) (v1 : Int32) (v2 : Int32) (σ : St) : Prop :=
  K19 v1 (v2 + (1 : Int32)) σ
noncomputable def wx_greedy_l19 (P : Int32 → St → Prop) (K13 : Int32 → St → Prop) (n : Nat) : Int32 → Int32 → St → Prop :=
  Nat.rec (fun _ _ _ => False) (fun _ ih v1 v2 σ => if (xI_dishes σ) ≤ v2 then (K13 (v1 + (-1 : Int32)) σ) else (sx_isLastOf σ v1 v2 (fun r30 σ30 => if r30 = 0 then (wx_greedy_j53 P ih v1 v2 σ30) else (sx_playsGreedy σ30 v1 v2 (0 : Int32) (fun σ43 => sx_playsGreedy σ43 v1 v2 (1 : Int32) (fun σ50 => wx_greedy_j53 P ih v1 v2 σ50)))))) n
theorem wx_greedy_l19_s (P : Int32 → St → Prop) (K13 : Int32 → St → Prop) (n : Nat) (v1 : Int32) (v2 : Int32) (σ : St) : wx_greedy_l19 P K13 (n + 1) v1 v2 σ = (if (xI_dishes σ) ≤ v2 then (K13 (v1 + (-1 : Int32)) σ) else (sx_isLastOf σ v1 v2 (fun r30 σ30 => if r30 = 0 then (wx_greedy_j53 P (wx_greedy_l19 P K13 n) v1 v2 σ30) else (sx_playsGreedy σ30 v1 v2 (0 : Int32) (fun σ43 => sx_playsGreedy σ43 v1 v2 (1 : Int32) (fun σ50 => wx_greedy_j53 P (wx_greedy_l19 P K13 n) v1 v2 σ50)))))) := rfl
noncomputable def wx_greedy_l13 (P : Int32 → St → Prop)  (n : Nat) : Int32 → St → Prop :=
  Nat.rec (fun _ _ => False) (fun _ ih v1 σ => if v1 < 0 then (sx_setNow σ  (fun r67 σ67 => sx_lastNow σ67  (fun r71 σ71 => sx_stateOf r67 r71 (fun r74 => vp_in ((2 : Int32) * r74) 22528 ∧ (sx_tells (xS_rowMany σ71 (0 : Int32)) (xA_greedyLength (xS_rowMany σ71 (0 : Int32)) (((2 : Int32) * r74)).toNatClampNeg) (fun σ91 => vp_in ((2 : Int32) * r74) 22528 ∧ (P (xA_greedyValue σ91 (((2 : Int32) * r74)).toNatClampNeg) σ91))))))) else (∃ n19, wx_greedy_l19 P ih n19 v1 (-1 : Int32) σ)) n
theorem wx_greedy_l13_s (P : Int32 → St → Prop)  (n : Nat) (v1 : Int32) (σ : St) : wx_greedy_l13 P  (n + 1) v1 σ = (if v1 < 0 then (sx_setNow σ  (fun r67 σ67 => sx_lastNow σ67  (fun r71 σ71 => sx_stateOf r67 r71 (fun r74 => vp_in ((2 : Int32) * r74) 22528 ∧ (sx_tells (xS_rowMany σ71 (0 : Int32)) (xA_greedyLength (xS_rowMany σ71 (0 : Int32)) (((2 : Int32) * r74)).toNatClampNeg) (fun σ91 => vp_in ((2 : Int32) * r74) 22528 ∧ (P (xA_greedyValue σ91 (((2 : Int32) * r74)).toNatClampNeg) σ91))))))) else (∃ n19, wx_greedy_l19 P (wx_greedy_l13 P  n) n19 v1 (-1 : Int32) σ)) := rfl
def wx_greedy (σ : St)  (P : Int32 → St → Prop) : Prop :=
  sx_laysOut σ  (fun σ1 => ∃ n13, wx_greedy_l13 P  n13 (((1 : Int32) <<< ((xI_dishes σ1) &&& 31)) - (1 : Int32)) σ1)
abbrev sx_greedy := @wx_greedy
theorem sx_greedy_ok {σ : St} {P : Int32 → St → Prop} (h : sx_greedy σ  P) : wx_greedy σ  P := h
/-! m.all -/
def wm_all (σ : St)  (P : Int32 → St → Prop) : Prop :=
  P (((1 : Int32) <<< ((mI_dishes σ) &&& 31)) - (1 : Int32)) σ
/-! m.back -/
def wm_back (σ : St)  (P : Int32 → St → Prop) : Prop :=
  if (mI_servedMany (mS_thrown σ (0 : Int32))) = 0 then (P (-1 : Int32) (mS_thrown σ (0 : Int32))) else (vp_in (mI_servedMany (mS_servedMany (mS_thrown σ (0 : Int32)) ((mI_servedMany (mS_thrown σ (0 : Int32))) - (1 : Int32)))) 10 ∧ (P (mA_served (mS_servedMany (mS_thrown σ (0 : Int32)) ((mI_servedMany (mS_thrown σ (0 : Int32))) - (1 : Int32))) ((mI_servedMany (mS_servedMany (mS_thrown σ (0 : Int32)) ((mI_servedMany (mS_thrown σ (0 : Int32))) - (1 : Int32))))).toNatClampNeg) (mS_servedMany (mS_thrown σ (0 : Int32)) ((mI_servedMany (mS_thrown σ (0 : Int32))) - (1 : Int32)))))
abbrev sm_back := @wm_back
theorem sm_back_ok {σ : St} {P : Int32 → St → Prop} (h : sm_back σ  P) : wm_back σ  P := h
/-! m.fine -/
def wm_fine_j13 (P : Int32 → St → Prop)  (s0 : Int32) (σ : St) : Prop :=
  nzB s0 ∧ P s0 σ
def wm_fine (σ : St)  (P : Int32 → St → Prop) : Prop :=
  if (mI_wrong σ) = (-1 : Int32) then (wm_fine_j13 P  (1 : Int32) σ) else (wm_fine_j13 P  (0 : Int32) σ)
abbrev sm_fine := @wm_fine
theorem sm_fine_ok {σ : St} {P : Int32 → St → Prop} (h : sm_fine σ  P) : wm_fine σ  P := h
/-! m.has -/
def wm_has_j14 (P : Int32 → Prop)  (s0 : Int32) : Prop :=
  nzB s0 ∧ P s0
def wm_has (v0 : Int32) (v1 : Int32) (P : Int32 → Prop) : Prop :=
  if ((v0 >>> (v1 &&& 31)) &&& (1 : Int32)) = (1 : Int32) then (wm_has_j14 P  (1 : Int32)) else (wm_has_j14 P  (0 : Int32))
/-! m.in -/
def wm_in_j15 (P : Int32 → Prop)  (s0 : Int32) : Prop :=
  nzB s0 ∧ P s0
def wm_in_j14 (P : Int32 → Prop)   : Prop :=
  wm_in_j15 P  (0 : Int32)
def wm_in (v0 : Int32) (v1 : Int32) (v2 : Int32) (P : Int32 → Prop) : Prop :=
  if v0 < v1 then (wm_in_j14 P  ) else (if v2 < v0 then (wm_in_j14 P  ) else (wm_in_j15 P  (1 : Int32)))
/-! m.isHungry -/
def wm_isHungry_j21 (P : Int32 → St → Prop)  (s0 : Int32) (σ : St) : Prop :=
  nzB s0 ∧ P s0 σ
def wm_isHungry (σ : St) (v1 : Int32) (v2 : Int32) (P : Int32 → St → Prop) : Prop :=
  vp_in v2 11 ∧ (vp_in v1 6 ∧ (if ((mA_stuffs σ (v2).toNatClampNeg) &&& (mA_bars σ (v1).toNatClampNeg)) = 0 then (wm_isHungry_j21 P  (0 : Int32) σ) else (wm_isHungry_j21 P  (1 : Int32) σ)))
/-! m.lookFromNothing -/
def wm_lookFromNothing (σ : St)  (P : St → Prop) : Prop :=
  P (mS_lastTill (mS_setTill (mS_hungryTill (mS_costTill (mS_whyNot σ (0 : Int32)) (0 : Int32)) (0 : Int32)) (0 : Int32)) (-1 : Int32))
abbrev sm_lookFromNothing := @wm_lookFromNothing
theorem sm_lookFromNothing_ok {σ : St} {P : St → Prop} (h : sm_lookFromNothing σ  P) : wm_lookFromNothing σ  P := h
/-! m.lost -/
def wm_lost (σ : St)  (P : Int32 → St → Prop) : Prop :=
  P (0 : Int32) (mS_thrown σ (1 : Int32))
/-! m.noEnds -/
noncomputable def wm_noEnds_l2 (P : St → Prop)  (n : Nat) : Int32 → St → Prop :=
  Nat.rec (fun _ _ => False) (fun _ ih v1 σ => if (11264 : Int32) ≤ v1 then (P σ) else (vp_in v1 11264 ∧ (ih (v1 + (1 : Int32)) (mU_isEnd σ v1 (vp_nar .boolean (0 : Int32)))))) n
theorem wm_noEnds_l2_s (P : St → Prop)  (n : Nat) (v1 : Int32) (σ : St) : wm_noEnds_l2 P  (n + 1) v1 σ = (if (11264 : Int32) ≤ v1 then (P σ) else (vp_in v1 11264 ∧ (wm_noEnds_l2 P  n (v1 + (1 : Int32)) (mU_isEnd σ v1 (vp_nar .boolean (0 : Int32)))))) := rfl
def wm_noEnds (σ : St)  (P : St → Prop) : Prop :=
  ∃ n2, wm_noEnds_l2 P  n2 (0 : Int32) σ
abbrev sm_noEnds := @wm_noEnds
theorem sm_noEnds_ok {σ : St} {P : St → Prop} (h : sm_noEnds σ  P) : wm_noEnds σ  P := h
/-! m.place -/
def wm_place_j15 (P : Int32 → Prop)  (s0 : Int32) (s1 : Int32) : Prop :=
  P (s0 + s1)
def wm_place (v0 : Int32) (v1 : Int32) (P : Int32 → Prop) : Prop :=
  if v1 = (-1 : Int32) then (wm_place_j15 P  ((11 : Int32) * v0) (10 : Int32)) else (wm_place_j15 P  ((11 : Int32) * v0) v1)
/-! m.servedLast -/
def wm_servedLast_j22 (P : Int32 → St → Prop)  (s0 : Int32) (σ : St) : Prop :=
  P s0 σ
def wm_servedLast (σ : St)  (P : Int32 → St → Prop) : Prop :=
  if (mI_servedMany σ) = 0 then (wm_servedLast_j22 P  (-1 : Int32) σ) else (vp_in ((mI_servedMany σ) - (1 : Int32)) 10 ∧ (wm_servedLast_j22 P  (mA_served σ (((mI_servedMany σ) - (1 : Int32))).toNatClampNeg) σ))
/-! m.servedSet -/
noncomputable def wm_servedSet_l4 (P : Int32 → St → Prop)  (n : Nat) : Int32 → Int32 → St → Prop :=
  Nat.rec (fun _ _ _ => False) (fun _ ih v1 v2 σ => if (mI_servedMany σ) ≤ v2 then (P v1 σ) else (vp_in v2 10 ∧ (ih (v1 ||| ((1 : Int32) <<< ((mA_served σ (v2).toNatClampNeg) &&& 31))) (v2 + (1 : Int32)) σ))) n
theorem wm_servedSet_l4_s (P : Int32 → St → Prop)  (n : Nat) (v1 : Int32) (v2 : Int32) (σ : St) : wm_servedSet_l4 P  (n + 1) v1 v2 σ = (if (mI_servedMany σ) ≤ v2 then (P v1 σ) else (vp_in v2 10 ∧ (wm_servedSet_l4 P  n (v1 ||| ((1 : Int32) <<< ((mA_served σ (v2).toNatClampNeg) &&& 31))) (v2 + (1 : Int32)) σ))) := rfl
def wm_servedSet (σ : St)  (P : Int32 → St → Prop) : Prop :=
  ∃ n4, wm_servedSet_l4 P  n4 (0 : Int32) (0 : Int32) σ
/-! m.sign -/
noncomputable def wm_sign_l20 (P : Int32 → St → Prop)  (n : Nat) : Int32 → Int32 → St → Prop :=
  Nat.rec (fun _ _ _ => False) (fun _ ih v1 v2 σ => if v2 < 0 then (P (mI_typed σ) σ) else (vp_in (mI_typed σ) 80 ∧ (ih v1 (v2 + (-1 : Int32)) (mU_text (mS_typed σ ((mI_typed σ) + (1 : Int32))) (mI_typed σ) (vp_nar .byte (((v1 >>> (((8 : Int32) * v2) &&& 31))).toInt8.toInt32)))))) n
theorem wm_sign_l20_s (P : Int32 → St → Prop)  (n : Nat) (v1 : Int32) (v2 : Int32) (σ : St) : wm_sign_l20 P  (n + 1) v1 v2 σ = (if v2 < 0 then (P (mI_typed σ) σ) else (vp_in (mI_typed σ) 80 ∧ (wm_sign_l20 P  n v1 (v2 + (-1 : Int32)) (mU_text (mS_typed σ ((mI_typed σ) + (1 : Int32))) (mI_typed σ) (vp_nar .byte (((v1 >>> (((8 : Int32) * v2) &&& 31))).toInt8.toInt32)))))) := rfl
def wm_sign (σ : St) (v1 : Int32) (P : Int32 → St → Prop) : Prop :=
  if ((mI_typed (mS_thrown σ (0 : Int32))) + (4 : Int32)) ≤ (80 : Int32) then (∃ n20, wm_sign_l20 P  n20 v1 (3 : Int32) (mS_thrown σ (0 : Int32))) else (P (-1 : Int32) (mS_thrown σ (0 : Int32)))
abbrev sm_sign := @wm_sign
theorem sm_sign_ok {σ : St} {v1 : Int32} {P : Int32 → St → Prop} (h : sm_sign σ v1 P) : wm_sign σ v1 P := h
/-! m.tell -/
def wm_tell (σ : St) (v1 : Int32) (P : St → Prop) : Prop :=
  vp_in (mI_rowMany σ) 16 ∧ (P (mS_rowMany (mU_row σ (mI_rowMany σ) v1) ((mI_rowMany (mU_row σ (mI_rowMany σ) v1)) + (1 : Int32))))
/-! m.thrown -/
def wm_thrown (σ : St)  (P : Int32 → St → Prop) : Prop :=
  P (mI_thrown σ) σ
abbrev sm_thrown := @wm_thrown
theorem sm_thrown_ok {σ : St} {P : Int32 → St → Prop} (h : sm_thrown σ  P) : wm_thrown σ  P := h
/-! m.again -/
noncomputable def wm_again_l45 (P : Int32 → St → Prop) (K86 : Int32 → Int32 → St → Prop) (n : Nat) : Int32 → Int32 → St → Prop :=
  Nat.rec (fun _ _ _ => False) (fun _ ih v2 v3 σ => if (10 : Int32) ≤ v3 then (vp_in (v2 + (10 : Int32)) 44 ∧ (K86 v2 (0 : Int32) (mS_servedMany σ (mA_kept σ ((v2 + (10 : Int32))).toNatClampNeg)))) else (vp_in (v2 + v3) 44 ∧ (vp_in v3 10 ∧ (ih v2 (v3 + (1 : Int32)) (mU_served σ v3 (mA_kept σ ((v2 + v3)).toNatClampNeg)))))) n
theorem wm_again_l45_s (P : Int32 → St → Prop) (K86 : Int32 → Int32 → St → Prop) (n : Nat) (v2 : Int32) (v3 : Int32) (σ : St) : wm_again_l45 P K86 (n + 1) v2 v3 σ = (if (10 : Int32) ≤ v3 then (vp_in (v2 + (10 : Int32)) 44 ∧ (K86 v2 (0 : Int32) (mS_servedMany σ (mA_kept σ ((v2 + (10 : Int32))).toNatClampNeg)))) else (vp_in (v2 + v3) 44 ∧ (vp_in v3 10 ∧ (wm_again_l45 P K86 n v2 (v3 + (1 : Int32)) (mU_served σ v3 (mA_kept σ ((v2 + v3)).toNatClampNeg)))))) := rfl
noncomputable def wm_again_l86 (P : Int32 → St → Prop)  (n : Nat) : Int32 → Int32 → St → Prop :=
  Nat.rec (fun _ _ _ => False) (fun _ ih v2 v3 σ => if (8 : Int32) ≤ v3 then (vp_in (v2 + (19 : Int32)) 44 ∧ (vp_in ((v2 + (19 : Int32)) + (1 : Int32)) 44 ∧ (vp_in ((v2 + (19 : Int32)) + (2 : Int32)) 44 ∧ (P (1 : Int32) (mS_heat (mS_times (mS_share σ (mA_kept σ ((v2 + (19 : Int32))).toNatClampNeg)) (mA_kept (mS_share σ (mA_kept σ ((v2 + (19 : Int32))).toNatClampNeg)) (((v2 + (19 : Int32)) + (1 : Int32))).toNatClampNeg)) (mA_kept (mS_times (mS_share σ (mA_kept σ ((v2 + (19 : Int32))).toNatClampNeg)) (mA_kept (mS_share σ (mA_kept σ ((v2 + (19 : Int32))).toNatClampNeg)) (((v2 + (19 : Int32)) + (1 : Int32))).toNatClampNeg)) (((v2 + (19 : Int32)) + (2 : Int32))).toNatClampNeg)))))) else (vp_in (((v2 + (10 : Int32)) + (1 : Int32)) + v3) 44 ∧ (vp_in v3 8 ∧ (ih v2 (v3 + (1 : Int32)) (mU_store σ v3 (mA_kept σ ((((v2 + (10 : Int32)) + (1 : Int32)) + v3)).toNatClampNeg)))))) n
theorem wm_again_l86_s (P : Int32 → St → Prop)  (n : Nat) (v2 : Int32) (v3 : Int32) (σ : St) : wm_again_l86 P  (n + 1) v2 v3 σ = (if (8 : Int32) ≤ v3 then (vp_in (v2 + (19 : Int32)) 44 ∧ (vp_in ((v2 + (19 : Int32)) + (1 : Int32)) 44 ∧ (vp_in ((v2 + (19 : Int32)) + (2 : Int32)) 44 ∧ (P (1 : Int32) (mS_heat (mS_times (mS_share σ (mA_kept σ ((v2 + (19 : Int32))).toNatClampNeg)) (mA_kept (mS_share σ (mA_kept σ ((v2 + (19 : Int32))).toNatClampNeg)) (((v2 + (19 : Int32)) + (1 : Int32))).toNatClampNeg)) (mA_kept (mS_times (mS_share σ (mA_kept σ ((v2 + (19 : Int32))).toNatClampNeg)) (mA_kept (mS_share σ (mA_kept σ ((v2 + (19 : Int32))).toNatClampNeg)) (((v2 + (19 : Int32)) + (1 : Int32))).toNatClampNeg)) (((v2 + (19 : Int32)) + (2 : Int32))).toNatClampNeg)))))) else (vp_in (((v2 + (10 : Int32)) + (1 : Int32)) + v3) 44 ∧ (vp_in v3 8 ∧ (wm_again_l86 P  n v2 (v3 + (1 : Int32)) (mU_store σ v3 (mA_kept σ ((((v2 + (10 : Int32)) + (1 : Int32)) + v3)).toNatClampNeg)))))) := rfl
def wm_again (σ : St) (v1 : Int32) (P : Int32 → St → Prop) : Prop :=
  sm_in v1 (0 : Int32) (1 : Int32) (fun r8 => if r8 = 0 then (P (0 : Int32) (mS_thrown σ (0 : Int32))) else (vp_in v1 2 ∧ (if (mA_isKept (mS_thrown σ (0 : Int32)) (v1).toNatClampNeg) = 0 then (P (0 : Int32) (mS_thrown σ (0 : Int32))) else (vp_in v1 2 ∧ (if (mA_keptCame (mS_thrown σ (0 : Int32)) (v1).toNatClampNeg) = (mI_came (mS_thrown σ (0 : Int32))) then (∃ n45, wm_again_l45 P (fun v2 v3 σ => ∃ n86, wm_again_l86 P  n86 v2 v3 σ) n45 ((22 : Int32) * v1) (0 : Int32) (mS_thrown σ (0 : Int32))) else (P (0 : Int32) (mS_thrown σ (0 : Int32))))))))
abbrev sm_again := @wm_again
theorem sm_again_ok {σ : St} {v1 : Int32} {P : Int32 → St → Prop} (h : sm_again σ v1 P) : wm_again σ v1 P := h
/-! m.ateOf -/
def wm_ateOf_j58 (P : Int32 → St → Prop) (K5 : Int32 → Int32 → Int32 → Int32 → St → Prop) (v1 : Int32) (v2 : Int32) (v4 : Int32) (s0 : Int32) (s1 : Int32) (σ : St) : Prop :=
  K5 v1 v2 (s0 ||| s1) (v4 + (1 : Int32)) σ
noncomputable def wm_ateOf_l5 (P : Int32 → St → Prop)  (n : Nat) : Int32 → Int32 → Int32 → Int32 → St → Prop :=
  Nat.rec (fun _ _ _ _ _ => False) (fun _ ih v1 v2 v3 v4 σ => vp_in v1 3 ∧ (if (mA_menuLong σ (v1).toNatClampNeg) ≤ v4 then (P v3 σ) else (vp_in (((10 : Int32) * v1) + v4) 30 ∧ (sm_isHungry σ v2 (mA_menus σ ((((10 : Int32) * v1) + v4)).toNatClampNeg) (fun r31 σ31 => if r31 = 0 then (vp_in (((10 : Int32) * v1) + v4) 30 ∧ (vp_in (mA_menus σ31 ((((10 : Int32) * v1) + v4)).toNatClampNeg) 11 ∧ (wm_ateOf_j58 P ih v1 v2 v4 v3 (mA_stuffs σ31 ((mA_menus σ31 ((((10 : Int32) * v1) + v4)).toNatClampNeg)).toNatClampNeg) σ31))) else (wm_ateOf_j58 P ih v1 v2 v4 v3 (0 : Int32) σ31)))))) n
theorem wm_ateOf_l5_s (P : Int32 → St → Prop)  (n : Nat) (v1 : Int32) (v2 : Int32) (v3 : Int32) (v4 : Int32) (σ : St) : wm_ateOf_l5 P  (n + 1) v1 v2 v3 v4 σ = (vp_in v1 3 ∧ (if (mA_menuLong σ (v1).toNatClampNeg) ≤ v4 then (P v3 σ) else (vp_in (((10 : Int32) * v1) + v4) 30 ∧ (sm_isHungry σ v2 (mA_menus σ ((((10 : Int32) * v1) + v4)).toNatClampNeg) (fun r31 σ31 => if r31 = 0 then (vp_in (((10 : Int32) * v1) + v4) 30 ∧ (vp_in (mA_menus σ31 ((((10 : Int32) * v1) + v4)).toNatClampNeg) 11 ∧ (wm_ateOf_j58 P (wm_ateOf_l5 P  n) v1 v2 v4 v3 (mA_stuffs σ31 ((mA_menus σ31 ((((10 : Int32) * v1) + v4)).toNatClampNeg)).toNatClampNeg) σ31))) else (wm_ateOf_j58 P (wm_ateOf_l5 P  n) v1 v2 v4 v3 (0 : Int32) σ31)))))) := rfl
def wm_ateOf (σ : St) (v1 : Int32) (v2 : Int32) (P : Int32 → St → Prop) : Prop :=
  ∃ n5, wm_ateOf_l5 P  n5 v1 v2 (0 : Int32) (0 : Int32) σ
abbrev sm_ateOf := @wm_ateOf
theorem sm_ateOf_ok {σ : St} {v1 : Int32} {v2 : Int32} {P : Int32 → St → Prop} (h : sm_ateOf σ v1 v2 P) : wm_ateOf σ v1 v2 P := h
/-! m.costIn -/
def wm_costIn_j31 (P : Int32 → St → Prop) (K4 : Int32 → Int32 → Int32 → St → Prop) (v1 : Int32) (v3 : Int32) (s0 : Int32) (s1 : Int32) (σ : St) : Prop :=
  K4 v1 (s0 + s1) (v3 + (1 : Int32)) σ
noncomputable def wm_costIn_l4 (P : Int32 → St → Prop)  (n : Nat) : Int32 → Int32 → Int32 → St → Prop :=
  Nat.rec (fun _ _ _ _ => False) (fun _ ih v1 v2 v3 σ => if (mI_dishes σ) ≤ v3 then (P v2 σ) else (sm_has v1 v3 (fun r15 => if r15 = 0 then (wm_costIn_j31 P ih v1 v3 v2 (0 : Int32) σ) else (vp_in v3 11 ∧ (wm_costIn_j31 P ih v1 v3 v2 (mA_cost σ (v3).toNatClampNeg) σ))))) n
theorem wm_costIn_l4_s (P : Int32 → St → Prop)  (n : Nat) (v1 : Int32) (v2 : Int32) (v3 : Int32) (σ : St) : wm_costIn_l4 P  (n + 1) v1 v2 v3 σ = (if (mI_dishes σ) ≤ v3 then (P v2 σ) else (sm_has v1 v3 (fun r15 => if r15 = 0 then (wm_costIn_j31 P (wm_costIn_l4 P  n) v1 v3 v2 (0 : Int32) σ) else (vp_in v3 11 ∧ (wm_costIn_j31 P (wm_costIn_l4 P  n) v1 v3 v2 (mA_cost σ (v3).toNatClampNeg) σ))))) := rfl
def wm_costIn (σ : St) (v1 : Int32) (P : Int32 → St → Prop) : Prop :=
  ∃ n4, wm_costIn_l4 P  n4 v1 (0 : Int32) (0 : Int32) σ
/-! m.count -/
noncomputable def wm_count_l78 (P : Int32 → St → Prop)  (n : Nat) : Int32 → Int32 → St → Prop :=
  Nat.rec (fun _ _ _ => False) (fun _ ih v2 v3 σ => if (mI_servedMany σ) ≤ v3 then (P v2 σ) else (vp_in v3 10 ∧ (vp_in (mA_served σ (v3).toNatClampNeg) 11 ∧ (ih (v2 + (mA_cost σ ((mA_served σ (v3).toNatClampNeg)).toNatClampNeg)) (v3 + (1 : Int32)) σ)))) n
theorem wm_count_l78_s (P : Int32 → St → Prop)  (n : Nat) (v2 : Int32) (v3 : Int32) (σ : St) : wm_count_l78 P  (n + 1) v2 v3 σ = (if (mI_servedMany σ) ≤ v3 then (P v2 σ) else (vp_in v3 10 ∧ (vp_in (mA_served σ (v3).toNatClampNeg) 11 ∧ (wm_count_l78 P  n (v2 + (mA_cost σ ((mA_served σ (v3).toNatClampNeg)).toNatClampNeg)) (v3 + (1 : Int32)) σ)))) := rfl
def wm_count_j142 (P : Int32 → St → Prop) (K120 : Int32 → Int32 → St → Prop) (v3 : Int32) (s0 : Int32) (s1 : Int32) (σ : St) : Prop :=
  K120 (s0 ||| s1) (v3 + (1 : Int32)) σ
noncomputable def wm_count_l120 (P : Int32 → St → Prop)  (n : Nat) : Int32 → Int32 → St → Prop :=
  Nat.rec (fun _ _ _ => False) (fun _ ih v2 v3 σ => if (3 : Int32) ≤ v3 then (P v2 σ) else (vp_in v3 3 ∧ (if (mA_menuLong σ (v3).toNatClampNeg) ≤ 0 then (wm_count_j142 P ih v3 v2 (0 : Int32) σ) else (wm_count_j142 P ih v3 v2 ((1 : Int32) <<< (v3 &&& 31)) σ)))) n
theorem wm_count_l120_s (P : Int32 → St → Prop)  (n : Nat) (v2 : Int32) (v3 : Int32) (σ : St) : wm_count_l120 P  (n + 1) v2 v3 σ = (if (3 : Int32) ≤ v3 then (P v2 σ) else (vp_in v3 3 ∧ (if (mA_menuLong σ (v3).toNatClampNeg) ≤ 0 then (wm_count_j142 P (wm_count_l120 P  n) v3 v2 (0 : Int32) σ) else (wm_count_j142 P (wm_count_l120 P  n) v3 v2 ((1 : Int32) <<< (v3 &&& 31)) σ)))) := rfl
def wm_count (σ : St) (v1 : Int32) (P : Int32 → St → Prop) : Prop :=
  if v1 = (0 : Int32) then (P (mI_dishes (mS_thrown σ (0 : Int32))) (mS_thrown σ (0 : Int32))) else (if v1 = (1 : Int32) then (P (mI_guests (mS_thrown σ (0 : Int32))) (mS_thrown σ (0 : Int32))) else (if v1 = (2 : Int32) then (P (mI_servedMany (mS_thrown σ (0 : Int32))) (mS_thrown σ (0 : Int32))) else (if v1 = (3 : Int32) then (sm_servedLast (mS_thrown σ (0 : Int32))  (fun r72 σ72 => P r72 σ72)) else (if v1 = (4 : Int32) then (∃ n78, wm_count_l78 P  n78 (0 : Int32) (0 : Int32) (mS_thrown σ (0 : Int32))) else (if v1 = (5 : Int32) then (P (mI_rowMany (mS_thrown σ (0 : Int32))) (mS_thrown σ (0 : Int32))) else (if v1 = (6 : Int32) then (P (mI_typed (mS_thrown σ (0 : Int32))) (mS_thrown σ (0 : Int32))) else (if v1 = (7 : Int32) then (∃ n120, wm_count_l120 P  n120 (0 : Int32) (0 : Int32) (mS_thrown σ (0 : Int32))) else (P (-1 : Int32) (mS_thrown σ (0 : Int32))))))))))
abbrev sm_count := @wm_count
theorem sm_count_ok {σ : St} {v1 : Int32} {P : Int32 → St → Prop} (h : sm_count σ v1 P) : wm_count σ v1 P := h
/-! m.end -/
def wm_end (σ : St) (v1 : Int32) (P : Int32 → St → Prop) : Prop :=
  sm_in v1 (0 : Int32) (mI_typed (mS_thrown σ (0 : Int32))) (fun r11 => if r11 = 0 then (P (0 : Int32) (mS_thrown σ (0 : Int32))) else (P (1 : Int32) (mS_typed (mS_thrown σ (0 : Int32)) v1)))
abbrev sm_end := @wm_end
theorem sm_end_ok {σ : St} {v1 : Int32} {P : Int32 → St → Prop} (h : sm_end σ v1 P) : wm_end σ v1 P := h
/-! m.fault -/
def wm_fault (σ : St) (v1 : Int32) (P : St → Prop) : Prop :=
  sm_fine σ  (fun r1 σ1 => if r1 = 0 then (P σ1) else (P (mS_wrong σ1 v1)))
abbrev sm_fault := @wm_fault
theorem sm_fault_ok {σ : St} {v1 : Int32} {P : St → Prop} (h : sm_fault σ v1 P) : wm_fault σ v1 P := h
/-! m.fits -/
def wm_fits_j74 (P : Int32 → St → Prop) (K34 : Int32 → Int32 → Int32 → Int32 → Int32 → Int32 → St → Prop) (v1 : Int32) (v2 : Int32) (v3 : Int32) (v4 : Int32) (v6 : Int32) (s0 : Int32) (s1 : Int32) (σ : St) : Prop :=
  K34 v1 v2 v3 v4 (s0 + s1) (v6 + (1 : Int32)) σ
def wm_fits_j73 (P : Int32 → St → Prop) (K34 : Int32 → Int32 → Int32 → Int32 → Int32 → Int32 → St → Prop) (v1 : Int32) (v2 : Int32) (v3 : Int32) (v4 : Int32) (v6 : Int32) (s0 : Int32) (σ : St) : Prop :=
  wm_fits_j74 P K34 v1 v2 v3 v4 v6 s0 (0 : Int32) σ
noncomputable def wm_fits_l34 (P : Int32 → St → Prop) (K103 : Int32 → Int32 → Int32 → Int32 → Int32 → Int32 → St → Prop) (n : Nat) : Int32 → Int32 → Int32 → Int32 → Int32 → Int32 → St → Prop :=
  Nat.rec (fun _ _ _ _ _ _ _ => False) (fun _ ih v1 v2 v3 v4 v5 v6 σ => if (mI_dishes σ) < v6 then (if v3 = 0 then (K103 v1 v2 v3 v4 v5 (mI_times σ) σ) else (vp_in v4 8 ∧ (K103 v1 v2 v3 v4 v5 (mA_store σ (v4).toNatClampNeg) σ))) else (sm_has v1 v6 (fun r48 => if r48 = 0 then (wm_fits_j73 P ih v1 v2 v3 v4 v6 v5 σ) else (vp_in v6 11 ∧ (sm_has (mA_stuffs σ (v6).toNatClampNeg) v4 (fun r63 => if r63 = 0 then (wm_fits_j73 P ih v1 v2 v3 v4 v6 v5 σ) else (wm_fits_j74 P ih v1 v2 v3 v4 v6 v5 (1 : Int32) σ))))))) n
theorem wm_fits_l34_s (P : Int32 → St → Prop) (K103 : Int32 → Int32 → Int32 → Int32 → Int32 → Int32 → St → Prop) (n : Nat) (v1 : Int32) (v2 : Int32) (v3 : Int32) (v4 : Int32) (v5 : Int32) (v6 : Int32) (σ : St) : wm_fits_l34 P K103 (n + 1) v1 v2 v3 v4 v5 v6 σ = (if (mI_dishes σ) < v6 then (if v3 = 0 then (K103 v1 v2 v3 v4 v5 (mI_times σ) σ) else (vp_in v4 8 ∧ (K103 v1 v2 v3 v4 v5 (mA_store σ (v4).toNatClampNeg) σ))) else (sm_has v1 v6 (fun r48 => if r48 = 0 then (wm_fits_j73 P (wm_fits_l34 P K103 n) v1 v2 v3 v4 v6 v5 σ) else (vp_in v6 11 ∧ (sm_has (mA_stuffs σ (v6).toNatClampNeg) v4 (fun r63 => if r63 = 0 then (wm_fits_j73 P (wm_fits_l34 P K103 n) v1 v2 v3 v4 v6 v5 σ) else (wm_fits_j74 P (wm_fits_l34 P K103 n) v1 v2 v3 v4 v6 v5 (1 : Int32) σ))))))) := rfl
def wm_fits_j103 (P : Int32 → St → Prop) (K3 : Int32 → Int32 → Int32 → Int32 → St → Prop) (v1 : Int32) (v2 : Int32) (v3 : Int32) (v4 : Int32) (s0 : Int32) (s1 : Int32) (σ : St) : Prop :=
  if s0 ≤ s1 then (K3 v1 v2 v3 (v4 + (1 : Int32)) σ) else (P (0 : Int32) σ)
def wm_fits_j29 (P : Int32 → St → Prop) (K3 : Int32 → Int32 → Int32 → Int32 → St → Prop) (v1 : Int32) (v2 : Int32) (v3 : Int32) (v4 : Int32) (s0 : Int32) (σ : St) : Prop :=
  ∃ n34, wm_fits_l34 P (wm_fits_j103 P K3) n34 v1 v2 v3 v4 s0 (0 : Int32) σ
noncomputable def wm_fits_l3 (P : Int32 → St → Prop)  (n : Nat) : Int32 → Int32 → Int32 → Int32 → St → Prop :=
  Nat.rec (fun _ _ _ _ _ => False) (fun _ ih v1 v2 v3 v4 σ => if (8 : Int32) ≤ v4 then (P (1 : Int32) σ) else (vp_in v2 11 ∧ (sm_has (mA_stuffs σ (v2).toNatClampNeg) v4 (fun r18 => if r18 = 0 then (wm_fits_j29 P ih v1 v2 v3 v4 (0 : Int32) σ) else (wm_fits_j29 P ih v1 v2 v3 v4 (1 : Int32) σ))))) n
theorem wm_fits_l3_s (P : Int32 → St → Prop)  (n : Nat) (v1 : Int32) (v2 : Int32) (v3 : Int32) (v4 : Int32) (σ : St) : wm_fits_l3 P  (n + 1) v1 v2 v3 v4 σ = (if (8 : Int32) ≤ v4 then (P (1 : Int32) σ) else (vp_in v2 11 ∧ (sm_has (mA_stuffs σ (v2).toNatClampNeg) v4 (fun r18 => if r18 = 0 then (wm_fits_j29 P (wm_fits_l3 P  n) v1 v2 v3 v4 (0 : Int32) σ) else (wm_fits_j29 P (wm_fits_l3 P  n) v1 v2 v3 v4 (1 : Int32) σ))))) := rfl
def wm_fits (σ : St) (v1 : Int32) (v2 : Int32) (v3 : Int32) (P : Int32 → St → Prop) : Prop :=
  ∃ n3, wm_fits_l3 P  n3 v1 v2 v3 (0 : Int32) σ
/-! m.hasHot -/
def wm_hasHot_j29 (P : Int32 → St → Prop) (K2 : Int32 → Int32 → St → Prop) (v1 : Int32) (v2 : Int32) (σ : St) : Prop :=
  K2 v1 (v2 + (1 : Int32)) σ
noncomputable def wm_hasHot_l2 (P : Int32 → St → Prop)  (n : Nat) : Int32 → Int32 → St → Prop :=
  Nat.rec (fun _ _ _ => False) (fun _ ih v1 v2 σ => if (mI_dishes σ) < v2 then (P (0 : Int32) σ) else (sm_has v1 v2 (fun r12 => if r12 = 0 then (wm_hasHot_j29 P ih v1 v2 σ) else (vp_in v2 11 ∧ (if (mA_isHot σ (v2).toNatClampNeg) = 0 then (wm_hasHot_j29 P ih v1 v2 σ) else (P (1 : Int32) σ)))))) n
theorem wm_hasHot_l2_s (P : Int32 → St → Prop)  (n : Nat) (v1 : Int32) (v2 : Int32) (σ : St) : wm_hasHot_l2 P  (n + 1) v1 v2 σ = (if (mI_dishes σ) < v2 then (P (0 : Int32) σ) else (sm_has v1 v2 (fun r12 => if r12 = 0 then (wm_hasHot_j29 P (wm_hasHot_l2 P  n) v1 v2 σ) else (vp_in v2 11 ∧ (if (mA_isHot σ (v2).toNatClampNeg) = 0 then (wm_hasHot_j29 P (wm_hasHot_l2 P  n) v1 v2 σ) else (P (1 : Int32) σ)))))) := rfl
def wm_hasHot (σ : St) (v1 : Int32) (P : Int32 → St → Prop) : Prop :=
  ∃ n2, wm_hasHot_l2 P  n2 v1 (0 : Int32) σ
/-! m.isDish -/
def wm_isDish (σ : St) (v1 : Int32) (P : Int32 → St → Prop) : Prop :=
  sm_in v1 (0 : Int32) ((mI_dishes σ) - (1 : Int32)) (fun r8 => nzB r8 ∧ P r8 σ)
/-! m.isGuest -/
def wm_isGuest (σ : St) (v1 : Int32) (P : Int32 → St → Prop) : Prop :=
  sm_in v1 (0 : Int32) ((mI_guests σ) - (1 : Int32)) (fun r8 => nzB r8 ∧ P r8 σ)
/-! m.isLaw -/
def wm_isLaw_j48 (P : Int32 → Prop)  (s0 : Int32) : Prop :=
  nzB s0 ∧ P s0
def wm_isLaw_j47 (P : Int32 → Prop)   : Prop :=
  wm_isLaw_j48 P  (0 : Int32)
def wm_isLaw (v0 : Int32) (v1 : Int32) (P : Int32 → Prop) : Prop :=
  if v0 = 0 then (sm_in v1 (1 : Int32) (8 : Int32) (fun r8 => wm_isLaw_j48 P  r8)) else (if v0 = (1 : Int32) then (sm_in v1 (1 : Int32) (9 : Int32) (fun r23 => wm_isLaw_j48 P  r23)) else (if v0 = (2 : Int32) then (sm_in v1 (0 : Int32) (2 : Int32) (fun r37 => if r37 = 0 then (wm_isLaw_j47 P  ) else (wm_isLaw_j48 P  (1 : Int32)))) else (wm_isLaw_j47 P  )))
/-! m.isMenu -/
def wm_isMenu_j23 (P : Int32 → St → Prop)  (s0 : Int32) (σ : St) : Prop :=
  nzB s0 ∧ P s0 σ
def wm_isMenu_j22 (P : Int32 → St → Prop)  (σ : St) : Prop :=
  wm_isMenu_j23 P  (0 : Int32) σ
def wm_isMenu (σ : St) (v1 : Int32) (P : Int32 → St → Prop) : Prop :=
  sm_in v1 (0 : Int32) (2 : Int32) (fun r3 => if r3 = 0 then (wm_isMenu_j22 P  σ) else (vp_in v1 3 ∧ (if (mA_menuLong σ (v1).toNatClampNeg) ≤ 0 then (wm_isMenu_j22 P  σ) else (wm_isMenu_j23 P  (1 : Int32) σ))))
/-! m.isState -/
def wm_isState_j22 (P : Int32 → Prop)  (s0 : Int32) : Prop :=
  nzB s0 ∧ P s0
def wm_isState (v0 : Int32) (v1 : Int32) (P : Int32 → Prop) : Prop :=
  if v1 = (-1 : Int32) then (if v0 = 0 then (wm_isState_j22 P  (1 : Int32)) else (wm_isState_j22 P  (0 : Int32))) else (sm_has v0 v1 (fun r19 => wm_isState_j22 P  r19))
/-! m.keep -/
noncomputable def wm_keep_l40 (P : Int32 → St → Prop) (K81 : Int32 → Int32 → St → Prop) (n : Nat) : Int32 → Int32 → St → Prop :=
  Nat.rec (fun _ _ _ => False) (fun _ ih v2 v3 σ => if (10 : Int32) ≤ v3 then (vp_in (v2 + (10 : Int32)) 44 ∧ (K81 v2 (0 : Int32) (mU_kept σ (v2 + (10 : Int32)) (mI_servedMany σ)))) else (vp_in v3 10 ∧ (vp_in (v2 + v3) 44 ∧ (ih v2 (v3 + (1 : Int32)) (mU_kept σ (v2 + v3) (mA_served σ (v3).toNatClampNeg)))))) n
theorem wm_keep_l40_s (P : Int32 → St → Prop) (K81 : Int32 → Int32 → St → Prop) (n : Nat) (v2 : Int32) (v3 : Int32) (σ : St) : wm_keep_l40 P K81 (n + 1) v2 v3 σ = (if (10 : Int32) ≤ v3 then (vp_in (v2 + (10 : Int32)) 44 ∧ (K81 v2 (0 : Int32) (mU_kept σ (v2 + (10 : Int32)) (mI_servedMany σ)))) else (vp_in v3 10 ∧ (vp_in (v2 + v3) 44 ∧ (wm_keep_l40 P K81 n v2 (v3 + (1 : Int32)) (mU_kept σ (v2 + v3) (mA_served σ (v3).toNatClampNeg)))))) := rfl
noncomputable def wm_keep_l81 (P : Int32 → St → Prop)  (n : Nat) : Int32 → Int32 → St → Prop :=
  Nat.rec (fun _ _ _ => False) (fun _ ih v2 v3 σ => if (8 : Int32) ≤ v3 then (vp_in (v2 + (19 : Int32)) 44 ∧ (vp_in ((v2 + (19 : Int32)) + (1 : Int32)) 44 ∧ (vp_in ((v2 + (19 : Int32)) + (2 : Int32)) 44 ∧ (P (1 : Int32) (mU_kept (mU_kept (mU_kept σ (v2 + (19 : Int32)) (mI_share σ)) ((v2 + (19 : Int32)) + (1 : Int32)) (mI_times (mU_kept σ (v2 + (19 : Int32)) (mI_share σ)))) ((v2 + (19 : Int32)) + (2 : Int32)) (mI_heat (mU_kept (mU_kept σ (v2 + (19 : Int32)) (mI_share σ)) ((v2 + (19 : Int32)) + (1 : Int32)) (mI_times (mU_kept σ (v2 + (19 : Int32)) (mI_share σ)))))))))) else (vp_in v3 8 ∧ (vp_in (((v2 + (10 : Int32)) + (1 : Int32)) + v3) 44 ∧ (ih v2 (v3 + (1 : Int32)) (mU_kept σ (((v2 + (10 : Int32)) + (1 : Int32)) + v3) (mA_store σ (v3).toNatClampNeg)))))) n
theorem wm_keep_l81_s (P : Int32 → St → Prop)  (n : Nat) (v2 : Int32) (v3 : Int32) (σ : St) : wm_keep_l81 P  (n + 1) v2 v3 σ = (if (8 : Int32) ≤ v3 then (vp_in (v2 + (19 : Int32)) 44 ∧ (vp_in ((v2 + (19 : Int32)) + (1 : Int32)) 44 ∧ (vp_in ((v2 + (19 : Int32)) + (2 : Int32)) 44 ∧ (P (1 : Int32) (mU_kept (mU_kept (mU_kept σ (v2 + (19 : Int32)) (mI_share σ)) ((v2 + (19 : Int32)) + (1 : Int32)) (mI_times (mU_kept σ (v2 + (19 : Int32)) (mI_share σ)))) ((v2 + (19 : Int32)) + (2 : Int32)) (mI_heat (mU_kept (mU_kept σ (v2 + (19 : Int32)) (mI_share σ)) ((v2 + (19 : Int32)) + (1 : Int32)) (mI_times (mU_kept σ (v2 + (19 : Int32)) (mI_share σ)))))))))) else (vp_in v3 8 ∧ (vp_in (((v2 + (10 : Int32)) + (1 : Int32)) + v3) 44 ∧ (wm_keep_l81 P  n v2 (v3 + (1 : Int32)) (mU_kept σ (((v2 + (10 : Int32)) + (1 : Int32)) + v3) (mA_store σ (v3).toNatClampNeg)))))) := rfl
def wm_keep (σ : St) (v1 : Int32) (P : Int32 → St → Prop) : Prop :=
  sm_in v1 (0 : Int32) (1 : Int32) (fun r8 => if r8 = 0 then (P (0 : Int32) (mS_thrown σ (0 : Int32))) else (vp_in v1 2 ∧ (vp_in v1 2 ∧ (∃ n40, wm_keep_l40 P (fun v2 v3 σ => ∃ n81, wm_keep_l81 P  n81 v2 v3 σ) n40 ((22 : Int32) * v1) (0 : Int32) (mU_keptCame (mU_isKept (mS_thrown σ (0 : Int32)) v1 (vp_nar .boolean (1 : Int32))) v1 (mI_came (mU_isKept (mS_thrown σ (0 : Int32)) v1 (vp_nar .boolean (1 : Int32)))))))))
abbrev sm_keep := @wm_keep
theorem sm_keep_ok {σ : St} {v1 : Int32} {P : Int32 → St → Prop} (h : sm_keep σ v1 P) : wm_keep σ v1 P := h
/-! m.letter -/
def wm_letter_j147 (P : Int32 → St → Prop)  (s0 : Int32) (σ : St) : Prop :=
  P s0 σ
def wm_letter_j160 (P : Int32 → St → Prop)  (v2 : Int32) (σ : St) : Prop :=
  P v2 σ
def wm_letter (σ : St) (v1 : Int32) (P : Int32 → St → Prop) : Prop :=
  if v1 = (98 : Int32) then (vp_in (mI_askedDish σ) 11 ∧ (vp_in (mI_askedGuest σ) 6 ∧ (P (bitC ((mA_stuffs σ ((mI_askedDish σ)).toNatClampNeg) &&& (mA_bars σ ((mI_askedGuest σ)).toNatClampNeg))) σ))) else (if v1 = (99 : Int32) then (vp_in (mI_askedDish σ) 11 ∧ (P (mA_cost σ ((mI_askedDish σ)).toNatClampNeg) σ)) else (if v1 = (100 : Int32) then (wm_letter_j160 P  (mI_askedDish σ) σ) else (if v1 = (101 : Int32) then (wm_letter_j160 P  (mI_askedDish σ) σ) else (if v1 = (102 : Int32) then (wm_letter_j160 P  (mI_askedDish σ) σ) else (if v1 = (103 : Int32) then (P (mI_askedGuest σ) σ) else (if v1 = (104 : Int32) then (vp_in (mI_askedDish σ) 11 ∧ (if (mA_isHot σ ((mI_askedDish σ)).toNatClampNeg) = 0 then (wm_letter_j147 P  (0 : Int32) σ) else (wm_letter_j147 P  (1 : Int32) σ))) else (if v1 = (105 : Int32) then (wm_letter_j160 P  (mI_askedDish σ) σ) else (if v1 = (106 : Int32) then (wm_letter_j160 P  (mI_askedDish σ) σ) else (if v1 = (107 : Int32) then (wm_letter_j160 P  (mI_askedDish σ) σ) else (if v1 = (108 : Int32) then (vp_in (mI_askedDish σ) 11 ∧ (vp_in (mI_askedGuest σ) 6 ∧ (P (bitC ((mA_stuffs σ ((mI_askedDish σ)).toNatClampNeg) &&& (mA_loves σ ((mI_askedGuest σ)).toNatClampNeg))) σ))) else (if v1 = (109 : Int32) then (wm_letter_j160 P  (mI_askedDish σ) σ) else (if v1 = (110 : Int32) then (vp_in (mI_askedDish σ) 11 ∧ (P (bitC (mA_stuffs σ ((mI_askedDish σ)).toNatClampNeg)) σ)) else (if v1 = (111 : Int32) then (vp_in (mI_askedDish σ) 11 ∧ (P (mA_hours σ ((mI_askedDish σ)).toNatClampNeg) σ)) else (wm_letter_j160 P  (mI_askedDish σ) σ))))))))))))))
abbrev sm_letter := @wm_letter
theorem sm_letter_ok {σ : St} {v1 : Int32} {P : Int32 → St → Prop} (h : sm_letter σ v1 P) : wm_letter σ v1 P := h
/-! m.menuAt -/
def wm_menuAt (σ : St) (v1 : Int32) (v2 : Int32) (P : Int32 → St → Prop) : Prop :=
  vp_in (((10 : Int32) * v1) + (bitC v2)) 30 ∧ (P (mA_menus σ ((((10 : Int32) * v1) + (bitC v2))).toNatClampNeg) σ)
abbrev sm_menuAt := @wm_menuAt
theorem sm_menuAt_ok {σ : St} {v1 : Int32} {v2 : Int32} {P : Int32 → St → Prop} (h : sm_menuAt σ v1 v2 P) : wm_menuAt σ v1 v2 P := h
/-! m.over -/
def wm_over_j58 (P : Int32 → St → Prop) (K17 : Int32 → Int32 → St → Prop) (v1 : Int32) (v2 : Int32) (s1 : Int32) (s2 : Int32) (s3 : Int32) (s4 : Int32) (σ : St) : Prop :=
  vp_in s1 8 ∧ (K17 v1 (v2 + (1 : Int32)) (mU_store σ s1 (jmax s2 (s3 - s4))))
noncomputable def wm_over_l17 (P : Int32 → St → Prop) (K7 : Int32 → St → Prop) (n : Nat) : Int32 → Int32 → St → Prop :=
  Nat.rec (fun _ _ _ => False) (fun _ ih v1 v2 σ => if (8 : Int32) ≤ v2 then (K7 (v1 + (1 : Int32)) σ) else (vp_in v2 8 ∧ (vp_in v1 10 ∧ (vp_in (mA_served σ (v1).toNatClampNeg) 11 ∧ (sm_has (mA_stuffs σ ((mA_served σ (v1).toNatClampNeg)).toNatClampNeg) v2 (fun r47 => if r47 = 0 then (wm_over_j58 P ih v1 v2 v2 (0 : Int32) (mA_store σ (v2).toNatClampNeg) (0 : Int32) σ) else (wm_over_j58 P ih v1 v2 v2 (0 : Int32) (mA_store σ (v2).toNatClampNeg) (1 : Int32) σ))))))) n
theorem wm_over_l17_s (P : Int32 → St → Prop) (K7 : Int32 → St → Prop) (n : Nat) (v1 : Int32) (v2 : Int32) (σ : St) : wm_over_l17 P K7 (n + 1) v1 v2 σ = (if (8 : Int32) ≤ v2 then (K7 (v1 + (1 : Int32)) σ) else (vp_in v2 8 ∧ (vp_in v1 10 ∧ (vp_in (mA_served σ (v1).toNatClampNeg) 11 ∧ (sm_has (mA_stuffs σ ((mA_served σ (v1).toNatClampNeg)).toNatClampNeg) v2 (fun r47 => if r47 = 0 then (wm_over_j58 P (wm_over_l17 P K7 n) v1 v2 v2 (0 : Int32) (mA_store σ (v2).toNatClampNeg) (0 : Int32) σ) else (wm_over_j58 P (wm_over_l17 P K7 n) v1 v2 v2 (0 : Int32) (mA_store σ (v2).toNatClampNeg) (1 : Int32) σ))))))) := rfl
noncomputable def wm_over_l7 (P : Int32 → St → Prop)  (n : Nat) : Int32 → St → Prop :=
  Nat.rec (fun _ _ => False) (fun _ ih v1 σ => if (mI_servedMany σ) ≤ v1 then (P (mI_servedMany σ) (mS_servedMany σ (0 : Int32))) else (∃ n17, wm_over_l17 P ih n17 v1 (0 : Int32) σ)) n
theorem wm_over_l7_s (P : Int32 → St → Prop)  (n : Nat) (v1 : Int32) (σ : St) : wm_over_l7 P  (n + 1) v1 σ = (if (mI_servedMany σ) ≤ v1 then (P (mI_servedMany σ) (mS_servedMany σ (0 : Int32))) else (∃ n17, wm_over_l17 P (wm_over_l7 P  n) n17 v1 (0 : Int32) σ)) := rfl
def wm_over (σ : St)  (P : Int32 → St → Prop) : Prop :=
  ∃ n7, wm_over_l7 P  n7 (0 : Int32) (mS_thrown σ (0 : Int32))
abbrev sm_over := @wm_over
theorem sm_over_ok {σ : St} {P : Int32 → St → Prop} (h : sm_over σ  P) : wm_over σ  P := h
/-! m.passes -/
def wm_passes (σ : St) (v1 : Int32) (P : Int32 → St → Prop) : Prop :=
  sm_fine σ  (fun r1 σ1 => if r1 = 0 then (P (0 : Int32) σ1) else (sm_here σ1  (fun r8 σ8 => if r8 = v1 then (P (1 : Int32) (mS_at σ8 ((mI_at σ8) + (1 : Int32)))) else (P (0 : Int32) σ8))))
abbrev sm_passes := @wm_passes
theorem sm_passes_ok {σ : St} {v1 : Int32} {P : Int32 → St → Prop} (h : sm_passes σ v1 P) : wm_passes σ v1 P := h
/-! m.rare -/
def wm_rare_j66 (P : Int32 → St → Prop) (K33 : Int32 → Int32 → Int32 → Int32 → Int32 → St → Prop) (v1 : Int32) (v2 : Int32) (v3 : Int32) (v5 : Int32) (s0 : Int32) (s1 : Int32) (σ : St) : Prop :=
  K33 v1 v2 v3 (s0 ||| s1) (v5 + (1 : Int32)) σ
noncomputable def wm_rare_l33 (P : Int32 → St → Prop) (K100 : Int32 → Int32 → St → Prop) (K105 : Int32 → Int32 → Int32 → St → Prop) (n : Nat) : Int32 → Int32 → Int32 → Int32 → Int32 → St → Prop :=
  Nat.rec (fun _ _ _ _ _ _ => False) (fun _ ih v1 v2 v3 v4 v5 σ => if (mI_dishes σ) ≤ v5 then (if v4 = 0 then (K105 v1 v2 v3 σ) else (if v1 = (-1 : Int32) then (K100 v3 v4 σ) else (if (bitC v4) < (bitC v2) then (K100 v3 v4 σ) else (K105 v1 v2 v3 σ)))) else (vp_in v5 11 ∧ (sm_has (mA_stuffs σ (v5).toNatClampNeg) v3 (fun r52 => if r52 = 0 then (wm_rare_j66 P ih v1 v2 v3 v5 v4 (0 : Int32) σ) else (wm_rare_j66 P ih v1 v2 v3 v5 v4 ((1 : Int32) <<< (v5 &&& 31)) σ))))) n
theorem wm_rare_l33_s (P : Int32 → St → Prop) (K100 : Int32 → Int32 → St → Prop) (K105 : Int32 → Int32 → Int32 → St → Prop) (n : Nat) (v1 : Int32) (v2 : Int32) (v3 : Int32) (v4 : Int32) (v5 : Int32) (σ : St) : wm_rare_l33 P K100 K105 (n + 1) v1 v2 v3 v4 v5 σ = (if (mI_dishes σ) ≤ v5 then (if v4 = 0 then (K105 v1 v2 v3 σ) else (if v1 = (-1 : Int32) then (K100 v3 v4 σ) else (if (bitC v4) < (bitC v2) then (K100 v3 v4 σ) else (K105 v1 v2 v3 σ)))) else (vp_in v5 11 ∧ (sm_has (mA_stuffs σ (v5).toNatClampNeg) v3 (fun r52 => if r52 = 0 then (wm_rare_j66 P (wm_rare_l33 P K100 K105 n) v1 v2 v3 v5 v4 (0 : Int32) σ) else (wm_rare_j66 P (wm_rare_l33 P K100 K105 n) v1 v2 v3 v5 v4 ((1 : Int32) <<< (v5 &&& 31)) σ))))) := rfl
def wm_rare_j105 (P : Int32 → St → Prop) (K21 : Int32 → Int32 → Int32 → St → Prop) (v1 : Int32) (v2 : Int32) (v3 : Int32) (σ : St) : Prop :=
  K21 v1 v2 (v3 + (1 : Int32)) σ
def wm_rare_j100 (P : Int32 → St → Prop) (K21 : Int32 → Int32 → Int32 → St → Prop) (v3 : Int32) (v4 : Int32) (σ : St) : Prop :=
  wm_rare_j105 P K21 v3 v4 v3 σ
noncomputable def wm_rare_l21 (P : Int32 → St → Prop)  (n : Nat) : Int32 → Int32 → Int32 → St → Prop :=
  Nat.rec (fun _ _ _ _ => False) (fun _ ih v1 v2 v3 σ => if (8 : Int32) ≤ v3 then (sm_tell (mS_rowMany σ (0 : Int32)) v2 (fun σ118 => P v1 σ118)) else (∃ n33, wm_rare_l33 P (wm_rare_j100 P ih) (wm_rare_j105 P ih) n33 v1 v2 v3 (0 : Int32) (0 : Int32) σ)) n
theorem wm_rare_l21_s (P : Int32 → St → Prop)  (n : Nat) (v1 : Int32) (v2 : Int32) (v3 : Int32) (σ : St) : wm_rare_l21 P  (n + 1) v1 v2 v3 σ = (if (8 : Int32) ≤ v3 then (sm_tell (mS_rowMany σ (0 : Int32)) v2 (fun σ118 => P v1 σ118)) else (∃ n33, wm_rare_l33 P (wm_rare_j100 P (wm_rare_l21 P  n)) (wm_rare_j105 P (wm_rare_l21 P  n)) n33 v1 v2 v3 (0 : Int32) (0 : Int32) σ)) := rfl
def wm_rare (σ : St)  (P : Int32 → St → Prop) : Prop :=
  if (mI_dishes (mS_thrown σ (0 : Int32))) = 0 then (P (-2 : Int32) (mS_thrown σ (0 : Int32))) else (∃ n21, wm_rare_l21 P  n21 (-1 : Int32) (0 : Int32) (0 : Int32) (mS_thrown σ (0 : Int32)))
abbrev sm_rare := @wm_rare
theorem sm_rare_ok {σ : St} {P : Int32 → St → Prop} (h : sm_rare σ  P) : wm_rare σ  P := h
/-! m.row -/
def wm_row_j32 (P : Int32 → St → Prop)  (s0 : Int32) (σ : St) : Prop :=
  P s0 σ
def wm_row (σ : St) (v1 : Int32) (P : Int32 → St → Prop) : Prop :=
  sm_in v1 (0 : Int32) ((mI_rowMany (mS_thrown σ (0 : Int32))) - (1 : Int32)) (fun r13 => if r13 = 0 then (sm_lost (mS_thrown σ (0 : Int32))  (fun r29 σ29 => wm_row_j32 P  r29 σ29)) else (vp_in v1 16 ∧ (wm_row_j32 P  (mA_row (mS_thrown σ (0 : Int32)) (v1).toNatClampNeg) (mS_thrown σ (0 : Int32)))))
abbrev sm_row := @wm_row
theorem sm_row_ok {σ : St} {v1 : Int32} {P : Int32 → St → Prop} (h : sm_row σ v1 P) : wm_row σ v1 P := h
/-! m.shared -/
def wm_shared (σ : St) (v1 : Int32) (v2 : Int32) (P : Int32 → St → Prop) : Prop :=
  vp_in v1 11 ∧ (vp_in v2 11 ∧ (P (bitC ((mA_stuffs σ (v1).toNatClampNeg) &&& (mA_stuffs σ (v2).toNatClampNeg))) σ))
/-! m.sheet -/
def wm_sheet_j109 (P : Int32 → St → Prop) (K43 : Int32 → Int32 → Int32 → Int32 → Int32 → Int32 → St → Prop) (v1 : Int32) (v2 : Int32) (v4 : Int32) (v5 : Int32) (v6 : Int32) (v7 : Int32) (s1 : Int32) (s2 : Int32) (σ : St) : Prop :=
  vp_in s1 11 ∧ (vp_in v7 11 ∧ (K43 v1 v2 v4 (v5 + (mA_cost (mU_cost σ s1 s2) (v7).toNatClampNeg)) (v6 + v4) (v7 + (1 : Int32)) (mU_cost σ s1 s2)))
def wm_sheet_j94 (P : Int32 → St → Prop) (K43 : Int32 → Int32 → Int32 → Int32 → Int32 → Int32 → St → Prop) (v1 : Int32) (v2 : Int32) (v4 : Int32) (v5 : Int32) (v6 : Int32) (v7 : Int32) (s1 : Int32) (σ : St) : Prop :=
  wm_sheet_j109 P K43 v1 v2 v4 v5 v6 v7 s1 (0 : Int32) σ
def wm_sheet_j75 (P : Int32 → St → Prop) (K43 : Int32 → Int32 → Int32 → Int32 → Int32 → Int32 → St → Prop) (v1 : Int32) (v2 : Int32) (v4 : Int32) (v5 : Int32) (v6 : Int32) (v7 : Int32) (s0 : Int32) (σ : St) : Prop :=
  if v1 = (3 : Int32) then (wm_sheet_j94 P K43 v1 v2 v4 v5 v6 v7 v7 σ) else (if v7 < v2 then (wm_sheet_j109 P K43 v1 v2 v4 v5 v6 v7 v7 (jmax (0 : Int32) (jmin (99 : Int32) s0)) σ) else (wm_sheet_j94 P K43 v1 v2 v4 v5 v6 v7 v7 σ))
noncomputable def wm_sheet_l43 (P : Int32 → St → Prop) (K147 : Int32 → St → Prop) (n : Nat) : Int32 → Int32 → Int32 → Int32 → Int32 → Int32 → St → Prop :=
  Nat.rec (fun _ _ _ _ _ _ _ => False) (fun _ ih v1 v2 v4 v5 v6 v7 σ => if (mI_dishes σ) ≤ v7 then (if v1 = (3 : Int32) then (K147 (-3 : Int32) σ) else (K147 v5 σ)) else (if v1 = 0 then (wm_sheet_j75 P ih v1 v2 v4 v5 v6 v7 ((v6).toInt8.toInt32) σ) else (if v1 = (1 : Int32) then (wm_sheet_j75 P ih v1 v2 v4 v5 v6 v7 ((v6).toInt16.toInt32) σ) else (wm_sheet_j75 P ih v1 v2 v4 v5 v6 v7 v6 σ)))) n
theorem wm_sheet_l43_s (P : Int32 → St → Prop) (K147 : Int32 → St → Prop) (n : Nat) (v1 : Int32) (v2 : Int32) (v4 : Int32) (v5 : Int32) (v6 : Int32) (v7 : Int32) (σ : St) : wm_sheet_l43 P K147 (n + 1) v1 v2 v4 v5 v6 v7 σ = (if (mI_dishes σ) ≤ v7 then (if v1 = (3 : Int32) then (K147 (-3 : Int32) σ) else (K147 v5 σ)) else (if v1 = 0 then (wm_sheet_j75 P (wm_sheet_l43 P K147 n) v1 v2 v4 v5 v6 v7 ((v6).toInt8.toInt32) σ) else (if v1 = (1 : Int32) then (wm_sheet_j75 P (wm_sheet_l43 P K147 n) v1 v2 v4 v5 v6 v7 ((v6).toInt16.toInt32) σ) else (wm_sheet_j75 P (wm_sheet_l43 P K147 n) v1 v2 v4 v5 v6 v7 v6 σ)))) := rfl
def wm_sheet_j147 (P : Int32 → St → Prop)  (s0 : Int32) (σ : St) : Prop :=
  P s0 σ
def wm_sheet_j34 (P : Int32 → St → Prop)  (v1 : Int32) (v2 : Int32) (v3 : Int32) (v4 : Int32) (σ : St) : Prop :=
  ∃ n43, wm_sheet_l43 P (wm_sheet_j147 P) n43 v1 v2 v4 (0 : Int32) v3 (0 : Int32) σ
def wm_sheet (σ : St) (v1 : Int32) (v2 : Int32) (v3 : Int32) (v4 : Int32) (P : Int32 → St → Prop) : Prop :=
  sm_in v1 (0 : Int32) (3 : Int32) (fun r8 => if r8 = 0 then (P (-1 : Int32) (mS_thrown σ (0 : Int32))) else (if v2 ≤ (10 : Int32) then (if (3 : Int32) ≤ v1 then (wm_sheet_j34 P  v1 v2 v3 v4 (mS_thrown σ (0 : Int32))) else (if 0 ≤ v2 then (wm_sheet_j34 P  v1 v2 v3 v4 (mS_thrown σ (0 : Int32))) else (P (-2 : Int32) (mS_thrown σ (0 : Int32))))) else (P (-1 : Int32) (mS_thrown σ (0 : Int32)))))
abbrev sm_sheet := @wm_sheet
theorem sm_sheet_ok {σ : St} {v1 : Int32} {v2 : Int32} {v3 : Int32} {v4 : Int32} {P : Int32 → St → Prop} (h : sm_sheet σ v1 v2 v3 v4 P) : wm_sheet σ v1 v2 v3 v4 P := h
/-! m.store -/
def wm_store (σ : St) (v1 : Int32) (v2 : Int32) (P : Int32 → St → Prop) : Prop :=
  sm_in v1 (0 : Int32) (7 : Int32) (fun r9 => if r9 = 0 then (P (-1 : Int32) (mS_thrown σ (0 : Int32))) else (sm_in v2 (0 : Int32) (99 : Int32) (fun r19 => if r19 = 0 then (P (-1 : Int32) (mS_thrown σ (0 : Int32))) else (vp_in v1 8 ∧ (vp_in v1 8 ∧ (P (mA_store (mS_thrown σ (0 : Int32)) (v1).toNatClampNeg) (mU_store (mS_thrown σ (0 : Int32)) v1 v2)))))))
abbrev sm_store := @wm_store
theorem sm_store_ok {σ : St} {v1 : Int32} {v2 : Int32} {P : Int32 → St → Prop} (h : sm_store σ v1 v2 P) : wm_store σ v1 v2 P := h
/-! m.besides -/
def wm_besides_j38 (P : Int32 → St → Prop) (K4 : Int32 → Int32 → Int32 → St → Prop) (v1 : Int32) (v3 : Int32) (s0 : Int32) (s1 : Int32) (σ : St) : Prop :=
  K4 v1 (s0 ||| s1) (v3 + (1 : Int32)) σ
def wm_besides_j37 (P : Int32 → St → Prop) (K4 : Int32 → Int32 → Int32 → St → Prop) (v1 : Int32) (v3 : Int32) (s0 : Int32) (σ : St) : Prop :=
  wm_besides_j38 P K4 v1 v3 s0 (0 : Int32) σ
noncomputable def wm_besides_l4 (P : Int32 → St → Prop)  (n : Nat) : Int32 → Int32 → Int32 → St → Prop :=
  Nat.rec (fun _ _ _ _ => False) (fun _ ih v1 v2 v3 σ => if (mI_dishes σ) ≤ v3 then (P v2 σ) else (if v3 = v1 then (wm_besides_j37 P ih v1 v3 v2 σ) else (sm_shared σ v1 v3 (fun r21 σ21 => if r21 < (mI_share σ21) then (wm_besides_j37 P ih v1 v3 v2 σ21) else (wm_besides_j38 P ih v1 v3 v2 ((1 : Int32) <<< (v3 &&& 31)) σ21))))) n
theorem wm_besides_l4_s (P : Int32 → St → Prop)  (n : Nat) (v1 : Int32) (v2 : Int32) (v3 : Int32) (σ : St) : wm_besides_l4 P  (n + 1) v1 v2 v3 σ = (if (mI_dishes σ) ≤ v3 then (P v2 σ) else (if v3 = v1 then (wm_besides_j37 P (wm_besides_l4 P  n) v1 v3 v2 σ) else (sm_shared σ v1 v3 (fun r21 σ21 => if r21 < (mI_share σ21) then (wm_besides_j37 P (wm_besides_l4 P  n) v1 v3 v2 σ21) else (wm_besides_j38 P (wm_besides_l4 P  n) v1 v3 v2 ((1 : Int32) <<< (v3 &&& 31)) σ21))))) := rfl
def wm_besides (σ : St) (v1 : Int32) (P : Int32 → St → Prop) : Prop :=
  ∃ n4, wm_besides_l4 P  n4 v1 (0 : Int32) (0 : Int32) σ
/-! m.canAll -/
def wm_canAll_j36 (P : Int32 → St → Prop) (K11 : Int32 → Int32 → Int32 → Int32 → St → Prop) (v1 : Int32) (v2 : Int32) (v4 : Int32) (s0 : Int32) (s1 : Int32) (σ : St) : Prop :=
  K11 v1 v2 (s0 ||| s1) (v4 + (1 : Int32)) σ
noncomputable def wm_canAll_l11 (P : Int32 → St → Prop) (K47 : Int32 → Int32 → Int32 → Int32 → St → Prop) (n : Nat) : Int32 → Int32 → Int32 → Int32 → St → Prop :=
  Nat.rec (fun _ _ _ _ _ => False) (fun _ ih v1 v2 v3 v4 σ => if v1 ≤ v4 then (K47 v1 v2 v3 (0 : Int32) σ) else (vp_in v4 11 ∧ (if (mA_isHot σ (v4).toNatClampNeg) = 0 then (wm_canAll_j36 P ih v1 v2 v4 v3 (0 : Int32) σ) else (wm_canAll_j36 P ih v1 v2 v4 v3 ((1 : Int32) <<< (v4 &&& 31)) σ)))) n
theorem wm_canAll_l11_s (P : Int32 → St → Prop) (K47 : Int32 → Int32 → Int32 → Int32 → St → Prop) (n : Nat) (v1 : Int32) (v2 : Int32) (v3 : Int32) (v4 : Int32) (σ : St) : wm_canAll_l11 P K47 (n + 1) v1 v2 v3 v4 σ = (if v1 ≤ v4 then (K47 v1 v2 v3 (0 : Int32) σ) else (vp_in v4 11 ∧ (if (mA_isHot σ (v4).toNatClampNeg) = 0 then (wm_canAll_j36 P (wm_canAll_l11 P K47 n) v1 v2 v4 v3 (0 : Int32) σ) else (wm_canAll_j36 P (wm_canAll_l11 P K47 n) v1 v2 v4 v3 ((1 : Int32) <<< (v4 &&& 31)) σ)))) := rfl
def wm_canAll_j88 (P : Int32 → St → Prop) (K60 : Int32 → Int32 → Int32 → Int32 → Int32 → Int32 → St → Prop) (v1 : Int32) (v2 : Int32) (v3 : Int32) (v4 : Int32) (v6 : Int32) (s0 : Int32) (s1 : Int32) (σ : St) : Prop :=
  K60 v1 v2 v3 v4 (s0 + s1) (v6 + (1 : Int32)) σ
noncomputable def wm_canAll_l60 (P : Int32 → St → Prop) (K47 : Int32 → Int32 → Int32 → Int32 → St → Prop) (n : Nat) : Int32 → Int32 → Int32 → Int32 → Int32 → Int32 → St → Prop :=
  Nat.rec (fun _ _ _ _ _ _ _ => False) (fun _ ih v1 v2 v3 v4 v5 v6 σ => if v1 ≤ v6 then (if (mI_times σ) < v5 then (P (0 : Int32) σ) else (vp_in v4 8 ∧ (if v5 ≤ (mA_store σ (v4).toNatClampNeg) then (K47 v1 v2 v3 (v4 + (1 : Int32)) σ) else (P (0 : Int32) σ)))) else (vp_in v6 11 ∧ (sm_has (mA_stuffs σ (v6).toNatClampNeg) v4 (fun r77 => if r77 = 0 then (wm_canAll_j88 P ih v1 v2 v3 v4 v6 v5 (0 : Int32) σ) else (wm_canAll_j88 P ih v1 v2 v3 v4 v6 v5 (1 : Int32) σ))))) n
theorem wm_canAll_l60_s (P : Int32 → St → Prop) (K47 : Int32 → Int32 → Int32 → Int32 → St → Prop) (n : Nat) (v1 : Int32) (v2 : Int32) (v3 : Int32) (v4 : Int32) (v5 : Int32) (v6 : Int32) (σ : St) : wm_canAll_l60 P K47 (n + 1) v1 v2 v3 v4 v5 v6 σ = (if v1 ≤ v6 then (if (mI_times σ) < v5 then (P (0 : Int32) σ) else (vp_in v4 8 ∧ (if v5 ≤ (mA_store σ (v4).toNatClampNeg) then (K47 v1 v2 v3 (v4 + (1 : Int32)) σ) else (P (0 : Int32) σ)))) else (vp_in v6 11 ∧ (sm_has (mA_stuffs σ (v6).toNatClampNeg) v4 (fun r77 => if r77 = 0 then (wm_canAll_j88 P (wm_canAll_l60 P K47 n) v1 v2 v3 v4 v6 v5 (0 : Int32) σ) else (wm_canAll_j88 P (wm_canAll_l60 P K47 n) v1 v2 v3 v4 v6 v5 (1 : Int32) σ))))) := rfl
noncomputable def wm_canAll_l47 (P : Int32 → St → Prop) (K129 : Int32 → Int32 → Int32 → Int32 → St → Prop) (n : Nat) : Int32 → Int32 → Int32 → Int32 → St → Prop :=
  Nat.rec (fun _ _ _ _ _ => False) (fun _ ih v1 v2 v3 v4 σ => if (8 : Int32) ≤ v4 then (K129 v1 v2 v3 (0 : Int32) σ) else (∃ n60, wm_canAll_l60 P ih n60 v1 v2 v3 v4 (0 : Int32) (0 : Int32) σ)) n
theorem wm_canAll_l47_s (P : Int32 → St → Prop) (K129 : Int32 → Int32 → Int32 → Int32 → St → Prop) (n : Nat) (v1 : Int32) (v2 : Int32) (v3 : Int32) (v4 : Int32) (σ : St) : wm_canAll_l47 P K129 (n + 1) v1 v2 v3 v4 σ = (if (8 : Int32) ≤ v4 then (K129 v1 v2 v3 (0 : Int32) σ) else (∃ n60, wm_canAll_l60 P (wm_canAll_l47 P K129 n) n60 v1 v2 v3 v4 (0 : Int32) (0 : Int32) σ)) := rfl
noncomputable def wm_canAll_l129 (P : Int32 → St → Prop) (K152 : Int32 → Int32 → Int32 → Int32 → St → Prop) (n : Nat) : Int32 → Int32 → Int32 → Int32 → St → Prop :=
  Nat.rec (fun _ _ _ _ _ => False) (fun _ ih v1 v2 v3 v4 σ => if v2 < v4 then (K152 v1 v2 v3 (0 : Int32) σ) else (vp_in v4 2048 ∧ (ih v1 v2 v3 (v4 + (1 : Int32)) (mU_lastsOf σ v4 (0 : Int32))))) n
theorem wm_canAll_l129_s (P : Int32 → St → Prop) (K152 : Int32 → Int32 → Int32 → Int32 → St → Prop) (n : Nat) (v1 : Int32) (v2 : Int32) (v3 : Int32) (v4 : Int32) (σ : St) : wm_canAll_l129 P K152 (n + 1) v1 v2 v3 v4 σ = (if v2 < v4 then (K152 v1 v2 v3 (0 : Int32) σ) else (vp_in v4 2048 ∧ (wm_canAll_l129 P K152 n v1 v2 v3 (v4 + (1 : Int32)) (mU_lastsOf σ v4 (0 : Int32))))) := rfl
def wm_canAll_j291 (P : Int32 → St → Prop) (K220 : Int32 → Int32 → Int32 → Int32 → Int32 → Int32 → Int32 → St → Prop) (v1 : Int32) (v2 : Int32) (v3 : Int32) (v4 : Int32) (v5 : Int32) (v7 : Int32) (s0 : Int32) (σ : St) : Prop :=
  K220 v1 v2 v3 v4 v5 s0 (v7 + (1 : Int32)) σ
def wm_canAll_j286 (P : Int32 → St → Prop) (K220 : Int32 → Int32 → Int32 → Int32 → Int32 → Int32 → Int32 → St → Prop) (v1 : Int32) (v2 : Int32) (v3 : Int32) (v4 : Int32) (v5 : Int32) (v7 : Int32) (σ : St) : Prop :=
  wm_canAll_j291 P K220 v1 v2 v3 v4 v5 v7 (1 : Int32) σ
def wm_canAll_j290 (P : Int32 → St → Prop) (K220 : Int32 → Int32 → Int32 → Int32 → Int32 → Int32 → Int32 → St → Prop) (v1 : Int32) (v2 : Int32) (v3 : Int32) (v4 : Int32) (v5 : Int32) (v7 : Int32) (σ : St) : Prop :=
  wm_canAll_j291 P K220 v1 v2 v3 v4 v5 v7 (0 : Int32) σ
noncomputable def wm_canAll_l220 (P : Int32 → St → Prop) (K299 : Int32 → Int32 → Int32 → Int32 → Int32 → Int32 → St → Prop) (n : Nat) : Int32 → Int32 → Int32 → Int32 → Int32 → Int32 → Int32 → St → Prop :=
  Nat.rec (fun _ _ _ _ _ _ _ _ => False) (fun _ ih v1 v2 v3 v4 v5 v6 v7 σ => if v1 ≤ v7 then (K299 v1 v2 v3 v4 v5 v6 σ) else (if v6 = 0 then (vp_in v4 2048 ∧ (sm_has (mA_lastsOf σ (v4).toNatClampNeg) v7 (fun r240 => if r240 = 0 then (wm_canAll_j290 P ih v1 v2 v3 v4 v5 v7 σ) else (sm_shared σ v7 v5 (fun r251 σ251 => if r251 < (mI_share σ251) then (wm_canAll_j290 P ih v1 v2 v3 v4 v5 v7 σ251) else (if (mI_heat σ251) = (2 : Int32) then (vp_in v7 11 ∧ (vp_in v5 11 ∧ (if (mA_isHot σ251 (v7).toNatClampNeg) = (mA_isHot σ251 (v5).toNatClampNeg) then (wm_canAll_j290 P ih v1 v2 v3 v4 v5 v7 σ251) else (wm_canAll_j286 P ih v1 v2 v3 v4 v5 v7 σ251)))) else (wm_canAll_j286 P ih v1 v2 v3 v4 v5 v7 σ251))))))) else (K299 v1 v2 v3 v4 v5 v6 σ))) n
theorem wm_canAll_l220_s (P : Int32 → St → Prop) (K299 : Int32 → Int32 → Int32 → Int32 → Int32 → Int32 → St → Prop) (n : Nat) (v1 : Int32) (v2 : Int32) (v3 : Int32) (v4 : Int32) (v5 : Int32) (v6 : Int32) (v7 : Int32) (σ : St) : wm_canAll_l220 P K299 (n + 1) v1 v2 v3 v4 v5 v6 v7 σ = (if v1 ≤ v7 then (K299 v1 v2 v3 v4 v5 v6 σ) else (if v6 = 0 then (vp_in v4 2048 ∧ (sm_has (mA_lastsOf σ (v4).toNatClampNeg) v7 (fun r240 => if r240 = 0 then (wm_canAll_j290 P (wm_canAll_l220 P K299 n) v1 v2 v3 v4 v5 v7 σ) else (sm_shared σ v7 v5 (fun r251 σ251 => if r251 < (mI_share σ251) then (wm_canAll_j290 P (wm_canAll_l220 P K299 n) v1 v2 v3 v4 v5 v7 σ251) else (if (mI_heat σ251) = (2 : Int32) then (vp_in v7 11 ∧ (vp_in v5 11 ∧ (if (mA_isHot σ251 (v7).toNatClampNeg) = (mA_isHot σ251 (v5).toNatClampNeg) then (wm_canAll_j290 P (wm_canAll_l220 P K299 n) v1 v2 v3 v4 v5 v7 σ251) else (wm_canAll_j286 P (wm_canAll_l220 P K299 n) v1 v2 v3 v4 v5 v7 σ251)))) else (wm_canAll_j286 P (wm_canAll_l220 P K299 n) v1 v2 v3 v4 v5 v7 σ251))))))) else (K299 v1 v2 v3 v4 v5 v6 σ))) := rfl
def wm_canAll_j323 (P : Int32 → St → Prop) (K161 : Int32 → Int32 → Int32 → Int32 → Int32 → St → Prop) (v1 : Int32) (v2 : Int32) (v3 : Int32) (v4 : Int32) (v5 : Int32) (σ : St) : Prop :=
  K161 v1 v2 v3 v4 (v5 + (1 : Int32)) σ
def wm_canAll_j299 (P : Int32 → St → Prop) (K161 : Int32 → Int32 → Int32 → Int32 → Int32 → St → Prop) (v1 : Int32) (v2 : Int32) (v3 : Int32) (v4 : Int32) (v5 : Int32) (v6 : Int32) (σ : St) : Prop :=
  if v6 = 0 then (wm_canAll_j323 P K161 v1 v2 v3 v4 v5 σ) else (vp_in (v4 ||| ((1 : Int32) <<< (v5 &&& 31))) 2048 ∧ (vp_in (v4 ||| ((1 : Int32) <<< (v5 &&& 31))) 2048 ∧ (wm_canAll_j323 P K161 v1 v2 v3 v4 v5 (mU_lastsOf σ (v4 ||| ((1 : Int32) <<< (v5 &&& 31))) ((mA_lastsOf σ ((v4 ||| ((1 : Int32) <<< (v5 &&& 31)))).toNatClampNeg) ||| ((1 : Int32) <<< (v5 &&& 31)))))))
def wm_canAll_j215 (P : Int32 → St → Prop) (K161 : Int32 → Int32 → Int32 → Int32 → Int32 → St → Prop) (v1 : Int32) (v2 : Int32) (v3 : Int32) (v4 : Int32) (v5 : Int32) (s0 : Int32) (σ : St) : Prop :=
  ∃ n220, wm_canAll_l220 P (wm_canAll_j299 P K161) n220 v1 v2 v3 v4 v5 s0 (0 : Int32) σ
def wm_canAll_j205 (P : Int32 → St → Prop) (K161 : Int32 → Int32 → Int32 → Int32 → Int32 → St → Prop) (v1 : Int32) (v2 : Int32) (v3 : Int32) (v4 : Int32) (v5 : Int32) (σ : St) : Prop :=
  if v4 = 0 then (wm_canAll_j215 P K161 v1 v2 v3 v4 v5 (1 : Int32) σ) else (wm_canAll_j215 P K161 v1 v2 v3 v4 v5 (0 : Int32) σ)
noncomputable def wm_canAll_l161 (P : Int32 → St → Prop) (K152 : Int32 → Int32 → Int32 → Int32 → St → Prop) (n : Nat) : Int32 → Int32 → Int32 → Int32 → Int32 → St → Prop :=
  Nat.rec (fun _ _ _ _ _ _ => False) (fun _ ih v1 v2 v3 v4 v5 σ => if v1 ≤ v5 then (K152 v1 v2 v3 (v4 + (1 : Int32)) σ) else (sm_has v4 v5 (fun r171 => if r171 = 0 then (if (mI_heat σ) = (1 : Int32) then (vp_in v5 11 ∧ (if (mA_isHot σ (v5).toNatClampNeg) = 0 then (if (v4 &&& v3) = 0 then (wm_canAll_j205 P ih v1 v2 v3 v4 v5 σ) else (wm_canAll_j323 P ih v1 v2 v3 v4 v5 σ)) else (wm_canAll_j205 P ih v1 v2 v3 v4 v5 σ))) else (wm_canAll_j205 P ih v1 v2 v3 v4 v5 σ)) else (wm_canAll_j323 P ih v1 v2 v3 v4 v5 σ)))) n
theorem wm_canAll_l161_s (P : Int32 → St → Prop) (K152 : Int32 → Int32 → Int32 → Int32 → St → Prop) (n : Nat) (v1 : Int32) (v2 : Int32) (v3 : Int32) (v4 : Int32) (v5 : Int32) (σ : St) : wm_canAll_l161 P K152 (n + 1) v1 v2 v3 v4 v5 σ = (if v1 ≤ v5 then (K152 v1 v2 v3 (v4 + (1 : Int32)) σ) else (sm_has v4 v5 (fun r171 => if r171 = 0 then (if (mI_heat σ) = (1 : Int32) then (vp_in v5 11 ∧ (if (mA_isHot σ (v5).toNatClampNeg) = 0 then (if (v4 &&& v3) = 0 then (wm_canAll_j205 P (wm_canAll_l161 P K152 n) v1 v2 v3 v4 v5 σ) else (wm_canAll_j323 P (wm_canAll_l161 P K152 n) v1 v2 v3 v4 v5 σ)) else (wm_canAll_j205 P (wm_canAll_l161 P K152 n) v1 v2 v3 v4 v5 σ))) else (wm_canAll_j205 P (wm_canAll_l161 P K152 n) v1 v2 v3 v4 v5 σ)) else (wm_canAll_j323 P (wm_canAll_l161 P K152 n) v1 v2 v3 v4 v5 σ)))) := rfl
noncomputable def wm_canAll_l152 (P : Int32 → St → Prop) (K348 : St → Prop) (K353 : Int32 → St → Prop) (n : Nat) : Int32 → Int32 → Int32 → Int32 → St → Prop :=
  Nat.rec (fun _ _ _ _ _ => False) (fun _ ih v1 v2 v3 v4 σ => if v2 ≤ v4 then (if v1 = 0 then (K348 σ) else (vp_in v2 2048 ∧ (if (mA_lastsOf σ (v2).toNatClampNeg) = 0 then (K353 (0 : Int32) σ) else (K348 σ)))) else (∃ n161, wm_canAll_l161 P ih n161 v1 v2 v3 v4 (0 : Int32) σ)) n
theorem wm_canAll_l152_s (P : Int32 → St → Prop) (K348 : St → Prop) (K353 : Int32 → St → Prop) (n : Nat) (v1 : Int32) (v2 : Int32) (v3 : Int32) (v4 : Int32) (σ : St) : wm_canAll_l152 P K348 K353 (n + 1) v1 v2 v3 v4 σ = (if v2 ≤ v4 then (if v1 = 0 then (K348 σ) else (vp_in v2 2048 ∧ (if (mA_lastsOf σ (v2).toNatClampNeg) = 0 then (K353 (0 : Int32) σ) else (K348 σ)))) else (∃ n161, wm_canAll_l161 P (wm_canAll_l152 P K348 K353 n) n161 v1 v2 v3 v4 (0 : Int32) σ)) := rfl
def wm_canAll_j353 (P : Int32 → St → Prop)  (s0 : Int32) (σ : St) : Prop :=
  nzB s0 ∧ P s0 σ
def wm_canAll_j348 (P : Int32 → St → Prop)  (σ : St) : Prop :=
  wm_canAll_j353 P  (1 : Int32) σ
def wm_canAll (σ : St) (v1 : Int32) (P : Int32 → St → Prop) : Prop :=
  ∃ n11, wm_canAll_l11 P (fun v1 v2 v3 v4 σ => ∃ n47, wm_canAll_l47 P (fun v1 v2 v3 v4 σ => ∃ n129, wm_canAll_l129 P (fun v1 v2 v3 v4 σ => ∃ n152, wm_canAll_l152 P (wm_canAll_j348 P) (wm_canAll_j353 P) n152 v1 v2 v3 v4 σ) n129 v1 v2 v3 v4 σ) n47 v1 v2 v3 v4 σ) n11 v1 (((1 : Int32) <<< (v1 &&& 31)) - (1 : Int32)) (0 : Int32) (0 : Int32) σ
abbrev sm_canAll := @wm_canAll
theorem sm_canAll_ok {σ : St} {v1 : Int32} {P : Int32 → St → Prop} (h : sm_canAll σ v1 P) : wm_canAll σ v1 P := h
/-! m.guest -/
def wm_guest_j22 (P : Int32 → St → Prop)  (σ : St) : Prop :=
  sm_lost σ  (fun r23 σ23 => P r23 σ23)
def wm_guest_j46 (P : Int32 → St → Prop)  (s0 : Int32) (σ : St) : Prop :=
  P s0 σ
def wm_guest (σ : St) (v1 : Int32) (v2 : Int32) (P : Int32 → St → Prop) : Prop :=
  sm_isGuest (mS_thrown σ (0 : Int32)) v1 (fun r7 σ7 => if r7 = 0 then (wm_guest_j22 P  σ7) else (sm_in v2 (0 : Int32) (1 : Int32) (fun r16 => if r16 = 0 then (wm_guest_j22 P  σ7) else (if v2 = 0 then (vp_in v1 6 ∧ (wm_guest_j46 P  (mA_loves σ7 (v1).toNatClampNeg) σ7)) else (vp_in v1 6 ∧ (wm_guest_j46 P  (mA_bars σ7 (v1).toNatClampNeg) σ7))))))
abbrev sm_guest := @wm_guest
theorem sm_guest_ok {σ : St} {v1 : Int32} {v2 : Int32} {P : Int32 → St → Prop} (h : sm_guest σ v1 v2 P) : wm_guest σ v1 v2 P := h
/-! m.isAsked -/
def wm_isAsked_j26 (P : Int32 → St → Prop)  (s0 : Int32) (σ : St) : Prop :=
  nzB s0 ∧ P s0 σ
def wm_isAsked_j21 (P : Int32 → St → Prop)  (σ : St) : Prop :=
  wm_isAsked_j26 P  (1 : Int32) σ
def wm_isAsked (σ : St) (v1 : Int32) (v2 : Int32) (v3 : Int32) (P : Int32 → St → Prop) : Prop :=
  sm_menuAt σ v1 v2 (fun r3 σ3 => if r3 = (99 : Int32) then (wm_isAsked_j21 P  σ3) else (if r3 = v3 then (wm_isAsked_j21 P  σ3) else (wm_isAsked_j26 P  (0 : Int32) σ3)))
abbrev sm_isAsked := @wm_isAsked
theorem sm_isAsked_ok {σ : St} {v1 : Int32} {v2 : Int32} {v3 : Int32} {P : Int32 → St → Prop} (h : sm_isAsked σ v1 v2 v3 P) : wm_isAsked σ v1 v2 v3 P := h
/-! m.isWhole -/
noncomputable def wm_isWhole_l12 (P : Int32 → St → Prop)  (n : Nat) : Int32 → Int32 → St → Prop :=
  Nat.rec (fun _ _ _ => False) (fun _ ih v1 v2 σ => vp_in v1 3 ∧ (if (mA_menuLong σ (v1).toNatClampNeg) ≤ v2 then (P (1 : Int32) σ) else (vp_in (((10 : Int32) * v1) + v2) 30 ∧ (if (mA_menus σ ((((10 : Int32) * v1) + v2)).toNatClampNeg) = (99 : Int32) then (P (0 : Int32) σ) else (ih v1 (v2 + (1 : Int32)) σ))))) n
theorem wm_isWhole_l12_s (P : Int32 → St → Prop)  (n : Nat) (v1 : Int32) (v2 : Int32) (σ : St) : wm_isWhole_l12 P  (n + 1) v1 v2 σ = (vp_in v1 3 ∧ (if (mA_menuLong σ (v1).toNatClampNeg) ≤ v2 then (P (1 : Int32) σ) else (vp_in (((10 : Int32) * v1) + v2) 30 ∧ (if (mA_menus σ ((((10 : Int32) * v1) + v2)).toNatClampNeg) = (99 : Int32) then (P (0 : Int32) σ) else (wm_isWhole_l12 P  n v1 (v2 + (1 : Int32)) σ))))) := rfl
def wm_isWhole (σ : St) (v1 : Int32) (P : Int32 → St → Prop) : Prop :=
  sm_isMenu σ v1 (fun r2 σ2 => if r2 = 0 then (P (0 : Int32) σ2) else (∃ n12, wm_isWhole_l12 P  n12 v1 (0 : Int32) σ2))
/-! m.law -/
def wm_law_j73 (P : Int32 → St → Prop)  (v3 : Int32) (σ : St) : Prop :=
  P v3 σ
def wm_law_j42 (P : Int32 → St → Prop)  (v1 : Int32) (v2 : Int32) (s0 : Int32) (σ : St) : Prop :=
  if v1 = 0 then (wm_law_j73 P  s0 (mS_share σ v2)) else (if v1 = (1 : Int32) then (wm_law_j73 P  s0 (mS_times σ v2)) else (wm_law_j73 P  s0 (mS_heat σ v2)))
def wm_law (σ : St) (v1 : Int32) (v2 : Int32) (P : Int32 → St → Prop) : Prop :=
  sm_isLaw v1 v2 (fun r7 => if r7 = 0 then (P (-1 : Int32) (mS_thrown σ (0 : Int32))) else (if v1 = 0 then (wm_law_j42 P  v1 v2 (mI_share (mS_thrown σ (0 : Int32))) (mS_thrown σ (0 : Int32))) else (if v1 = (1 : Int32) then (wm_law_j42 P  v1 v2 (mI_times (mS_thrown σ (0 : Int32))) (mS_thrown σ (0 : Int32))) else (wm_law_j42 P  v1 v2 (mI_heat (mS_thrown σ (0 : Int32))) (mS_thrown σ (0 : Int32))))))
abbrev sm_law := @wm_law
theorem sm_law_ok {σ : St} {v1 : Int32} {v2 : Int32} {P : Int32 → St → Prop} (h : sm_law σ v1 v2 P) : wm_law σ v1 v2 P := h
/-! m.letters -/
noncomputable def wm_letters_l4 (P : Int32 → St → Prop) (K73 : Int32 → Int32 → St → Prop) (n : Nat) : Int32 → Int32 → Int32 → St → Prop :=
  Nat.rec (fun _ _ _ _ => False) (fun _ ih v1 v2 v3 σ => sm_fine σ  (fun r5 σ5 => if r5 = 0 then (K73 v1 v2 σ5) else (sm_here σ5  (fun r12 σ12 => sm_in r12 (97 : Int32) (104 : Int32) (fun r19 => if r19 = 0 then (K73 v1 v2 σ12) else (sm_here σ12  (fun r26 σ26 => if v3 < (r26 - (97 : Int32)) then (ih v1 (v2 ||| ((1 : Int32) <<< ((r26 - (97 : Int32)) &&& 31))) (r26 - (97 : Int32)) (mS_at σ26 ((mI_at σ26) + (1 : Int32)))) else (sm_fault σ26 (mI_at σ26) (fun σ45 => P (0 : Int32) σ45))))))))) n
theorem wm_letters_l4_s (P : Int32 → St → Prop) (K73 : Int32 → Int32 → St → Prop) (n : Nat) (v1 : Int32) (v2 : Int32) (v3 : Int32) (σ : St) : wm_letters_l4 P K73 (n + 1) v1 v2 v3 σ = (sm_fine σ  (fun r5 σ5 => if r5 = 0 then (K73 v1 v2 σ5) else (sm_here σ5  (fun r12 σ12 => sm_in r12 (97 : Int32) (104 : Int32) (fun r19 => if r19 = 0 then (K73 v1 v2 σ12) else (sm_here σ12  (fun r26 σ26 => if v3 < (r26 - (97 : Int32)) then (wm_letters_l4 P K73 n v1 (v2 ||| ((1 : Int32) <<< ((r26 - (97 : Int32)) &&& 31))) (r26 - (97 : Int32)) (mS_at σ26 ((mI_at σ26) + (1 : Int32)))) else (sm_fault σ26 (mI_at σ26) (fun σ45 => P (0 : Int32) σ45))))))))) := rfl
def wm_letters_j89 (P : Int32 → St → Prop)  (v2 : Int32) (σ : St) : Prop :=
  P v2 σ
def wm_letters_j73 (P : Int32 → St → Prop)  (v1 : Int32) (v2 : Int32) (σ : St) : Prop :=
  if v1 = 0 then (wm_letters_j89 P  v2 σ) else (if v2 = 0 then (sm_fault σ (mI_at σ) (fun σ86 => wm_letters_j89 P  v2 σ86)) else (wm_letters_j89 P  v2 σ))
def wm_letters (σ : St) (v1 : Int32) (P : Int32 → St → Prop) : Prop :=
  ∃ n4, wm_letters_l4 P (wm_letters_j73 P) n4 v1 (0 : Int32) (-1 : Int32) σ
abbrev sm_letters := @wm_letters
theorem sm_letters_ok {σ : St} {v1 : Int32} {P : Int32 → St → Prop} (h : sm_letters σ v1 P) : wm_letters σ v1 P := h
/-! m.menu -/
def wm_menu_j115 (P : Int32 → St → Prop) (K36 : Int32 → St → Prop) (v1 : Int32) (σ : St) : Prop :=
  K36 v1 σ
def wm_menu_j105 (P : Int32 → St → Prop) (K36 : Int32 → St → Prop) (v1 : Int32) (σ : St) : Prop :=
  wm_menu_j115 P K36 v1 (mS_at σ ((mI_at σ) + (1 : Int32)))
noncomputable def wm_menu_l36 (P : Int32 → St → Prop) (K118 : Int32 → St → Prop) (n : Nat) : Int32 → St → Prop :=
  Nat.rec (fun _ _ => False) (fun _ ih v1 σ => sm_fine σ  (fun r37 σ37 => if r37 = 0 then (K118 v1 σ37) else (if (mI_size σ37) ≤ (mI_at σ37) then (K118 v1 σ37) else (if (mI_top σ37) ≤ (mI_at σ37) then (K118 v1 σ37) else (sm_here σ37  (fun r66 σ66 => if r66 = (63 : Int32) then (wm_menu_j105 P ih v1 σ66) else (sm_in r66 (65 : Int32) (((65 : Int32) + (mI_dishes σ66)) - (1 : Int32)) (fun r88 => if r88 = 0 then (sm_fault σ66 (mI_at σ66) (fun σ99 => wm_menu_j115 P ih v1 σ99)) else (wm_menu_j105 P ih v1 σ66))))))))) n
theorem wm_menu_l36_s (P : Int32 → St → Prop) (K118 : Int32 → St → Prop) (n : Nat) (v1 : Int32) (σ : St) : wm_menu_l36 P K118 (n + 1) v1 σ = (sm_fine σ  (fun r37 σ37 => if r37 = 0 then (K118 v1 σ37) else (if (mI_size σ37) ≤ (mI_at σ37) then (K118 v1 σ37) else (if (mI_top σ37) ≤ (mI_at σ37) then (K118 v1 σ37) else (sm_here σ37  (fun r66 σ66 => if r66 = (63 : Int32) then (wm_menu_j105 P (wm_menu_l36 P K118 n) v1 σ66) else (sm_in r66 (65 : Int32) (((65 : Int32) + (mI_dishes σ66)) - (1 : Int32)) (fun r88 => if r88 = 0 then (sm_fault σ66 (mI_at σ66) (fun σ99 => wm_menu_j115 P (wm_menu_l36 P K118 n) v1 σ99)) else (wm_menu_j105 P (wm_menu_l36 P K118 n) v1 σ66))))))))) := rfl
def wm_menu_j196 (P : Int32 → St → Prop) (K153 : Int32 → Int32 → St → Prop) (v1 : Int32) (v2 : Int32) (s1 : Int32) (s2 : Int32) (σ : St) : Prop :=
  vp_in s1 30 ∧ (K153 v1 (v2 + (1 : Int32)) (mU_menus σ s1 s2))
noncomputable def wm_menu_l153 (P : Int32 → St → Prop)  (n : Nat) : Int32 → Int32 → St → Prop :=
  Nat.rec (fun _ _ _ => False) (fun _ ih v1 v2 σ => if (mI_size σ) ≤ v2 then (vp_in v1 3 ∧ (P (mI_size (mU_menuLong σ v1 (mI_size σ))) (mU_menuLong σ v1 (mI_size σ)))) else (vp_in v2 80 ∧ (if (mA_text σ (v2).toNatClampNeg) = (63 : Int32) then (wm_menu_j196 P ih v1 v2 (((10 : Int32) * v1) + v2) (99 : Int32) σ) else (vp_in v2 80 ∧ (wm_menu_j196 P ih v1 v2 (((10 : Int32) * v1) + v2) ((mA_text σ (v2).toNatClampNeg) - (65 : Int32)) σ))))) n
theorem wm_menu_l153_s (P : Int32 → St → Prop)  (n : Nat) (v1 : Int32) (v2 : Int32) (σ : St) : wm_menu_l153 P  (n + 1) v1 v2 σ = (if (mI_size σ) ≤ v2 then (vp_in v1 3 ∧ (P (mI_size (mU_menuLong σ v1 (mI_size σ))) (mU_menuLong σ v1 (mI_size σ)))) else (vp_in v2 80 ∧ (if (mA_text σ (v2).toNatClampNeg) = (63 : Int32) then (wm_menu_j196 P (wm_menu_l153 P  n) v1 v2 (((10 : Int32) * v1) + v2) (99 : Int32) σ) else (vp_in v2 80 ∧ (wm_menu_j196 P (wm_menu_l153 P  n) v1 v2 (((10 : Int32) * v1) + v2) ((mA_text σ (v2).toNatClampNeg) - (65 : Int32)) σ))))) := rfl
def wm_menu_j137 (P : Int32 → St → Prop)  (v1 : Int32) (σ : St) : Prop :=
  sm_fine σ  (fun r138 σ138 => if r138 = 0 then (P ((-1 : Int32) - (mI_wrong σ138)) σ138) else (∃ n153, wm_menu_l153 P  n153 v1 (0 : Int32) σ138))
def wm_menu_j118 (P : Int32 → St → Prop)  (v1 : Int32) (σ : St) : Prop :=
  if (mI_size σ) ≤ (mI_at σ) then (wm_menu_j137 P  v1 σ) else (sm_fault σ (mI_at σ) (fun σ134 => wm_menu_j137 P  v1 σ134))
def wm_menu (σ : St) (v1 : Int32) (P : Int32 → St → Prop) : Prop :=
  sm_begin (mS_thrown σ (0 : Int32)) (1 : Int32) (mI_typed (mS_thrown σ (0 : Int32))) (10 : Int32) (fun σ16 => sm_in v1 (0 : Int32) (2 : Int32) (fun r27 => if r27 = 0 then (P (-100 : Int32) (mS_typed σ16 (0 : Int32))) else (∃ n36, wm_menu_l36 P (wm_menu_j118 P) n36 v1 (mS_typed σ16 (0 : Int32)))))
abbrev sm_menu := @wm_menu
theorem sm_menu_ok {σ : St} {v1 : Int32} {P : Int32 → St → Prop} (h : sm_menu σ v1 P) : wm_menu σ v1 P := h
/-! m.number -/
noncomputable def wm_number_l16 (P : Int32 → St → Prop) (K66 : Int32 → Int32 → St → Prop) (n : Nat) : Int32 → Int32 → Int32 → St → Prop :=
  Nat.rec (fun _ _ _ _ => False) (fun _ ih v1 v2 v3 σ => if (v2 + v1) ≤ (mI_at σ) then (K66 v2 v3 σ) else (sm_here σ  (fun r27 σ27 => sm_in r27 (48 : Int32) (57 : Int32) (fun r34 => if r34 = 0 then (K66 v2 v3 σ27) else (sm_here σ27  (fun r45 σ45 => ih v1 v2 ((((10 : Int32) * v3) + r45) - (48 : Int32)) (mS_at σ45 ((mI_at σ45) + (1 : Int32))))))))) n
theorem wm_number_l16_s (P : Int32 → St → Prop) (K66 : Int32 → Int32 → St → Prop) (n : Nat) (v1 : Int32) (v2 : Int32) (v3 : Int32) (σ : St) : wm_number_l16 P K66 (n + 1) v1 v2 v3 σ = (if (v2 + v1) ≤ (mI_at σ) then (K66 v2 v3 σ) else (sm_here σ  (fun r27 σ27 => sm_in r27 (48 : Int32) (57 : Int32) (fun r34 => if r34 = 0 then (K66 v2 v3 σ27) else (sm_here σ27  (fun r45 σ45 => wm_number_l16 P K66 n v1 v2 ((((10 : Int32) * v3) + r45) - (48 : Int32)) (mS_at σ45 ((mI_at σ45) + (1 : Int32))))))))) := rfl
def wm_number_j82 (P : Int32 → St → Prop)  (v3 : Int32) (σ : St) : Prop :=
  P v3 σ
def wm_number_j66 (P : Int32 → St → Prop)  (v2 : Int32) (v3 : Int32) (σ : St) : Prop :=
  if (mI_at σ) = v2 then (sm_fault σ (mI_at σ) (fun σ79 => wm_number_j82 P  v3 σ79)) else (wm_number_j82 P  v3 σ)
def wm_number (σ : St) (v1 : Int32) (P : Int32 → St → Prop) : Prop :=
  sm_fine σ  (fun r1 σ1 => if r1 = 0 then (P (0 : Int32) σ1) else (∃ n16, wm_number_l16 P (wm_number_j66 P) n16 v1 (mI_at σ1) (0 : Int32) σ1))
abbrev sm_number := @wm_number
theorem sm_number_ok {σ : St} {v1 : Int32} {P : Int32 → St → Prop} (h : sm_number σ v1 P) : wm_number σ v1 P := h
/-! m.refusal -/
def wm_refusal_j120 (P : Int32 → St → Prop)  (s0 : Int32) (σ : St) : Prop :=
  P s0 σ
def wm_refusal_j91 (P : Int32 → St → Prop)  (v1 : Int32) (v3 : Int32) (σ : St) : Prop :=
  sm_fits σ v1 v3 (0 : Int32) (fun r95 σ95 => if r95 = 0 then (P (-5 : Int32) σ95) else (sm_fits σ95 v1 v3 (1 : Int32) (fun r108 σ108 => if r108 = 0 then (wm_refusal_j120 P  (-6 : Int32) σ108) else (wm_refusal_j120 P  (0 : Int32) σ108))))
def wm_refusal_j60 (P : Int32 → St → Prop)  (v1 : Int32) (v2 : Int32) (v3 : Int32) (σ : St) : Prop :=
  if (mI_heat σ) = (2 : Int32) then (if v2 = (-1 : Int32) then (wm_refusal_j91 P  v1 v3 σ) else (vp_in v2 11 ∧ (vp_in v3 11 ∧ (if (mA_isHot σ (v2).toNatClampNeg) = (mA_isHot σ (v3).toNatClampNeg) then (P (-4 : Int32) σ) else (wm_refusal_j91 P  v1 v3 σ))))) else (wm_refusal_j91 P  v1 v3 σ)
def wm_refusal_j32 (P : Int32 → St → Prop)  (v1 : Int32) (v2 : Int32) (v3 : Int32) (σ : St) : Prop :=
  if (mI_heat σ) = (1 : Int32) then (vp_in v3 11 ∧ (if (mA_isHot σ (v3).toNatClampNeg) = 0 then (sm_hasHot σ v1 (fun r51 σ51 => if r51 = 0 then (wm_refusal_j60 P  v1 v2 v3 σ51) else (P (-4 : Int32) σ51))) else (wm_refusal_j60 P  v1 v2 v3 σ))) else (wm_refusal_j60 P  v1 v2 v3 σ)
def wm_refusal (σ : St) (v1 : Int32) (v2 : Int32) (v3 : Int32) (P : Int32 → St → Prop) : Prop :=
  sm_has v1 v3 (fun r2 => if r2 = 0 then (if v2 = (-1 : Int32) then (wm_refusal_j32 P  v1 v2 v3 σ) else (sm_shared σ v2 v3 (fun r19 σ19 => if (mI_share σ19) ≤ r19 then (wm_refusal_j32 P  v1 v2 v3 σ19) else (P (-3 : Int32) σ19)))) else (P (-2 : Int32) σ))
/-! m.swap -/
def wm_swap (σ : St) (v1 : Int32) (v2 : Int32) (v3 : Int32) (P : Int32 → St → Prop) : Prop :=
  sm_isMenu (mS_thrown σ (0 : Int32)) v1 (fun r7 σ7 => if r7 = 0 then (P (0 : Int32) σ7) else (vp_in v1 3 ∧ (sm_in v2 (0 : Int32) ((mA_menuLong σ7 (v1).toNatClampNeg) - (1 : Int32)) (fun r23 => if r23 = 0 then (P (0 : Int32) σ7) else (vp_in v1 3 ∧ (sm_in v3 (0 : Int32) ((mA_menuLong σ7 (v1).toNatClampNeg) - (1 : Int32)) (fun r39 => if r39 = 0 then (P (0 : Int32) σ7) else (if v2 = v3 then (P (0 : Int32) σ7) else (vp_in (((10 : Int32) * v1) + v2) 30 ∧ (vp_in (((10 : Int32) * v1) + v3) 30 ∧ (vp_in (((10 : Int32) * v1) + v2) 30 ∧ (vp_in (((10 : Int32) * v1) + v3) 30 ∧ (P (1 : Int32) (mU_menus (mU_menus σ7 (((10 : Int32) * v1) + v2) (mA_menus σ7 ((((10 : Int32) * v1) + v3)).toNatClampNeg)) (((10 : Int32) * v1) + v3) (mA_menus σ7 ((((10 : Int32) * v1) + v2)).toNatClampNeg)))))))))))))))
abbrev sm_swap := @wm_swap
theorem sm_swap_ok {σ : St} {v1 : Int32} {v2 : Int32} {v3 : Int32} {P : Int32 → St → Prop} (h : sm_swap σ v1 v2 v3 P) : wm_swap σ v1 v2 v3 P := h
/-! m.turn -/
noncomputable def wm_turn_l26 (P : Int32 → St → Prop)  (n : Nat) : Int32 → Int32 → Int32 → St → Prop :=
  Nat.rec (fun _ _ _ _ => False) (fun _ ih v1 v2 v3 σ => if v3 ≤ v2 then (P (1 : Int32) σ) else (vp_in (((10 : Int32) * v1) + v2) 30 ∧ (vp_in (((10 : Int32) * v1) + v3) 30 ∧ (vp_in (((10 : Int32) * v1) + v2) 30 ∧ (vp_in (((10 : Int32) * v1) + v3) 30 ∧ (ih v1 (v2 + (1 : Int32)) (v3 + (-1 : Int32)) (mU_menus (mU_menus σ (((10 : Int32) * v1) + v2) (mA_menus σ ((((10 : Int32) * v1) + v3)).toNatClampNeg)) (((10 : Int32) * v1) + v3) (mA_menus σ ((((10 : Int32) * v1) + v2)).toNatClampNeg)))))))) n
theorem wm_turn_l26_s (P : Int32 → St → Prop)  (n : Nat) (v1 : Int32) (v2 : Int32) (v3 : Int32) (σ : St) : wm_turn_l26 P  (n + 1) v1 v2 v3 σ = (if v3 ≤ v2 then (P (1 : Int32) σ) else (vp_in (((10 : Int32) * v1) + v2) 30 ∧ (vp_in (((10 : Int32) * v1) + v3) 30 ∧ (vp_in (((10 : Int32) * v1) + v2) 30 ∧ (vp_in (((10 : Int32) * v1) + v3) 30 ∧ (wm_turn_l26 P  n v1 (v2 + (1 : Int32)) (v3 + (-1 : Int32)) (mU_menus (mU_menus σ (((10 : Int32) * v1) + v2) (mA_menus σ ((((10 : Int32) * v1) + v3)).toNatClampNeg)) (((10 : Int32) * v1) + v3) (mA_menus σ ((((10 : Int32) * v1) + v2)).toNatClampNeg)))))))) := rfl
def wm_turn (σ : St) (v1 : Int32) (P : Int32 → St → Prop) : Prop :=
  sm_isMenu (mS_thrown σ (0 : Int32)) v1 (fun r7 σ7 => if r7 = 0 then (P (0 : Int32) σ7) else (vp_in v1 3 ∧ (∃ n26, wm_turn_l26 P  n26 v1 (0 : Int32) ((mA_menuLong σ7 (v1).toNatClampNeg) - (1 : Int32)) σ7)))
abbrev sm_turn := @wm_turn
theorem sm_turn_ok {σ : St} {v1 : Int32} {P : Int32 → St → Prop} (h : sm_turn σ v1 P) : wm_turn σ v1 P := h
/-! m.beside -/
def wm_beside_j22 (P : Int32 → St → Prop)  (s0 : Int32) (σ : St) : Prop :=
  P s0 σ
def wm_beside (σ : St) (v1 : Int32) (P : Int32 → St → Prop) : Prop :=
  sm_isDish (mS_thrown σ (0 : Int32)) v1 (fun r7 σ7 => if r7 = 0 then (wm_beside_j22 P  (-1 : Int32) σ7) else (sm_besides σ7 v1 (fun r15 σ15 => wm_beside_j22 P  r15 σ15)))
abbrev sm_beside := @wm_beside
theorem sm_beside_ok {σ : St} {v1 : Int32} {P : Int32 → St → Prop} (h : sm_beside σ v1 P) : wm_beside σ v1 P := h
/-! m.can -/
def wm_can_j41 (P : Int32 → St → Prop) (K9 : Int32 → Int32 → St → Prop) (v2 : Int32) (s0 : Int32) (s1 : Int32) (σ : St) : Prop :=
  K9 (s0 ||| s1) (v2 + (1 : Int32)) σ
noncomputable def wm_can_l9 (P : Int32 → St → Prop)  (n : Nat) : Int32 → Int32 → St → Prop :=
  Nat.rec (fun _ _ _ => False) (fun _ ih v1 v2 σ => if (mI_dishes σ) ≤ v2 then (P v1 σ) else (sm_servedSet σ  (fun r20 σ20 => sm_servedLast σ20  (fun r24 σ24 => sm_refusal σ24 r20 r24 v2 (fun r28 σ28 => if r28 = 0 then (wm_can_j41 P ih v2 v1 ((1 : Int32) <<< (v2 &&& 31)) σ28) else (wm_can_j41 P ih v2 v1 (0 : Int32) σ28)))))) n
theorem wm_can_l9_s (P : Int32 → St → Prop)  (n : Nat) (v1 : Int32) (v2 : Int32) (σ : St) : wm_can_l9 P  (n + 1) v1 v2 σ = (if (mI_dishes σ) ≤ v2 then (P v1 σ) else (sm_servedSet σ  (fun r20 σ20 => sm_servedLast σ20  (fun r24 σ24 => sm_refusal σ24 r20 r24 v2 (fun r28 σ28 => if r28 = 0 then (wm_can_j41 P (wm_can_l9 P  n) v2 v1 ((1 : Int32) <<< (v2 &&& 31)) σ28) else (wm_can_j41 P (wm_can_l9 P  n) v2 v1 (0 : Int32) σ28)))))) := rfl
def wm_can (σ : St)  (P : Int32 → St → Prop) : Prop :=
  ∃ n9, wm_can_l9 P  n9 (0 : Int32) (0 : Int32) (mS_thrown σ (0 : Int32))
abbrev sm_can := @wm_can
theorem sm_can_ok {σ : St} {P : Int32 → St → Prop} (h : sm_can σ  P) : wm_can σ  P := h
/-! m.hearths -/
def wm_hearths_j86 (P : Int32 → St → Prop) (K32 : Int32 → Int32 → Int32 → Int32 → Int32 → St → Prop) (v1 : Int32) (v2 : Int32) (v3 : Int32) (v5 : Int32) (s0 : Int32) (s1 : Int32) (σ : St) : Prop :=
  K32 v1 v2 v3 (s0 + s1) (v5 + (1 : Int32)) σ
def wm_hearths_j85 (P : Int32 → St → Prop) (K32 : Int32 → Int32 → Int32 → Int32 → Int32 → St → Prop) (v1 : Int32) (v2 : Int32) (v3 : Int32) (v5 : Int32) (s0 : Int32) (σ : St) : Prop :=
  wm_hearths_j86 P K32 v1 v2 v3 v5 s0 (0 : Int32) σ
noncomputable def wm_hearths_l32 (P : Int32 → St → Prop) (K20 : Int32 → Int32 → Int32 → St → Prop) (n : Nat) : Int32 → Int32 → Int32 → Int32 → Int32 → St → Prop :=
  Nat.rec (fun _ _ _ _ _ _ => False) (fun _ ih v1 v2 v3 v4 v5 σ => vp_in v1 3 ∧ (if (mA_menuLong σ (v1).toNatClampNeg) ≤ v5 then (K20 v1 (jmax v2 v4) (v3 + (1 : Int32)) σ) else (if ((10 : Int32) + v5) ≤ v3 then (wm_hearths_j85 P ih v1 v2 v3 v5 v4 σ) else (vp_in (((10 : Int32) * v1) + v5) 30 ∧ (vp_in (mA_menus σ ((((10 : Int32) * v1) + v5)).toNatClampNeg) 11 ∧ (if v3 < (((10 : Int32) + v5) - (mA_hours σ ((mA_menus σ ((((10 : Int32) * v1) + v5)).toNatClampNeg)).toNatClampNeg)) then (wm_hearths_j85 P ih v1 v2 v3 v5 v4 σ) else (wm_hearths_j86 P ih v1 v2 v3 v5 v4 (1 : Int32) σ))))))) n
theorem wm_hearths_l32_s (P : Int32 → St → Prop) (K20 : Int32 → Int32 → Int32 → St → Prop) (n : Nat) (v1 : Int32) (v2 : Int32) (v3 : Int32) (v4 : Int32) (v5 : Int32) (σ : St) : wm_hearths_l32 P K20 (n + 1) v1 v2 v3 v4 v5 σ = (vp_in v1 3 ∧ (if (mA_menuLong σ (v1).toNatClampNeg) ≤ v5 then (K20 v1 (jmax v2 v4) (v3 + (1 : Int32)) σ) else (if ((10 : Int32) + v5) ≤ v3 then (wm_hearths_j85 P (wm_hearths_l32 P K20 n) v1 v2 v3 v5 v4 σ) else (vp_in (((10 : Int32) * v1) + v5) 30 ∧ (vp_in (mA_menus σ ((((10 : Int32) * v1) + v5)).toNatClampNeg) 11 ∧ (if v3 < (((10 : Int32) + v5) - (mA_hours σ ((mA_menus σ ((((10 : Int32) * v1) + v5)).toNatClampNeg)).toNatClampNeg)) then (wm_hearths_j85 P (wm_hearths_l32 P K20 n) v1 v2 v3 v5 v4 σ) else (wm_hearths_j86 P (wm_hearths_l32 P K20 n) v1 v2 v3 v5 v4 (1 : Int32) σ))))))) := rfl
noncomputable def wm_hearths_l20 (P : Int32 → St → Prop) (K115 : Int32 → Int32 → Int32 → St → Prop) (n : Nat) : Int32 → Int32 → Int32 → St → Prop :=
  Nat.rec (fun _ _ _ _ => False) (fun _ ih v1 v2 v3 σ => if (20 : Int32) ≤ v3 then (K115 v1 v2 (0 : Int32) (mS_rowMany σ (0 : Int32))) else (∃ n32, wm_hearths_l32 P ih n32 v1 v2 v3 (0 : Int32) (0 : Int32) σ)) n
theorem wm_hearths_l20_s (P : Int32 → St → Prop) (K115 : Int32 → Int32 → Int32 → St → Prop) (n : Nat) (v1 : Int32) (v2 : Int32) (v3 : Int32) (σ : St) : wm_hearths_l20 P K115 (n + 1) v1 v2 v3 σ = (if (20 : Int32) ≤ v3 then (K115 v1 v2 (0 : Int32) (mS_rowMany σ (0 : Int32))) else (∃ n32, wm_hearths_l32 P (wm_hearths_l20 P K115 n) n32 v1 v2 v3 (0 : Int32) (0 : Int32) σ)) := rfl
noncomputable def wm_hearths_l115 (P : Int32 → St → Prop)  (n : Nat) : Int32 → Int32 → Int32 → St → Prop :=
  Nat.rec (fun _ _ _ _ => False) (fun _ ih v1 v2 v3 σ => vp_in v1 3 ∧ (if (mA_menuLong σ (v1).toNatClampNeg) ≤ v3 then (P v2 σ) else (vp_in (((10 : Int32) * v1) + v3) 30 ∧ (vp_in (mA_menus σ ((((10 : Int32) * v1) + v3)).toNatClampNeg) 11 ∧ (sm_tell σ (((10 : Int32) + v3) - (mA_hours σ ((mA_menus σ ((((10 : Int32) * v1) + v3)).toNatClampNeg)).toNatClampNeg)) (fun σ147 => ih v1 v2 (v3 + (1 : Int32)) σ147)))))) n
theorem wm_hearths_l115_s (P : Int32 → St → Prop)  (n : Nat) (v1 : Int32) (v2 : Int32) (v3 : Int32) (σ : St) : wm_hearths_l115 P  (n + 1) v1 v2 v3 σ = (vp_in v1 3 ∧ (if (mA_menuLong σ (v1).toNatClampNeg) ≤ v3 then (P v2 σ) else (vp_in (((10 : Int32) * v1) + v3) 30 ∧ (vp_in (mA_menus σ ((((10 : Int32) * v1) + v3)).toNatClampNeg) 11 ∧ (sm_tell σ (((10 : Int32) + v3) - (mA_hours σ ((mA_menus σ ((((10 : Int32) * v1) + v3)).toNatClampNeg)).toNatClampNeg)) (fun σ147 => wm_hearths_l115 P  n v1 v2 (v3 + (1 : Int32)) σ147)))))) := rfl
def wm_hearths (σ : St) (v1 : Int32) (P : Int32 → St → Prop) : Prop :=
  sm_isWhole (mS_thrown σ (0 : Int32)) v1 (fun r7 σ7 => if r7 = 0 then (P (-3 : Int32) σ7) else (∃ n20, wm_hearths_l20 P (fun v1 v2 v3 σ => ∃ n115, wm_hearths_l115 P  n115 v1 v2 v3 σ) n20 v1 (0 : Int32) (0 : Int32) σ7))
abbrev sm_hearths := @wm_hearths
theorem sm_hearths_ok {σ : St} {v1 : Int32} {P : Int32 → St → Prop} (h : sm_hearths σ v1 P) : wm_hearths σ v1 P := h
/-! m.late -/
noncomputable def wm_late_l30 (P : Int32 → St → Prop) (K58 : Int32 → Int32 → Int32 → Int32 → St → Prop) (n : Nat) : Int32 → Int32 → Int32 → St → Prop :=
  Nat.rec (fun _ _ _ _ => False) (fun _ ih v1 v2 v3 σ => if v2 ≤ v3 then (K58 v1 v2 (0 : Int32) (0 : Int32) (mS_rowMany σ (0 : Int32))) else (vp_in v3 9 ∧ (ih v1 v2 (v3 + (1 : Int32)) (mU_freeAt σ v3 (0 : Int32))))) n
theorem wm_late_l30_s (P : Int32 → St → Prop) (K58 : Int32 → Int32 → Int32 → Int32 → St → Prop) (n : Nat) (v1 : Int32) (v2 : Int32) (v3 : Int32) (σ : St) : wm_late_l30 P K58 (n + 1) v1 v2 v3 σ = (if v2 ≤ v3 then (K58 v1 v2 (0 : Int32) (0 : Int32) (mS_rowMany σ (0 : Int32))) else (vp_in v3 9 ∧ (wm_late_l30 P K58 n v1 v2 (v3 + (1 : Int32)) (mU_freeAt σ v3 (0 : Int32))))) := rfl
def wm_late_j102 (P : Int32 → St → Prop) (K75 : Int32 → Int32 → Int32 → Int32 → Int32 → Int32 → St → Prop) (v1 : Int32) (v2 : Int32) (v3 : Int32) (v4 : Int32) (v5 : Int32) (v6 : Int32) (σ : St) : Prop :=
  K75 v1 v2 v3 v4 v5 (v6 + (1 : Int32)) σ
noncomputable def wm_late_l75 (P : Int32 → St → Prop) (K58 : Int32 → Int32 → Int32 → Int32 → St → Prop) (n : Nat) : Int32 → Int32 → Int32 → Int32 → Int32 → Int32 → St → Prop :=
  Nat.rec (fun _ _ _ _ _ _ _ => False) (fun _ ih v1 v2 v3 v4 v5 v6 σ => if v2 ≤ v6 then (vp_in v5 9 ∧ (vp_in (((10 : Int32) * v1) + v4) 30 ∧ (vp_in (mA_menus σ ((((10 : Int32) * v1) + v4)).toNatClampNeg) 11 ∧ (vp_in v5 9 ∧ (vp_in v5 9 ∧ (sm_tell (mU_freeAt σ v5 ((mA_freeAt σ (v5).toNatClampNeg) + (mA_hours σ ((mA_menus σ ((((10 : Int32) * v1) + v4)).toNatClampNeg)).toNatClampNeg))) (mA_freeAt (mU_freeAt σ v5 ((mA_freeAt σ (v5).toNatClampNeg) + (mA_hours σ ((mA_menus σ ((((10 : Int32) * v1) + v4)).toNatClampNeg)).toNatClampNeg))) (v5).toNatClampNeg) (fun σ143 => vp_in v5 9 ∧ (K58 v1 v2 (jmax v3 (((mA_freeAt σ143 (v5).toNatClampNeg) - (10 : Int32)) - v4)) (v4 + (1 : Int32)) σ143)))))))) else (vp_in v6 9 ∧ (vp_in v5 9 ∧ (if (mA_freeAt σ (v5).toNatClampNeg) ≤ (mA_freeAt σ (v6).toNatClampNeg) then (wm_late_j102 P ih v1 v2 v3 v4 v5 v6 σ) else (wm_late_j102 P ih v1 v2 v3 v4 v6 v6 σ))))) n
theorem wm_late_l75_s (P : Int32 → St → Prop) (K58 : Int32 → Int32 → Int32 → Int32 → St → Prop) (n : Nat) (v1 : Int32) (v2 : Int32) (v3 : Int32) (v4 : Int32) (v5 : Int32) (v6 : Int32) (σ : St) : wm_late_l75 P K58 (n + 1) v1 v2 v3 v4 v5 v6 σ = (if v2 ≤ v6 then (vp_in v5 9 ∧ (vp_in (((10 : Int32) * v1) + v4) 30 ∧ (vp_in (mA_menus σ ((((10 : Int32) * v1) + v4)).toNatClampNeg) 11 ∧ (vp_in v5 9 ∧ (vp_in v5 9 ∧ (sm_tell (mU_freeAt σ v5 ((mA_freeAt σ (v5).toNatClampNeg) + (mA_hours σ ((mA_menus σ ((((10 : Int32) * v1) + v4)).toNatClampNeg)).toNatClampNeg))) (mA_freeAt (mU_freeAt σ v5 ((mA_freeAt σ (v5).toNatClampNeg) + (mA_hours σ ((mA_menus σ ((((10 : Int32) * v1) + v4)).toNatClampNeg)).toNatClampNeg))) (v5).toNatClampNeg) (fun σ143 => vp_in v5 9 ∧ (K58 v1 v2 (jmax v3 (((mA_freeAt σ143 (v5).toNatClampNeg) - (10 : Int32)) - v4)) (v4 + (1 : Int32)) σ143)))))))) else (vp_in v6 9 ∧ (vp_in v5 9 ∧ (if (mA_freeAt σ (v5).toNatClampNeg) ≤ (mA_freeAt σ (v6).toNatClampNeg) then (wm_late_j102 P (wm_late_l75 P K58 n) v1 v2 v3 v4 v5 v6 σ) else (wm_late_j102 P (wm_late_l75 P K58 n) v1 v2 v3 v4 v6 v6 σ))))) := rfl
noncomputable def wm_late_l58 (P : Int32 → St → Prop)  (n : Nat) : Int32 → Int32 → Int32 → Int32 → St → Prop :=
  Nat.rec (fun _ _ _ _ _ => False) (fun _ ih v1 v2 v3 v4 σ => vp_in v1 3 ∧ (if (mA_menuLong σ (v1).toNatClampNeg) ≤ v4 then (P v3 σ) else (∃ n75, wm_late_l75 P ih n75 v1 v2 v3 v4 (0 : Int32) (1 : Int32) σ))) n
theorem wm_late_l58_s (P : Int32 → St → Prop)  (n : Nat) (v1 : Int32) (v2 : Int32) (v3 : Int32) (v4 : Int32) (σ : St) : wm_late_l58 P  (n + 1) v1 v2 v3 v4 σ = (vp_in v1 3 ∧ (if (mA_menuLong σ (v1).toNatClampNeg) ≤ v4 then (P v3 σ) else (∃ n75, wm_late_l75 P (wm_late_l58 P  n) n75 v1 v2 v3 v4 (0 : Int32) (1 : Int32) σ))) := rfl
def wm_late (σ : St) (v1 : Int32) (v2 : Int32) (P : Int32 → St → Prop) : Prop :=
  sm_in v2 (1 : Int32) (9 : Int32) (fun r9 => if r9 = 0 then (P (-1 : Int32) (mS_thrown σ (0 : Int32))) else (sm_isWhole (mS_thrown σ (0 : Int32)) v1 (fun r19 σ19 => if r19 = 0 then (P (-3 : Int32) σ19) else (∃ n30, wm_late_l30 P (fun v1 v2 v3 v4 σ => ∃ n58, wm_late_l58 P  n58 v1 v2 v3 v4 σ) n30 v1 v2 (0 : Int32) σ19))))
abbrev sm_late := @wm_late
theorem sm_late_ok {σ : St} {v1 : Int32} {v2 : Int32} {P : Int32 → St → Prop} (h : sm_late σ v1 v2 P) : wm_late σ v1 v2 P := h
/-! m.lookOn -/
def wm_lookOn_j127 (P : Int32 → St → Prop) (K95 : Int32 → Int32 → Int32 → Int32 → St → Prop) (v1 : Int32) (v2 : Int32) (v3 : Int32) (v4 : Int32) (s1 : Int32) (s2 : Int32) (σ : St) : Prop :=
  K95 v1 v2 v3 (v4 + (1 : Int32)) (mS_hungryTill σ (s1 ||| s2))
noncomputable def wm_lookOn_l95 (P : Int32 → St → Prop) (K2 : Int32 → Int32 → St → Prop) (n : Nat) : Int32 → Int32 → Int32 → Int32 → St → Prop :=
  Nat.rec (fun _ _ _ _ _ => False) (fun _ ih v1 v2 v3 v4 σ => if (mI_guests σ) ≤ v4 then (K2 v1 (v2 + (1 : Int32)) σ) else (sm_isHungry σ v4 v3 (fun r113 σ113 => if r113 = 0 then (wm_lookOn_j127 P ih v1 v2 v3 v4 (mI_hungryTill σ) (0 : Int32) σ113) else (wm_lookOn_j127 P ih v1 v2 v3 v4 (mI_hungryTill σ) ((1 : Int32) <<< (v4 &&& 31)) σ113)))) n
theorem wm_lookOn_l95_s (P : Int32 → St → Prop) (K2 : Int32 → Int32 → St → Prop) (n : Nat) (v1 : Int32) (v2 : Int32) (v3 : Int32) (v4 : Int32) (σ : St) : wm_lookOn_l95 P K2 (n + 1) v1 v2 v3 v4 σ = (if (mI_guests σ) ≤ v4 then (K2 v1 (v2 + (1 : Int32)) σ) else (sm_isHungry σ v4 v3 (fun r113 σ113 => if r113 = 0 then (wm_lookOn_j127 P (wm_lookOn_l95 P K2 n) v1 v2 v3 v4 (mI_hungryTill σ) (0 : Int32) σ113) else (wm_lookOn_j127 P (wm_lookOn_l95 P K2 n) v1 v2 v3 v4 (mI_hungryTill σ) ((1 : Int32) <<< (v4 &&& 31)) σ113)))) := rfl
def wm_lookOn_j48 (P : Int32 → St → Prop) (K2 : Int32 → Int32 → St → Prop) (v1 : Int32) (v2 : Int32) (v3 : Int32) (s1 : Int32) (σ : St) : Prop :=
  if 0 ≤ (mI_whyNot (mS_whyNot σ s1)) then (vp_in v3 11 ∧ (∃ n95, wm_lookOn_l95 P K2 n95 v1 v2 v3 (0 : Int32) (mS_costTill (mS_lastTill (mS_setTill (mS_whyNot σ s1) ((mI_setTill (mS_whyNot σ s1)) ||| ((1 : Int32) <<< (v3 &&& 31)))) v3) ((mI_costTill (mS_lastTill (mS_setTill (mS_whyNot σ s1) ((mI_setTill (mS_whyNot σ s1)) ||| ((1 : Int32) <<< (v3 &&& 31)))) v3)) + (mA_cost (mS_lastTill (mS_setTill (mS_whyNot σ s1) ((mI_setTill (mS_whyNot σ s1)) ||| ((1 : Int32) <<< (v3 &&& 31)))) v3) (v3).toNatClampNeg))))) else (P v2 (mS_whyNot σ s1))
noncomputable def wm_lookOn_l2 (P : Int32 → St → Prop)  (n : Nat) : Int32 → Int32 → St → Prop :=
  Nat.rec (fun _ _ _ => False) (fun _ ih v1 v2 σ => vp_in v1 3 ∧ (if (mA_menuLong σ (v1).toNatClampNeg) ≤ v2 then (vp_in v1 3 ∧ (P (mA_menuLong σ (v1).toNatClampNeg) σ)) else (vp_in (((10 : Int32) * v1) + v2) 30 ∧ (if (mA_menus σ ((((10 : Int32) * v1) + v2)).toNatClampNeg) = (99 : Int32) then (wm_lookOn_j48 P ih v1 v2 (mA_menus σ ((((10 : Int32) * v1) + v2)).toNatClampNeg) (-1 : Int32) σ) else (sm_refusal σ (mI_setTill σ) (mI_lastTill σ) (mA_menus σ ((((10 : Int32) * v1) + v2)).toNatClampNeg) (fun r45 σ45 => wm_lookOn_j48 P ih v1 v2 (mA_menus σ ((((10 : Int32) * v1) + v2)).toNatClampNeg) r45 σ45)))))) n
theorem wm_lookOn_l2_s (P : Int32 → St → Prop)  (n : Nat) (v1 : Int32) (v2 : Int32) (σ : St) : wm_lookOn_l2 P  (n + 1) v1 v2 σ = (vp_in v1 3 ∧ (if (mA_menuLong σ (v1).toNatClampNeg) ≤ v2 then (vp_in v1 3 ∧ (P (mA_menuLong σ (v1).toNatClampNeg) σ)) else (vp_in (((10 : Int32) * v1) + v2) 30 ∧ (if (mA_menus σ ((((10 : Int32) * v1) + v2)).toNatClampNeg) = (99 : Int32) then (wm_lookOn_j48 P (wm_lookOn_l2 P  n) v1 v2 (mA_menus σ ((((10 : Int32) * v1) + v2)).toNatClampNeg) (-1 : Int32) σ) else (sm_refusal σ (mI_setTill σ) (mI_lastTill σ) (mA_menus σ ((((10 : Int32) * v1) + v2)).toNatClampNeg) (fun r45 σ45 => wm_lookOn_j48 P (wm_lookOn_l2 P  n) v1 v2 (mA_menus σ ((((10 : Int32) * v1) + v2)).toNatClampNeg) r45 σ45)))))) := rfl
def wm_lookOn (σ : St) (v1 : Int32) (P : Int32 → St → Prop) : Prop :=
  ∃ n2, wm_lookOn_l2 P  n2 v1 (0 : Int32) σ
abbrev sm_lookOn := @wm_lookOn
theorem sm_lookOn_ok {σ : St} {v1 : Int32} {P : Int32 → St → Prop} (h : sm_lookOn σ v1 P) : wm_lookOn σ v1 P := h
/-! m.made -/
def wm_made_j103 (P : Int32 → St → Prop) (K52 : Int32 → Int32 → St → Prop) (v1 : Int32) (v2 : Int32) (σ : St) : Prop :=
  K52 v1 (v2 + (1 : Int32)) σ
def wm_made_j78 (P : Int32 → St → Prop) (K52 : Int32 → Int32 → St → Prop) (v1 : Int32) (v2 : Int32) (σ : St) : Prop :=
  vp_in (mI_dishes σ) 11 ∧ (sm_canAll (mU_stuffs σ (mI_dishes σ) v2) ((mI_dishes (mU_stuffs σ (mI_dishes σ) v2)) + (1 : Int32)) (fun r95 σ95 => if r95 = 0 then (wm_made_j103 P K52 v1 v2 σ95) else (wm_made_j103 P K52 v2 v2 σ95)))
noncomputable def wm_made_l52 (P : Int32 → St → Prop)  (n : Nat) : Int32 → Int32 → St → Prop :=
  Nat.rec (fun _ _ _ => False) (fun _ ih v1 v2 σ => if (256 : Int32) ≤ v2 then (if v1 = (-1 : Int32) then (P (-2 : Int32) σ) else (sm_tell (mS_rowMany σ (0 : Int32)) v1 (fun σ124 => P (bitC v1) σ124))) else (if v1 = (-1 : Int32) then (wm_made_j78 P ih v1 v2 σ) else (if (bitC v2) < (bitC v1) then (wm_made_j78 P ih v1 v2 σ) else (wm_made_j103 P ih v1 v2 σ)))) n
theorem wm_made_l52_s (P : Int32 → St → Prop)  (n : Nat) (v1 : Int32) (v2 : Int32) (σ : St) : wm_made_l52 P  (n + 1) v1 v2 σ = (if (256 : Int32) ≤ v2 then (if v1 = (-1 : Int32) then (P (-2 : Int32) σ) else (sm_tell (mS_rowMany σ (0 : Int32)) v1 (fun σ124 => P (bitC v1) σ124))) else (if v1 = (-1 : Int32) then (wm_made_j78 P (wm_made_l52 P  n) v1 v2 σ) else (if (bitC v2) < (bitC v1) then (wm_made_j78 P (wm_made_l52 P  n) v1 v2 σ) else (wm_made_j103 P (wm_made_l52 P  n) v1 v2 σ)))) := rfl
def wm_made (σ : St)  (P : Int32 → St → Prop) : Prop :=
  sm_canAll (mS_thrown σ (0 : Int32)) (mI_dishes (mS_thrown σ (0 : Int32))) (fun r10 σ10 => if r10 = 0 then (vp_in (mI_dishes σ10) 11 ∧ (vp_in (mI_dishes (mU_isHot σ10 (mI_dishes σ10) (vp_nar .boolean (0 : Int32)))) 11 ∧ (∃ n52, wm_made_l52 P  n52 (-1 : Int32) (1 : Int32) (mU_cost (mU_isHot σ10 (mI_dishes σ10) (vp_nar .boolean (0 : Int32))) (mI_dishes (mU_isHot σ10 (mI_dishes σ10) (vp_nar .boolean (0 : Int32)))) (0 : Int32))))) else (sm_tell (mS_rowMany σ10 (0 : Int32)) (0 : Int32) (fun σ23 => P (0 : Int32) σ23)))
abbrev sm_made := @wm_made
theorem sm_made_ok {σ : St} {P : Int32 → St → Prop} (h : sm_made σ  P) : wm_made σ  P := h
/-! m.may -/
def wm_may_j15 (P : Int32 → St → Prop)  (s0 : Int32) (σ : St) : Prop :=
  nzB s0 ∧ P s0 σ
def wm_may (σ : St) (v1 : Int32) (v2 : Int32) (v3 : Int32) (P : Int32 → St → Prop) : Prop :=
  sm_refusal σ v1 v2 v3 (fun r4 σ4 => if r4 = 0 then (wm_may_j15 P  (1 : Int32) σ4) else (wm_may_j15 P  (0 : Int32) σ4))
/-! m.parts -/
def wm_parts_j69 (P : Int32 → St → Prop) (K41 : Int32 → Int32 → Int32 → Int32 → Int32 → St → Prop) (v1 : Int32) (v2 : Int32) (v3 : Int32) (v4 : Int32) (v5 : Int32) (σ : St) : Prop :=
  K41 v1 v2 v3 v4 (v5 + (1 : Int32)) σ
noncomputable def wm_parts_l41 (P : Int32 → St → Prop) (K29 : Int32 → Int32 → Int32 → Int32 → St → Prop) (n : Nat) : Int32 → Int32 → Int32 → Int32 → Int32 → St → Prop :=
  Nat.rec (fun _ _ _ _ _ _ => False) (fun _ ih v1 v2 v3 v4 v5 σ => if (mI_dishes σ) ≤ v5 then (K29 v1 v2 v3 v4 σ) else (sm_has v4 v5 (fun r54 => if r54 = 0 then (wm_parts_j69 P ih v1 v2 v3 v4 v5 σ) else (sm_besides σ v5 (fun r64 σ64 => wm_parts_j69 P ih v1 v2 (v3 ||| r64) v4 v5 σ64))))) n
theorem wm_parts_l41_s (P : Int32 → St → Prop) (K29 : Int32 → Int32 → Int32 → Int32 → St → Prop) (n : Nat) (v1 : Int32) (v2 : Int32) (v3 : Int32) (v4 : Int32) (v5 : Int32) (σ : St) : wm_parts_l41 P K29 (n + 1) v1 v2 v3 v4 v5 σ = (if (mI_dishes σ) ≤ v5 then (K29 v1 v2 v3 v4 σ) else (sm_has v4 v5 (fun r54 => if r54 = 0 then (wm_parts_j69 P (wm_parts_l41 P K29 n) v1 v2 v3 v4 v5 σ) else (sm_besides σ v5 (fun r64 σ64 => wm_parts_j69 P (wm_parts_l41 P K29 n) v1 v2 (v3 ||| r64) v4 v5 σ64))))) := rfl
noncomputable def wm_parts_l29 (P : Int32 → St → Prop) (K17 : Int32 → Int32 → St → Prop) (n : Nat) : Int32 → Int32 → Int32 → Int32 → St → Prop :=
  Nat.rec (fun _ _ _ _ _ => False) (fun _ ih v1 v2 v3 v4 σ => if v3 = v4 then (sm_tell σ v3 (fun σ80 => K17 (v1 &&& (v3 ^^^ (-1 : Int32))) (v2 + (1 : Int32)) σ80)) else (∃ n41, wm_parts_l41 P ih n41 v1 v2 v3 v3 (0 : Int32) σ)) n
theorem wm_parts_l29_s (P : Int32 → St → Prop) (K17 : Int32 → Int32 → St → Prop) (n : Nat) (v1 : Int32) (v2 : Int32) (v3 : Int32) (v4 : Int32) (σ : St) : wm_parts_l29 P K17 (n + 1) v1 v2 v3 v4 σ = (if v3 = v4 then (sm_tell σ v3 (fun σ80 => K17 (v1 &&& (v3 ^^^ (-1 : Int32))) (v2 + (1 : Int32)) σ80)) else (∃ n41, wm_parts_l41 P (wm_parts_l29 P K17 n) n41 v1 v2 v3 v3 (0 : Int32) σ)) := rfl
noncomputable def wm_parts_l17 (P : Int32 → St → Prop)  (n : Nat) : Int32 → Int32 → St → Prop :=
  Nat.rec (fun _ _ _ => False) (fun _ ih v1 v2 σ => if v1 = 0 then (P v2 σ) else (∃ n29, wm_parts_l29 P ih n29 v1 v2 (v1 &&& ((-v1))) (0 : Int32) σ)) n
theorem wm_parts_l17_s (P : Int32 → St → Prop)  (n : Nat) (v1 : Int32) (v2 : Int32) (σ : St) : wm_parts_l17 P  (n + 1) v1 v2 σ = (if v1 = 0 then (P v2 σ) else (∃ n29, wm_parts_l29 P (wm_parts_l17 P  n) n29 v1 v2 (v1 &&& ((-v1))) (0 : Int32) σ)) := rfl
def wm_parts (σ : St)  (P : Int32 → St → Prop) : Prop :=
  sm_all (mS_thrown σ (0 : Int32))  (fun r6 σ6 => ∃ n17, wm_parts_l17 P  n17 r6 (0 : Int32) (mS_rowMany σ6 (0 : Int32)))
abbrev sm_parts := @wm_parts
theorem sm_parts_ok {σ : St} {P : Int32 → St → Prop} (h : sm_parts σ  P) : wm_parts σ  P := h
/-! m.poison -/
def wm_poison_j79 (P : Int32 → St → Prop) (K41 : Int32 → Int32 → Int32 → Int32 → St → Prop) (v1 : Int32) (v2 : Int32) (v4 : Int32) (s0 : Int32) (s1 : Int32) (σ : St) : Prop :=
  K41 v1 v2 (s0 &&& s1) (v4 + (1 : Int32)) σ
noncomputable def wm_poison_l41 (P : Int32 → St → Prop)  (n : Nat) : Int32 → Int32 → Int32 → Int32 → St → Prop :=
  Nat.rec (fun _ _ _ _ _ => False) (fun _ ih v1 v2 v3 v4 σ => if (mI_guests σ) ≤ v4 then (P v3 σ) else (sm_has v2 v4 (fun r54 => if r54 = 0 then (sm_ateOf σ v1 v4 (fun r74 σ74 => wm_poison_j79 P ih v1 v2 v4 v3 (r74 ^^^ (-1 : Int32)) σ74)) else (sm_ateOf σ v1 v4 (fun r64 σ64 => wm_poison_j79 P ih v1 v2 v4 v3 r64 σ64))))) n
theorem wm_poison_l41_s (P : Int32 → St → Prop)  (n : Nat) (v1 : Int32) (v2 : Int32) (v3 : Int32) (v4 : Int32) (σ : St) : wm_poison_l41 P  (n + 1) v1 v2 v3 v4 σ = (if (mI_guests σ) ≤ v4 then (P v3 σ) else (sm_has v2 v4 (fun r54 => if r54 = 0 then (sm_ateOf σ v1 v4 (fun r74 σ74 => wm_poison_j79 P (wm_poison_l41 P  n) v1 v2 v4 v3 (r74 ^^^ (-1 : Int32)) σ74)) else (sm_ateOf σ v1 v4 (fun r64 σ64 => wm_poison_j79 P (wm_poison_l41 P  n) v1 v2 v4 v3 r64 σ64))))) := rfl
def wm_poison (σ : St) (v1 : Int32) (v2 : Int32) (P : Int32 → St → Prop) : Prop :=
  sm_in v2 (0 : Int32) (((1 : Int32) <<< ((mI_guests (mS_thrown σ (0 : Int32))) &&& 31)) - (1 : Int32)) (fun r15 => if r15 = 0 then (P (-1 : Int32) (mS_thrown σ (0 : Int32))) else (sm_isWhole (mS_thrown σ (0 : Int32)) v1 (fun r25 σ25 => if r25 = 0 then (P (-3 : Int32) σ25) else (∃ n41, wm_poison_l41 P  n41 v1 v2 (255 : Int32) (0 : Int32) σ25))))
abbrev sm_poison := @wm_poison
theorem sm_poison_ok {σ : St} {v1 : Int32} {v2 : Int32} {P : Int32 → St → Prop} (h : sm_poison σ v1 v2 P) : wm_poison σ v1 v2 P := h
/-! m.readGuest -/
def wm_readGuest_j38 (P : St → Prop)  (v1 : Int32) (σ : St) : Prop :=
  sm_letters σ (0 : Int32) (fun r45 σ45 => vp_in v1 6 ∧ (P (mU_bars σ45 v1 r45)))
def wm_readGuest (σ : St) (v1 : Int32) (P : St → Prop) : Prop :=
  sm_letters (mS_at σ ((mI_at σ) + (1 : Int32))) (0 : Int32) (fun r17 σ17 => vp_in v1 6 ∧ (sm_passes (mU_loves σ17 v1 r17) (45 : Int32) (fun r24 σ24 => if r24 = 0 then (sm_fault σ24 (mI_at σ24) (fun σ35 => wm_readGuest_j38 P  v1 σ35)) else (wm_readGuest_j38 P  v1 σ24))))
abbrev sm_readGuest := @wm_readGuest
theorem sm_readGuest_ok {σ : St} {v1 : Int32} {P : St → Prop} (h : sm_readGuest σ v1 P) : wm_readGuest σ v1 P := h
/-! m.serve -/
def wm_serve (σ : St) (v1 : Int32) (P : Int32 → St → Prop) : Prop :=
  sm_isDish (mS_thrown σ (0 : Int32)) v1 (fun r7 σ7 => if r7 = 0 then (P (-1 : Int32) σ7) else (sm_servedSet σ7  (fun r17 σ17 => sm_servedLast σ17  (fun r21 σ21 => sm_refusal σ21 r17 r21 v1 (fun r25 σ25 => if 0 ≤ r25 then (vp_in (mI_servedMany σ25) 10 ∧ (P (mI_servedMany (mS_servedMany (mU_served σ25 (mI_servedMany σ25) v1) ((mI_servedMany (mU_served σ25 (mI_servedMany σ25) v1)) + (1 : Int32)))) (mS_servedMany (mU_served σ25 (mI_servedMany σ25) v1) ((mI_servedMany (mU_served σ25 (mI_servedMany σ25) v1)) + (1 : Int32))))) else (P r25 σ25))))))
abbrev sm_serve := @wm_serve
theorem sm_serve_ok {σ : St} {v1 : Int32} {P : Int32 → St → Prop} (h : sm_serve σ v1 P) : wm_serve σ v1 P := h
/-! m.findEnds -/
def wm_findEnds_j103 (P : St → Prop) (K45 : Int32 → Int32 → Int32 → Int32 → Int32 → St → Prop) (v1 : Int32) (v2 : Int32) (v3 : Int32) (v5 : Int32) (s0 : Int32) (σ : St) : Prop :=
  K45 v1 v2 v3 s0 (v5 + (1 : Int32)) σ
def wm_findEnds_j102 (P : St → Prop) (K45 : Int32 → Int32 → Int32 → Int32 → Int32 → St → Prop) (v1 : Int32) (v2 : Int32) (v3 : Int32) (v5 : Int32) (σ : St) : Prop :=
  wm_findEnds_j103 P K45 v1 v2 v3 v5 (0 : Int32) σ
noncomputable def wm_findEnds_l45 (P : St → Prop) (K111 : Int32 → Int32 → Int32 → Int32 → St → Prop) (n : Nat) : Int32 → Int32 → Int32 → Int32 → Int32 → St → Prop :=
  Nat.rec (fun _ _ _ _ _ _ => False) (fun _ ih v1 v2 v3 v4 v5 σ => if (mI_dishes σ) ≤ v5 then (K111 v1 v2 v3 v4 σ) else (if v4 = 0 then (sm_has v1 v5 (fun r62 => if r62 = 0 then (wm_findEnds_j102 P ih v1 v2 v3 v5 σ) else (sm_may σ v2 v3 v5 (fun r73 σ73 => if r73 = 0 then (wm_findEnds_j102 P ih v1 v2 v3 v5 σ73) else (sm_place (v2 ||| ((1 : Int32) <<< (v5 &&& 31))) v5 (fun r91 => vp_in r91 11264 ∧ (if (mA_canEnd σ73 (r91).toNatClampNeg) = 0 then (wm_findEnds_j102 P ih v1 v2 v3 v5 σ73) else (wm_findEnds_j103 P ih v1 v2 v3 v5 (1 : Int32) σ73)))))))) else (K111 v1 v2 v3 v4 σ))) n
theorem wm_findEnds_l45_s (P : St → Prop) (K111 : Int32 → Int32 → Int32 → Int32 → St → Prop) (n : Nat) (v1 : Int32) (v2 : Int32) (v3 : Int32) (v4 : Int32) (v5 : Int32) (σ : St) : wm_findEnds_l45 P K111 (n + 1) v1 v2 v3 v4 v5 σ = (if (mI_dishes σ) ≤ v5 then (K111 v1 v2 v3 v4 σ) else (if v4 = 0 then (sm_has v1 v5 (fun r62 => if r62 = 0 then (wm_findEnds_j102 P (wm_findEnds_l45 P K111 n) v1 v2 v3 v5 σ) else (sm_may σ v2 v3 v5 (fun r73 σ73 => if r73 = 0 then (wm_findEnds_j102 P (wm_findEnds_l45 P K111 n) v1 v2 v3 v5 σ73) else (sm_place (v2 ||| ((1 : Int32) <<< (v5 &&& 31))) v5 (fun r91 => vp_in r91 11264 ∧ (if (mA_canEnd σ73 (r91).toNatClampNeg) = 0 then (wm_findEnds_j102 P (wm_findEnds_l45 P K111 n) v1 v2 v3 v5 σ73) else (wm_findEnds_j103 P (wm_findEnds_l45 P K111 n) v1 v2 v3 v5 (1 : Int32) σ73)))))))) else (K111 v1 v2 v3 v4 σ))) := rfl
def wm_findEnds_j123 (P : St → Prop) (K11 : Int32 → Int32 → Int32 → St → Prop) (v1 : Int32) (v2 : Int32) (v3 : Int32) (σ : St) : Prop :=
  K11 v1 v2 (v3 + (1 : Int32)) σ
def wm_findEnds_j111 (P : St → Prop) (K11 : Int32 → Int32 → Int32 → St → Prop) (v1 : Int32) (v2 : Int32) (v3 : Int32) (v4 : Int32) (σ : St) : Prop :=
  sm_place v2 v3 (fun r117 => vp_in r117 11264 ∧ (wm_findEnds_j123 P K11 v1 v2 v3 (mU_canEnd σ r117 (vp_nar .boolean v4))))
noncomputable def wm_findEnds_l11 (P : St → Prop) (K5 : Int32 → Int32 → St → Prop) (n : Nat) : Int32 → Int32 → Int32 → St → Prop :=
  Nat.rec (fun _ _ _ _ => False) (fun _ ih v1 v2 v3 σ => if (mI_dishes σ) ≤ v3 then (K5 v1 (v2 + (-1 : Int32)) σ) else (sm_isState v2 v3 (fun r21 => if r21 = 0 then (wm_findEnds_j123 P ih v1 v2 v3 σ) else (sm_place v2 v3 (fun r36 => vp_in r36 11264 ∧ (∃ n45, wm_findEnds_l45 P (wm_findEnds_j111 P ih) n45 v1 v2 v3 (mA_isEnd σ (r36).toNatClampNeg) (0 : Int32) σ)))))) n
theorem wm_findEnds_l11_s (P : St → Prop) (K5 : Int32 → Int32 → St → Prop) (n : Nat) (v1 : Int32) (v2 : Int32) (v3 : Int32) (σ : St) : wm_findEnds_l11 P K5 (n + 1) v1 v2 v3 σ = (if (mI_dishes σ) ≤ v3 then (K5 v1 (v2 + (-1 : Int32)) σ) else (sm_isState v2 v3 (fun r21 => if r21 = 0 then (wm_findEnds_j123 P (wm_findEnds_l11 P K5 n) v1 v2 v3 σ) else (sm_place v2 v3 (fun r36 => vp_in r36 11264 ∧ (∃ n45, wm_findEnds_l45 P (wm_findEnds_j111 P (wm_findEnds_l11 P K5 n)) n45 v1 v2 v3 (mA_isEnd σ (r36).toNatClampNeg) (0 : Int32) σ)))))) := rfl
noncomputable def wm_findEnds_l5 (P : St → Prop)  (n : Nat) : Int32 → Int32 → St → Prop :=
  Nat.rec (fun _ _ _ => False) (fun _ ih v1 v2 σ => if v2 < 0 then (P σ) else (∃ n11, wm_findEnds_l11 P ih n11 v1 v2 (-1 : Int32) σ)) n
theorem wm_findEnds_l5_s (P : St → Prop)  (n : Nat) (v1 : Int32) (v2 : Int32) (σ : St) : wm_findEnds_l5 P  (n + 1) v1 v2 σ = (if v2 < 0 then (P σ) else (∃ n11, wm_findEnds_l11 P (wm_findEnds_l5 P  n) n11 v1 v2 (-1 : Int32) σ)) := rfl
def wm_findEnds (σ : St) (v1 : Int32) (P : St → Prop) : Prop :=
  sm_all σ  (fun r1 σ1 => ∃ n5, wm_findEnds_l5 P  n5 v1 r1 σ1)
abbrev sm_findEnds := @wm_findEnds
theorem sm_findEnds_ok {σ : St} {v1 : Int32} {P : St → Prop} (h : sm_findEnds σ v1 P) : wm_findEnds σ v1 P := h
/-! m.findFills -/
def wm_findFills_j130 (P : Int64 → St → Prop) (K69 : Int32 → Int32 → Int32 → Int32 → Int64 → Int32 → St → Prop) (v1 : Int32) (v2 : Int32) (v3 : Int32) (v4 : Int32) (v5 : Int64) (v7 : Int32) (σ : St) : Prop :=
  K69 v1 v2 v3 v4 v5 (v7 + (1 : Int32)) σ
noncomputable def wm_findFills_l69 (P : Int64 → St → Prop) (K136 : Int32 → Int32 → Int32 → Int32 → Int64 → St → Prop) (n : Nat) : Int32 → Int32 → Int32 → Int32 → Int64 → Int32 → St → Prop :=
  Nat.rec (fun _ _ _ _ _ _ _ => False) (fun _ ih v1 v2 v3 v4 v5 v7 σ => if (mI_dishes σ) ≤ v7 then (K136 v1 v2 v3 v4 v5 σ) else (if v2 ≤ (bitC v3) then (K136 v1 v2 v3 v4 v5 σ) else (sm_isAsked σ v1 v3 v7 (fun r91 σ91 => if r91 = 0 then (wm_findFills_j130 P ih v1 v2 v3 v4 v5 v7 σ91) else (sm_may σ91 v3 v4 v7 (fun r103 σ103 => if r103 = 0 then (wm_findFills_j130 P ih v1 v2 v3 v4 v5 v7 σ103) else (sm_place (v3 ||| ((1 : Int32) <<< (v7 &&& 31))) v7 (fun r123 => vp_in r123 11264 ∧ (wm_findFills_j130 P ih v1 v2 v3 v4 (v5 + (mA_fillsFrom σ103 (r123).toNatClampNeg)) v7 σ103))))))))) n
theorem wm_findFills_l69_s (P : Int64 → St → Prop) (K136 : Int32 → Int32 → Int32 → Int32 → Int64 → St → Prop) (n : Nat) (v1 : Int32) (v2 : Int32) (v3 : Int32) (v4 : Int32) (v5 : Int64) (v7 : Int32) (σ : St) : wm_findFills_l69 P K136 (n + 1) v1 v2 v3 v4 v5 v7 σ = (if (mI_dishes σ) ≤ v7 then (K136 v1 v2 v3 v4 v5 σ) else (if v2 ≤ (bitC v3) then (K136 v1 v2 v3 v4 v5 σ) else (sm_isAsked σ v1 v3 v7 (fun r91 σ91 => if r91 = 0 then (wm_findFills_j130 P (wm_findFills_l69 P K136 n) v1 v2 v3 v4 v5 v7 σ91) else (sm_may σ91 v3 v4 v7 (fun r103 σ103 => if r103 = 0 then (wm_findFills_j130 P (wm_findFills_l69 P K136 n) v1 v2 v3 v4 v5 v7 σ103) else (sm_place (v3 ||| ((1 : Int32) <<< (v7 &&& 31))) v7 (fun r123 => vp_in r123 11264 ∧ (wm_findFills_j130 P (wm_findFills_l69 P K136 n) v1 v2 v3 v4 (v5 + (mA_fillsFrom σ103 (r123).toNatClampNeg)) v7 σ103))))))))) := rfl
def wm_findFills_j149 (P : Int64 → St → Prop) (K30 : Int32 → Int32 → Int32 → Int32 → St → Prop) (v1 : Int32) (v2 : Int32) (v3 : Int32) (v4 : Int32) (σ : St) : Prop :=
  K30 v1 v2 v3 (v4 + (1 : Int32)) σ
def wm_findFills_j136 (P : Int64 → St → Prop) (K30 : Int32 → Int32 → Int32 → Int32 → St → Prop) (v1 : Int32) (v2 : Int32) (v3 : Int32) (v4 : Int32) (v5 : Int64) (σ : St) : Prop :=
  sm_place v3 v4 (fun r143 => vp_in r143 11264 ∧ (wm_findFills_j149 P K30 v1 v2 v3 v4 (mU_fillsFrom σ r143 v5)))
def wm_findFills_j64 (P : Int64 → St → Prop) (K30 : Int32 → Int32 → Int32 → Int32 → St → Prop) (v1 : Int32) (v2 : Int32) (v3 : Int32) (v4 : Int32) (s0 : Int64) (σ : St) : Prop :=
  ∃ n69, wm_findFills_l69 P (wm_findFills_j136 P K30) n69 v1 v2 v3 v4 s0 (0 : Int32) σ
noncomputable def wm_findFills_l30 (P : Int64 → St → Prop) (K155 : Int32 → Int32 → Int32 → St → Prop) (n : Nat) : Int32 → Int32 → Int32 → Int32 → St → Prop :=
  Nat.rec (fun _ _ _ _ _ => False) (fun _ ih v1 v2 v3 v4 σ => if (mI_dishes σ) ≤ v4 then (K155 v1 v2 v3 σ) else (sm_isState v3 v4 (fun r42 => if r42 = 0 then (wm_findFills_j149 P ih v1 v2 v3 v4 σ) else (if (bitC v3) = v2 then (wm_findFills_j64 P ih v1 v2 v3 v4 (1 : Int64) σ) else (wm_findFills_j64 P ih v1 v2 v3 v4 (0 : Int64) σ))))) n
theorem wm_findFills_l30_s (P : Int64 → St → Prop) (K155 : Int32 → Int32 → Int32 → St → Prop) (n : Nat) (v1 : Int32) (v2 : Int32) (v3 : Int32) (v4 : Int32) (σ : St) : wm_findFills_l30 P K155 (n + 1) v1 v2 v3 v4 σ = (if (mI_dishes σ) ≤ v4 then (K155 v1 v2 v3 σ) else (sm_isState v3 v4 (fun r42 => if r42 = 0 then (wm_findFills_j149 P (wm_findFills_l30 P K155 n) v1 v2 v3 v4 σ) else (if (bitC v3) = v2 then (wm_findFills_j64 P (wm_findFills_l30 P K155 n) v1 v2 v3 v4 (1 : Int64) σ) else (wm_findFills_j64 P (wm_findFills_l30 P K155 n) v1 v2 v3 v4 (0 : Int64) σ))))) := rfl
def wm_findFills_j155 (P : Int64 → St → Prop) (K12 : Int32 → Int32 → Int32 → St → Prop) (v1 : Int32) (v2 : Int32) (v3 : Int32) (σ : St) : Prop :=
  K12 v1 v2 (v3 + (-1 : Int32)) σ
noncomputable def wm_findFills_l12 (P : Int64 → St → Prop)  (n : Nat) : Int32 → Int32 → Int32 → St → Prop :=
  Nat.rec (fun _ _ _ _ => False) (fun _ ih v1 v2 v3 σ => if v3 < 0 then (sm_place (0 : Int32) (-1 : Int32) (fun r167 => vp_in r167 11264 ∧ (P (mA_fillsFrom σ (r167).toNatClampNeg) σ))) else (if (bitC v3) ≤ v2 then (∃ n30, wm_findFills_l30 P (wm_findFills_j155 P ih) n30 v1 v2 v3 (-1 : Int32) σ) else (wm_findFills_j155 P ih v1 v2 v3 σ))) n
theorem wm_findFills_l12_s (P : Int64 → St → Prop)  (n : Nat) (v1 : Int32) (v2 : Int32) (v3 : Int32) (σ : St) : wm_findFills_l12 P  (n + 1) v1 v2 v3 σ = (if v3 < 0 then (sm_place (0 : Int32) (-1 : Int32) (fun r167 => vp_in r167 11264 ∧ (P (mA_fillsFrom σ (r167).toNatClampNeg) σ))) else (if (bitC v3) ≤ v2 then (∃ n30, wm_findFills_l30 P (wm_findFills_j155 P (wm_findFills_l12 P  n)) n30 v1 v2 v3 (-1 : Int32) σ) else (wm_findFills_j155 P (wm_findFills_l12 P  n) v1 v2 v3 σ))) := rfl
def wm_findFills (σ : St) (v1 : Int32) (P : Int64 → St → Prop) : Prop :=
  vp_in v1 3 ∧ (sm_all σ  (fun r8 σ8 => ∃ n12, wm_findFills_l12 P  n12 v1 (mA_menuLong σ (v1).toNatClampNeg) r8 σ8))
abbrev sm_findFills := @wm_findFills
theorem sm_findFills_ok {σ : St} {v1 : Int32} {P : Int64 → St → Prop} (h : sm_findFills σ v1 P) : wm_findFills σ v1 P := h
/-! m.findRows -/
noncomputable def wm_findRows_l3 (P : St → Prop) (K39 : Int32 → Int32 → St → Prop) (n : Nat) : Int32 → Int32 → Int32 → Int32 → St → Prop :=
  Nat.rec (fun _ _ _ _ _ => False) (fun _ ih v1 v2 v3 v4 σ => if (11264 : Int32) ≤ v4 then (sm_place v1 v2 (fun r31 => vp_in r31 11264 ∧ (K39 v3 (0 : Int32) (mU_rows σ r31 (1 : Int64))))) else (vp_in v4 11264 ∧ (ih v1 v2 v3 (v4 + (1 : Int32)) (mU_rows σ v4 (0 : Int64))))) n
theorem wm_findRows_l3_s (P : St → Prop) (K39 : Int32 → Int32 → St → Prop) (n : Nat) (v1 : Int32) (v2 : Int32) (v3 : Int32) (v4 : Int32) (σ : St) : wm_findRows_l3 P K39 (n + 1) v1 v2 v3 v4 σ = (if (11264 : Int32) ≤ v4 then (sm_place v1 v2 (fun r31 => vp_in r31 11264 ∧ (K39 v3 (0 : Int32) (mU_rows σ r31 (1 : Int64))))) else (vp_in v4 11264 ∧ (wm_findRows_l3 P K39 n v1 v2 v3 (v4 + (1 : Int32)) (mU_rows σ v4 (0 : Int64))))) := rfl
def wm_findRows_j151 (P : St → Prop) (K91 : Int32 → Int32 → Int32 → Int64 → Int32 → St → Prop) (v3 : Int32) (v4 : Int32) (v5 : Int32) (v6 : Int64) (v8 : Int32) (σ : St) : Prop :=
  K91 v3 v4 v5 v6 (v8 + (1 : Int32)) σ
noncomputable def wm_findRows_l91 (P : St → Prop) (K157 : Int32 → Int32 → Int32 → St → Prop) (n : Nat) : Int32 → Int32 → Int32 → Int64 → Int32 → St → Prop :=
  Nat.rec (fun _ _ _ _ _ _ => False) (fun _ ih v3 v4 v5 v6 v8 σ => if (mI_dishes σ) ≤ v8 then (K157 v3 v4 v5 σ) else (if (lg_cmp v6 (0 : Int64)) ≤ 0 then (K157 v3 v4 v5 σ) else (sm_has v3 v8 (fun r110 => if r110 = 0 then (wm_findRows_j151 P ih v3 v4 v5 v6 v8 σ) else (sm_may σ v4 v5 v8 (fun r123 σ123 => if r123 = 0 then (wm_findRows_j151 P ih v3 v4 v5 v6 v8 σ123) else (sm_place (v4 ||| ((1 : Int32) <<< (v8 &&& 31))) v8 (fun r142 => vp_in r142 11264 ∧ (vp_in r142 11264 ∧ (wm_findRows_j151 P ih v3 v4 v5 v6 v8 (mU_rows σ123 r142 ((mA_rows σ123 (r142).toNatClampNeg) + v6)))))))))))) n
theorem wm_findRows_l91_s (P : St → Prop) (K157 : Int32 → Int32 → Int32 → St → Prop) (n : Nat) (v3 : Int32) (v4 : Int32) (v5 : Int32) (v6 : Int64) (v8 : Int32) (σ : St) : wm_findRows_l91 P K157 (n + 1) v3 v4 v5 v6 v8 σ = (if (mI_dishes σ) ≤ v8 then (K157 v3 v4 v5 σ) else (if (lg_cmp v6 (0 : Int64)) ≤ 0 then (K157 v3 v4 v5 σ) else (sm_has v3 v8 (fun r110 => if r110 = 0 then (wm_findRows_j151 P (wm_findRows_l91 P K157 n) v3 v4 v5 v6 v8 σ) else (sm_may σ v4 v5 v8 (fun r123 σ123 => if r123 = 0 then (wm_findRows_j151 P (wm_findRows_l91 P K157 n) v3 v4 v5 v6 v8 σ123) else (sm_place (v4 ||| ((1 : Int32) <<< (v8 &&& 31))) v8 (fun r142 => vp_in r142 11264 ∧ (vp_in r142 11264 ∧ (wm_findRows_j151 P (wm_findRows_l91 P K157 n) v3 v4 v5 v6 v8 (mU_rows σ123 r142 ((mA_rows σ123 (r142).toNatClampNeg) + v6)))))))))))) := rfl
def wm_findRows_j157 (P : St → Prop) (K51 : Int32 → Int32 → Int32 → St → Prop) (v3 : Int32) (v4 : Int32) (v5 : Int32) (σ : St) : Prop :=
  K51 v3 v4 (v5 + (1 : Int32)) σ
def wm_findRows_j86 (P : St → Prop) (K51 : Int32 → Int32 → Int32 → St → Prop) (v3 : Int32) (v4 : Int32) (v5 : Int32) (s0 : Int64) (σ : St) : Prop :=
  ∃ n91, wm_findRows_l91 P (wm_findRows_j157 P K51) n91 v3 v4 v5 s0 (0 : Int32) σ
noncomputable def wm_findRows_l51 (P : St → Prop) (K39 : Int32 → Int32 → St → Prop) (n : Nat) : Int32 → Int32 → Int32 → St → Prop :=
  Nat.rec (fun _ _ _ _ => False) (fun _ ih v3 v4 v5 σ => if (mI_dishes σ) ≤ v5 then (K39 v3 (v4 + (1 : Int32)) σ) else (sm_isState v4 v5 (fun r64 => if r64 = 0 then (wm_findRows_j86 P ih v3 v4 v5 (0 : Int64) σ) else (sm_place v4 v5 (fun r78 => vp_in r78 11264 ∧ (wm_findRows_j86 P ih v3 v4 v5 (mA_rows σ (r78).toNatClampNeg) σ)))))) n
theorem wm_findRows_l51_s (P : St → Prop) (K39 : Int32 → Int32 → St → Prop) (n : Nat) (v3 : Int32) (v4 : Int32) (v5 : Int32) (σ : St) : wm_findRows_l51 P K39 (n + 1) v3 v4 v5 σ = (if (mI_dishes σ) ≤ v5 then (K39 v3 (v4 + (1 : Int32)) σ) else (sm_isState v4 v5 (fun r64 => if r64 = 0 then (wm_findRows_j86 P (wm_findRows_l51 P K39 n) v3 v4 v5 (0 : Int64) σ) else (sm_place v4 v5 (fun r78 => vp_in r78 11264 ∧ (wm_findRows_j86 P (wm_findRows_l51 P K39 n) v3 v4 v5 (mA_rows σ (r78).toNatClampNeg) σ)))))) := rfl
noncomputable def wm_findRows_l39 (P : St → Prop)  (n : Nat) : Int32 → Int32 → St → Prop :=
  Nat.rec (fun _ _ _ => False) (fun _ ih v3 v4 σ => sm_all σ  (fun r42 σ42 => if r42 < v4 then (P σ42) else (∃ n51, wm_findRows_l51 P ih n51 v3 v4 (-1 : Int32) σ42))) n
theorem wm_findRows_l39_s (P : St → Prop)  (n : Nat) (v3 : Int32) (v4 : Int32) (σ : St) : wm_findRows_l39 P  (n + 1) v3 v4 σ = (sm_all σ  (fun r42 σ42 => if r42 < v4 then (P σ42) else (∃ n51, wm_findRows_l51 P (wm_findRows_l39 P  n) n51 v3 v4 (-1 : Int32) σ42))) := rfl
def wm_findRows (σ : St) (v1 : Int32) (v2 : Int32) (v3 : Int32) (P : St → Prop) : Prop :=
  ∃ n3, wm_findRows_l3 P (fun v3 v4 σ => ∃ n39, wm_findRows_l39 P  n39 v3 v4 σ) n3 v1 v2 v3 (0 : Int32) σ
abbrev sm_findRows := @wm_findRows
theorem sm_findRows_ok {σ : St} {v1 : Int32} {v2 : Int32} {v3 : Int32} {P : St → Prop} (h : sm_findRows σ v1 v2 v3 P) : wm_findRows σ v1 v2 v3 P := h
/-! m.findTurn -/
def wm_findTurn_j62 (P : St → Prop) (K16 : Int32 → Int32 → Int32 → Int32 → St → Prop) (v1 : Int32) (v2 : Int32) (v3 : Int32) (v4 : Int32) (σ : St) : Prop :=
  K16 v1 v2 v3 (v4 + (1 : Int32)) σ
noncomputable def wm_findTurn_l16 (P : St → Prop) (K85 : Int32 → Int32 → Int32 → Int32 → St → Prop) (n : Nat) : Int32 → Int32 → Int32 → Int32 → St → Prop :=
  Nat.rec (fun _ _ _ _ _ => False) (fun _ ih v1 v2 v3 v4 σ => if (mI_dishes σ) ≤ v4 then (vp_in v3 11264 ∧ (vp_in v3 11264 ∧ (K85 v1 v2 v3 (0 : Int32) (mU_moreThen (mU_firstThen σ v3 (-1 : Int32)) v3 (0 : Int32))))) else (sm_may σ v1 v2 v4 (fun r30 σ30 => if r30 = 0 then (wm_findTurn_j62 P ih v1 v2 v3 v4 σ30) else (sm_place (v1 ||| ((1 : Int32) <<< (v4 &&& 31))) v4 (fun r48 => vp_in r48 11264 ∧ (if (mA_shames σ30 (r48).toNatClampNeg) = 0 then (vp_in v3 11264 ∧ (wm_findTurn_j62 P ih v1 v2 v3 v4 (mU_shames σ30 v3 (vp_nar .boolean (1 : Int32))))) else (wm_findTurn_j62 P ih v1 v2 v3 v4 σ30))))))) n
theorem wm_findTurn_l16_s (P : St → Prop) (K85 : Int32 → Int32 → Int32 → Int32 → St → Prop) (n : Nat) (v1 : Int32) (v2 : Int32) (v3 : Int32) (v4 : Int32) (σ : St) : wm_findTurn_l16 P K85 (n + 1) v1 v2 v3 v4 σ = (if (mI_dishes σ) ≤ v4 then (vp_in v3 11264 ∧ (vp_in v3 11264 ∧ (K85 v1 v2 v3 (0 : Int32) (mU_moreThen (mU_firstThen σ v3 (-1 : Int32)) v3 (0 : Int32))))) else (sm_may σ v1 v2 v4 (fun r30 σ30 => if r30 = 0 then (wm_findTurn_j62 P (wm_findTurn_l16 P K85 n) v1 v2 v3 v4 σ30) else (sm_place (v1 ||| ((1 : Int32) <<< (v4 &&& 31))) v4 (fun r48 => vp_in r48 11264 ∧ (if (mA_shames σ30 (r48).toNatClampNeg) = 0 then (vp_in v3 11264 ∧ (wm_findTurn_j62 P (wm_findTurn_l16 P K85 n) v1 v2 v3 v4 (mU_shames σ30 v3 (vp_nar .boolean (1 : Int32))))) else (wm_findTurn_j62 P (wm_findTurn_l16 P K85 n) v1 v2 v3 v4 σ30))))))) := rfl
def wm_findTurn_j234 (P : St → Prop) (K85 : Int32 → Int32 → Int32 → Int32 → St → Prop) (v1 : Int32) (v2 : Int32) (v3 : Int32) (v4 : Int32) (σ : St) : Prop :=
  K85 v1 v2 v3 (v4 + (1 : Int32)) σ
def wm_findTurn_j208 (P : St → Prop) (K85 : Int32 → Int32 → Int32 → Int32 → St → Prop) (v1 : Int32) (v2 : Int32) (v3 : Int32) (v4 : Int32) (v6 : Int32) (s0 : Int32) (σ : St) : Prop :=
  if s0 = 0 then (wm_findTurn_j234 P K85 v1 v2 v3 v4 σ) else (vp_in v3 11264 ∧ (vp_in v3 11264 ∧ (wm_findTurn_j234 P K85 v1 v2 v3 v4 (mU_firstThen (mU_moreThen σ v3 v6) v3 v4))))
def wm_findTurn_j184 (P : St → Prop) (K85 : Int32 → Int32 → Int32 → Int32 → St → Prop) (v1 : Int32) (v2 : Int32) (v3 : Int32) (v4 : Int32) (v6 : Int32) (σ : St) : Prop :=
  wm_findTurn_j208 P K85 v1 v2 v3 v4 v6 (1 : Int32) σ
def wm_findTurn_j143 (P : St → Prop) (K85 : Int32 → Int32 → Int32 → Int32 → St → Prop) (v1 : Int32) (v2 : Int32) (v3 : Int32) (v4 : Int32) (v5 : Int32) (σ : St) : Prop :=
  vp_in v5 11264 ∧ (vp_in v3 11264 ∧ (if (mA_shames σ (v3).toNatClampNeg) = 0 then (vp_in v3 11264 ∧ (if ((mA_moreThen σ (v5).toNatClampNeg) + (1 : Int32)) ≤ (mA_moreThen σ (v3).toNatClampNeg) then (wm_findTurn_j208 P K85 v1 v2 v3 v4 ((mA_moreThen σ (v5).toNatClampNeg) + (1 : Int32)) (0 : Int32) σ) else (wm_findTurn_j208 P K85 v1 v2 v3 v4 ((mA_moreThen σ (v5).toNatClampNeg) + (1 : Int32)) (1 : Int32) σ))) else (vp_in v3 11264 ∧ (if (mA_firstThen σ (v3).toNatClampNeg) = (-1 : Int32) then (wm_findTurn_j184 P K85 v1 v2 v3 v4 ((mA_moreThen σ (v5).toNatClampNeg) + (1 : Int32)) σ) else (vp_in v3 11264 ∧ (if (mA_moreThen σ (v3).toNatClampNeg) ≤ ((mA_moreThen σ (v5).toNatClampNeg) + (1 : Int32)) then (wm_findTurn_j208 P K85 v1 v2 v3 v4 ((mA_moreThen σ (v5).toNatClampNeg) + (1 : Int32)) (0 : Int32) σ) else (wm_findTurn_j184 P K85 v1 v2 v3 v4 ((mA_moreThen σ (v5).toNatClampNeg) + (1 : Int32)) σ)))))))
noncomputable def wm_findTurn_l85 (P : St → Prop)  (n : Nat) : Int32 → Int32 → Int32 → Int32 → St → Prop :=
  Nat.rec (fun _ _ _ _ _ => False) (fun _ ih v1 v2 v3 v4 σ => if (mI_dishes σ) ≤ v4 then (P σ) else (sm_may σ v1 v2 v4 (fun r99 σ99 => if r99 = 0 then (wm_findTurn_j234 P ih v1 v2 v3 v4 σ99) else (sm_place (v1 ||| ((1 : Int32) <<< (v4 &&& 31))) v4 (fun r116 => vp_in v3 11264 ∧ (if (mA_shames σ99 (v3).toNatClampNeg) = 0 then (wm_findTurn_j143 P ih v1 v2 v3 v4 r116 σ99) else (vp_in r116 11264 ∧ (if (mA_shames σ99 (r116).toNatClampNeg) = 0 then (wm_findTurn_j143 P ih v1 v2 v3 v4 r116 σ99) else (wm_findTurn_j234 P ih v1 v2 v3 v4 σ99))))))))) n
theorem wm_findTurn_l85_s (P : St → Prop)  (n : Nat) (v1 : Int32) (v2 : Int32) (v3 : Int32) (v4 : Int32) (σ : St) : wm_findTurn_l85 P  (n + 1) v1 v2 v3 v4 σ = (if (mI_dishes σ) ≤ v4 then (P σ) else (sm_may σ v1 v2 v4 (fun r99 σ99 => if r99 = 0 then (wm_findTurn_j234 P (wm_findTurn_l85 P  n) v1 v2 v3 v4 σ99) else (sm_place (v1 ||| ((1 : Int32) <<< (v4 &&& 31))) v4 (fun r116 => vp_in v3 11264 ∧ (if (mA_shames σ99 (v3).toNatClampNeg) = 0 then (wm_findTurn_j143 P (wm_findTurn_l85 P  n) v1 v2 v3 v4 r116 σ99) else (vp_in r116 11264 ∧ (if (mA_shames σ99 (r116).toNatClampNeg) = 0 then (wm_findTurn_j143 P (wm_findTurn_l85 P  n) v1 v2 v3 v4 r116 σ99) else (wm_findTurn_j234 P (wm_findTurn_l85 P  n) v1 v2 v3 v4 σ99))))))))) := rfl
def wm_findTurn (σ : St) (v1 : Int32) (v2 : Int32) (P : St → Prop) : Prop :=
  sm_place v1 v2 (fun r2 => vp_in r2 11264 ∧ (∃ n16, wm_findTurn_l16 P (fun v1 v2 v3 v4 σ => ∃ n85, wm_findTurn_l85 P  n85 v1 v2 v3 v4 σ) n16 v1 v2 r2 (0 : Int32) (mU_shames σ r2 (vp_nar .boolean (0 : Int32)))))
abbrev sm_findTurn := @wm_findTurn
theorem sm_findTurn_ok {σ : St} {v1 : Int32} {v2 : Int32} {P : St → Prop} (h : sm_findTurn σ v1 v2 P) : wm_findTurn σ v1 v2 P := h
/-! m.isLawful -/
def wm_isLawful_j23 (P : Int32 → St → Prop)  (s0 : Int32) (σ : St) : Prop :=
  nzB s0 ∧ P s0 σ
def wm_isLawful (σ : St) (v1 : Int32) (P : Int32 → St → Prop) : Prop :=
  sm_lookFromNothing σ  (fun σ1 => sm_lookOn σ1 v1 (fun r6 σ6 => vp_in v1 3 ∧ (if r6 = (mA_menuLong σ6 (v1).toNatClampNeg) then (wm_isLawful_j23 P  (1 : Int32) σ6) else (wm_isLawful_j23 P  (0 : Int32) σ6))))
abbrev sm_isLawful := @wm_isLawful
theorem sm_isLawful_ok {σ : St} {v1 : Int32} {P : Int32 → St → Prop} (h : sm_isLawful σ v1 P) : wm_isLawful σ v1 P := h
/-! m.joined -/
def wm_joined_j21 (P : Int32 → St → Prop)  (σ : St) : Prop :=
  P (-3 : Int32) σ
def wm_joined_j78 (P : Int32 → St → Prop)  (s0 : Int32) (σ : St) : Prop :=
  P s0 σ
def wm_joined_j52 (P : Int32 → St → Prop)  (v3 : Int32) (σ : St) : Prop :=
  sm_tell (mS_rowMany σ (0 : Int32)) (mI_whyNot (mS_rowMany σ (0 : Int32))) (fun σ62 => if (mI_whyNot σ62) = 0 then (wm_joined_j78 P  (-2 : Int32) σ62) else (wm_joined_j78 P  v3 σ62))
def wm_joined (σ : St) (v1 : Int32) (v2 : Int32) (P : Int32 → St → Prop) : Prop :=
  sm_isWhole (mS_thrown σ (0 : Int32)) v1 (fun r7 σ7 => if r7 = 0 then (wm_joined_j21 P  σ7) else (sm_isWhole σ7 v2 (fun r15 σ15 => if r15 = 0 then (wm_joined_j21 P  σ15) else (sm_lookFromNothing σ15  (fun σ25 => sm_lookOn σ25 v1 (fun r30 σ30 => vp_in v1 3 ∧ (if r30 = (mA_menuLong σ30 (v1).toNatClampNeg) then (sm_lookOn σ30 v2 (fun r47 σ47 => wm_joined_j52 P  (r30 + r47) σ47)) else (wm_joined_j52 P  r30 σ30))))))))
abbrev sm_joined := @wm_joined
theorem sm_joined_ok {σ : St} {v1 : Int32} {v2 : Int32} {P : Int32 → St → Prop} (h : sm_joined σ v1 v2 P) : wm_joined σ v1 v2 P := h
/-! m.kitchen -/
def wm_kitchen_j175 (P : Int32 → St → Prop) (K48 : Int32 → Int32 → Int32 → Int32 → St → Prop) (v1 : Int32) (v2 : Int32) (v3 : Int32) (σ : St) : Prop :=
  sm_passes σ (59 : Int32) (fun r181 σ181 => K48 v1 v2 (v3 + (1 : Int32)) r181 σ181)
def wm_kitchen_j91 (P : Int32 → St → Prop) (K48 : Int32 → Int32 → Int32 → Int32 → St → Prop) (v1 : Int32) (v2 : Int32) (v3 : Int32) (σ : St) : Prop :=
  wm_kitchen_j175 P K48 v1 (v2 + (1 : Int32)) v3 σ
def wm_kitchen_j171 (P : Int32 → St → Prop) (K48 : Int32 → Int32 → Int32 → Int32 → St → Prop) (v1 : Int32) (v2 : Int32) (v3 : Int32) (s1 : Int32) (s2 : Int32) (σ : St) : Prop :=
  vp_in s1 11 ∧ (wm_kitchen_j175 P K48 (v1 + (1 : Int32)) v2 v3 (mU_hours σ s1 s2))
noncomputable def wm_kitchen_l48 (P : Int32 → St → Prop) (K189 : Int32 → Int32 → Int32 → St → Prop) (n : Nat) : Int32 → Int32 → Int32 → Int32 → St → Prop :=
  Nat.rec (fun _ _ _ _ _ => False) (fun _ ih v1 v2 v3 v4 σ => if v4 = 0 then (K189 v1 v2 v3 σ) else (sm_fine σ  (fun r54 σ54 => if r54 = 0 then (K189 v1 v2 v3 σ54) else (sm_here σ54  (fun r61 σ61 => if r61 = (71 : Int32) then (if v2 = (6 : Int32) then (sm_fault σ61 (mI_at σ61) (fun σ80 => wm_kitchen_j91 P ih v1 v2 v3 σ80)) else (sm_readGuest σ61 v2 (fun σ88 => wm_kitchen_j91 P ih v1 v2 v3 σ88))) else (if v1 = (10 : Int32) then (sm_fault σ61 (mI_at σ61) (fun σ108 => wm_kitchen_j175 P ih v1 v2 v3 σ108)) else (sm_letters σ61 (1 : Int32) (fun r121 σ121 => vp_in v1 11 ∧ (sm_number (mU_stuffs σ121 v1 r121) (2 : Int32) (fun r132 σ132 => vp_in v1 11 ∧ (sm_passes (mU_cost σ132 v1 r132) (72 : Int32) (fun r144 σ144 => vp_in v1 11 ∧ (sm_passes (mU_isHot σ144 v1 (vp_nar .boolean r144)) (43 : Int32) (fun r156 σ156 => if r156 = 0 then (wm_kitchen_j171 P ih v1 v2 v3 v1 (0 : Int32) σ156) else (sm_number σ156 (1 : Int32) (fun r164 σ164 => wm_kitchen_j171 P ih v1 v2 v3 v1 r164 σ164)))))))))))))))) n
theorem wm_kitchen_l48_s (P : Int32 → St → Prop) (K189 : Int32 → Int32 → Int32 → St → Prop) (n : Nat) (v1 : Int32) (v2 : Int32) (v3 : Int32) (v4 : Int32) (σ : St) : wm_kitchen_l48 P K189 (n + 1) v1 v2 v3 v4 σ = (if v4 = 0 then (K189 v1 v2 v3 σ) else (sm_fine σ  (fun r54 σ54 => if r54 = 0 then (K189 v1 v2 v3 σ54) else (sm_here σ54  (fun r61 σ61 => if r61 = (71 : Int32) then (if v2 = (6 : Int32) then (sm_fault σ61 (mI_at σ61) (fun σ80 => wm_kitchen_j91 P (wm_kitchen_l48 P K189 n) v1 v2 v3 σ80)) else (sm_readGuest σ61 v2 (fun σ88 => wm_kitchen_j91 P (wm_kitchen_l48 P K189 n) v1 v2 v3 σ88))) else (if v1 = (10 : Int32) then (sm_fault σ61 (mI_at σ61) (fun σ108 => wm_kitchen_j175 P (wm_kitchen_l48 P K189 n) v1 v2 v3 σ108)) else (sm_letters σ61 (1 : Int32) (fun r121 σ121 => vp_in v1 11 ∧ (sm_number (mU_stuffs σ121 v1 r121) (2 : Int32) (fun r132 σ132 => vp_in v1 11 ∧ (sm_passes (mU_cost σ132 v1 r132) (72 : Int32) (fun r144 σ144 => vp_in v1 11 ∧ (sm_passes (mU_isHot σ144 v1 (vp_nar .boolean r144)) (43 : Int32) (fun r156 σ156 => if r156 = 0 then (wm_kitchen_j171 P (wm_kitchen_l48 P K189 n) v1 v2 v3 v1 (0 : Int32) σ156) else (sm_number σ156 (1 : Int32) (fun r164 σ164 => wm_kitchen_j171 P (wm_kitchen_l48 P K189 n) v1 v2 v3 v1 r164 σ164)))))))))))))))) := rfl
def wm_kitchen_j240 (P : Int32 → St → Prop)  (v1 : Int32) (v2 : Int32) (v3 : Int32) (σ : St) : Prop :=
  P v3 (mS_guests (mS_dishes σ v1) v2)
def wm_kitchen_j208 (P : Int32 → St → Prop)  (v1 : Int32) (v2 : Int32) (v3 : Int32) (σ : St) : Prop :=
  sm_fine σ  (fun r209 σ209 => if r209 = 0 then (P ((-1 : Int32) - (mI_wrong σ209)) σ209) else (if v1 ≤ (mI_dishes σ209) then (wm_kitchen_j240 P  v1 v2 v3 σ209) else (wm_kitchen_j240 P  v1 v2 v3 (mS_came σ209 ((mI_came σ209) + (1 : Int32))))))
def wm_kitchen_j189 (P : Int32 → St → Prop)  (v1 : Int32) (v2 : Int32) (v3 : Int32) (σ : St) : Prop :=
  if (mI_size σ) ≤ (mI_at σ) then (wm_kitchen_j208 P  v1 v2 v3 σ) else (sm_fault σ (mI_at σ) (fun σ205 => wm_kitchen_j208 P  v1 v2 v3 σ205))
def wm_kitchen (σ : St)  (P : Int32 → St → Prop) : Prop :=
  sm_begin (mS_thrown σ (0 : Int32)) (1 : Int32) (mI_typed (mS_thrown σ (0 : Int32))) (76 : Int32) (fun σ16 => if (mI_size (mS_typed σ16 (0 : Int32))) = 0 then (P (0 : Int32) (mS_typed σ16 (0 : Int32))) else (∃ n48, wm_kitchen_l48 P (wm_kitchen_j189 P) n48 (mI_dishes (mS_typed σ16 (0 : Int32))) (mI_guests (mS_typed σ16 (0 : Int32))) (0 : Int32) (1 : Int32) (mS_typed σ16 (0 : Int32))))
abbrev sm_kitchen := @wm_kitchen
theorem sm_kitchen_ok {σ : St} {P : Int32 → St → Prop} (h : sm_kitchen σ  P) : wm_kitchen σ  P := h
/-! m.look -/
def wm_look_j71 (P : Int32 → St → Prop)  (s0 : Int32) (σ : St) : Prop :=
  P s0 σ
def wm_look (σ : St) (v1 : Int32) (P : Int32 → St → Prop) : Prop :=
  sm_isMenu (mS_thrown σ (0 : Int32)) v1 (fun r7 σ7 => if r7 = 0 then (P (-3 : Int32) σ7) else (sm_lookFromNothing σ7  (fun σ17 => sm_lookOn σ17 v1 (fun r22 σ22 => sm_tell (mS_rowMany σ22 (0 : Int32)) (mI_whyNot (mS_rowMany σ22 (0 : Int32))) (fun σ36 => sm_tell σ36 (mI_costTill σ36) (fun σ44 => sm_tell σ44 (mI_hungryTill σ44) (fun σ52 => vp_in v1 3 ∧ (if r22 = (mA_menuLong σ52 (v1).toNatClampNeg) then (wm_look_j71 P  (-2 : Int32) σ52) else (wm_look_j71 P  r22 σ52)))))))))
abbrev sm_look := @wm_look
theorem sm_look_ok {σ : St} {v1 : Int32} {P : Int32 → St → Prop} (h : sm_look σ v1 P) : wm_look σ v1 P := h
/-! m.tellMended -/
def wm_tellMended_j80 (P : St → Prop) (K21 : Int32 → Int32 → Int32 → Int32 → Int32 → St → Prop) (v1 : Int32) (v2 : Int32) (v3 : Int32) (v4 : Int32) (v5 : Int32) (σ : St) : Prop :=
  K21 v1 v2 v3 v4 (v5 + (1 : Int32)) σ
def wm_tellMended_j65 (P : St → Prop) (K10 : Int32 → Int32 → Int32 → Int32 → St → Prop) (K21 : Int32 → Int32 → Int32 → Int32 → Int32 → St → Prop) (v1 : Int32) (v2 : Int32) (v3 : Int32) (v4 : Int32) (v5 : Int32) (s0 : Int32) (s1 : Int32) (σ : St) : Prop :=
  sm_place v3 v4 (fun r73 => vp_in r73 11264 ∧ (if (s0 + s1) = (mA_changesFrom σ (r73).toNatClampNeg) then (sm_tell σ v5 (fun σ89 => K10 v1 v2 (v3 ||| ((1 : Int32) <<< (v5 &&& 31))) v5 σ89)) else (wm_tellMended_j80 P K21 v1 v2 v3 v4 v5 σ)))
noncomputable def wm_tellMended_l21 (P : St → Prop) (K10 : Int32 → Int32 → Int32 → Int32 → St → Prop) (n : Nat) : Int32 → Int32 → Int32 → Int32 → Int32 → St → Prop :=
  Nat.rec (fun _ _ _ _ _ _ => False) (fun _ ih v1 v2 v3 v4 v5 σ => sm_may σ v3 v4 v5 (fun r27 σ27 => if r27 = 0 then (wm_tellMended_j80 P ih v1 v2 v3 v4 v5 σ27) else (sm_place (v3 ||| ((1 : Int32) <<< (v5 &&& 31))) v5 (fun r45 => vp_in r45 11264 ∧ (sm_menuAt σ27 v1 v3 (fun r54 σ54 => if v5 = r54 then (wm_tellMended_j65 P K10 ih v1 v2 v3 v4 v5 (mA_changesFrom σ27 (r45).toNatClampNeg) (0 : Int32) σ54) else (wm_tellMended_j65 P K10 ih v1 v2 v3 v4 v5 (mA_changesFrom σ27 (r45).toNatClampNeg) (1 : Int32) σ54))))))) n
theorem wm_tellMended_l21_s (P : St → Prop) (K10 : Int32 → Int32 → Int32 → Int32 → St → Prop) (n : Nat) (v1 : Int32) (v2 : Int32) (v3 : Int32) (v4 : Int32) (v5 : Int32) (σ : St) : wm_tellMended_l21 P K10 (n + 1) v1 v2 v3 v4 v5 σ = (sm_may σ v3 v4 v5 (fun r27 σ27 => if r27 = 0 then (wm_tellMended_j80 P (wm_tellMended_l21 P K10 n) v1 v2 v3 v4 v5 σ27) else (sm_place (v3 ||| ((1 : Int32) <<< (v5 &&& 31))) v5 (fun r45 => vp_in r45 11264 ∧ (sm_menuAt σ27 v1 v3 (fun r54 σ54 => if v5 = r54 then (wm_tellMended_j65 P K10 (wm_tellMended_l21 P K10 n) v1 v2 v3 v4 v5 (mA_changesFrom σ27 (r45).toNatClampNeg) (0 : Int32) σ54) else (wm_tellMended_j65 P K10 (wm_tellMended_l21 P K10 n) v1 v2 v3 v4 v5 (mA_changesFrom σ27 (r45).toNatClampNeg) (1 : Int32) σ54))))))) := rfl
noncomputable def wm_tellMended_l10 (P : St → Prop)  (n : Nat) : Int32 → Int32 → Int32 → Int32 → St → Prop :=
  Nat.rec (fun _ _ _ _ _ => False) (fun _ ih v1 v2 v3 v4 σ => if v2 ≤ (bitC v3) then (P σ) else (∃ n21, wm_tellMended_l21 P ih n21 v1 v2 v3 v4 (0 : Int32) σ)) n
theorem wm_tellMended_l10_s (P : St → Prop)  (n : Nat) (v1 : Int32) (v2 : Int32) (v3 : Int32) (v4 : Int32) (σ : St) : wm_tellMended_l10 P  (n + 1) v1 v2 v3 v4 σ = (if v2 ≤ (bitC v3) then (P σ) else (∃ n21, wm_tellMended_l21 P (wm_tellMended_l10 P  n) n21 v1 v2 v3 v4 (0 : Int32) σ)) := rfl
def wm_tellMended (σ : St) (v1 : Int32) (v2 : Int32) (P : St → Prop) : Prop :=
  ∃ n10, wm_tellMended_l10 P  n10 v1 v2 (0 : Int32) (-1 : Int32) (mS_rowMany σ (0 : Int32))
abbrev sm_tellMended := @wm_tellMended
theorem sm_tellMended_ok {σ : St} {v1 : Int32} {v2 : Int32} {P : St → Prop} (h : sm_tellMended σ v1 v2 P) : wm_tellMended σ v1 v2 P := h
/-! m.tellWay -/
def wm_tellWay_j66 (P : St → Prop) (K24 : Int32 → Int32 → Int32 → Int32 → St → Prop) (v3 : Int32) (v4 : Int32) (v5 : Int32) (v6 : Int32) (σ : St) : Prop :=
  K24 v3 v4 v5 (v6 + (1 : Int32)) σ
noncomputable def wm_tellWay_l24 (P : St → Prop) (K6 : Int32 → Int32 → Int32 → St → Prop) (n : Nat) : Int32 → Int32 → Int32 → Int32 → St → Prop :=
  Nat.rec (fun _ _ _ _ _ => False) (fun _ ih v3 v4 v5 v6 σ => sm_has v3 v6 (fun r27 => if r27 = 0 then (wm_tellWay_j66 P ih v3 v4 v5 v6 σ) else (sm_may σ v4 v5 v6 (fun r40 σ40 => if r40 = 0 then (wm_tellWay_j66 P ih v3 v4 v5 v6 σ40) else (sm_place (v4 ||| ((1 : Int32) <<< (v6 &&& 31))) v6 (fun r59 => vp_in r59 11264 ∧ (if (mA_canEnd σ40 (r59).toNatClampNeg) = 0 then (wm_tellWay_j66 P ih v3 v4 v5 v6 σ40) else (sm_tell σ40 v6 (fun σ75 => K6 v3 (v4 ||| ((1 : Int32) <<< (v6 &&& 31))) v6 σ75))))))))) n
theorem wm_tellWay_l24_s (P : St → Prop) (K6 : Int32 → Int32 → Int32 → St → Prop) (n : Nat) (v3 : Int32) (v4 : Int32) (v5 : Int32) (v6 : Int32) (σ : St) : wm_tellWay_l24 P K6 (n + 1) v3 v4 v5 v6 σ = (sm_has v3 v6 (fun r27 => if r27 = 0 then (wm_tellWay_j66 P (wm_tellWay_l24 P K6 n) v3 v4 v5 v6 σ) else (sm_may σ v4 v5 v6 (fun r40 σ40 => if r40 = 0 then (wm_tellWay_j66 P (wm_tellWay_l24 P K6 n) v3 v4 v5 v6 σ40) else (sm_place (v4 ||| ((1 : Int32) <<< (v6 &&& 31))) v6 (fun r59 => vp_in r59 11264 ∧ (if (mA_canEnd σ40 (r59).toNatClampNeg) = 0 then (wm_tellWay_j66 P (wm_tellWay_l24 P K6 n) v3 v4 v5 v6 σ40) else (sm_tell σ40 v6 (fun σ75 => K6 v3 (v4 ||| ((1 : Int32) <<< (v6 &&& 31))) v6 σ75))))))))) := rfl
noncomputable def wm_tellWay_l6 (P : St → Prop)  (n : Nat) : Int32 → Int32 → Int32 → St → Prop :=
  Nat.rec (fun _ _ _ _ => False) (fun _ ih v3 v4 v5 σ => sm_place v4 v5 (fun r14 => vp_in r14 11264 ∧ (if (mA_isEnd σ (r14).toNatClampNeg) = 0 then (∃ n24, wm_tellWay_l24 P ih n24 v3 v4 v5 (0 : Int32) σ) else (P σ)))) n
theorem wm_tellWay_l6_s (P : St → Prop)  (n : Nat) (v3 : Int32) (v4 : Int32) (v5 : Int32) (σ : St) : wm_tellWay_l6 P  (n + 1) v3 v4 v5 σ = (sm_place v4 v5 (fun r14 => vp_in r14 11264 ∧ (if (mA_isEnd σ (r14).toNatClampNeg) = 0 then (∃ n24, wm_tellWay_l24 P (wm_tellWay_l6 P  n) n24 v3 v4 v5 (0 : Int32) σ) else (P σ)))) := rfl
def wm_tellWay (σ : St) (v1 : Int32) (v2 : Int32) (v3 : Int32) (P : St → Prop) : Prop :=
  ∃ n6, wm_tellWay_l6 P  n6 v3 v1 v2 σ
abbrev sm_tellWay := @wm_tellWay
theorem sm_tellWay_ok {σ : St} {v1 : Int32} {v2 : Int32} {v3 : Int32} {P : St → Prop} (h : sm_tellWay σ v1 v2 v3 P) : wm_tellWay σ v1 v2 v3 P := h
/-! m.falls -/
def wm_falls_j71 (P : Int32 → St → Prop) (K37 : Int32 → Int32 → Int32 → Int32 → Int32 → St → Prop) (v1 : Int32) (v2 : Int32) (v3 : Int32) (v5 : Int32) (s0 : Int32) (s1 : Int32) (σ : St) : Prop :=
  K37 v1 v2 v3 (s0 ||| s1) (v5 + (1 : Int32)) σ
def wm_falls_j70 (P : Int32 → St → Prop) (K37 : Int32 → Int32 → Int32 → Int32 → Int32 → St → Prop) (v1 : Int32) (v2 : Int32) (v3 : Int32) (v5 : Int32) (s0 : Int32) (σ : St) : Prop :=
  wm_falls_j71 P K37 v1 v2 v3 v5 s0 (0 : Int32) σ
noncomputable def wm_falls_l37 (P : Int32 → St → Prop) (K116 : Int32 → Int32 → Int32 → Int32 → Int32 → St → Prop) (n : Nat) : Int32 → Int32 → Int32 → Int32 → Int32 → St → Prop :=
  Nat.rec (fun _ _ _ _ _ _ => False) (fun _ ih v1 v2 v3 v4 v5 σ => if (3 : Int32) ≤ v5 then (K116 v4 (mI_share σ) (mI_times σ) (mI_heat σ) (0 : Int32) (mS_heat (mS_times (mS_share σ v1) v2) v3)) else (sm_isWhole σ v5 (fun r48 σ48 => if r48 = 0 then (wm_falls_j70 P ih v1 v2 v3 v5 v4 σ48) else (sm_isLawful σ48 v5 (fun r57 σ57 => if r57 = 0 then (wm_falls_j70 P ih v1 v2 v3 v5 v4 σ57) else (wm_falls_j71 P ih v1 v2 v3 v5 v4 ((1 : Int32) <<< (v5 &&& 31)) σ57)))))) n
theorem wm_falls_l37_s (P : Int32 → St → Prop) (K116 : Int32 → Int32 → Int32 → Int32 → Int32 → St → Prop) (n : Nat) (v1 : Int32) (v2 : Int32) (v3 : Int32) (v4 : Int32) (v5 : Int32) (σ : St) : wm_falls_l37 P K116 (n + 1) v1 v2 v3 v4 v5 σ = (if (3 : Int32) ≤ v5 then (K116 v4 (mI_share σ) (mI_times σ) (mI_heat σ) (0 : Int32) (mS_heat (mS_times (mS_share σ v1) v2) v3)) else (sm_isWhole σ v5 (fun r48 σ48 => if r48 = 0 then (wm_falls_j70 P (wm_falls_l37 P K116 n) v1 v2 v3 v5 v4 σ48) else (sm_isLawful σ48 v5 (fun r57 σ57 => if r57 = 0 then (wm_falls_j70 P (wm_falls_l37 P K116 n) v1 v2 v3 v5 v4 σ57) else (wm_falls_j71 P (wm_falls_l37 P K116 n) v1 v2 v3 v5 v4 ((1 : Int32) <<< (v5 &&& 31)) σ57)))))) := rfl
def wm_falls_j152 (P : Int32 → St → Prop) (K116 : Int32 → Int32 → Int32 → Int32 → Int32 → St → Prop) (v4 : Int32) (v5 : Int32) (v6 : Int32) (v7 : Int32) (v8 : Int32) (σ : St) : Prop :=
  K116 v4 v5 v6 v7 (v8 + (1 : Int32)) σ
noncomputable def wm_falls_l116 (P : Int32 → St → Prop)  (n : Nat) : Int32 → Int32 → Int32 → Int32 → Int32 → St → Prop :=
  Nat.rec (fun _ _ _ _ _ _ => False) (fun _ ih v4 v5 v6 v7 v8 σ => if (3 : Int32) ≤ v8 then (P v4 (mS_heat (mS_times (mS_share σ v5) v6) v7)) else (sm_has v4 v8 (fun r126 => if r126 = 0 then (wm_falls_j152 P ih v4 v5 v6 v7 v8 σ) else (sm_isLawful σ v8 (fun r135 σ135 => if r135 = 0 then (wm_falls_j152 P ih v4 v5 v6 v7 v8 σ135) else (wm_falls_j152 P ih (v4 &&& (((1 : Int32) <<< (v8 &&& 31)) ^^^ (-1 : Int32))) v5 v6 v7 v8 σ135)))))) n
theorem wm_falls_l116_s (P : Int32 → St → Prop)  (n : Nat) (v4 : Int32) (v5 : Int32) (v6 : Int32) (v7 : Int32) (v8 : Int32) (σ : St) : wm_falls_l116 P  (n + 1) v4 v5 v6 v7 v8 σ = (if (3 : Int32) ≤ v8 then (P v4 (mS_heat (mS_times (mS_share σ v5) v6) v7)) else (sm_has v4 v8 (fun r126 => if r126 = 0 then (wm_falls_j152 P (wm_falls_l116 P  n) v4 v5 v6 v7 v8 σ) else (sm_isLawful σ v8 (fun r135 σ135 => if r135 = 0 then (wm_falls_j152 P (wm_falls_l116 P  n) v4 v5 v6 v7 v8 σ135) else (wm_falls_j152 P (wm_falls_l116 P  n) (v4 &&& (((1 : Int32) <<< (v8 &&& 31)) ^^^ (-1 : Int32))) v5 v6 v7 v8 σ135)))))) := rfl
def wm_falls (σ : St) (v1 : Int32) (v2 : Int32) (v3 : Int32) (P : Int32 → St → Prop) : Prop :=
  sm_isLaw (0 : Int32) v1 (fun r7 => if r7 = 0 then (P (-1 : Int32) (mS_thrown σ (0 : Int32))) else (sm_isLaw (1 : Int32) v2 (fun r15 => if r15 = 0 then (P (-1 : Int32) (mS_thrown σ (0 : Int32))) else (sm_isLaw (2 : Int32) v3 (fun r23 => if r23 = 0 then (P (-1 : Int32) (mS_thrown σ (0 : Int32))) else (∃ n37, wm_falls_l37 P (fun v4 v5 v6 v7 v8 σ => ∃ n116, wm_falls_l116 P  n116 v4 v5 v6 v7 v8 σ) n37 v1 v2 v3 (0 : Int32) (0 : Int32) (mS_thrown σ (0 : Int32))))))))
abbrev sm_falls := @wm_falls
theorem sm_falls_ok {σ : St} {v1 : Int32} {v2 : Int32} {v3 : Int32} {P : Int32 → St → Prop} (h : sm_falls σ v1 v2 v3 P) : wm_falls σ v1 v2 v3 P := h
/-! m.fills -/
def wm_fills_j104 (P : Int64 → St → Prop) (K57 : Int32 → Int64 → Int32 → Int32 → Int32 → St → Prop) (v1 : Int32) (v2 : Int64) (v4 : Int32) (v5 : Int32) (v6 : Int32) (σ : St) : Prop :=
  K57 v1 v2 v4 v5 (v6 + (1 : Int32)) σ
noncomputable def wm_fills_l57 (P : Int64 → St → Prop) (K34 : Int32 → Int64 → Int32 → Int32 → St → Prop) (n : Nat) : Int32 → Int64 → Int32 → Int32 → Int32 → St → Prop :=
  Nat.rec (fun _ _ _ _ _ _ => False) (fun _ ih v1 v2 v4 v5 v6 σ => sm_isAsked σ v1 v4 v6 (fun r63 σ63 => if r63 = 0 then (wm_fills_j104 P ih v1 v2 v4 v5 v6 σ63) else (sm_may σ63 v4 v5 v6 (fun r76 σ76 => if r76 = 0 then (wm_fills_j104 P ih v1 v2 v4 v5 v6 σ76) else (sm_place (v4 ||| ((1 : Int32) <<< (v6 &&& 31))) v6 (fun r95 => vp_in r95 11264 ∧ (if 0 < (lg_cmp (mA_fillsFrom σ76 (r95).toNatClampNeg) (0 : Int64)) then (sm_tell σ76 v6 (fun σ113 => K34 v1 v2 (v4 ||| ((1 : Int32) <<< (v6 &&& 31))) v6 σ113)) else (wm_fills_j104 P ih v1 v2 v4 v5 v6 σ76)))))))) n
theorem wm_fills_l57_s (P : Int64 → St → Prop) (K34 : Int32 → Int64 → Int32 → Int32 → St → Prop) (n : Nat) (v1 : Int32) (v2 : Int64) (v4 : Int32) (v5 : Int32) (v6 : Int32) (σ : St) : wm_fills_l57 P K34 (n + 1) v1 v2 v4 v5 v6 σ = (sm_isAsked σ v1 v4 v6 (fun r63 σ63 => if r63 = 0 then (wm_fills_j104 P (wm_fills_l57 P K34 n) v1 v2 v4 v5 v6 σ63) else (sm_may σ63 v4 v5 v6 (fun r76 σ76 => if r76 = 0 then (wm_fills_j104 P (wm_fills_l57 P K34 n) v1 v2 v4 v5 v6 σ76) else (sm_place (v4 ||| ((1 : Int32) <<< (v6 &&& 31))) v6 (fun r95 => vp_in r95 11264 ∧ (if 0 < (lg_cmp (mA_fillsFrom σ76 (r95).toNatClampNeg) (0 : Int64)) then (sm_tell σ76 v6 (fun σ113 => K34 v1 v2 (v4 ||| ((1 : Int32) <<< (v6 &&& 31))) v6 σ113)) else (wm_fills_j104 P (wm_fills_l57 P K34 n) v1 v2 v4 v5 v6 σ76)))))))) := rfl
noncomputable def wm_fills_l34 (P : Int64 → St → Prop) (K132 : Int64 → St → Prop) (n : Nat) : Int32 → Int64 → Int32 → Int32 → St → Prop :=
  Nat.rec (fun _ _ _ _ _ => False) (fun _ ih v1 v2 v4 v5 σ => if (lg_cmp v2 (0 : Int64)) ≤ 0 then (K132 v2 σ) else (vp_in v1 3 ∧ (if (mA_menuLong σ (v1).toNatClampNeg) ≤ (bitC v4) then (K132 v2 σ) else (∃ n57, wm_fills_l57 P ih n57 v1 v2 v4 v5 (0 : Int32) σ)))) n
theorem wm_fills_l34_s (P : Int64 → St → Prop) (K132 : Int64 → St → Prop) (n : Nat) (v1 : Int32) (v2 : Int64) (v4 : Int32) (v5 : Int32) (σ : St) : wm_fills_l34 P K132 (n + 1) v1 v2 v4 v5 σ = (if (lg_cmp v2 (0 : Int64)) ≤ 0 then (K132 v2 σ) else (vp_in v1 3 ∧ (if (mA_menuLong σ (v1).toNatClampNeg) ≤ (bitC v4) then (K132 v2 σ) else (∃ n57, wm_fills_l57 P (wm_fills_l34 P K132 n) n57 v1 v2 v4 v5 (0 : Int32) σ)))) := rfl
def wm_fills_j132 (P : Int64 → St → Prop)  (v2 : Int64) (σ : St) : Prop :=
  P v2 σ
def wm_fills (σ : St) (v1 : Int32) (P : Int64 → St → Prop) : Prop :=
  sm_isMenu (mS_thrown σ (0 : Int32)) v1 (fun r7 σ7 => if r7 = 0 then (P (-3 : Int64) σ7) else (sm_findFills σ7 v1 (fun r19 σ19 => ∃ n34, wm_fills_l34 P (wm_fills_j132 P) n34 v1 r19 (0 : Int32) (-1 : Int32) (mS_rowMany σ19 (0 : Int32)))))
abbrev sm_fills := @wm_fills
theorem sm_fills_ok {σ : St} {v1 : Int32} {P : Int64 → St → Prop} (h : sm_fills σ v1 P) : wm_fills σ v1 P := h
/-! m.findGame -/
def wm_findGame_j33 (P : St → Prop) (K11 : Int32 → Int32 → St → Prop) (v1 : Int32) (v2 : Int32) (σ : St) : Prop :=
  K11 v1 (v2 + (1 : Int32)) σ
noncomputable def wm_findGame_l11 (P : St → Prop) (K5 : Int32 → St → Prop) (n : Nat) : Int32 → Int32 → St → Prop :=
  Nat.rec (fun _ _ _ => False) (fun _ ih v1 v2 σ => if (mI_dishes σ) ≤ v2 then (K5 (v1 + (-1 : Int32)) σ) else (sm_isState v1 v2 (fun r21 => if r21 = 0 then (wm_findGame_j33 P ih v1 v2 σ) else (sm_findTurn σ v1 v2 (fun σ30 => wm_findGame_j33 P ih v1 v2 σ30))))) n
theorem wm_findGame_l11_s (P : St → Prop) (K5 : Int32 → St → Prop) (n : Nat) (v1 : Int32) (v2 : Int32) (σ : St) : wm_findGame_l11 P K5 (n + 1) v1 v2 σ = (if (mI_dishes σ) ≤ v2 then (K5 (v1 + (-1 : Int32)) σ) else (sm_isState v1 v2 (fun r21 => if r21 = 0 then (wm_findGame_j33 P (wm_findGame_l11 P K5 n) v1 v2 σ) else (sm_findTurn σ v1 v2 (fun σ30 => wm_findGame_j33 P (wm_findGame_l11 P K5 n) v1 v2 σ30))))) := rfl
noncomputable def wm_findGame_l5 (P : St → Prop)  (n : Nat) : Int32 → St → Prop :=
  Nat.rec (fun _ _ => False) (fun _ ih v1 σ => if v1 < 0 then (P σ) else (∃ n11, wm_findGame_l11 P ih n11 v1 (-1 : Int32) σ)) n
theorem wm_findGame_l5_s (P : St → Prop)  (n : Nat) (v1 : Int32) (σ : St) : wm_findGame_l5 P  (n + 1) v1 σ = (if v1 < 0 then (P σ) else (∃ n11, wm_findGame_l11 P (wm_findGame_l5 P  n) n11 v1 (-1 : Int32) σ)) := rfl
def wm_findGame (σ : St)  (P : St → Prop) : Prop :=
  sm_all σ  (fun r1 σ1 => ∃ n5, wm_findGame_l5 P  n5 r1 σ1)
abbrev sm_findGame := @wm_findGame
theorem sm_findGame_ok {σ : St} {P : St → Prop} (h : sm_findGame σ  P) : wm_findGame σ  P := h
/-! m.longestBy -/
def wm_longestBy_j88 (P : Int32 → St → Prop) (K35 : Int32 → Int32 → Int32 → Int32 → Int32 → Int32 → St → Prop) (v1 : Int32) (v2 : Int32) (v3 : Int32) (v4 : Int32) (v5 : Int32) (v6 : Int32) (σ : St) : Prop :=
  K35 v1 v2 v3 v4 v5 (v6 + (1 : Int32)) σ
noncomputable def wm_longestBy_l35 (P : Int32 → St → Prop) (K23 : Int32 → Int32 → Int32 → Int32 → Int32 → St → Prop) (n : Nat) : Int32 → Int32 → Int32 → Int32 → Int32 → Int32 → St → Prop :=
  Nat.rec (fun _ _ _ _ _ _ _ => False) (fun _ ih v1 v2 v3 v4 v5 v6 σ => if (mI_dishes σ) ≤ v6 then (K23 v1 v2 v3 v4 (v5 + (1 : Int32)) σ) else (sm_has v5 v6 (fun r48 => if r48 = 0 then (wm_longestBy_j88 P ih v1 v2 v3 v4 v5 v6 σ) else (sm_place v5 v6 (fun r62 => vp_in r62 11264 ∧ (if (lg_cmp (mA_rows σ (r62).toNatClampNeg) (0 : Int64)) ≤ 0 then (wm_longestBy_j88 P ih v1 v2 v3 v4 v5 v6 σ) else (wm_longestBy_j88 P ih v1 v2 v3 (jmax v4 ((bitC v5) - (mI_servedMany σ))) v5 v6 σ))))))) n
theorem wm_longestBy_l35_s (P : Int32 → St → Prop) (K23 : Int32 → Int32 → Int32 → Int32 → Int32 → St → Prop) (n : Nat) (v1 : Int32) (v2 : Int32) (v3 : Int32) (v4 : Int32) (v5 : Int32) (v6 : Int32) (σ : St) : wm_longestBy_l35 P K23 (n + 1) v1 v2 v3 v4 v5 v6 σ = (if (mI_dishes σ) ≤ v6 then (K23 v1 v2 v3 v4 (v5 + (1 : Int32)) σ) else (sm_has v5 v6 (fun r48 => if r48 = 0 then (wm_longestBy_j88 P (wm_longestBy_l35 P K23 n) v1 v2 v3 v4 v5 v6 σ) else (sm_place v5 v6 (fun r62 => vp_in r62 11264 ∧ (if (lg_cmp (mA_rows σ (r62).toNatClampNeg) (0 : Int64)) ≤ 0 then (wm_longestBy_j88 P (wm_longestBy_l35 P K23 n) v1 v2 v3 v4 v5 v6 σ) else (wm_longestBy_j88 P (wm_longestBy_l35 P K23 n) v1 v2 v3 (jmax v4 ((bitC v5) - (mI_servedMany σ))) v5 v6 σ))))))) := rfl
noncomputable def wm_longestBy_l23 (P : Int32 → St → Prop) (K107 : Int32 → Int32 → Int32 → Int32 → Int32 → St → Prop) (n : Nat) : Int32 → Int32 → Int32 → Int32 → Int32 → St → Prop :=
  Nat.rec (fun _ _ _ _ _ _ => False) (fun _ ih v1 v2 v3 v4 v5 σ => sm_all σ  (fun r26 σ26 => if r26 < v5 then (sm_noEnds σ26  (fun σ101 => K107 v1 v2 v3 v4 (0 : Int32) σ101)) else (∃ n35, wm_longestBy_l35 P ih n35 v1 v2 v3 v4 v5 (0 : Int32) σ26))) n
theorem wm_longestBy_l23_s (P : Int32 → St → Prop) (K107 : Int32 → Int32 → Int32 → Int32 → Int32 → St → Prop) (n : Nat) (v1 : Int32) (v2 : Int32) (v3 : Int32) (v4 : Int32) (v5 : Int32) (σ : St) : wm_longestBy_l23 P K107 (n + 1) v1 v2 v3 v4 v5 σ = (sm_all σ  (fun r26 σ26 => if r26 < v5 then (sm_noEnds σ26  (fun σ101 => K107 v1 v2 v3 v4 (0 : Int32) σ101)) else (∃ n35, wm_longestBy_l35 P (wm_longestBy_l23 P K107 n) n35 v1 v2 v3 v4 v5 (0 : Int32) σ26))) := rfl
def wm_longestBy_j187 (P : Int32 → St → Prop) (K119 : Int32 → Int32 → Int32 → Int32 → Int32 → Int32 → St → Prop) (v1 : Int32) (v2 : Int32) (v3 : Int32) (v4 : Int32) (v5 : Int32) (v6 : Int32) (σ : St) : Prop :=
  K119 v1 v2 v3 v4 v5 (v6 + (1 : Int32)) σ
def wm_longestBy_j186 (P : Int32 → St → Prop) (K119 : Int32 → Int32 → Int32 → Int32 → Int32 → Int32 → St → Prop) (v1 : Int32) (v2 : Int32) (v3 : Int32) (v4 : Int32) (v5 : Int32) (v6 : Int32) (s1 : Int32) (s2 : Int32) (σ : St) : Prop :=
  vp_in s1 11264 ∧ (wm_longestBy_j187 P K119 v1 v2 v3 v4 v5 v6 (mU_isEnd σ s1 (vp_nar .boolean s2)))
noncomputable def wm_longestBy_l119 (P : Int32 → St → Prop) (K107 : Int32 → Int32 → Int32 → Int32 → Int32 → St → Prop) (n : Nat) : Int32 → Int32 → Int32 → Int32 → Int32 → Int32 → St → Prop :=
  Nat.rec (fun _ _ _ _ _ _ _ => False) (fun _ ih v1 v2 v3 v4 v5 v6 σ => if (mI_dishes σ) ≤ v6 then (K107 v1 v2 v3 v4 (v5 + (1 : Int32)) σ) else (sm_isState v5 v6 (fun r132 => if r132 = 0 then (wm_longestBy_j187 P ih v1 v2 v3 v4 v5 v6 σ) else (sm_place v5 v6 (fun r146 => vp_in r146 11264 ∧ (if (lg_cmp (mA_rows σ (r146).toNatClampNeg) (0 : Int64)) ≤ 0 then (wm_longestBy_j187 P ih v1 v2 v3 v4 v5 v6 σ) else (sm_place v5 v6 (fun r163 => if ((bitC v5) - (mI_servedMany σ)) = v4 then (wm_longestBy_j186 P ih v1 v2 v3 v4 v5 v6 r163 (1 : Int32) σ) else (wm_longestBy_j186 P ih v1 v2 v3 v4 v5 v6 r163 (0 : Int32) σ))))))))) n
theorem wm_longestBy_l119_s (P : Int32 → St → Prop) (K107 : Int32 → Int32 → Int32 → Int32 → Int32 → St → Prop) (n : Nat) (v1 : Int32) (v2 : Int32) (v3 : Int32) (v4 : Int32) (v5 : Int32) (v6 : Int32) (σ : St) : wm_longestBy_l119 P K107 (n + 1) v1 v2 v3 v4 v5 v6 σ = (if (mI_dishes σ) ≤ v6 then (K107 v1 v2 v3 v4 (v5 + (1 : Int32)) σ) else (sm_isState v5 v6 (fun r132 => if r132 = 0 then (wm_longestBy_j187 P (wm_longestBy_l119 P K107 n) v1 v2 v3 v4 v5 v6 σ) else (sm_place v5 v6 (fun r146 => vp_in r146 11264 ∧ (if (lg_cmp (mA_rows σ (r146).toNatClampNeg) (0 : Int64)) ≤ 0 then (wm_longestBy_j187 P (wm_longestBy_l119 P K107 n) v1 v2 v3 v4 v5 v6 σ) else (sm_place v5 v6 (fun r163 => if ((bitC v5) - (mI_servedMany σ)) = v4 then (wm_longestBy_j186 P (wm_longestBy_l119 P K107 n) v1 v2 v3 v4 v5 v6 r163 (1 : Int32) σ) else (wm_longestBy_j186 P (wm_longestBy_l119 P K107 n) v1 v2 v3 v4 v5 v6 r163 (0 : Int32) σ))))))))) := rfl
noncomputable def wm_longestBy_l107 (P : Int32 → St → Prop)  (n : Nat) : Int32 → Int32 → Int32 → Int32 → Int32 → St → Prop :=
  Nat.rec (fun _ _ _ _ _ _ => False) (fun _ ih v1 v2 v3 v4 v5 σ => sm_all σ  (fun r110 σ110 => if r110 < v5 then (sm_findEnds σ110 v1 (fun σ201 => sm_tellWay (mS_rowMany σ201 (0 : Int32)) v2 v3 v1 (fun σ213 => P v4 σ213))) else (∃ n119, wm_longestBy_l119 P ih n119 v1 v2 v3 v4 v5 (-1 : Int32) σ110))) n
theorem wm_longestBy_l107_s (P : Int32 → St → Prop)  (n : Nat) (v1 : Int32) (v2 : Int32) (v3 : Int32) (v4 : Int32) (v5 : Int32) (σ : St) : wm_longestBy_l107 P  (n + 1) v1 v2 v3 v4 v5 σ = (sm_all σ  (fun r110 σ110 => if r110 < v5 then (sm_findEnds σ110 v1 (fun σ201 => sm_tellWay (mS_rowMany σ201 (0 : Int32)) v2 v3 v1 (fun σ213 => P v4 σ213))) else (∃ n119, wm_longestBy_l119 P (wm_longestBy_l107 P  n) n119 v1 v2 v3 v4 v5 (-1 : Int32) σ110))) := rfl
def wm_longestBy (σ : St) (v1 : Int32) (P : Int32 → St → Prop) : Prop :=
  sm_servedSet σ  (fun r1 σ1 => sm_servedLast σ1  (fun r6 σ6 => sm_findRows σ6 r1 r6 v1 (fun σ14 => ∃ n23, wm_longestBy_l23 P (fun v1 v2 v3 v4 v5 σ => ∃ n107, wm_longestBy_l107 P  n107 v1 v2 v3 v4 v5 σ) n23 v1 r1 r6 (0 : Int32) (0 : Int32) σ14)))
abbrev sm_longestBy := @wm_longestBy
theorem sm_longestBy_ok {σ : St} {v1 : Int32} {P : Int32 → St → Prop} (h : sm_longestBy σ v1 P) : wm_longestBy σ v1 P := h
/-! m.mend -/
def wm_mend_j209 (P : Int32 → St → Prop) (K135 : Int32 → Int32 → Int32 → Int32 → Int32 → Int32 → Int32 → Int32 → St → Prop) (v1 : Int32) (v2 : Int32) (v3 : Int32) (v4 : Int32) (v5 : Int32) (v6 : Int32) (v7 : Int32) (v8 : Int32) (σ : St) : Prop :=
  K135 v1 v2 v3 v4 v5 v6 v7 (v8 + (1 : Int32)) σ
def wm_mend_j203 (P : Int32 → St → Prop) (K135 : Int32 → Int32 → Int32 → Int32 → Int32 → Int32 → Int32 → Int32 → St → Prop) (v1 : Int32) (v2 : Int32) (v3 : Int32) (v4 : Int32) (v5 : Int32) (v6 : Int32) (v8 : Int32) (s0 : Int32) (s1 : Int32) (s2 : Int32) (σ : St) : Prop :=
  wm_mend_j209 P K135 v1 v2 v3 v4 v5 v6 (jmin s0 (s1 + s2)) v8 σ
noncomputable def wm_mend_l135 (P : Int32 → St → Prop) (K215 : Int32 → Int32 → Int32 → Int32 → Int32 → Int32 → Int32 → St → Prop) (n : Nat) : Int32 → Int32 → Int32 → Int32 → Int32 → Int32 → Int32 → Int32 → St → Prop :=
  Nat.rec (fun _ _ _ _ _ _ _ _ _ => False) (fun _ ih v1 v2 v3 v4 v5 v6 v7 v8 σ => if (mI_dishes σ) ≤ v8 then (K215 v1 v2 v3 v4 v5 v6 v7 σ) else (if v4 ≤ (bitC v5) then (K215 v1 v2 v3 v4 v5 v6 v7 σ) else (sm_may σ v5 v6 v8 (fun r161 σ161 => if r161 = 0 then (wm_mend_j209 P ih v1 v2 v3 v4 v5 v6 v7 v8 σ161) else (sm_place (v5 ||| ((1 : Int32) <<< (v8 &&& 31))) v8 (fun r182 => vp_in r182 11264 ∧ (sm_menuAt σ161 v1 v5 (fun r192 σ192 => if v8 = r192 then (wm_mend_j203 P ih v1 v2 v3 v4 v5 v6 v8 v7 (mA_changesFrom σ161 (r182).toNatClampNeg) (0 : Int32) σ192) else (wm_mend_j203 P ih v1 v2 v3 v4 v5 v6 v8 v7 (mA_changesFrom σ161 (r182).toNatClampNeg) (1 : Int32) σ192))))))))) n
theorem wm_mend_l135_s (P : Int32 → St → Prop) (K215 : Int32 → Int32 → Int32 → Int32 → Int32 → Int32 → Int32 → St → Prop) (n : Nat) (v1 : Int32) (v2 : Int32) (v3 : Int32) (v4 : Int32) (v5 : Int32) (v6 : Int32) (v7 : Int32) (v8 : Int32) (σ : St) : wm_mend_l135 P K215 (n + 1) v1 v2 v3 v4 v5 v6 v7 v8 σ = (if (mI_dishes σ) ≤ v8 then (K215 v1 v2 v3 v4 v5 v6 v7 σ) else (if v4 ≤ (bitC v5) then (K215 v1 v2 v3 v4 v5 v6 v7 σ) else (sm_may σ v5 v6 v8 (fun r161 σ161 => if r161 = 0 then (wm_mend_j209 P (wm_mend_l135 P K215 n) v1 v2 v3 v4 v5 v6 v7 v8 σ161) else (sm_place (v5 ||| ((1 : Int32) <<< (v8 &&& 31))) v8 (fun r182 => vp_in r182 11264 ∧ (sm_menuAt σ161 v1 v5 (fun r192 σ192 => if v8 = r192 then (wm_mend_j203 P (wm_mend_l135 P K215 n) v1 v2 v3 v4 v5 v6 v8 v7 (mA_changesFrom σ161 (r182).toNatClampNeg) (0 : Int32) σ192) else (wm_mend_j203 P (wm_mend_l135 P K215 n) v1 v2 v3 v4 v5 v6 v8 v7 (mA_changesFrom σ161 (r182).toNatClampNeg) (1 : Int32) σ192))))))))) := rfl
def wm_mend_j235 (P : Int32 → St → Prop) (K91 : Int32 → Int32 → Int32 → Int32 → Int32 → Int32 → St → Prop) (v1 : Int32) (v2 : Int32) (v3 : Int32) (v4 : Int32) (v5 : Int32) (v6 : Int32) (σ : St) : Prop :=
  K91 v1 v2 v3 v4 v5 (v6 + (1 : Int32)) σ
def wm_mend_j215 (P : Int32 → St → Prop) (K91 : Int32 → Int32 → Int32 → Int32 → Int32 → Int32 → St → Prop) (v1 : Int32) (v2 : Int32) (v3 : Int32) (v4 : Int32) (v5 : Int32) (v6 : Int32) (v7 : Int32) (σ : St) : Prop :=
  sm_place v5 v6 (fun r223 => vp_in r223 11264 ∧ (wm_mend_j235 P K91 v1 v2 v3 v4 v5 v6 (mU_changesFrom σ r223 (jmin v7 (1000000 : Int32)))))
def wm_mend_j130 (P : Int32 → St → Prop) (K91 : Int32 → Int32 → Int32 → Int32 → Int32 → Int32 → St → Prop) (v1 : Int32) (v2 : Int32) (v3 : Int32) (v4 : Int32) (v5 : Int32) (v6 : Int32) (s0 : Int32) (σ : St) : Prop :=
  ∃ n135, wm_mend_l135 P (wm_mend_j215 P K91) n135 v1 v2 v3 v4 v5 v6 s0 (0 : Int32) σ
noncomputable def wm_mend_l91 (P : Int32 → St → Prop) (K241 : Int32 → Int32 → Int32 → Int32 → Int32 → St → Prop) (n : Nat) : Int32 → Int32 → Int32 → Int32 → Int32 → Int32 → St → Prop :=
  Nat.rec (fun _ _ _ _ _ _ _ => False) (fun _ ih v1 v2 v3 v4 v5 v6 σ => if (mI_dishes σ) ≤ v6 then (K241 v1 v2 v3 v4 v5 σ) else (sm_isState v5 v6 (fun r104 => if r104 = 0 then (wm_mend_j235 P ih v1 v2 v3 v4 v5 v6 σ) else (if (bitC v5) = v4 then (wm_mend_j130 P ih v1 v2 v3 v4 v5 v6 (0 : Int32) σ) else (wm_mend_j130 P ih v1 v2 v3 v4 v5 v6 (1000000 : Int32) σ))))) n
theorem wm_mend_l91_s (P : Int32 → St → Prop) (K241 : Int32 → Int32 → Int32 → Int32 → Int32 → St → Prop) (n : Nat) (v1 : Int32) (v2 : Int32) (v3 : Int32) (v4 : Int32) (v5 : Int32) (v6 : Int32) (σ : St) : wm_mend_l91 P K241 (n + 1) v1 v2 v3 v4 v5 v6 σ = (if (mI_dishes σ) ≤ v6 then (K241 v1 v2 v3 v4 v5 σ) else (sm_isState v5 v6 (fun r104 => if r104 = 0 then (wm_mend_j235 P (wm_mend_l91 P K241 n) v1 v2 v3 v4 v5 v6 σ) else (if (bitC v5) = v4 then (wm_mend_j130 P (wm_mend_l91 P K241 n) v1 v2 v3 v4 v5 v6 (0 : Int32) σ) else (wm_mend_j130 P (wm_mend_l91 P K241 n) v1 v2 v3 v4 v5 v6 (1000000 : Int32) σ))))) := rfl
def wm_mend_j241 (P : Int32 → St → Prop) (K70 : Int32 → Int32 → Int32 → Int32 → Int32 → St → Prop) (v1 : Int32) (v2 : Int32) (v3 : Int32) (v4 : Int32) (v5 : Int32) (σ : St) : Prop :=
  K70 v1 v2 v3 v4 (v5 + (-1 : Int32)) σ
noncomputable def wm_mend_l70 (P : Int32 → St → Prop) (K274 : Int32 → Int32 → Int32 → St → Prop) (n : Nat) : Int32 → Int32 → Int32 → Int32 → Int32 → St → Prop :=
  Nat.rec (fun _ _ _ _ _ _ => False) (fun _ ih v1 v2 v3 v4 v5 σ => if v5 < 0 then (sm_place (0 : Int32) (-1 : Int32) (fun r253 => vp_in r253 11264 ∧ (if (1000000 : Int32) ≤ (mA_changesFrom σ (r253).toNatClampNeg) then (K274 v2 v3 (mA_changesFrom σ (r253).toNatClampNeg) σ) else (sm_tellMended σ v1 v4 (fun σ271 => K274 v2 v3 (mA_changesFrom σ (r253).toNatClampNeg) σ271))))) else (if (bitC v5) ≤ v4 then (∃ n91, wm_mend_l91 P (wm_mend_j241 P ih) n91 v1 v2 v3 v4 v5 (-1 : Int32) σ) else (wm_mend_j241 P ih v1 v2 v3 v4 v5 σ))) n
theorem wm_mend_l70_s (P : Int32 → St → Prop) (K274 : Int32 → Int32 → Int32 → St → Prop) (n : Nat) (v1 : Int32) (v2 : Int32) (v3 : Int32) (v4 : Int32) (v5 : Int32) (σ : St) : wm_mend_l70 P K274 (n + 1) v1 v2 v3 v4 v5 σ = (if v5 < 0 then (sm_place (0 : Int32) (-1 : Int32) (fun r253 => vp_in r253 11264 ∧ (if (1000000 : Int32) ≤ (mA_changesFrom σ (r253).toNatClampNeg) then (K274 v2 v3 (mA_changesFrom σ (r253).toNatClampNeg) σ) else (sm_tellMended σ v1 v4 (fun σ271 => K274 v2 v3 (mA_changesFrom σ (r253).toNatClampNeg) σ271))))) else (if (bitC v5) ≤ v4 then (∃ n91, wm_mend_l91 P (wm_mend_j241 P (wm_mend_l70 P K274 n)) n91 v1 v2 v3 v4 v5 (-1 : Int32) σ) else (wm_mend_j241 P (wm_mend_l70 P K274 n) v1 v2 v3 v4 v5 σ))) := rfl
def wm_mend_j301 (P : Int32 → St → Prop)  (s0 : Int32) (σ : St) : Prop :=
  P s0 σ
def wm_mend_j286 (P : Int32 → St → Prop)  (v5 : Int32) (σ : St) : Prop :=
  if (1000000 : Int32) ≤ v5 then (wm_mend_j301 P  (-2 : Int32) σ) else (wm_mend_j301 P  v5 σ)
def wm_mend_j274 (P : Int32 → St → Prop)  (v2 : Int32) (v3 : Int32) (v5 : Int32) (σ : St) : Prop :=
  if v2 = (-1 : Int32) then (wm_mend_j286 P  v5 σ) else (vp_in v2 8 ∧ (wm_mend_j286 P  v5 (mU_store σ v2 v3)))
def wm_mend_j56 (P : Int32 → St → Prop)  (v1 : Int32) (v2 : Int32) (v3 : Int32) (σ : St) : Prop :=
  vp_in v1 3 ∧ (sm_all σ  (fun r65 σ65 => ∃ n70, wm_mend_l70 P (wm_mend_j274 P) n70 v1 v2 v3 (mA_menuLong σ (v1).toNatClampNeg) r65 σ65))
def wm_mend_j43 (P : Int32 → St → Prop)  (v1 : Int32) (v2 : Int32) (s0 : Int32) (σ : St) : Prop :=
  if v2 = (-1 : Int32) then (wm_mend_j56 P  v1 v2 s0 σ) else (vp_in v2 8 ∧ (wm_mend_j56 P  v1 v2 s0 (mU_store σ v2 (0 : Int32))))
def wm_mend (σ : St) (v1 : Int32) (v2 : Int32) (P : Int32 → St → Prop) : Prop :=
  sm_in v2 (-1 : Int32) (7 : Int32) (fun r9 => if r9 = 0 then (P (-1 : Int32) (mS_thrown σ (0 : Int32))) else (sm_isWhole (mS_thrown σ (0 : Int32)) v1 (fun r19 σ19 => if r19 = 0 then (P (-3 : Int32) σ19) else (if v2 = (-1 : Int32) then (wm_mend_j43 P  v1 v2 (0 : Int32) σ19) else (vp_in v2 8 ∧ (wm_mend_j43 P  v1 v2 (mA_store σ19 (v2).toNatClampNeg) σ19))))))
abbrev sm_mend := @wm_mend
theorem sm_mend_ok {σ : St} {v1 : Int32} {v2 : Int32} {P : Int32 → St → Prop} (h : sm_mend σ v1 v2 P) : wm_mend σ v1 v2 P := h
/-! m.shut -/
def wm_shut_j93 (P : Int32 → St → Prop) (K45 : Int32 → Int32 → Int32 → Int32 → St → Prop) (v1 : Int32) (v2 : Int32) (v3 : Int32) (v4 : Int32) (σ : St) : Prop :=
  K45 v1 v2 v3 (v4 + (1 : Int32)) σ
noncomputable def wm_shut_l45 (P : Int32 → St → Prop) (K34 : Int32 → Int32 → Int32 → St → Prop) (n : Nat) : Int32 → Int32 → Int32 → Int32 → St → Prop :=
  Nat.rec (fun _ _ _ _ _ => False) (fun _ ih v1 v2 v3 v4 σ => if (mI_dishes σ) ≤ v4 then (K34 v1 v2 (v3 + (1 : Int32)) σ) else (sm_has v3 v4 (fun r57 => if r57 = 0 then (wm_shut_j93 P ih v1 v2 v3 v4 σ) else (sm_place v3 v4 (fun r70 => vp_in r70 11264 ∧ (if (lg_cmp (mA_rows σ (r70).toNatClampNeg) (0 : Int64)) ≤ 0 then (wm_shut_j93 P ih v1 v2 v3 v4 σ) else (if (bitC v3) ≤ v1 then (wm_shut_j93 P ih v1 v2 v3 v4 σ) else (wm_shut_j93 P ih v1 (v2 &&& (v3 ^^^ (-1 : Int32))) v3 v4 σ)))))))) n
theorem wm_shut_l45_s (P : Int32 → St → Prop) (K34 : Int32 → Int32 → Int32 → St → Prop) (n : Nat) (v1 : Int32) (v2 : Int32) (v3 : Int32) (v4 : Int32) (σ : St) : wm_shut_l45 P K34 (n + 1) v1 v2 v3 v4 σ = (if (mI_dishes σ) ≤ v4 then (K34 v1 v2 (v3 + (1 : Int32)) σ) else (sm_has v3 v4 (fun r57 => if r57 = 0 then (wm_shut_j93 P (wm_shut_l45 P K34 n) v1 v2 v3 v4 σ) else (sm_place v3 v4 (fun r70 => vp_in r70 11264 ∧ (if (lg_cmp (mA_rows σ (r70).toNatClampNeg) (0 : Int64)) ≤ 0 then (wm_shut_j93 P (wm_shut_l45 P K34 n) v1 v2 v3 v4 σ) else (if (bitC v3) ≤ v1 then (wm_shut_j93 P (wm_shut_l45 P K34 n) v1 v2 v3 v4 σ) else (wm_shut_j93 P (wm_shut_l45 P K34 n) v1 (v2 &&& (v3 ^^^ (-1 : Int32))) v3 v4 σ)))))))) := rfl
noncomputable def wm_shut_l34 (P : Int32 → St → Prop)  (n : Nat) : Int32 → Int32 → Int32 → St → Prop :=
  Nat.rec (fun _ _ _ _ => False) (fun _ ih v1 v2 v3 σ => sm_all σ  (fun r36 σ36 => if r36 < v3 then (P v2 σ36) else (∃ n45, wm_shut_l45 P ih n45 v1 v2 v3 (0 : Int32) σ36))) n
theorem wm_shut_l34_s (P : Int32 → St → Prop)  (n : Nat) (v1 : Int32) (v2 : Int32) (v3 : Int32) (σ : St) : wm_shut_l34 P  (n + 1) v1 v2 v3 σ = (sm_all σ  (fun r36 σ36 => if r36 < v3 then (P v2 σ36) else (∃ n45, wm_shut_l45 P (wm_shut_l34 P  n) n45 v1 v2 v3 (0 : Int32) σ36))) := rfl
def wm_shut (σ : St) (v1 : Int32) (P : Int32 → St → Prop) : Prop :=
  sm_in v1 (0 : Int32) (9 : Int32) (fun r9 => if r9 = 0 then (P (-1 : Int32) (mS_thrown σ (0 : Int32))) else (sm_all (mS_thrown σ (0 : Int32))  (fun r21 σ21 => sm_findRows σ21 (0 : Int32) (-1 : Int32) r21 (fun σ24 => sm_all σ24  (fun r28 σ28 => ∃ n34, wm_shut_l34 P  n34 v1 r28 (0 : Int32) σ28)))))
abbrev sm_shut := @wm_shut
theorem sm_shut_ok {σ : St} {v1 : Int32} {P : Int32 → St → Prop} (h : sm_shut σ v1 P) : wm_shut σ v1 P := h
/-! m.sure -/
def wm_sure_j29 (P : Int32 → St → Prop)  (σ : St) : Prop :=
  P (-3 : Int32) σ
def wm_sure_j121 (P : Int32 → St → Prop) (K57 : Int32 → Int32 → Int64 → Int32 → Int32 → Int32 → St → Prop) (v1 : Int32) (v2 : Int32) (v3 : Int64) (v5 : Int32) (v6 : Int32) (v7 : Int32) (σ : St) : Prop :=
  K57 v1 v2 v3 v5 v6 (v7 + (1 : Int32)) σ
def wm_sure_j89 (P : Int32 → St → Prop) (K57 : Int32 → Int32 → Int64 → Int32 → Int32 → Int32 → St → Prop) (v1 : Int32) (v2 : Int32) (v3 : Int64) (v5 : Int32) (v6 : Int32) (v7 : Int32) (σ : St) : Prop :=
  vp_in (((10 : Int32) * v1) + v2) 30 ∧ (sm_findFills (mU_menus σ (((10 : Int32) * v1) + v2) v7) v1 (fun r104 σ104 => if (lg_cmp r104 v3) = 0 then (wm_sure_j121 P K57 v1 v2 v3 v5 (v6 ||| ((1 : Int32) <<< (v7 &&& 31))) v7 σ104) else (wm_sure_j121 P K57 v1 v2 v3 v5 v6 v7 σ104)))
noncomputable def wm_sure_l57 (P : Int32 → St → Prop) (K127 : Int32 → Int32 → Int32 → Int32 → St → Prop) (n : Nat) : Int32 → Int32 → Int64 → Int32 → Int32 → Int32 → St → Prop :=
  Nat.rec (fun _ _ _ _ _ _ _ => False) (fun _ ih v1 v2 v3 v5 v6 v7 σ => if (mI_dishes σ) ≤ v7 then (K127 v1 v2 v5 v6 σ) else (if (lg_cmp v3 (0 : Int64)) ≤ 0 then (K127 v1 v2 v5 v6 σ) else (if v5 = (99 : Int32) then (wm_sure_j89 P ih v1 v2 v3 v5 v6 v7 σ) else (if v5 = v7 then (wm_sure_j89 P ih v1 v2 v3 v5 v6 v7 σ) else (wm_sure_j121 P ih v1 v2 v3 v5 v6 v7 σ))))) n
theorem wm_sure_l57_s (P : Int32 → St → Prop) (K127 : Int32 → Int32 → Int32 → Int32 → St → Prop) (n : Nat) (v1 : Int32) (v2 : Int32) (v3 : Int64) (v5 : Int32) (v6 : Int32) (v7 : Int32) (σ : St) : wm_sure_l57 P K127 (n + 1) v1 v2 v3 v5 v6 v7 σ = (if (mI_dishes σ) ≤ v7 then (K127 v1 v2 v5 v6 σ) else (if (lg_cmp v3 (0 : Int64)) ≤ 0 then (K127 v1 v2 v5 v6 σ) else (if v5 = (99 : Int32) then (wm_sure_j89 P (wm_sure_l57 P K127 n) v1 v2 v3 v5 v6 v7 σ) else (if v5 = v7 then (wm_sure_j89 P (wm_sure_l57 P K127 n) v1 v2 v3 v5 v6 v7 σ) else (wm_sure_j121 P (wm_sure_l57 P K127 n) v1 v2 v3 v5 v6 v7 σ))))) := rfl
def wm_sure_j127 (P : Int32 → St → Prop)  (v1 : Int32) (v2 : Int32) (v5 : Int32) (v6 : Int32) (σ : St) : Prop :=
  vp_in (((10 : Int32) * v1) + v2) 30 ∧ (P v6 (mU_menus σ (((10 : Int32) * v1) + v2) v5))
def wm_sure (σ : St) (v1 : Int32) (v2 : Int32) (P : Int32 → St → Prop) : Prop :=
  sm_isMenu (mS_thrown σ (0 : Int32)) v1 (fun r7 σ7 => if r7 = 0 then (wm_sure_j29 P  σ7) else (vp_in v1 3 ∧ (sm_in v2 (0 : Int32) ((mA_menuLong σ7 (v1).toNatClampNeg) - (1 : Int32)) (fun r23 => if r23 = 0 then (wm_sure_j29 P  σ7) else (sm_findFills σ7 v1 (fun r34 σ34 => vp_in (((10 : Int32) * v1) + v2) 30 ∧ (∃ n57, wm_sure_l57 P (wm_sure_j127 P) n57 v1 v2 r34 (mA_menus σ34 ((((10 : Int32) * v1) + v2)).toNatClampNeg) (0 : Int32) (0 : Int32) σ34)))))))
abbrev sm_sure := @wm_sure
theorem sm_sure_ok {σ : St} {v1 : Int32} {v2 : Int32} {P : Int32 → St → Prop} (h : sm_sure σ v1 v2 P) : wm_sure σ v1 v2 P := h
/-! m.tellFrom -/
def wm_tellFrom (σ : St) (v1 : Int32) (v2 : Int32) (P : Int32 → St → Prop) : Prop :=
  sm_all σ  (fun r2 σ2 => sm_findEnds σ2 r2 (fun σ5 => sm_may σ5 (0 : Int32) (-1 : Int32) v1 (fun r12 σ12 => if r12 = 0 then (P (0 : Int32) σ12) else (sm_place ((1 : Int32) <<< (v1 &&& 31)) v1 (fun r26 => vp_in r26 11264 ∧ (if (mA_canEnd σ12 (r26).toNatClampNeg) = 0 then (P (0 : Int32) σ12) else (sm_tell (mS_rowMany σ12 (0 : Int32)) v1 (fun σ42 => sm_all σ42  (fun r51 σ51 => sm_tellWay σ51 ((1 : Int32) <<< (v1 &&& 31)) v1 r51 (fun σ54 => P (1 : Int32) σ54))))))))))
abbrev sm_tellFrom := @wm_tellFrom
theorem sm_tellFrom_ok {σ : St} {v1 : Int32} {v2 : Int32} {P : Int32 → St → Prop} (h : sm_tellFrom σ v1 v2 P) : wm_tellFrom σ v1 v2 P := h
/-! m.ways -/
def wm_ways_j100 (P : Int64 → St → Prop) (K52 : Int32 → Int64 → Int32 → Int32 → St → Prop) (v1 : Int32) (v2 : Int64) (v4 : Int32) (v5 : Int32) (σ : St) : Prop :=
  K52 v1 v2 v4 (v5 + (1 : Int32)) σ
noncomputable def wm_ways_l52 (P : Int64 → St → Prop) (K40 : Int32 → Int64 → Int32 → St → Prop) (n : Nat) : Int32 → Int64 → Int32 → Int32 → St → Prop :=
  Nat.rec (fun _ _ _ _ _ => False) (fun _ ih v1 v2 v4 v5 σ => if (mI_dishes σ) ≤ v5 then (K40 v1 v2 (v4 + (1 : Int32)) σ) else (sm_isState v4 v5 (fun r65 => if r65 = 0 then (wm_ways_j100 P ih v1 v2 v4 v5 σ) else (if (bitC v4) = ((mI_servedMany σ) + v1) then (sm_place v4 v5 (fun r94 => vp_in r94 11264 ∧ (wm_ways_j100 P ih v1 (v2 + (mA_rows σ (r94).toNatClampNeg)) v4 v5 σ))) else (wm_ways_j100 P ih v1 v2 v4 v5 σ))))) n
theorem wm_ways_l52_s (P : Int64 → St → Prop) (K40 : Int32 → Int64 → Int32 → St → Prop) (n : Nat) (v1 : Int32) (v2 : Int64) (v4 : Int32) (v5 : Int32) (σ : St) : wm_ways_l52 P K40 (n + 1) v1 v2 v4 v5 σ = (if (mI_dishes σ) ≤ v5 then (K40 v1 v2 (v4 + (1 : Int32)) σ) else (sm_isState v4 v5 (fun r65 => if r65 = 0 then (wm_ways_j100 P (wm_ways_l52 P K40 n) v1 v2 v4 v5 σ) else (if (bitC v4) = ((mI_servedMany σ) + v1) then (sm_place v4 v5 (fun r94 => vp_in r94 11264 ∧ (wm_ways_j100 P (wm_ways_l52 P K40 n) v1 (v2 + (mA_rows σ (r94).toNatClampNeg)) v4 v5 σ))) else (wm_ways_j100 P (wm_ways_l52 P K40 n) v1 v2 v4 v5 σ))))) := rfl
noncomputable def wm_ways_l40 (P : Int64 → St → Prop)  (n : Nat) : Int32 → Int64 → Int32 → St → Prop :=
  Nat.rec (fun _ _ _ _ => False) (fun _ ih v1 v2 v4 σ => sm_all σ  (fun r43 σ43 => if r43 < v4 then (P v2 σ43) else (∃ n52, wm_ways_l52 P ih n52 v1 v2 v4 (-1 : Int32) σ43))) n
theorem wm_ways_l40_s (P : Int64 → St → Prop)  (n : Nat) (v1 : Int32) (v2 : Int64) (v4 : Int32) (σ : St) : wm_ways_l40 P  (n + 1) v1 v2 v4 σ = (sm_all σ  (fun r43 σ43 => if r43 < v4 then (P v2 σ43) else (∃ n52, wm_ways_l52 P (wm_ways_l40 P  n) n52 v1 v2 v4 (-1 : Int32) σ43))) := rfl
def wm_ways (σ : St) (v1 : Int32) (P : Int64 → St → Prop) : Prop :=
  sm_in v1 (0 : Int32) (10 : Int32) (fun r9 => if r9 = 0 then (P (-1 : Int64) (mS_thrown σ (0 : Int32))) else (sm_servedSet (mS_thrown σ (0 : Int32))  (fun r21 σ21 => sm_servedLast σ21  (fun r25 σ25 => sm_all σ25  (fun r29 σ29 => sm_findRows σ29 r21 r25 r29 (fun σ32 => ∃ n40, wm_ways_l40 P  n40 v1 (0 : Int64) (0 : Int32) σ32))))))
abbrev sm_ways := @wm_ways
theorem sm_ways_ok {σ : St} {v1 : Int32} {P : Int64 → St → Prop} (h : sm_ways σ v1 P) : wm_ways σ v1 P := h
/-! m.bears -/
def wm_bears_j44 (P : Int32 → St → Prop) (K19 : Int32 → Int32 → Int32 → St → Prop) (v1 : Int32) (v3 : Int32) (s0 : Int32) (s1 : Int32) (σ : St) : Prop :=
  K19 v1 (s0 ||| s1) (v3 + (1 : Int32)) σ
noncomputable def wm_bears_l19 (P : Int32 → St → Prop)  (n : Nat) : Int32 → Int32 → Int32 → St → Prop :=
  Nat.rec (fun _ _ _ _ => False) (fun _ ih v1 v2 v3 σ => if (mI_dishes σ) ≤ v3 then (sm_longestBy σ v2 (fun r54 σ54 => P r54 σ54)) else (sm_isHungry σ v1 v3 (fun r31 σ31 => if r31 = 0 then (wm_bears_j44 P ih v1 v3 v2 ((1 : Int32) <<< (v3 &&& 31)) σ31) else (wm_bears_j44 P ih v1 v3 v2 (0 : Int32) σ31)))) n
theorem wm_bears_l19_s (P : Int32 → St → Prop)  (n : Nat) (v1 : Int32) (v2 : Int32) (v3 : Int32) (σ : St) : wm_bears_l19 P  (n + 1) v1 v2 v3 σ = (if (mI_dishes σ) ≤ v3 then (sm_longestBy σ v2 (fun r54 σ54 => P r54 σ54)) else (sm_isHungry σ v1 v3 (fun r31 σ31 => if r31 = 0 then (wm_bears_j44 P (wm_bears_l19 P  n) v1 v3 v2 ((1 : Int32) <<< (v3 &&& 31)) σ31) else (wm_bears_j44 P (wm_bears_l19 P  n) v1 v3 v2 (0 : Int32) σ31)))) := rfl
def wm_bears (σ : St) (v1 : Int32) (P : Int32 → St → Prop) : Prop :=
  sm_isGuest (mS_thrown σ (0 : Int32)) v1 (fun r7 σ7 => if r7 = 0 then (P (-1 : Int32) σ7) else (∃ n19, wm_bears_l19 P  n19 v1 (0 : Int32) (0 : Int32) σ7))
abbrev sm_bears := @wm_bears
theorem sm_bears_ok {σ : St} {v1 : Int32} {P : Int32 → St → Prop} (h : sm_bears σ v1 P) : wm_bears σ v1 P := h
/-! m.betweenBy -/
def wm_betweenBy_j117 (P : Int32 → St → Prop) (K57 : Int32 → Int32 → Int32 → Int32 → Int32 → Int32 → St → Prop) (v1 : Int32) (v2 : Int32) (v3 : Int32) (v4 : Int32) (v5 : Int32) (v6 : Int32) (σ : St) : Prop :=
  K57 v1 v2 v3 v4 v5 (v6 + (1 : Int32)) σ
def wm_betweenBy_j105 (P : Int32 → St → Prop) (K57 : Int32 → Int32 → Int32 → Int32 → Int32 → Int32 → St → Prop) (v1 : Int32) (v2 : Int32) (v3 : Int32) (v4 : Int32) (v5 : Int32) (v6 : Int32) (σ : St) : Prop :=
  sm_place v6 v2 (fun r112 => vp_in r112 11264 ∧ (wm_betweenBy_j117 P K57 v1 v2 v3 v4 v5 v6 (mU_isEnd σ r112 (vp_nar .boolean (1 : Int32)))))
noncomputable def wm_betweenBy_l57 (P : Int32 → St → Prop) (K21 : Int32 → Int32 → Int32 → Int32 → St → Prop) (n : Nat) : Int32 → Int32 → Int32 → Int32 → Int32 → Int32 → St → Prop :=
  Nat.rec (fun _ _ _ _ _ _ _ => False) (fun _ ih v1 v2 v3 v4 v5 v6 σ => sm_all σ  (fun r60 σ60 => if r60 < v6 then (sm_tellFrom σ60 v1 v5 (fun r127 σ127 => if r127 = 0 then (K21 v1 v2 v3 (v4 + (1 : Int32)) σ127) else (P v5 σ127))) else (sm_has v6 v2 (fun r69 => if r69 = 0 then (wm_betweenBy_j117 P ih v1 v2 v3 v4 v5 v6 σ60) else (sm_has v6 v1 (fun r78 => if r78 = 0 then (wm_betweenBy_j117 P ih v1 v2 v3 v4 v5 v6 σ60) else (if (bitC v6) = v5 then (if v1 = v2 then (if v5 = (1 : Int32) then (wm_betweenBy_j105 P ih v1 v2 v3 v4 v5 v6 σ60) else (wm_betweenBy_j117 P ih v1 v2 v3 v4 v5 v6 σ60)) else (wm_betweenBy_j105 P ih v1 v2 v3 v4 v5 v6 σ60)) else (wm_betweenBy_j117 P ih v1 v2 v3 v4 v5 v6 σ60)))))))) n
theorem wm_betweenBy_l57_s (P : Int32 → St → Prop) (K21 : Int32 → Int32 → Int32 → Int32 → St → Prop) (n : Nat) (v1 : Int32) (v2 : Int32) (v3 : Int32) (v4 : Int32) (v5 : Int32) (v6 : Int32) (σ : St) : wm_betweenBy_l57 P K21 (n + 1) v1 v2 v3 v4 v5 v6 σ = (sm_all σ  (fun r60 σ60 => if r60 < v6 then (sm_tellFrom σ60 v1 v5 (fun r127 σ127 => if r127 = 0 then (K21 v1 v2 v3 (v4 + (1 : Int32)) σ127) else (P v5 σ127))) else (sm_has v6 v2 (fun r69 => if r69 = 0 then (wm_betweenBy_j117 P (wm_betweenBy_l57 P K21 n) v1 v2 v3 v4 v5 v6 σ60) else (sm_has v6 v1 (fun r78 => if r78 = 0 then (wm_betweenBy_j117 P (wm_betweenBy_l57 P K21 n) v1 v2 v3 v4 v5 v6 σ60) else (if (bitC v6) = v5 then (if v1 = v2 then (if v5 = (1 : Int32) then (wm_betweenBy_j105 P (wm_betweenBy_l57 P K21 n) v1 v2 v3 v4 v5 v6 σ60) else (wm_betweenBy_j117 P (wm_betweenBy_l57 P K21 n) v1 v2 v3 v4 v5 v6 σ60)) else (wm_betweenBy_j105 P (wm_betweenBy_l57 P K21 n) v1 v2 v3 v4 v5 v6 σ60)) else (wm_betweenBy_j117 P (wm_betweenBy_l57 P K21 n) v1 v2 v3 v4 v5 v6 σ60)))))))) := rfl
def wm_betweenBy_j48 (P : Int32 → St → Prop) (K21 : Int32 → Int32 → Int32 → Int32 → St → Prop) (v1 : Int32) (v2 : Int32) (v3 : Int32) (v4 : Int32) (s0 : Int32) (σ : St) : Prop :=
  sm_noEnds σ  (fun σ51 => ∃ n57, wm_betweenBy_l57 P K21 n57 v1 v2 v3 v4 s0 (0 : Int32) σ51)
noncomputable def wm_betweenBy_l21 (P : Int32 → St → Prop)  (n : Nat) : Int32 → Int32 → Int32 → Int32 → St → Prop :=
  Nat.rec (fun _ _ _ _ _ => False) (fun _ ih v1 v2 v3 v4 σ => if (mI_dishes σ) ≤ v4 then (P (-2 : Int32) σ) else (if v3 = 0 then (wm_betweenBy_j48 P ih v1 v2 v3 v4 (v4 + (1 : Int32)) σ) else (wm_betweenBy_j48 P ih v1 v2 v3 v4 ((mI_dishes σ) - v4) σ))) n
theorem wm_betweenBy_l21_s (P : Int32 → St → Prop)  (n : Nat) (v1 : Int32) (v2 : Int32) (v3 : Int32) (v4 : Int32) (σ : St) : wm_betweenBy_l21 P  (n + 1) v1 v2 v3 v4 σ = (if (mI_dishes σ) ≤ v4 then (P (-2 : Int32) σ) else (if v3 = 0 then (wm_betweenBy_j48 P (wm_betweenBy_l21 P  n) v1 v2 v3 v4 (v4 + (1 : Int32)) σ) else (wm_betweenBy_j48 P (wm_betweenBy_l21 P  n) v1 v2 v3 v4 ((mI_dishes σ) - v4) σ))) := rfl
def wm_betweenBy (σ : St) (v1 : Int32) (v2 : Int32) (v3 : Int32) (P : Int32 → St → Prop) : Prop :=
  sm_isDish σ v1 (fun r2 σ2 => if r2 = 0 then (P (-1 : Int32) σ2) else (sm_isDish σ2 v2 (fun r10 σ10 => if r10 = 0 then (P (-1 : Int32) σ10) else (∃ n21, wm_betweenBy_l21 P  n21 v1 v2 v3 (0 : Int32) σ10))))
abbrev sm_betweenBy := @wm_betweenBy
theorem sm_betweenBy_ok {σ : St} {v1 : Int32} {v2 : Int32} {v3 : Int32} {P : Int32 → St → Prop} (h : sm_betweenBy σ v1 v2 v3 P) : wm_betweenBy σ v1 v2 v3 P := h
/-! m.game -/
def wm_game_j73 (P : Int32 → St → Prop)  (s0 : Int32) (σ : St) : Prop :=
  P s0 σ
def wm_game_j46 (P : Int32 → St → Prop)  (v1 : Int32) (s1 : Int32) (σ : St) : Prop :=
  sm_tell σ s1 (fun σ46 => vp_in v1 11264 ∧ (sm_tell σ46 (mA_moreThen σ46 (v1).toNatClampNeg) (fun σ56 => vp_in v1 11264 ∧ (if (mA_shames σ56 (v1).toNatClampNeg) = 0 then (wm_game_j73 P  (0 : Int32) σ56) else (wm_game_j73 P  (1 : Int32) σ56)))))
def wm_game (σ : St)  (P : Int32 → St → Prop) : Prop :=
  sm_findGame (mS_thrown σ (0 : Int32))  (fun σ6 => sm_servedSet σ6  (fun r10 σ10 => sm_servedLast σ10  (fun r14 σ14 => sm_place r10 r14 (fun r17 => vp_in r17 11264 ∧ (if (mA_shames (mS_rowMany σ14 (0 : Int32)) (r17).toNatClampNeg) = 0 then (wm_game_j46 P  r17 (-1 : Int32) (mS_rowMany σ14 (0 : Int32))) else (vp_in r17 11264 ∧ (wm_game_j46 P  r17 (mA_firstThen (mS_rowMany σ14 (0 : Int32)) (r17).toNatClampNeg) (mS_rowMany σ14 (0 : Int32)))))))))
abbrev sm_game := @wm_game
theorem sm_game_ok {σ : St} {P : Int32 → St → Prop} (h : sm_game σ  P) : wm_game σ  P := h
/-! m.longest -/
def wm_longest (σ : St)  (P : Int32 → St → Prop) : Prop :=
  sm_all (mS_thrown σ (0 : Int32))  (fun r7 σ7 => sm_longestBy σ7 r7 (fun r10 σ10 => P r10 σ10))
abbrev sm_longest := @wm_longest
theorem sm_longest_ok {σ : St} {P : Int32 → St → Prop} (h : sm_longest σ  P) : wm_longest σ  P := h
/-! m.round -/
def wm_round_j100 (P : Int32 → St → Prop) (K42 : Int32 → Int32 → Int32 → Int32 → St → Prop) (v1 : Int32) (v2 : Int32) (v3 : Int32) (v4 : Int32) (σ : St) : Prop :=
  K42 v1 v2 v3 (v4 + (1 : Int32)) σ
noncomputable def wm_round_l42 (P : Int32 → St → Prop) (K31 : Int32 → Int32 → Int32 → St → Prop) (n : Nat) : Int32 → Int32 → Int32 → Int32 → St → Prop :=
  Nat.rec (fun _ _ _ _ _ => False) (fun _ ih v1 v2 v3 v4 σ => if (mI_dishes σ) ≤ v4 then (K31 v1 v2 (v3 + (1 : Int32)) σ) else (sm_has v3 v4 (fun r54 => if r54 = 0 then (wm_round_j100 P ih v1 v2 v3 v4 σ) else (if v4 = v2 then (wm_round_j100 P ih v1 v2 v3 v4 σ) else (if (bitC v3) = v1 then (sm_shared σ v4 v2 (fun r78 σ78 => if r78 < (mI_share σ78) then (wm_round_j100 P ih v1 v2 v3 v4 σ78) else (sm_place v3 v4 (fun r95 => vp_in r95 11264 ∧ (wm_round_j100 P ih v1 v2 v3 v4 (mU_isEnd σ78 r95 (vp_nar .boolean (1 : Int32)))))))) else (wm_round_j100 P ih v1 v2 v3 v4 σ)))))) n
theorem wm_round_l42_s (P : Int32 → St → Prop) (K31 : Int32 → Int32 → Int32 → St → Prop) (n : Nat) (v1 : Int32) (v2 : Int32) (v3 : Int32) (v4 : Int32) (σ : St) : wm_round_l42 P K31 (n + 1) v1 v2 v3 v4 σ = (if (mI_dishes σ) ≤ v4 then (K31 v1 v2 (v3 + (1 : Int32)) σ) else (sm_has v3 v4 (fun r54 => if r54 = 0 then (wm_round_j100 P (wm_round_l42 P K31 n) v1 v2 v3 v4 σ) else (if v4 = v2 then (wm_round_j100 P (wm_round_l42 P K31 n) v1 v2 v3 v4 σ) else (if (bitC v3) = v1 then (sm_shared σ v4 v2 (fun r78 σ78 => if r78 < (mI_share σ78) then (wm_round_j100 P (wm_round_l42 P K31 n) v1 v2 v3 v4 σ78) else (sm_place v3 v4 (fun r95 => vp_in r95 11264 ∧ (wm_round_j100 P (wm_round_l42 P K31 n) v1 v2 v3 v4 (mU_isEnd σ78 r95 (vp_nar .boolean (1 : Int32)))))))) else (wm_round_j100 P (wm_round_l42 P K31 n) v1 v2 v3 v4 σ)))))) := rfl
noncomputable def wm_round_l31 (P : Int32 → St → Prop) (K17 : Int32 → Int32 → St → Prop) (n : Nat) : Int32 → Int32 → Int32 → St → Prop :=
  Nat.rec (fun _ _ _ _ => False) (fun _ ih v1 v2 v3 σ => sm_all σ  (fun r33 σ33 => if r33 < v3 then (sm_tellFrom σ33 v2 v1 (fun r115 σ115 => if r115 = 0 then (K17 v1 (v2 + (1 : Int32)) σ115) else (P v1 σ115))) else (∃ n42, wm_round_l42 P ih n42 v1 v2 v3 (0 : Int32) σ33))) n
theorem wm_round_l31_s (P : Int32 → St → Prop) (K17 : Int32 → Int32 → St → Prop) (n : Nat) (v1 : Int32) (v2 : Int32) (v3 : Int32) (σ : St) : wm_round_l31 P K17 (n + 1) v1 v2 v3 σ = (sm_all σ  (fun r33 σ33 => if r33 < v3 then (sm_tellFrom σ33 v2 v1 (fun r115 σ115 => if r115 = 0 then (K17 v1 (v2 + (1 : Int32)) σ115) else (P v1 σ115))) else (∃ n42, wm_round_l42 P (wm_round_l31 P K17 n) n42 v1 v2 v3 (0 : Int32) σ33))) := rfl
noncomputable def wm_round_l17 (P : Int32 → St → Prop) (K10 : Int32 → St → Prop) (n : Nat) : Int32 → Int32 → St → Prop :=
  Nat.rec (fun _ _ _ => False) (fun _ ih v1 v2 σ => if (mI_dishes σ) ≤ v2 then (K10 (v1 + (-1 : Int32)) σ) else (sm_noEnds σ  (fun σ26 => ∃ n31, wm_round_l31 P ih n31 v1 v2 (0 : Int32) σ26))) n
theorem wm_round_l17_s (P : Int32 → St → Prop) (K10 : Int32 → St → Prop) (n : Nat) (v1 : Int32) (v2 : Int32) (σ : St) : wm_round_l17 P K10 (n + 1) v1 v2 σ = (if (mI_dishes σ) ≤ v2 then (K10 (v1 + (-1 : Int32)) σ) else (sm_noEnds σ  (fun σ26 => ∃ n31, wm_round_l31 P (wm_round_l17 P K10 n) n31 v1 v2 (0 : Int32) σ26))) := rfl
noncomputable def wm_round_l10 (P : Int32 → St → Prop)  (n : Nat) : Int32 → St → Prop :=
  Nat.rec (fun _ _ => False) (fun _ ih v1 σ => if v1 < (3 : Int32) then (P (-2 : Int32) σ) else (∃ n17, wm_round_l17 P ih n17 v1 (0 : Int32) σ)) n
theorem wm_round_l10_s (P : Int32 → St → Prop)  (n : Nat) (v1 : Int32) (σ : St) : wm_round_l10 P  (n + 1) v1 σ = (if v1 < (3 : Int32) then (P (-2 : Int32) σ) else (∃ n17, wm_round_l17 P (wm_round_l10 P  n) n17 v1 (0 : Int32) σ)) := rfl
def wm_round (σ : St)  (P : Int32 → St → Prop) : Prop :=
  ∃ n10, wm_round_l10 P  n10 (mI_dishes (mS_thrown σ (0 : Int32))) (mS_thrown σ (0 : Int32))
abbrev sm_round := @wm_round
theorem sm_round_ok {σ : St} {P : Int32 → St → Prop} (h : sm_round σ  P) : wm_round σ  P := h
/-! m.between -/
def wm_between (σ : St) (v1 : Int32) (v2 : Int32) (P : Int32 → St → Prop) : Prop :=
  sm_betweenBy (mS_thrown σ (0 : Int32)) v1 v2 (1 : Int32) (fun r9 σ9 => P r9 σ9)
abbrev sm_between := @wm_between
theorem sm_between_ok {σ : St} {v1 : Int32} {v2 : Int32} {P : Int32 → St → Prop} (h : sm_between σ v1 v2 P) : wm_between σ v1 v2 P := h
/-! m.shortest -/
def wm_shortest (σ : St) (v1 : Int32) (v2 : Int32) (P : Int32 → St → Prop) : Prop :=
  sm_betweenBy (mS_thrown σ (0 : Int32)) v1 v2 (0 : Int32) (fun r9 σ9 => P r9 σ9)
abbrev sm_shortest := @wm_shortest
theorem sm_shortest_ok {σ : St} {v1 : Int32} {v2 : Int32} {P : Int32 → St → Prop} (h : sm_shortest σ v1 v2 P) : wm_shortest σ v1 v2 P := h
abbrev PM : Type := St → Int32 → (Int32 → St → Prop) → Prop
/-! m.product, its family given -/
def wm_product_j87 (FT : PM) (P : Int32 → St → Prop) (K6 : Int32 → Int32 → St → Prop) (v1 : Int32) (s0 : Int32) (σ : St) : Prop :=
  K6 v1 s0 σ
def wm_product_j45 (FT : PM) (P : Int32 → St → Prop) (K6 : Int32 → Int32 → St → Prop) (v1 : Int32) (v2 : Int32) (s0 : Int32) (σ : St) : Prop :=
  FT (mS_at σ ((mI_at σ) + (1 : Int32))) v1 (fun r58 σ58 => if s0 = 0 then (if r58 = 0 then (wm_product_j87 FT P K6 v1 (0 : Int32) σ58) else ((¬ r58 = 0) ∧ (wm_product_j87 FT P K6 v1 (v2 / r58) σ58))) else (wm_product_j87 FT P K6 v1 (v2 * r58) σ58))
def wm_product_j31 (FT : PM) (P : Int32 → St → Prop) (K6 : Int32 → Int32 → St → Prop) (v1 : Int32) (v2 : Int32) (σ : St) : Prop :=
  sm_here σ  (fun r32 σ32 => if r32 = (42 : Int32) then (wm_product_j45 FT P K6 v1 v2 (1 : Int32) σ32) else (wm_product_j45 FT P K6 v1 v2 (0 : Int32) σ32))
noncomputable def wm_product_l6 (FT : PM) (P : Int32 → St → Prop) (K91 : Int32 → St → Prop) (n : Nat) : Int32 → Int32 → St → Prop :=
  Nat.rec (fun _ _ _ => False) (fun _ ih v1 v2 σ => sm_fine σ  (fun r7 σ7 => if r7 = 0 then (K91 v2 σ7) else (sm_here σ7  (fun r14 σ14 => if r14 = (42 : Int32) then (wm_product_j31 FT P ih v1 v2 σ14) else (sm_here σ14  (fun r23 σ23 => if r23 = (47 : Int32) then (wm_product_j31 FT P ih v1 v2 σ23) else (K91 v2 σ23))))))) n
theorem wm_product_l6_s (FT : PM) (P : Int32 → St → Prop) (K91 : Int32 → St → Prop) (n : Nat) (v1 : Int32) (v2 : Int32) (σ : St) : wm_product_l6 FT P K91 (n + 1) v1 v2 σ = (sm_fine σ  (fun r7 σ7 => if r7 = 0 then (K91 v2 σ7) else (sm_here σ7  (fun r14 σ14 => if r14 = (42 : Int32) then (wm_product_j31 FT P (wm_product_l6 FT P K91 n) v1 v2 σ14) else (sm_here σ14  (fun r23 σ23 => if r23 = (47 : Int32) then (wm_product_j31 FT P (wm_product_l6 FT P K91 n) v1 v2 σ23) else (K91 v2 σ23))))))) := rfl
def wm_product_j91 (FT : PM) (P : Int32 → St → Prop)  (v2 : Int32) (σ : St) : Prop :=
  P v2 σ
def wm_product (FT : PM) (σ : St) (v1 : Int32) (P : Int32 → St → Prop) : Prop :=
  FT σ v1 (fun r2 σ2 => ∃ n6, wm_product_l6 FT P (wm_product_j91 FT P) n6 v1 r2 σ2)

/-! m.sum, its family given -/
def wm_sum_j78 (FQ : PM) (P : Int32 → St → Prop) (K6 : Int32 → Int32 → St → Prop) (v1 : Int32) (s0 : Int32) (σ : St) : Prop :=
  K6 v1 s0 σ
def wm_sum_j45 (FQ : PM) (P : Int32 → St → Prop) (K6 : Int32 → Int32 → St → Prop) (v1 : Int32) (v2 : Int32) (s0 : Int32) (σ : St) : Prop :=
  FQ (mS_at σ ((mI_at σ) + (1 : Int32))) v1 (fun r58 σ58 => if s0 = 0 then (wm_sum_j78 FQ P K6 v1 (v2 - r58) σ58) else (wm_sum_j78 FQ P K6 v1 (v2 + r58) σ58))
def wm_sum_j31 (FQ : PM) (P : Int32 → St → Prop) (K6 : Int32 → Int32 → St → Prop) (v1 : Int32) (v2 : Int32) (σ : St) : Prop :=
  sm_here σ  (fun r32 σ32 => if r32 = (43 : Int32) then (wm_sum_j45 FQ P K6 v1 v2 (1 : Int32) σ32) else (wm_sum_j45 FQ P K6 v1 v2 (0 : Int32) σ32))
noncomputable def wm_sum_l6 (FQ : PM) (P : Int32 → St → Prop) (K82 : Int32 → St → Prop) (n : Nat) : Int32 → Int32 → St → Prop :=
  Nat.rec (fun _ _ _ => False) (fun _ ih v1 v2 σ => sm_fine σ  (fun r7 σ7 => if r7 = 0 then (K82 v2 σ7) else (sm_here σ7  (fun r14 σ14 => if r14 = (43 : Int32) then (wm_sum_j31 FQ P ih v1 v2 σ14) else (sm_here σ14  (fun r23 σ23 => if r23 = (45 : Int32) then (wm_sum_j31 FQ P ih v1 v2 σ23) else (K82 v2 σ23))))))) n
theorem wm_sum_l6_s (FQ : PM) (P : Int32 → St → Prop) (K82 : Int32 → St → Prop) (n : Nat) (v1 : Int32) (v2 : Int32) (σ : St) : wm_sum_l6 FQ P K82 (n + 1) v1 v2 σ = (sm_fine σ  (fun r7 σ7 => if r7 = 0 then (K82 v2 σ7) else (sm_here σ7  (fun r14 σ14 => if r14 = (43 : Int32) then (wm_sum_j31 FQ P (wm_sum_l6 FQ P K82 n) v1 v2 σ14) else (sm_here σ14  (fun r23 σ23 => if r23 = (45 : Int32) then (wm_sum_j31 FQ P (wm_sum_l6 FQ P K82 n) v1 v2 σ23) else (K82 v2 σ23))))))) := rfl
def wm_sum_j82 (FQ : PM) (P : Int32 → St → Prop)  (v2 : Int32) (σ : St) : Prop :=
  P v2 σ
def wm_sum (FQ : PM) (σ : St) (v1 : Int32) (P : Int32 → St → Prop) : Prop :=
  FQ σ v1 (fun r2 σ2 => ∃ n6, wm_sum_l6 FQ P (wm_sum_j82 FQ P) n6 v1 r2 σ2)

/-! m.held, its family given -/
def wm_held_j29 (FS : PM) (P : Int32 → St → Prop)  (s0 : Int32) (σ : St) : Prop :=
  P s0 σ
def wm_held_j53 (FS : PM) (P : Int32 → St → Prop)  (s0 : Int32) (σ : St) : Prop :=
  P s0 σ
def wm_held_j77 (FS : PM) (P : Int32 → St → Prop)  (s0 : Int32) (σ : St) : Prop :=
  P s0 σ
def wm_held (FS : PM) (σ : St) (v1 : Int32) (P : Int32 → St → Prop) : Prop :=
  FS σ v1 (fun r2 σ2 => sm_passes σ2 (60 : Int32) (fun r9 σ9 => if r9 = 0 then (sm_passes σ9 (62 : Int32) (fun r33 σ33 => if r33 = 0 then (sm_passes σ33 (61 : Int32) (fun r57 σ57 => if r57 = 0 then (P r2 σ57) else (FS σ57 v1 (fun r66 σ66 => if r2 = r66 then (wm_held_j77 FS P  (1 : Int32) σ66) else (wm_held_j77 FS P  (0 : Int32) σ66))))) else (FS σ33 v1 (fun r42 σ42 => if r2 ≤ r42 then (wm_held_j53 FS P  (0 : Int32) σ42) else (wm_held_j53 FS P  (1 : Int32) σ42))))) else (FS σ9 v1 (fun r18 σ18 => if r18 ≤ r2 then (wm_held_j29 FS P  (0 : Int32) σ18) else (wm_held_j29 FS P  (1 : Int32) σ18)))))

/-! m.thing, its family given -/
def wm_thing_j76 (FT FH : PM) (P : Int32 → St → Prop)  (v3 : Int32) (σ : St) : Prop :=
  P v3 σ
def wm_thing_j180 (FT FH : PM) (P : Int32 → St → Prop)  (s0 : Int32) (σ : St) : Prop :=
  P s0 σ
def wm_thing_j153 (FT FH : PM) (P : Int32 → St → Prop)  (v2 : Int32) (σ : St) : Prop :=
  if (mI_askedGuest (mS_at σ ((mI_at σ) + (1 : Int32)))) = (-1 : Int32) then (wm_thing_j180 FT FH P  (0 : Int32) (mS_at σ ((mI_at σ) + (1 : Int32)))) else (sm_letter (mS_at σ ((mI_at σ) + (1 : Int32))) v2 (fun r177 σ177 => wm_thing_j180 FT FH P  r177 σ177))
def wm_thing_j78 (FT FH : PM) (P : Int32 → St → Prop)  (v2 : Int32) (σ : St) : Prop :=
  sm_in v2 (48 : Int32) (57 : Int32) (fun r83 => if r83 = 0 then (if v2 = (108 : Int32) then (wm_thing_j153 FT FH P  v2 σ) else (if v2 = (98 : Int32) then (wm_thing_j153 FT FH P  v2 σ) else (if v2 = (110 : Int32) then (wm_thing_j153 FT FH P  v2 σ) else (if v2 = (99 : Int32) then (wm_thing_j153 FT FH P  v2 σ) else (if v2 = (104 : Int32) then (wm_thing_j153 FT FH P  v2 σ) else (if v2 = (111 : Int32) then (wm_thing_j153 FT FH P  v2 σ) else (if v2 = (103 : Int32) then (wm_thing_j153 FT FH P  v2 σ) else (if v2 = (100 : Int32) then (wm_thing_j153 FT FH P  v2 σ) else (sm_fault σ (mI_at σ) (fun σ148 => P (0 : Int32) σ148)))))))))) else (sm_number σ (3 : Int32) (fun r91 σ91 => P r91 σ91)))
def wm_thing (FT FH : PM) (σ : St) (v1 : Int32) (P : Int32 → St → Prop) : Prop :=
  sm_passes σ (45 : Int32) (fun r3 σ3 => if r3 = 0 then (sm_fine σ3  (fun r17 σ17 => if r17 = 0 then (P (0 : Int32) σ17) else (sm_here σ17  (fun r26 σ26 => if r26 = (40 : Int32) then (if (4 : Int32) ≤ v1 then (wm_thing_j78 FT FH P  r26 σ26) else (FH (mS_at σ26 ((mI_at σ26) + (1 : Int32))) (v1 + (1 : Int32)) (fun r55 σ55 => sm_passes σ55 (41 : Int32) (fun r62 σ62 => if r62 = 0 then (sm_fault σ62 (mI_at σ62) (fun σ73 => wm_thing_j76 FT FH P  r55 σ73)) else (wm_thing_j76 FT FH P  r55 σ62))))) else (wm_thing_j78 FT FH P  r26 σ26))))) else (FT σ3 v1 (fun r11 σ11 => P ((-r11)) σ11)))

/-- thing, with so much depth -/
noncomputable def smT : Nat → PM
  | 0 => fun _ _ _ => False
  | k + 1 => fun σ v P => wm_thing (smT k) (fun σ v P => wm_held (fun σ v P => wm_sum (fun σ v P => wm_product (smT k) σ v P) σ v P) σ v P) σ v P
noncomputable def smQ (k : Nat) : PM := fun σ v P => wm_product (smT k) σ v P
noncomputable def smS (k : Nat) : PM := fun σ v P => wm_sum (smQ k) σ v P
noncomputable def smH (k : Nat) : PM := fun σ v P => wm_held (smS k) σ v P
noncomputable def sm_held (σ : St) (v1 : Int32) (P : Int32 → St → Prop) : Prop := smH 42 σ v1 P
theorem smT_s (k : Nat) (σ : St) (v : Int32) (P : Int32 → St → Prop) : smT (k + 1) σ v P = wm_thing (smT k) (smH k) σ v P := rfl
/-! m.joyOf -/
def wm_joyOf (σ : St) (v1 : Int32) (v2 : Int32) (P : Int32 → St → Prop) : Prop :=
  if (mI_ruleSize σ) = 0 then (vp_in v2 11 ∧ (vp_in v1 6 ∧ (P (bitC ((mA_stuffs σ (v2).toNatClampNeg) &&& (mA_loves σ (v1).toNatClampNeg))) σ))) else (sm_begin σ (2 : Int32) (mI_ruleSize σ) (40 : Int32) (fun σ35 => sm_held (mS_askedDish (mS_askedGuest σ35 v1) v2) (0 : Int32) (fun r56 σ56 => P (jmax (-999 : Int32) (jmin (999 : Int32) r56)) σ56)))
abbrev sm_joyOf := @wm_joyOf
theorem sm_joyOf_ok {σ : St} {v1 : Int32} {v2 : Int32} {P : Int32 → St → Prop} (h : sm_joyOf σ v1 v2 P) : wm_joyOf σ v1 v2 P := h
/-! m.rule -/
noncomputable def wm_rule_l73 (P : Int32 → St → Prop)  (n : Nat) : Int32 → Int32 → St → Prop :=
  Nat.rec (fun _ _ _ => False) (fun _ ih v1 v2 σ => if v1 ≤ v2 then (P (0 : Int32) (mS_ruleSize σ v1)) else (vp_in v2 80 ∧ (vp_in v2 40 ∧ (ih v1 (v2 + (1 : Int32)) (mU_rule σ v2 (vp_nar .byte (mA_text σ (v2).toNatClampNeg))))))) n
theorem wm_rule_l73_s (P : Int32 → St → Prop)  (n : Nat) (v1 : Int32) (v2 : Int32) (σ : St) : wm_rule_l73 P  (n + 1) v1 v2 σ = (if v1 ≤ v2 then (P (0 : Int32) (mS_ruleSize σ v1)) else (vp_in v2 80 ∧ (vp_in v2 40 ∧ (wm_rule_l73 P  n v1 (v2 + (1 : Int32)) (mU_rule σ v2 (vp_nar .byte (mA_text σ (v2).toNatClampNeg))))))) := rfl
def wm_rule_j71 (P : Int32 → St → Prop)  (v1 : Int32) (σ : St) : Prop :=
  ∃ n73, wm_rule_l73 P  n73 v1 (0 : Int32) σ
def wm_rule_j57 (P : Int32 → St → Prop)  (v1 : Int32) (σ : St) : Prop :=
  sm_fine σ  (fun r58 σ58 => if r58 = 0 then (P ((-1 : Int32) - (mI_wrong σ58)) σ58) else (wm_rule_j71 P  v1 σ58))
def wm_rule (σ : St)  (P : Int32 → St → Prop) : Prop :=
  sm_begin (mS_thrown σ (0 : Int32)) (1 : Int32) (mI_typed (mS_thrown σ (0 : Int32))) (40 : Int32) (fun σ18 => if (mI_typed (mS_thrown σ (0 : Int32))) ≤ 0 then (wm_rule_j71 P  (mI_typed (mS_thrown σ (0 : Int32))) (mS_askedGuest (mS_typed σ18 (0 : Int32)) (-1 : Int32))) else (sm_held (mS_askedGuest (mS_typed σ18 (0 : Int32)) (-1 : Int32)) (0 : Int32) (fun r37 σ37 => if (mI_typed (mS_thrown σ (0 : Int32))) ≤ (mI_at σ37) then (wm_rule_j57 P  (mI_typed (mS_thrown σ (0 : Int32))) σ37) else (sm_fault σ37 (mI_at σ37) (fun σ54 => wm_rule_j57 P  (mI_typed (mS_thrown σ (0 : Int32))) σ54)))))
abbrev sm_rule := @wm_rule
theorem sm_rule_ok {σ : St} {P : Int32 → St → Prop} (h : sm_rule σ  P) : wm_rule σ  P := h
/-! m.eats -/
def wm_eats_j99 (P : Int32 → St → Prop) (K37 : Int32 → Int32 → Int32 → Int32 → Int32 → Int32 → St → Prop) (v1 : Int32) (v2 : Int32) (v3 : Int32) (v4 : Int32) (v5 : Int32) (v6 : Int32) (σ : St) : Prop :=
  K37 v1 v2 v3 v4 v5 (v6 + (1 : Int32)) σ
noncomputable def wm_eats_l37 (P : Int32 → St → Prop)  (n : Nat) : Int32 → Int32 → Int32 → Int32 → Int32 → Int32 → St → Prop :=
  Nat.rec (fun _ _ _ _ _ _ _ => False) (fun _ ih v1 v2 v3 v4 v5 v6 σ => vp_in v1 3 ∧ (if (mA_menuLong σ (v1).toNatClampNeg) ≤ v6 then (sm_tell (mS_rowMany σ (0 : Int32)) v4 (fun σ113 => sm_ateOf σ113 v1 v2 (fun r120 σ120 => sm_tell σ120 r120 (fun σ123 => sm_tell σ123 v5 (fun σ129 => P v3 σ129))))) else (vp_in (((10 : Int32) * v1) + v6) 30 ∧ (sm_isHungry σ v2 (mA_menus σ ((((10 : Int32) * v1) + v6)).toNatClampNeg) (fun r66 σ66 => if r66 = 0 then (sm_joyOf σ66 v2 (mA_menus σ ((((10 : Int32) * v1) + v6)).toNatClampNeg) (fun r93 σ93 => wm_eats_j99 P ih v1 v2 (v3 + (1 : Int32)) (v4 ||| ((1 : Int32) <<< (v6 &&& 31))) (v5 + r93) v6 σ93)) else (wm_eats_j99 P ih v1 v2 v3 v4 v5 v6 σ66)))))) n
theorem wm_eats_l37_s (P : Int32 → St → Prop)  (n : Nat) (v1 : Int32) (v2 : Int32) (v3 : Int32) (v4 : Int32) (v5 : Int32) (v6 : Int32) (σ : St) : wm_eats_l37 P  (n + 1) v1 v2 v3 v4 v5 v6 σ = (vp_in v1 3 ∧ (if (mA_menuLong σ (v1).toNatClampNeg) ≤ v6 then (sm_tell (mS_rowMany σ (0 : Int32)) v4 (fun σ113 => sm_ateOf σ113 v1 v2 (fun r120 σ120 => sm_tell σ120 r120 (fun σ123 => sm_tell σ123 v5 (fun σ129 => P v3 σ129))))) else (vp_in (((10 : Int32) * v1) + v6) 30 ∧ (sm_isHungry σ v2 (mA_menus σ ((((10 : Int32) * v1) + v6)).toNatClampNeg) (fun r66 σ66 => if r66 = 0 then (sm_joyOf σ66 v2 (mA_menus σ ((((10 : Int32) * v1) + v6)).toNatClampNeg) (fun r93 σ93 => wm_eats_j99 P (wm_eats_l37 P  n) v1 v2 (v3 + (1 : Int32)) (v4 ||| ((1 : Int32) <<< (v6 &&& 31))) (v5 + r93) v6 σ93)) else (wm_eats_j99 P (wm_eats_l37 P  n) v1 v2 v3 v4 v5 v6 σ66)))))) := rfl
def wm_eats (σ : St) (v1 : Int32) (v2 : Int32) (P : Int32 → St → Prop) : Prop :=
  sm_isGuest (mS_thrown σ (0 : Int32)) v2 (fun r7 σ7 => if r7 = 0 then (P (-1 : Int32) σ7) else (sm_isWhole σ7 v1 (fun r17 σ17 => if r17 = 0 then (P (-3 : Int32) σ17) else (∃ n37, wm_eats_l37 P  n37 v1 v2 (0 : Int32) (0 : Int32) (0 : Int32) (0 : Int32) σ17))))
abbrev sm_eats := @wm_eats
theorem sm_eats_ok {σ : St} {v1 : Int32} {v2 : Int32} {P : Int32 → St → Prop} (h : sm_eats σ v1 v2 P) : wm_eats σ v1 v2 P := h
/-! m.joy -/
def wm_joy_j34 (P : Int32 → St → Prop)  (s0 : Int32) (σ : St) : Prop :=
  P s0 σ
def wm_joy_j30 (P : Int32 → St → Prop)  (σ : St) : Prop :=
  sm_lost σ  (fun r31 σ31 => wm_joy_j34 P  r31 σ31)
def wm_joy (σ : St) (v1 : Int32) (v2 : Int32) (P : Int32 → St → Prop) : Prop :=
  sm_isGuest (mS_thrown σ (0 : Int32)) v1 (fun r7 σ7 => if r7 = 0 then (wm_joy_j30 P  σ7) else (sm_isDish σ7 v2 (fun r15 σ15 => if r15 = 0 then (wm_joy_j30 P  σ15) else (sm_joyOf σ15 v1 v2 (fun r24 σ24 => wm_joy_j34 P  r24 σ24)))))
abbrev sm_joy := @wm_joy
theorem sm_joy_ok {σ : St} {v1 : Int32} {v2 : Int32} {P : Int32 → St → Prop} (h : sm_joy σ v1 v2 P) : wm_joy σ v1 v2 P := h
/-! m.joyIn -/
def wm_joyIn_j35 (P : Int32 → St → Prop) (K5 : Int32 → Int32 → Int32 → Int32 → St → Prop) (v1 : Int32) (v2 : Int32) (v4 : Int32) (s0 : Int32) (s1 : Int32) (σ : St) : Prop :=
  K5 v1 v2 (s0 + s1) (v4 + (1 : Int32)) σ
noncomputable def wm_joyIn_l5 (P : Int32 → St → Prop)  (n : Nat) : Int32 → Int32 → Int32 → Int32 → St → Prop :=
  Nat.rec (fun _ _ _ _ _ => False) (fun _ ih v1 v2 v3 v4 σ => if (mI_dishes σ) ≤ v4 then (P v3 σ) else (sm_has v1 v4 (fun r18 => if r18 = 0 then (wm_joyIn_j35 P ih v1 v2 v4 v3 (0 : Int32) σ) else (sm_joyOf σ v2 v4 (fun r28 σ28 => wm_joyIn_j35 P ih v1 v2 v4 v3 r28 σ28))))) n
theorem wm_joyIn_l5_s (P : Int32 → St → Prop)  (n : Nat) (v1 : Int32) (v2 : Int32) (v3 : Int32) (v4 : Int32) (σ : St) : wm_joyIn_l5 P  (n + 1) v1 v2 v3 v4 σ = (if (mI_dishes σ) ≤ v4 then (P v3 σ) else (sm_has v1 v4 (fun r18 => if r18 = 0 then (wm_joyIn_j35 P (wm_joyIn_l5 P  n) v1 v2 v4 v3 (0 : Int32) σ) else (sm_joyOf σ v2 v4 (fun r28 σ28 => wm_joyIn_j35 P (wm_joyIn_l5 P  n) v1 v2 v4 v3 r28 σ28))))) := rfl
def wm_joyIn (σ : St) (v1 : Int32) (v2 : Int32) (P : Int32 → St → Prop) : Prop :=
  ∃ n5, wm_joyIn_l5 P  n5 v1 v2 (0 : Int32) (0 : Int32) σ
abbrev sm_joyIn := @wm_joyIn
theorem sm_joyIn_ok {σ : St} {v1 : Int32} {v2 : Int32} {P : Int32 → St → Prop} (h : sm_joyIn σ v1 v2 P) : wm_joyIn σ v1 v2 P := h
/-! m.joyOfAll -/
noncomputable def wm_joyOfAll_l4 (P : Int32 → St → Prop)  (n : Nat) : Int32 → Int32 → Int32 → St → Prop :=
  Nat.rec (fun _ _ _ _ => False) (fun _ ih v1 v2 v3 σ => if (mI_guests σ) ≤ v3 then (P v2 σ) else (sm_joyOf σ v3 v1 (fun r16 σ16 => ih v1 (v2 + r16) (v3 + (1 : Int32)) σ16))) n
theorem wm_joyOfAll_l4_s (P : Int32 → St → Prop)  (n : Nat) (v1 : Int32) (v2 : Int32) (v3 : Int32) (σ : St) : wm_joyOfAll_l4 P  (n + 1) v1 v2 v3 σ = (if (mI_guests σ) ≤ v3 then (P v2 σ) else (sm_joyOf σ v3 v1 (fun r16 σ16 => wm_joyOfAll_l4 P  n v1 (v2 + r16) (v3 + (1 : Int32)) σ16))) := rfl
def wm_joyOfAll (σ : St) (v1 : Int32) (P : Int32 → St → Prop) : Prop :=
  ∃ n4, wm_joyOfAll_l4 P  n4 v1 (0 : Int32) (0 : Int32) σ
abbrev sm_joyOfAll := @wm_joyOfAll
theorem sm_joyOfAll_ok {σ : St} {v1 : Int32} {P : Int32 → St → Prop} (h : sm_joyOfAll σ v1 P) : wm_joyOfAll σ v1 P := h
/-! m.dish -/
def wm_dish_j22 (P : Int32 → St → Prop)  (σ : St) : Prop :=
  sm_lost σ  (fun r23 σ23 => P r23 σ23)
def wm_dish_j57 (P : Int32 → St → Prop) (K32 : Int32 → Int32 → Int32 → Int32 → St → Prop) (v1 : Int32) (v2 : Int32) (v4 : Int32) (s0 : Int32) (s1 : Int32) (σ : St) : Prop :=
  K32 v1 v2 (s0 + s1) (v4 + (1 : Int32)) σ
noncomputable def wm_dish_l32 (P : Int32 → St → Prop) (K142 : Int32 → St → Prop) (n : Nat) : Int32 → Int32 → Int32 → Int32 → St → Prop :=
  Nat.rec (fun _ _ _ _ _ => False) (fun _ ih v1 v2 v3 v4 σ => if (mI_guests σ) ≤ v4 then (if v2 = 0 then (vp_in v1 11 ∧ (K142 (mA_stuffs σ (v1).toNatClampNeg) σ)) else (if v2 = (1 : Int32) then (vp_in v1 11 ∧ (K142 (mA_cost σ (v1).toNatClampNeg) σ)) else (if v2 = (2 : Int32) then (vp_in v1 11 ∧ (if (mA_isHot σ (v1).toNatClampNeg) = 0 then (K142 (0 : Int32) σ) else (K142 (1 : Int32) σ))) else (if v2 = (3 : Int32) then (vp_in v1 11 ∧ (K142 (mA_hours σ (v1).toNatClampNeg) σ)) else (if v2 = (4 : Int32) then (sm_joyOfAll σ v1 (fun r135 σ135 => K142 r135 σ135)) else (K142 v3 σ)))))) else (sm_isHungry σ v4 v1 (fun r46 σ46 => if r46 = 0 then (wm_dish_j57 P ih v1 v2 v4 v3 (0 : Int32) σ46) else (wm_dish_j57 P ih v1 v2 v4 v3 (1 : Int32) σ46)))) n
theorem wm_dish_l32_s (P : Int32 → St → Prop) (K142 : Int32 → St → Prop) (n : Nat) (v1 : Int32) (v2 : Int32) (v3 : Int32) (v4 : Int32) (σ : St) : wm_dish_l32 P K142 (n + 1) v1 v2 v3 v4 σ = (if (mI_guests σ) ≤ v4 then (if v2 = 0 then (vp_in v1 11 ∧ (K142 (mA_stuffs σ (v1).toNatClampNeg) σ)) else (if v2 = (1 : Int32) then (vp_in v1 11 ∧ (K142 (mA_cost σ (v1).toNatClampNeg) σ)) else (if v2 = (2 : Int32) then (vp_in v1 11 ∧ (if (mA_isHot σ (v1).toNatClampNeg) = 0 then (K142 (0 : Int32) σ) else (K142 (1 : Int32) σ))) else (if v2 = (3 : Int32) then (vp_in v1 11 ∧ (K142 (mA_hours σ (v1).toNatClampNeg) σ)) else (if v2 = (4 : Int32) then (sm_joyOfAll σ v1 (fun r135 σ135 => K142 r135 σ135)) else (K142 v3 σ)))))) else (sm_isHungry σ v4 v1 (fun r46 σ46 => if r46 = 0 then (wm_dish_j57 P (wm_dish_l32 P K142 n) v1 v2 v4 v3 (0 : Int32) σ46) else (wm_dish_j57 P (wm_dish_l32 P K142 n) v1 v2 v4 v3 (1 : Int32) σ46)))) := rfl
def wm_dish_j142 (P : Int32 → St → Prop)  (s0 : Int32) (σ : St) : Prop :=
  P s0 σ
def wm_dish (σ : St) (v1 : Int32) (v2 : Int32) (P : Int32 → St → Prop) : Prop :=
  sm_isDish (mS_thrown σ (0 : Int32)) v1 (fun r7 σ7 => if r7 = 0 then (wm_dish_j22 P  σ7) else (sm_in v2 (0 : Int32) (5 : Int32) (fun r16 => if r16 = 0 then (wm_dish_j22 P  σ7) else (∃ n32, wm_dish_l32 P (wm_dish_j142 P) n32 v1 v2 (0 : Int32) (0 : Int32) σ7))))
abbrev sm_dish := @wm_dish
theorem sm_dish_ok {σ : St} {v1 : Int32} {v2 : Int32} {P : Int32 → St → Prop} (h : sm_dish σ v1 v2 P) : wm_dish σ v1 v2 P := h
/-! m.findGreedy -/
def wm_findGreedy_j110 (P : St → Prop) (K21 : Int32 → Int32 → Int32 → Int32 → Int32 → Int32 → Int32 → Int32 → St → Prop) (v1 : Int32) (v2 : Int32) (v3 : Int32) (v4 : Int32) (v5 : Int32) (v6 : Int32) (v7 : Int32) (v8 : Int32) (σ : St) : Prop :=
  K21 v1 v2 v3 v4 v5 v6 v7 (v8 + (1 : Int32)) σ
def wm_findGreedy_j102 (P : St → Prop) (K21 : Int32 → Int32 → Int32 → Int32 → Int32 → Int32 → Int32 → Int32 → St → Prop) (v1 : Int32) (v2 : Int32) (v3 : Int32) (v6 : Int32) (v7 : Int32) (v8 : Int32) (v9 : Int32) (σ : St) : Prop :=
  wm_findGreedy_j110 P K21 v1 v2 v3 v8 v9 v6 v7 v8 σ
def wm_findGreedy_j76 (P : St → Prop) (K21 : Int32 → Int32 → Int32 → Int32 → Int32 → Int32 → Int32 → Int32 → St → Prop) (v1 : Int32) (v2 : Int32) (v3 : Int32) (v4 : Int32) (v5 : Int32) (v6 : Int32) (v8 : Int32) (s0 : Int32) (σ : St) : Prop :=
  sm_joyOfAll σ v8 (fun r81 σ81 => if v4 = (-1 : Int32) then (wm_findGreedy_j102 P K21 v1 v2 v3 v6 s0 v8 r81 σ81) else (if v5 < r81 then (wm_findGreedy_j102 P K21 v1 v2 v3 v6 s0 v8 r81 σ81) else (wm_findGreedy_j110 P K21 v1 v2 v3 v4 v5 v6 s0 v8 σ81)))
def wm_findGreedy_j71 (P : St → Prop) (K21 : Int32 → Int32 → Int32 → Int32 → Int32 → Int32 → Int32 → Int32 → St → Prop) (v1 : Int32) (v2 : Int32) (v3 : Int32) (v4 : Int32) (v5 : Int32) (v6 : Int32) (v8 : Int32) (σ : St) : Prop :=
  wm_findGreedy_j76 P K21 v1 v2 v3 v4 v5 v6 v8 (1 : Int32) σ
noncomputable def wm_findGreedy_l21 (P : St → Prop) (K141 : Int32 → Int32 → Int32 → Int32 → Int32 → Int32 → Int32 → St → Prop) (n : Nat) : Int32 → Int32 → Int32 → Int32 → Int32 → Int32 → Int32 → Int32 → St → Prop :=
  Nat.rec (fun _ _ _ _ _ _ _ _ _ => False) (fun _ ih v1 v2 v3 v4 v5 v6 v7 v8 σ => if (mI_dishes σ) ≤ v8 then (if v4 = (-1 : Int32) then (K141 v1 v2 v3 v4 v6 v7 (0 : Int32) σ) else (sm_place (v1 ||| ((1 : Int32) <<< (v4 &&& 31))) v4 (fun r137 => K141 v1 v2 v3 v4 v6 v7 ((11264 : Int32) + r137) σ))) else (sm_may σ v1 v2 v8 (fun r35 σ35 => if r35 = 0 then (wm_findGreedy_j110 P ih v1 v2 v3 v4 v5 v6 v7 v8 σ35) else (if v7 = 0 then (sm_place (v1 ||| ((1 : Int32) <<< (v8 &&& 31))) v8 (fun r64 => vp_in r64 22528 ∧ (if (mA_isShamed σ35 (r64).toNatClampNeg) = 0 then (wm_findGreedy_j76 P ih v1 v2 v3 v4 v5 (1 : Int32) v8 (0 : Int32) σ35) else (wm_findGreedy_j71 P ih v1 v2 v3 v4 v5 (1 : Int32) v8 σ35)))) else (wm_findGreedy_j71 P ih v1 v2 v3 v4 v5 (1 : Int32) v8 σ35))))) n
theorem wm_findGreedy_l21_s (P : St → Prop) (K141 : Int32 → Int32 → Int32 → Int32 → Int32 → Int32 → Int32 → St → Prop) (n : Nat) (v1 : Int32) (v2 : Int32) (v3 : Int32) (v4 : Int32) (v5 : Int32) (v6 : Int32) (v7 : Int32) (v8 : Int32) (σ : St) : wm_findGreedy_l21 P K141 (n + 1) v1 v2 v3 v4 v5 v6 v7 v8 σ = (if (mI_dishes σ) ≤ v8 then (if v4 = (-1 : Int32) then (K141 v1 v2 v3 v4 v6 v7 (0 : Int32) σ) else (sm_place (v1 ||| ((1 : Int32) <<< (v4 &&& 31))) v4 (fun r137 => K141 v1 v2 v3 v4 v6 v7 ((11264 : Int32) + r137) σ))) else (sm_may σ v1 v2 v8 (fun r35 σ35 => if r35 = 0 then (wm_findGreedy_j110 P (wm_findGreedy_l21 P K141 n) v1 v2 v3 v4 v5 v6 v7 v8 σ35) else (if v7 = 0 then (sm_place (v1 ||| ((1 : Int32) <<< (v8 &&& 31))) v8 (fun r64 => vp_in r64 22528 ∧ (if (mA_isShamed σ35 (r64).toNatClampNeg) = 0 then (wm_findGreedy_j76 P (wm_findGreedy_l21 P K141 n) v1 v2 v3 v4 v5 (1 : Int32) v8 (0 : Int32) σ35) else (wm_findGreedy_j71 P (wm_findGreedy_l21 P K141 n) v1 v2 v3 v4 v5 (1 : Int32) v8 σ35)))) else (wm_findGreedy_j71 P (wm_findGreedy_l21 P K141 n) v1 v2 v3 v4 v5 (1 : Int32) v8 σ35))))) := rfl
def wm_findGreedy_j330 (P : St → Prop) (K229 : Int32 → Int32 → Int32 → Int32 → Int32 → Int32 → Int32 → St → Prop) (v1 : Int32) (v2 : Int32) (v3 : Int32) (v7 : Int32) (v9 : Int32) (v10 : Int32) (v11 : Int32) (σ : St) : Prop :=
  K229 v1 v2 v3 v7 v9 v10 (v11 + (1 : Int32)) σ
def wm_findGreedy_j325 (P : St → Prop) (K229 : Int32 → Int32 → Int32 → Int32 → Int32 → Int32 → Int32 → St → Prop) (v1 : Int32) (v2 : Int32) (v3 : Int32) (v7 : Int32) (v11 : Int32) (s0 : Int32) (σ : St) : Prop :=
  wm_findGreedy_j330 P K229 v1 v2 v3 v7 s0 (0 : Int32) v11 σ
noncomputable def wm_findGreedy_l229 (P : St → Prop)  (n : Nat) : Int32 → Int32 → Int32 → Int32 → Int32 → Int32 → Int32 → St → Prop :=
  Nat.rec (fun _ _ _ _ _ _ _ _ => False) (fun _ ih v1 v2 v3 v7 v9 v10 v11 σ => if (mI_dishes σ) ≤ v11 then (vp_in ((11264 : Int32) + v3) 22528 ∧ (P (mU_moreOf σ ((11264 : Int32) + v3) v9))) else (sm_may σ v1 v2 v11 (fun r243 σ243 => if r243 = 0 then (wm_findGreedy_j330 P ih v1 v2 v3 v7 v9 v10 v11 σ243) else (sm_place (v1 ||| ((1 : Int32) <<< (v11 &&& 31))) v11 (fun r263 => vp_in r263 22528 ∧ (if v7 = (mA_isShamed σ243 (r263).toNatClampNeg) then (sm_place (v1 ||| ((1 : Int32) <<< (v11 &&& 31))) v11 (fun r285 => vp_in r285 22528 ∧ (if v10 = 0 then (if v7 = 0 then (wm_findGreedy_j325 P ih v1 v2 v3 v7 v11 (jmax v9 ((mA_moreOf σ243 (r285).toNatClampNeg) + (1 : Int32))) σ243) else (wm_findGreedy_j325 P ih v1 v2 v3 v7 v11 (jmin v9 ((mA_moreOf σ243 (r285).toNatClampNeg) + (1 : Int32))) σ243)) else (wm_findGreedy_j325 P ih v1 v2 v3 v7 v11 ((mA_moreOf σ243 (r285).toNatClampNeg) + (1 : Int32)) σ243)))) else (wm_findGreedy_j330 P ih v1 v2 v3 v7 v9 v10 v11 σ243))))))) n
theorem wm_findGreedy_l229_s (P : St → Prop)  (n : Nat) (v1 : Int32) (v2 : Int32) (v3 : Int32) (v7 : Int32) (v9 : Int32) (v10 : Int32) (v11 : Int32) (σ : St) : wm_findGreedy_l229 P  (n + 1) v1 v2 v3 v7 v9 v10 v11 σ = (if (mI_dishes σ) ≤ v11 then (vp_in ((11264 : Int32) + v3) 22528 ∧ (P (mU_moreOf σ ((11264 : Int32) + v3) v9))) else (sm_may σ v1 v2 v11 (fun r243 σ243 => if r243 = 0 then (wm_findGreedy_j330 P (wm_findGreedy_l229 P  n) v1 v2 v3 v7 v9 v10 v11 σ243) else (sm_place (v1 ||| ((1 : Int32) <<< (v11 &&& 31))) v11 (fun r263 => vp_in r263 22528 ∧ (if v7 = (mA_isShamed σ243 (r263).toNatClampNeg) then (sm_place (v1 ||| ((1 : Int32) <<< (v11 &&& 31))) v11 (fun r285 => vp_in r285 22528 ∧ (if v10 = 0 then (if v7 = 0 then (wm_findGreedy_j325 P (wm_findGreedy_l229 P  n) v1 v2 v3 v7 v11 (jmax v9 ((mA_moreOf σ243 (r285).toNatClampNeg) + (1 : Int32))) σ243) else (wm_findGreedy_j325 P (wm_findGreedy_l229 P  n) v1 v2 v3 v7 v11 (jmin v9 ((mA_moreOf σ243 (r285).toNatClampNeg) + (1 : Int32))) σ243)) else (wm_findGreedy_j325 P (wm_findGreedy_l229 P  n) v1 v2 v3 v7 v11 ((mA_moreOf σ243 (r285).toNatClampNeg) + (1 : Int32)) σ243)))) else (wm_findGreedy_j330 P (wm_findGreedy_l229 P  n) v1 v2 v3 v7 v9 v10 v11 σ243))))))) := rfl
def wm_findGreedy_j219 (P : St → Prop)  (v1 : Int32) (v2 : Int32) (v3 : Int32) (v7 : Int32) (s1 : Int32) (s2 : Int32) (σ : St) : Prop :=
  vp_in s1 22528 ∧ (∃ n229, wm_findGreedy_l229 P  n229 v1 v2 v3 v7 (0 : Int32) (1 : Int32) (0 : Int32) (mU_isShamed σ s1 (vp_nar .boolean s2)))
def wm_findGreedy_j218 (P : St → Prop)  (v1 : Int32) (v2 : Int32) (v3 : Int32) (v7 : Int32) (s1 : Int32) (σ : St) : Prop :=
  wm_findGreedy_j219 P  v1 v2 v3 v7 s1 (0 : Int32) σ
def wm_findGreedy_j194 (P : St → Prop)  (v1 : Int32) (v2 : Int32) (v3 : Int32) (v6 : Int32) (v7 : Int32) (s1 : Int32) (s2 : Int32) (σ : St) : Prop :=
  vp_in s1 22528 ∧ (if v6 = 0 then (wm_findGreedy_j218 P  v1 v2 v3 v7 ((11264 : Int32) + v3) (mU_moreOf σ s1 s2)) else (if v7 = 0 then (wm_findGreedy_j218 P  v1 v2 v3 v7 ((11264 : Int32) + v3) (mU_moreOf σ s1 s2)) else (wm_findGreedy_j219 P  v1 v2 v3 v7 ((11264 : Int32) + v3) (1 : Int32) (mU_moreOf σ s1 s2))))
def wm_findGreedy_j169 (P : St → Prop)  (v1 : Int32) (v2 : Int32) (v3 : Int32) (v4 : Int32) (v6 : Int32) (v7 : Int32) (v8 : Int32) (s1 : Int32) (s2 : Int32) (σ : St) : Prop :=
  vp_in s1 22528 ∧ (if v4 = (-1 : Int32) then (wm_findGreedy_j194 P  v1 v2 v3 v6 v7 v3 (0 : Int32) (mU_isShamed σ s1 (vp_nar .boolean s2))) else (vp_in v8 22528 ∧ (wm_findGreedy_j194 P  v1 v2 v3 v6 v7 v3 ((mA_moreOf (mU_isShamed σ s1 (vp_nar .boolean s2)) (v8).toNatClampNeg) + (1 : Int32)) (mU_isShamed σ s1 (vp_nar .boolean s2)))))
def wm_findGreedy_j164 (P : St → Prop)  (v1 : Int32) (v2 : Int32) (v3 : Int32) (v4 : Int32) (v6 : Int32) (v7 : Int32) (v8 : Int32) (s1 : Int32) (σ : St) : Prop :=
  wm_findGreedy_j169 P  v1 v2 v3 v4 v6 v7 v8 s1 (1 : Int32) σ
def wm_findGreedy_j141 (P : St → Prop)  (v1 : Int32) (v2 : Int32) (v3 : Int32) (v4 : Int32) (v6 : Int32) (v7 : Int32) (s0 : Int32) (σ : St) : Prop :=
  if v4 = (-1 : Int32) then (wm_findGreedy_j164 P  v1 v2 v3 v4 v6 v7 s0 v3 σ) else (vp_in s0 22528 ∧ (if (mA_isShamed σ (s0).toNatClampNeg) = 0 then (wm_findGreedy_j169 P  v1 v2 v3 v4 v6 v7 s0 v3 (0 : Int32) σ) else (wm_findGreedy_j164 P  v1 v2 v3 v4 v6 v7 s0 v3 σ)))
def wm_findGreedy (σ : St) (v1 : Int32) (v2 : Int32) (P : St → Prop) : Prop :=
  sm_place v1 v2 (fun r2 => ∃ n21, wm_findGreedy_l21 P (wm_findGreedy_j141 P) n21 v1 v2 r2 (-1 : Int32) (0 : Int32) (0 : Int32) (0 : Int32) (0 : Int32) σ)
abbrev sm_findGreedy := @wm_findGreedy
theorem sm_findGreedy_ok {σ : St} {v1 : Int32} {v2 : Int32} {P : St → Prop} (h : sm_findGreedy σ v1 v2 P) : wm_findGreedy σ v1 v2 P := h
/-! m.scoreOf -/
noncomputable def wm_scoreOf_l33 (P : Int32 → St → Prop) (K81 : Int32 → St → Prop) (n : Nat) : Int32 → Int32 → Int32 → Int32 → Int32 → St → Prop :=
  Nat.rec (fun _ _ _ _ _ _ => False) (fun _ ih v1 v2 v3 v4 v5 σ => if (mI_guests σ) ≤ v5 then (if v2 = 0 then (K81 v3 σ) else (K81 v4 σ)) else (sm_joyIn σ v1 v5 (fun r46 σ46 => ih v1 v2 (v3 + r46) (jmin v4 r46) (v5 + (1 : Int32)) σ46))) n
theorem wm_scoreOf_l33_s (P : Int32 → St → Prop) (K81 : Int32 → St → Prop) (n : Nat) (v1 : Int32) (v2 : Int32) (v3 : Int32) (v4 : Int32) (v5 : Int32) (σ : St) : wm_scoreOf_l33 P K81 (n + 1) v1 v2 v3 v4 v5 σ = (if (mI_guests σ) ≤ v5 then (if v2 = 0 then (K81 v3 σ) else (K81 v4 σ)) else (sm_joyIn σ v1 v5 (fun r46 σ46 => wm_scoreOf_l33 P K81 n v1 v2 (v3 + r46) (jmin v4 r46) (v5 + (1 : Int32)) σ46))) := rfl
def wm_scoreOf_j81 (P : Int32 → St → Prop)  (s0 : Int32) (σ : St) : Prop :=
  P s0 σ
def wm_scoreOf (σ : St) (v1 : Int32) (v2 : Int32) (P : Int32 → St → Prop) : Prop :=
  if v2 = (2 : Int32) then (sm_costIn σ v1 (fun r7 σ7 => P ((-r7)) σ7)) else (if v2 = (3 : Int32) then (sm_costIn σ v1 (fun r19 σ19 => P r19 σ19)) else (∃ n33, wm_scoreOf_l33 P (wm_scoreOf_j81 P) n33 v1 v2 (0 : Int32) (1000000 : Int32) (0 : Int32) σ))
abbrev sm_scoreOf := @wm_scoreOf
theorem sm_scoreOf_ok {σ : St} {v1 : Int32} {v2 : Int32} {P : Int32 → St → Prop} (h : sm_scoreOf σ v1 v2 P) : wm_scoreOf σ v1 v2 P := h
/-! m.findBest -/
def wm_findBest_j95 (P : Int32 → St → Prop) (K49 : Int32 → Int32 → Int32 → Int32 → Int32 → Int32 → Int32 → Int32 → Int32 → St → Prop) (v1 : Int32) (v2 : Int32) (v3 : Int32) (v4 : Int32) (v5 : Int32) (v6 : Int32) (v7 : Int32) (v9 : Int32) (s0 : Int32) (σ : St) : Prop :=
  K49 v1 v2 v3 v4 v5 v6 v7 s0 (v9 + (1 : Int32)) σ
def wm_findBest_j90 (P : Int32 → St → Prop) (K49 : Int32 → Int32 → Int32 → Int32 → Int32 → Int32 → Int32 → Int32 → Int32 → St → Prop) (v1 : Int32) (v2 : Int32) (v3 : Int32) (v4 : Int32) (v5 : Int32) (v6 : Int32) (v7 : Int32) (v9 : Int32) (σ : St) : Prop :=
  wm_findBest_j95 P K49 v1 v2 v3 v4 v5 v6 v7 v9 (1 : Int32) σ
def wm_findBest_j94 (P : Int32 → St → Prop) (K49 : Int32 → Int32 → Int32 → Int32 → Int32 → Int32 → Int32 → Int32 → Int32 → St → Prop) (v1 : Int32) (v2 : Int32) (v3 : Int32) (v4 : Int32) (v5 : Int32) (v6 : Int32) (v7 : Int32) (v9 : Int32) (σ : St) : Prop :=
  wm_findBest_j95 P K49 v1 v2 v3 v4 v5 v6 v7 v9 (0 : Int32) σ
noncomputable def wm_findBest_l49 (P : Int32 → St → Prop) (K177 : Int32 → Int32 → Int32 → Int32 → Int32 → Int32 → St → Prop) (K188 : Int32 → Int32 → Int32 → Int32 → Int32 → Int32 → St → Prop) (K191 : Int32 → Int32 → Int32 → Int32 → Int32 → Int32 → Int32 → St → Prop) (n : Nat) : Int32 → Int32 → Int32 → Int32 → Int32 → Int32 → Int32 → Int32 → Int32 → St → Prop :=
  Nat.rec (fun _ _ _ _ _ _ _ _ _ _ => False) (fun _ ih v1 v2 v3 v4 v5 v6 v7 v8 v9 σ => if (mI_dishes σ) ≤ v9 then (if v8 = 0 then (K191 v1 v2 v3 v4 v5 v6 v7 σ) else (if (bitC v7) = ((mI_servedMany σ) + v1) then (sm_costIn σ (v7 &&& (v5 ^^^ (-1 : Int32))) (fun r134 σ134 => if r134 ≤ v2 then (sm_scoreOf σ134 (v7 &&& (v5 ^^^ (-1 : Int32))) v3 (fun r154 σ154 => vp_in v7 1024 ∧ (if v6 = 0 then (K177 v1 v2 v3 v4 v5 v7 (mU_scores σ154 v7 r154)) else (vp_in v7 1024 ∧ (if (mA_scores (mU_scores σ154 v7 r154) (v7).toNatClampNeg) ≤ (mI_bestScore (mU_scores σ154 v7 r154)) then (K188 v1 v2 v3 v4 v5 v7 (mU_scores σ154 v7 r154)) else (K177 v1 v2 v3 v4 v5 v7 (mU_scores σ154 v7 r154))))))) else (K191 v1 v2 v3 v4 v5 v6 v7 σ134))) else (K191 v1 v2 v3 v4 v5 v6 v7 σ))) else (if v8 = 0 then (sm_isState v7 v9 (fun r67 => if r67 = 0 then (wm_findBest_j94 P ih v1 v2 v3 v4 v5 v6 v7 v9 σ) else (sm_place v7 v9 (fun r81 => vp_in r81 11264 ∧ (if (lg_cmp (mA_rows σ (r81).toNatClampNeg) (0 : Int64)) ≤ 0 then (wm_findBest_j94 P ih v1 v2 v3 v4 v5 v6 v7 v9 σ) else (wm_findBest_j90 P ih v1 v2 v3 v4 v5 v6 v7 v9 σ)))))) else (wm_findBest_j90 P ih v1 v2 v3 v4 v5 v6 v7 v9 σ))) n
theorem wm_findBest_l49_s (P : Int32 → St → Prop) (K177 : Int32 → Int32 → Int32 → Int32 → Int32 → Int32 → St → Prop) (K188 : Int32 → Int32 → Int32 → Int32 → Int32 → Int32 → St → Prop) (K191 : Int32 → Int32 → Int32 → Int32 → Int32 → Int32 → Int32 → St → Prop) (n : Nat) (v1 : Int32) (v2 : Int32) (v3 : Int32) (v4 : Int32) (v5 : Int32) (v6 : Int32) (v7 : Int32) (v8 : Int32) (v9 : Int32) (σ : St) : wm_findBest_l49 P K177 K188 K191 (n + 1) v1 v2 v3 v4 v5 v6 v7 v8 v9 σ = (if (mI_dishes σ) ≤ v9 then (if v8 = 0 then (K191 v1 v2 v3 v4 v5 v6 v7 σ) else (if (bitC v7) = ((mI_servedMany σ) + v1) then (sm_costIn σ (v7 &&& (v5 ^^^ (-1 : Int32))) (fun r134 σ134 => if r134 ≤ v2 then (sm_scoreOf σ134 (v7 &&& (v5 ^^^ (-1 : Int32))) v3 (fun r154 σ154 => vp_in v7 1024 ∧ (if v6 = 0 then (K177 v1 v2 v3 v4 v5 v7 (mU_scores σ154 v7 r154)) else (vp_in v7 1024 ∧ (if (mA_scores (mU_scores σ154 v7 r154) (v7).toNatClampNeg) ≤ (mI_bestScore (mU_scores σ154 v7 r154)) then (K188 v1 v2 v3 v4 v5 v7 (mU_scores σ154 v7 r154)) else (K177 v1 v2 v3 v4 v5 v7 (mU_scores σ154 v7 r154))))))) else (K191 v1 v2 v3 v4 v5 v6 v7 σ134))) else (K191 v1 v2 v3 v4 v5 v6 v7 σ))) else (if v8 = 0 then (sm_isState v7 v9 (fun r67 => if r67 = 0 then (wm_findBest_j94 P (wm_findBest_l49 P K177 K188 K191 n) v1 v2 v3 v4 v5 v6 v7 v9 σ) else (sm_place v7 v9 (fun r81 => vp_in r81 11264 ∧ (if (lg_cmp (mA_rows σ (r81).toNatClampNeg) (0 : Int64)) ≤ 0 then (wm_findBest_j94 P (wm_findBest_l49 P K177 K188 K191 n) v1 v2 v3 v4 v5 v6 v7 v9 σ) else (wm_findBest_j90 P (wm_findBest_l49 P K177 K188 K191 n) v1 v2 v3 v4 v5 v6 v7 v9 σ)))))) else (wm_findBest_j90 P (wm_findBest_l49 P K177 K188 K191 n) v1 v2 v3 v4 v5 v6 v7 v9 σ))) := rfl
def wm_findBest_j191 (P : Int32 → St → Prop) (K24 : Int32 → Int32 → Int32 → Int32 → Int32 → Int32 → Int32 → St → Prop) (v1 : Int32) (v2 : Int32) (v3 : Int32) (v4 : Int32) (v5 : Int32) (v6 : Int32) (v7 : Int32) (σ : St) : Prop :=
  K24 v1 v2 v3 v4 v5 v6 (v7 + (1 : Int32)) σ
def wm_findBest_j188 (P : Int32 → St → Prop) (K24 : Int32 → Int32 → Int32 → Int32 → Int32 → Int32 → Int32 → St → Prop) (v1 : Int32) (v2 : Int32) (v3 : Int32) (v4 : Int32) (v5 : Int32) (v7 : Int32) (σ : St) : Prop :=
  wm_findBest_j191 P K24 v1 v2 v3 v4 v5 (1 : Int32) v7 σ
def wm_findBest_j177 (P : Int32 → St → Prop) (K24 : Int32 → Int32 → Int32 → Int32 → Int32 → Int32 → Int32 → St → Prop) (v1 : Int32) (v2 : Int32) (v3 : Int32) (v4 : Int32) (v5 : Int32) (v7 : Int32) (σ : St) : Prop :=
  vp_in v7 1024 ∧ (wm_findBest_j188 P K24 v1 v2 v3 v4 v5 v7 (mS_bestScore σ (mA_scores σ (v7).toNatClampNeg)))
noncomputable def wm_findBest_l24 (P : Int32 → St → Prop) (K211 : Int32 → Int32 → St → Prop) (n : Nat) : Int32 → Int32 → Int32 → Int32 → Int32 → Int32 → Int32 → St → Prop :=
  Nat.rec (fun _ _ _ _ _ _ _ _ => False) (fun _ ih v1 v2 v3 v4 v5 v6 v7 σ => sm_all σ  (fun r27 σ27 => if r27 < v7 then (if v6 = 0 then (P (0 : Int32) σ27) else (sm_noEnds σ27  (fun σ205 => K211 v4 (0 : Int32) σ205))) else (vp_in v7 1024 ∧ (∃ n49, wm_findBest_l49 P (wm_findBest_j177 P ih) (wm_findBest_j188 P ih) (wm_findBest_j191 P ih) n49 v1 v2 v3 v4 v5 v6 v7 (0 : Int32) (-1 : Int32) (mU_scores σ27 v7 (-1000001 : Int32)))))) n
theorem wm_findBest_l24_s (P : Int32 → St → Prop) (K211 : Int32 → Int32 → St → Prop) (n : Nat) (v1 : Int32) (v2 : Int32) (v3 : Int32) (v4 : Int32) (v5 : Int32) (v6 : Int32) (v7 : Int32) (σ : St) : wm_findBest_l24 P K211 (n + 1) v1 v2 v3 v4 v5 v6 v7 σ = (sm_all σ  (fun r27 σ27 => if r27 < v7 then (if v6 = 0 then (P (0 : Int32) σ27) else (sm_noEnds σ27  (fun σ205 => K211 v4 (0 : Int32) σ205))) else (vp_in v7 1024 ∧ (∃ n49, wm_findBest_l49 P (wm_findBest_j177 P (wm_findBest_l24 P K211 n)) (wm_findBest_j188 P (wm_findBest_l24 P K211 n)) (wm_findBest_j191 P (wm_findBest_l24 P K211 n)) n49 v1 v2 v3 v4 v5 v6 v7 (0 : Int32) (-1 : Int32) (mU_scores σ27 v7 (-1000001 : Int32)))))) := rfl
def wm_findBest_j292 (P : Int32 → St → Prop) (K240 : Int32 → Int32 → Int32 → St → Prop) (v4 : Int32) (v7 : Int32) (v8 : Int32) (s1 : Int32) (s2 : Int32) (σ : St) : Prop :=
  vp_in s1 11264 ∧ (K240 v4 v7 (v8 + (1 : Int32)) (mU_isEnd σ s1 (vp_nar .boolean s2)))
def wm_findBest_j291 (P : Int32 → St → Prop) (K240 : Int32 → Int32 → Int32 → St → Prop) (v4 : Int32) (v7 : Int32) (v8 : Int32) (s1 : Int32) (σ : St) : Prop :=
  wm_findBest_j292 P K240 v4 v7 v8 s1 (0 : Int32) σ
noncomputable def wm_findBest_l240 (P : Int32 → St → Prop) (K299 : Int32 → Int32 → St → Prop) (n : Nat) : Int32 → Int32 → Int32 → St → Prop :=
  Nat.rec (fun _ _ _ _ => False) (fun _ ih v4 v7 v8 σ => if (mI_dishes σ) ≤ v8 then (K299 v4 v7 σ) else (sm_place v7 v8 (fun r257 => sm_isState v7 v8 (fun r264 => if r264 = 0 then (wm_findBest_j291 P ih v4 v7 v8 r257 σ) else (sm_place v7 v8 (fun r278 => vp_in r278 11264 ∧ (if (lg_cmp (mA_rows σ (r278).toNatClampNeg) (0 : Int64)) ≤ 0 then (wm_findBest_j291 P ih v4 v7 v8 r257 σ) else (wm_findBest_j292 P ih v4 v7 v8 r257 (1 : Int32) σ)))))))) n
theorem wm_findBest_l240_s (P : Int32 → St → Prop) (K299 : Int32 → Int32 → St → Prop) (n : Nat) (v4 : Int32) (v7 : Int32) (v8 : Int32) (σ : St) : wm_findBest_l240 P K299 (n + 1) v4 v7 v8 σ = (if (mI_dishes σ) ≤ v8 then (K299 v4 v7 σ) else (sm_place v7 v8 (fun r257 => sm_isState v7 v8 (fun r264 => if r264 = 0 then (wm_findBest_j291 P (wm_findBest_l240 P K299 n) v4 v7 v8 r257 σ) else (sm_place v7 v8 (fun r278 => vp_in r278 11264 ∧ (if (lg_cmp (mA_rows σ (r278).toNatClampNeg) (0 : Int64)) ≤ 0 then (wm_findBest_j291 P (wm_findBest_l240 P K299 n) v4 v7 v8 r257 σ) else (wm_findBest_j292 P (wm_findBest_l240 P K299 n) v4 v7 v8 r257 (1 : Int32) σ)))))))) := rfl
def wm_findBest_j299 (P : Int32 → St → Prop) (K211 : Int32 → Int32 → St → Prop) (v4 : Int32) (v7 : Int32) (σ : St) : Prop :=
  K211 v4 (v7 + (1 : Int32)) σ
noncomputable def wm_findBest_l211 (P : Int32 → St → Prop)  (n : Nat) : Int32 → Int32 → St → Prop :=
  Nat.rec (fun _ _ _ => False) (fun _ ih v4 v7 σ => sm_all σ  (fun r214 σ214 => if r214 < v7 then (sm_findEnds σ214 v4 (fun σ308 => P (1 : Int32) σ308)) else (vp_in v7 1024 ∧ (if (mA_scores σ214 (v7).toNatClampNeg) = (mI_bestScore σ214) then (∃ n240, wm_findBest_l240 P (wm_findBest_j299 P ih) n240 v4 v7 (-1 : Int32) σ214) else (wm_findBest_j299 P ih v4 v7 σ214))))) n
theorem wm_findBest_l211_s (P : Int32 → St → Prop)  (n : Nat) (v4 : Int32) (v7 : Int32) (σ : St) : wm_findBest_l211 P  (n + 1) v4 v7 σ = (sm_all σ  (fun r214 σ214 => if r214 < v7 then (sm_findEnds σ214 v4 (fun σ308 => P (1 : Int32) σ308)) else (vp_in v7 1024 ∧ (if (mA_scores σ214 (v7).toNatClampNeg) = (mI_bestScore σ214) then (∃ n240, wm_findBest_l240 P (wm_findBest_j299 P (wm_findBest_l211 P  n)) n240 v4 v7 (-1 : Int32) σ214) else (wm_findBest_j299 P (wm_findBest_l211 P  n) v4 v7 σ214))))) := rfl
def wm_findBest (σ : St) (v1 : Int32) (v2 : Int32) (v3 : Int32) (v4 : Int32) (P : Int32 → St → Prop) : Prop :=
  sm_servedSet σ  (fun r1 σ1 => sm_servedLast σ1  (fun r10 σ10 => sm_findRows σ10 r1 r10 v4 (fun σ15 => ∃ n24, wm_findBest_l24 P (fun v4 v7 σ => ∃ n211, wm_findBest_l211 P  n211 v4 v7 σ) n24 v1 v2 v3 v4 r1 (0 : Int32) (0 : Int32) σ15)))
abbrev sm_findBest := @wm_findBest
theorem sm_findBest_ok {σ : St} {v1 : Int32} {v2 : Int32} {v3 : Int32} {v4 : Int32} {P : Int32 → St → Prop} (h : sm_findBest σ v1 v2 v3 v4 P) : wm_findBest σ v1 v2 v3 v4 P := h
/-! m.greedy -/
def wm_greedy_j38 (P : Int32 → St → Prop) (K16 : Int32 → Int32 → St → Prop) (v1 : Int32) (v2 : Int32) (σ : St) : Prop :=
  K16 v1 (v2 + (1 : Int32)) σ
noncomputable def wm_greedy_l16 (P : Int32 → St → Prop) (K10 : Int32 → St → Prop) (n : Nat) : Int32 → Int32 → St → Prop :=
  Nat.rec (fun _ _ _ => False) (fun _ ih v1 v2 σ => if (mI_dishes σ) ≤ v2 then (K10 (v1 + (-1 : Int32)) σ) else (sm_isState v1 v2 (fun r26 => if r26 = 0 then (wm_greedy_j38 P ih v1 v2 σ) else (sm_findGreedy σ v1 v2 (fun σ35 => wm_greedy_j38 P ih v1 v2 σ35))))) n
theorem wm_greedy_l16_s (P : Int32 → St → Prop) (K10 : Int32 → St → Prop) (n : Nat) (v1 : Int32) (v2 : Int32) (σ : St) : wm_greedy_l16 P K10 (n + 1) v1 v2 σ = (if (mI_dishes σ) ≤ v2 then (K10 (v1 + (-1 : Int32)) σ) else (sm_isState v1 v2 (fun r26 => if r26 = 0 then (wm_greedy_j38 P (wm_greedy_l16 P K10 n) v1 v2 σ) else (sm_findGreedy σ v1 v2 (fun σ35 => wm_greedy_j38 P (wm_greedy_l16 P K10 n) v1 v2 σ35))))) := rfl
noncomputable def wm_greedy_l10 (P : Int32 → St → Prop) (K91 : Int32 → St → Prop) (n : Nat) : Int32 → St → Prop :=
  Nat.rec (fun _ _ => False) (fun _ ih v1 σ => if v1 < 0 then (sm_servedSet σ  (fun r51 σ51 => sm_servedLast σ51  (fun r55 σ55 => sm_place r51 r55 (fun r58 => vp_in r58 22528 ∧ (sm_tell (mS_rowMany σ55 (0 : Int32)) (mA_moreOf (mS_rowMany σ55 (0 : Int32)) (r58).toNatClampNeg) (fun σ74 => vp_in r58 22528 ∧ (if (mA_isShamed σ74 (r58).toNatClampNeg) = 0 then (K91 (0 : Int32) σ74) else (K91 (1 : Int32) σ74)))))))) else (∃ n16, wm_greedy_l16 P ih n16 v1 (-1 : Int32) σ)) n
theorem wm_greedy_l10_s (P : Int32 → St → Prop) (K91 : Int32 → St → Prop) (n : Nat) (v1 : Int32) (σ : St) : wm_greedy_l10 P K91 (n + 1) v1 σ = (if v1 < 0 then (sm_servedSet σ  (fun r51 σ51 => sm_servedLast σ51  (fun r55 σ55 => sm_place r51 r55 (fun r58 => vp_in r58 22528 ∧ (sm_tell (mS_rowMany σ55 (0 : Int32)) (mA_moreOf (mS_rowMany σ55 (0 : Int32)) (r58).toNatClampNeg) (fun σ74 => vp_in r58 22528 ∧ (if (mA_isShamed σ74 (r58).toNatClampNeg) = 0 then (K91 (0 : Int32) σ74) else (K91 (1 : Int32) σ74)))))))) else (∃ n16, wm_greedy_l16 P (wm_greedy_l10 P K91 n) n16 v1 (-1 : Int32) σ)) := rfl
def wm_greedy_j91 (P : Int32 → St → Prop)  (s0 : Int32) (σ : St) : Prop :=
  P s0 σ
def wm_greedy (σ : St)  (P : Int32 → St → Prop) : Prop :=
  sm_all (mS_thrown σ (0 : Int32))  (fun r6 σ6 => ∃ n10, wm_greedy_l10 P (wm_greedy_j91 P) n10 r6 σ6)
abbrev sm_greedy := @wm_greedy
theorem sm_greedy_ok {σ : St} {P : Int32 → St → Prop} (h : sm_greedy σ  P) : wm_greedy σ  P := h
/-! m.tellBest -/
def wm_tellBest_j49 (P : Int32 → St → Prop)  (σ : St) : Prop :=
  P (-2 : Int32) σ
def wm_tellBest_j35 (P : Int32 → St → Prop)  (v1 : Int32) (v2 : Int32) (v3 : Int32) (σ : St) : Prop :=
  sm_all σ  (fun r40 σ40 => sm_findBest σ40 v1 v2 v3 r40 (fun r43 σ43 => if r43 = 0 then (wm_tellBest_j49 P  σ43) else (sm_tell (mS_rowMany σ43 (0 : Int32)) (mI_bestScore (mS_rowMany σ43 (0 : Int32))) (fun σ62 => sm_servedSet σ62  (fun r67 σ67 => sm_servedLast σ67  (fun r71 σ71 => sm_all σ71  (fun r75 σ75 => sm_tellWay σ75 r67 r71 r75 (fun σ78 => P (1 : Int32) σ78))))))))
def wm_tellBest (σ : St) (v1 : Int32) (v2 : Int32) (v3 : Int32) (P : Int32 → St → Prop) : Prop :=
  sm_in v1 (0 : Int32) (10 : Int32) (fun r4 => if r4 = 0 then (P (-1 : Int32) σ) else (sm_in v2 (0 : Int32) (999 : Int32) (fun r15 => if r15 = 0 then (P (-1 : Int32) σ) else (if v3 = (1 : Int32) then (if (mI_guests σ) = 0 then (wm_tellBest_j49 P  σ) else (wm_tellBest_j35 P  v1 v2 v3 σ)) else (wm_tellBest_j35 P  v1 v2 v3 σ)))))
abbrev sm_tellBest := @wm_tellBest
theorem sm_tellBest_ok {σ : St} {v1 : Int32} {v2 : Int32} {v3 : Int32} {P : Int32 → St → Prop} (h : sm_tellBest σ v1 v2 v3 P) : wm_tellBest σ v1 v2 v3 P := h
/-! m.tellCost -/
def wm_tellCost (σ : St) (v1 : Int32) (v2 : Int32) (v3 : Int32) (P : Int32 → St → Prop) : Prop :=
  sm_in v1 (0 : Int32) (10 : Int32) (fun r4 => if r4 = 0 then (P (-1 : Int32) σ) else (sm_findBest σ v1 (1000000 : Int32) v2 v3 (fun r19 σ19 => if r19 = 0 then (P (-2 : Int32) σ19) else (sm_servedSet (mS_rowMany σ19 (0 : Int32))  (fun r35 σ35 => sm_servedLast σ35  (fun r39 σ39 => sm_tellWay σ39 r35 r39 v3 (fun σ43 => P (jabs (mI_bestScore σ43)) σ43)))))))
abbrev sm_tellCost := @wm_tellCost
theorem sm_tellCost_ok {σ : St} {v1 : Int32} {v2 : Int32} {v3 : Int32} {P : Int32 → St → Prop} (h : sm_tellCost σ v1 v2 v3 P) : wm_tellCost σ v1 v2 v3 P := h
/-! m.best -/
def wm_best (σ : St) (v1 : Int32) (v2 : Int32) (P : Int32 → St → Prop) : Prop :=
  sm_tellBest (mS_thrown σ (0 : Int32)) v1 v2 (0 : Int32) (fun r9 σ9 => P r9 σ9)
abbrev sm_best := @wm_best
theorem sm_best_ok {σ : St} {v1 : Int32} {v2 : Int32} {P : Int32 → St → Prop} (h : sm_best σ v1 v2 P) : wm_best σ v1 v2 P := h
/-! m.cheap -/
def wm_cheap_j52 (P : Int32 → St → Prop) (K23 : Int32 → Int32 → Int32 → Int32 → Int32 → St → Prop) (v1 : Int32) (v2 : Int32) (v3 : Int32) (v5 : Int32) (s0 : Int32) (σ : St) : Prop :=
  K23 v1 v2 v3 s0 (v5 + (1 : Int32)) σ
def wm_cheap_j47 (P : Int32 → St → Prop) (K23 : Int32 → Int32 → Int32 → Int32 → Int32 → St → Prop) (v1 : Int32) (v2 : Int32) (v3 : Int32) (v5 : Int32) (σ : St) : Prop :=
  wm_cheap_j52 P K23 v1 v2 v3 v5 (1 : Int32) σ
noncomputable def wm_cheap_l23 (P : Int32 → St → Prop) (K73 : Int32 → Int32 → Int32 → Int32 → St → Prop) (n : Nat) : Int32 → Int32 → Int32 → Int32 → Int32 → St → Prop :=
  Nat.rec (fun _ _ _ _ _ _ => False) (fun _ ih v1 v2 v3 v4 v5 σ => if (mI_guests σ) ≤ v5 then (if v4 = 0 then (K73 v1 v3 v2 ((1 : Int32) <<< (v3 &&& 31)) σ) else (K73 v1 v3 v2 (0 : Int32) σ)) else (if v4 = 0 then (sm_isHungry σ v5 v3 (fun r41 σ41 => if r41 = 0 then (wm_cheap_j52 P ih v1 v2 v3 v5 (0 : Int32) σ41) else (wm_cheap_j47 P ih v1 v2 v3 v5 σ41))) else (wm_cheap_j47 P ih v1 v2 v3 v5 σ))) n
theorem wm_cheap_l23_s (P : Int32 → St → Prop) (K73 : Int32 → Int32 → Int32 → Int32 → St → Prop) (n : Nat) (v1 : Int32) (v2 : Int32) (v3 : Int32) (v4 : Int32) (v5 : Int32) (σ : St) : wm_cheap_l23 P K73 (n + 1) v1 v2 v3 v4 v5 σ = (if (mI_guests σ) ≤ v5 then (if v4 = 0 then (K73 v1 v3 v2 ((1 : Int32) <<< (v3 &&& 31)) σ) else (K73 v1 v3 v2 (0 : Int32) σ)) else (if v4 = 0 then (sm_isHungry σ v5 v3 (fun r41 σ41 => if r41 = 0 then (wm_cheap_j52 P (wm_cheap_l23 P K73 n) v1 v2 v3 v5 (0 : Int32) σ41) else (wm_cheap_j47 P (wm_cheap_l23 P K73 n) v1 v2 v3 v5 σ41))) else (wm_cheap_j47 P (wm_cheap_l23 P K73 n) v1 v2 v3 v5 σ))) := rfl
def wm_cheap_j73 (P : Int32 → St → Prop) (K9 : Int32 → Int32 → Int32 → St → Prop) (v1 : Int32) (v3 : Int32) (s0 : Int32) (s1 : Int32) (σ : St) : Prop :=
  K9 v1 (s0 ||| s1) (v3 + (1 : Int32)) σ
noncomputable def wm_cheap_l9 (P : Int32 → St → Prop)  (n : Nat) : Int32 → Int32 → Int32 → St → Prop :=
  Nat.rec (fun _ _ _ _ => False) (fun _ ih v1 v2 v3 σ => if (mI_dishes σ) ≤ v3 then (sm_tellCost σ v1 (2 : Int32) v2 (fun r85 σ85 => P r85 σ85)) else (∃ n23, wm_cheap_l23 P (wm_cheap_j73 P ih) n23 v1 v2 v3 (0 : Int32) (0 : Int32) σ)) n
theorem wm_cheap_l9_s (P : Int32 → St → Prop)  (n : Nat) (v1 : Int32) (v2 : Int32) (v3 : Int32) (σ : St) : wm_cheap_l9 P  (n + 1) v1 v2 v3 σ = (if (mI_dishes σ) ≤ v3 then (sm_tellCost σ v1 (2 : Int32) v2 (fun r85 σ85 => P r85 σ85)) else (∃ n23, wm_cheap_l23 P (wm_cheap_j73 P (wm_cheap_l9 P  n)) n23 v1 v2 v3 (0 : Int32) (0 : Int32) σ)) := rfl
def wm_cheap (σ : St) (v1 : Int32) (P : Int32 → St → Prop) : Prop :=
  ∃ n9, wm_cheap_l9 P  n9 v1 (0 : Int32) (0 : Int32) (mS_thrown σ (0 : Int32))
abbrev sm_cheap := @wm_cheap
theorem sm_cheap_ok {σ : St} {v1 : Int32} {P : Int32 → St → Prop} (h : sm_cheap σ v1 P) : wm_cheap σ v1 P := h
/-! m.dear -/
def wm_dear (σ : St) (v1 : Int32) (P : Int32 → St → Prop) : Prop :=
  sm_all (mS_thrown σ (0 : Int32))  (fun r9 σ9 => sm_tellCost σ9 v1 (3 : Int32) r9 (fun r12 σ12 => P r12 σ12))
abbrev sm_dear := @wm_dear
theorem sm_dear_ok {σ : St} {v1 : Int32} {P : Int32 → St → Prop} (h : sm_dear σ v1 P) : wm_dear σ v1 P := h
/-! m.fair -/
def wm_fair (σ : St) (v1 : Int32) (v2 : Int32) (P : Int32 → St → Prop) : Prop :=
  sm_tellBest (mS_thrown σ (0 : Int32)) v1 v2 (1 : Int32) (fun r9 σ9 => P r9 σ9)
abbrev sm_fair := @wm_fair
theorem sm_fair_ok {σ : St} {v1 : Int32} {v2 : Int32} {P : Int32 → St → Prop} (h : sm_fair σ v1 v2 P) : wm_fair σ v1 v2 P := h
