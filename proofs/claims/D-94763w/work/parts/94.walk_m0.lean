/-! m.all -/
set_option maxHeartbeats 4000000 in
theorem mm_all {l : Launch} {G : AG} {L : Nat → Nat} {σ : St} {P : Int32 → St → Prop} (h : wm_all σ P) : CtW l G yX2_all cX2_all 1 (some .int) (rmH 1) [.ref (L 0)] (mW G L) σ (pI P) := by
  refine CtW.ofI (by decide) (Nat.le_of_ble_eq_true rfl) fun Z _ K E => ?_
  unfold wm_all at h
  show AX Z 0 0 0 [(0, .ref (L 0))] [] (mW G L σ)
  refine ax_iconst (v := (1 : Int32)) K (by decide) dX2_all_0 ?_
  refine ax_aload_n K 0 rfl dX2_all_1 ?_
  refine mg_dishes K dX2_all_2 ?_
  refine ax_ishl K dX2_all_5 ?_
  refine ax_iconst (v := (1 : Int32)) K (by decide) dX2_all_6 ?_
  refine ax_isub K dX2_all_7 ?_
  exact E _ _ _ _ dX2_all_8 rfl h
theorem rm_all {Z : AZ} {G : AG} {cc : ByteArray} {mL hh pc : Nat} {lv : List (Nat × Value)} {rest : List Value} {L : Nat → Nat} {σ : St} (K : AK Z G cc RX2 mL (rmH hh)) (hlt : 1 < hh) (d : decode cc pc = .ok (.invokevirtual 298, 3)) (hrest : (rest.map fun v => v.category).sum ≤ 8) {P : Int32 → St → Prop} (h : sm_all σ  P) (kk : ∀ (r : Int32) (σ' : St), P r σ' → AX Z 0 0 (pc + 3) lv (.int r :: rest) (mW G L σ')) : AX Z 0 0 pc lv (.ref (L 0) :: rest) (mW G L σ) :=
  ax_callV (N0 := 0) (As := []) K (mm_all (sm_all_ok h)) q1403 q1405 qs91 q118 q1406 ⟨rfl, by decide, by decide, by decide⟩ rfl ⟨by show 1 + 1 + 1 ≤ hh + 1; omega, by show 8 + (1 + 11) + 60 * (1 + 1) ≤ 60 * (hh + 1); omega⟩ ⟨Nat.zero_le _, Nat.zero_le _⟩ rfl rfl rfl hrest d (fun r σ' hp => by obtain ⟨v, rfl, hp⟩ := hp; exact kk v σ' hp)
/-! m.back -/
set_option maxHeartbeats 4000000 in
theorem mm_back {l : Launch} {G : AG} {L : Nat → Nat} {σ : St} {P : Int32 → St → Prop} (h : wm_back σ P) : CtW l G yX2_back cX2_back 1 (some .int) (rmH 1) [.ref (L 0)] (mW G L) σ (pI P) := by
  refine CtW.ofI (by decide) (Nat.le_of_ble_eq_true rfl) fun Z _ K E => ?_
  unfold wm_back at h
  show AX Z 0 0 0 [(0, .ref (L 0))] [] (mW G L σ)
  refine ax_aload_n K 0 rfl dX2_back_0 ?_
  refine ax_iconst (v := (0 : Int32)) K (by decide) dX2_back_1 ?_
  refine mp_thrown K dX2_back_2 ?_
  refine ax_aload_n K 0 rfl dX2_back_5 ?_
  refine mg_servedMany K dX2_back_6 ?_
  refine ax_if_ne (tgt := 14) K dX2_back_9 (by decide) (fun c9 => ?_) (fun c9 => ?_)
  · have h := ax_ie h c9
    refine ax_aload_n K 0 rfl dX2_back_14 ?_
    refine ax_dup K rfl dX2_back_15 ?_
    refine mg_servedMany K dX2_back_16 ?_
    refine ax_iconst (v := (1 : Int32)) K (by decide) dX2_back_19 ?_
    refine ax_isub K dX2_back_20 ?_
    refine mp_servedMany K dX2_back_21 ?_
    refine ax_aload_n K 0 rfl dX2_back_24 ?_
    refine mg_served K dX2_back_25 ?_
    refine ax_aload_n K 0 rfl dX2_back_28 ?_
    refine mg_servedMany K dX2_back_29 ?_
    refine ml_served K h.1 dX2_back_32 ?_
    replace h := h.2
    exact E _ _ _ _ dX2_back_33 rfl h
  · have h := ax_it h c9
    refine ax_iconst (v := (-1 : Int32)) K (by decide) dX2_back_12 ?_
    exact E _ _ _ _ dX2_back_13 rfl h

/-! m.fine -/
set_option maxHeartbeats 4000000 in
theorem km_fine_j13 {Z : AZ} {G : AG} {L : Nat → Nat} {P : Int32 → St → Prop} (K : AK Z G cX2_fine RX2 1 (rmH 1)) (E : AEi Z cX2_fine .boolean (mW G L) 0 0 P) (s0 : Int32) (σ : St) (h : wm_fine_j13 P  s0 σ) : AX Z 0 0 13 [(0, .ref (L 0))] [.int s0] (mW G L σ) := by
  unfold wm_fine_j13 at h
  exact E _ _ _ _ dX2_fine_13 h.1 h.2
set_option maxHeartbeats 4000000 in
theorem mm_fine {l : Launch} {G : AG} {L : Nat → Nat} {σ : St} {P : Int32 → St → Prop} (h : wm_fine σ P) : CtW l G yX2_fine cX2_fine 1 (some .boolean) (rmH 1) [.ref (L 0)] (mW G L) σ (pI P) := by
  refine CtW.ofI (by decide) (Nat.le_of_ble_eq_true rfl) fun Z _ K E => ?_
  unfold wm_fine at h
  show AX Z 0 0 0 [(0, .ref (L 0))] [] (mW G L σ)
  refine ax_aload_n K 0 rfl dX2_fine_0 ?_
  refine mg_wrong K dX2_fine_1 ?_
  refine ax_iconst (v := (-1 : Int32)) K (by decide) dX2_fine_4 ?_
  refine ax_icmp_ne (tgt := 12) K dX2_fine_5 (by decide) (fun c5 => ?_) (fun c5 => ?_)
  · have h := ax_ie h c5
    refine ax_iconst (v := (0 : Int32)) K (by decide) dX2_fine_12 ?_
    exact ax_sub [0] rfl (km_fine_j13 K E  (0 : Int32) σ h)
  · have h := ax_it h c5
    refine ax_iconst (v := (1 : Int32)) K (by decide) dX2_fine_8 ?_
    refine ax_goto (tgt := 13) K dX2_fine_9 (by decide) ?_
    exact ax_sub [0] rfl (km_fine_j13 K E  (1 : Int32) σ h)
theorem rm_fine {Z : AZ} {G : AG} {cc : ByteArray} {mL hh pc : Nat} {lv : List (Nat × Value)} {rest : List Value} {L : Nat → Nat} {σ : St} (K : AK Z G cc RX2 mL (rmH hh)) (hlt : 1 < hh) (d : decode cc pc = .ok (.invokevirtual 144, 3)) (hrest : (rest.map fun v => v.category).sum ≤ 8) {P : Int32 → St → Prop} (h : sm_fine σ  P) (kk : ∀ (r : Int32) (σ' : St), P r σ' → AX Z 0 0 (pc + 3) lv (.int r :: rest) (mW G L σ')) : AX Z 0 0 pc lv (.ref (L 0) :: rest) (mW G L σ) :=
  ax_callV (N0 := 0) (As := []) K (mm_fine (sm_fine_ok h)) q1202 q1204 qs61 q118 q1205 ⟨rfl, by decide, by decide, by decide⟩ rfl ⟨by show 1 + 1 + 1 ≤ hh + 1; omega, by show 8 + (1 + 11) + 60 * (1 + 1) ≤ 60 * (hh + 1); omega⟩ ⟨Nat.zero_le _, Nat.zero_le _⟩ rfl rfl rfl hrest d (fun r σ' hp => by obtain ⟨v, rfl, hp⟩ := hp; exact kk v σ' hp)
/-! m.has -/
set_option maxHeartbeats 4000000 in
theorem km_has_j14 {Z : AZ} {G : AG} {P : Int32 → Prop} (K : AK Z G cX2_has RX2 2 (rmH 1)) (E : AEi Z cX2_has .boolean w0 0 0 (fun v _ => P v)) (σ : St) (s0 : Int32) (h : wm_has_j14 P  s0) : AX Z 0 0 14 [] [.int s0] [] := by
  unfold wm_has_j14 at h
  exact E _ _ _ σ dX2_has_14 h.1 h.2
set_option maxHeartbeats 4000000 in
theorem mm_has {l : Launch} {G : AG} {σ : St} {v0 : Int32} {v1 : Int32} {P : Int32 → Prop} (h : wm_has v0 v1 P) : CtW l G yX2_has cX2_has 2 (some .boolean) (rmH 1) [.int v0, .int v1] w0 σ (pI (fun v _ => P v)) := by
  refine CtW.ofI (by decide) (Nat.le_of_ble_eq_true rfl) fun Z _ K E => ?_
  unfold wm_has at h
  show AX Z 0 0 0 [(0, .int v0), (1, .int v1)] [] []
  refine ax_iload_n K 0 rfl dX2_has_0 ?_
  refine ax_iload_n K 1 rfl dX2_has_1 ?_
  refine ax_ishr K dX2_has_2 ?_
  refine ax_iconst (v := (1 : Int32)) K (by decide) dX2_has_3 ?_
  refine ax_iand K dX2_has_4 ?_
  refine ax_iconst (v := (1 : Int32)) K (by decide) dX2_has_5 ?_
  refine ax_icmp_ne (tgt := 13) K dX2_has_6 (by decide) (fun c6 => ?_) (fun c6 => ?_)
  · have h := ax_ie h c6
    refine ax_iconst (v := (0 : Int32)) K (by decide) dX2_has_13 ?_
    exact ax_sub [] rfl (km_has_j14 K E σ  (0 : Int32) h)
  · have h := ax_it h c6
    refine ax_iconst (v := (1 : Int32)) K (by decide) dX2_has_9 ?_
    refine ax_goto (tgt := 14) K dX2_has_10 (by decide) ?_
    exact ax_sub [] rfl (km_has_j14 K E σ  (1 : Int32) h)
theorem rm_has {Z : AZ} {G : AG} {cc : ByteArray} {mL hh pc : Nat} {lv : List (Nat × Value)} {rest : List Value} {ws : va_W} (K : AK Z G cc RX2 mL (rmH hh)) (hlt : 1 < hh) (d : decode cc pc = .ok (.invokestatic 239, 3)) (hrest : (rest.map fun v => v.category).sum ≤ 8) {v0 : Int32} {v1 : Int32} {P : Int32 → Prop} (h : sm_has v0 v1 P) (kk : ∀ (r : Int32) , P r  → AX Z 0 0 (pc + 3) lv (.int r :: rest) ws) : AX Z 0 0 pc lv (.int v1 :: .int v0 :: rest) ws :=
  ax_callS (N0 := 2) (σ := σ00) (As := [.int v0, .int v1]) K (mm_has (sm_has_ok h)) q1324 q1325 q118 q1326 ⟨by decide, by decide, by decide⟩ rfl ⟨by show 1 + 1 + 1 ≤ hh + 1; omega, by show 8 + (2 + 11) + 60 * (1 + 1) ≤ 60 * (hh + 1); omega⟩ ⟨Nat.zero_le _, Nat.zero_le _⟩ rfl hrest d (fun r σ' hp => by obtain ⟨v, rfl, hp⟩ := hp; exact kk v hp)
/-! m.in -/
set_option maxHeartbeats 4000000 in
theorem km_in_j15 {Z : AZ} {G : AG} {P : Int32 → Prop} (K : AK Z G cX2_in RX2 3 (rmH 1)) (E : AEi Z cX2_in .boolean w0 0 0 (fun v _ => P v)) (σ : St) (s0 : Int32) (h : wm_in_j15 P  s0) : AX Z 0 0 15 [] [.int s0] [] := by
  unfold wm_in_j15 at h
  exact E _ _ _ σ dX2_in_15 h.1 h.2
set_option maxHeartbeats 4000000 in
theorem km_in_j14 {Z : AZ} {G : AG} {P : Int32 → Prop} (K : AK Z G cX2_in RX2 3 (rmH 1)) (E : AEi Z cX2_in .boolean w0 0 0 (fun v _ => P v)) (σ : St)  (h : wm_in_j14 P  ) : AX Z 0 0 14 [] [] [] := by
  unfold wm_in_j14 at h
  refine ax_iconst (v := (0 : Int32)) K (by decide) dX2_in_14 ?_
  exact ax_sub [] rfl (km_in_j15 K E σ  (0 : Int32) h)
set_option maxHeartbeats 4000000 in
theorem mm_in {l : Launch} {G : AG} {σ : St} {v0 : Int32} {v1 : Int32} {v2 : Int32} {P : Int32 → Prop} (h : wm_in v0 v1 v2 P) : CtW l G yX2_in cX2_in 3 (some .boolean) (rmH 1) [.int v0, .int v1, .int v2] w0 σ (pI (fun v _ => P v)) := by
  refine CtW.ofI (by decide) (Nat.le_of_ble_eq_true rfl) fun Z _ K E => ?_
  unfold wm_in at h
  show AX Z 0 0 0 [(0, .int v0), (1, .int v1), (2, .int v2)] [] []
  refine ax_iload_n K 0 rfl dX2_in_0 ?_
  refine ax_iload_n K 1 rfl dX2_in_1 ?_
  refine ax_icmp_lt (tgt := 14) K dX2_in_2 (by decide) (fun c2 => ?_) (fun c2 => ?_)
  · have h := ax_it h c2
    exact ax_sub [] rfl (km_in_j14 K E σ   h)
  · have h := ax_ie h c2
    refine ax_iload_n K 0 rfl dX2_in_5 ?_
    refine ax_iload_n K 2 rfl dX2_in_6 ?_
    refine ax_icmp_gt (tgt := 14) K dX2_in_7 (by decide) (fun c7 => ?_) (fun c7 => ?_)
    · have h := ax_it h c7
      exact ax_sub [] rfl (km_in_j14 K E σ   h)
    · have h := ax_ie h c7
      refine ax_iconst (v := (1 : Int32)) K (by decide) dX2_in_10 ?_
      refine ax_goto (tgt := 15) K dX2_in_11 (by decide) ?_
      exact ax_sub [] rfl (km_in_j15 K E σ  (1 : Int32) h)
theorem rm_in {Z : AZ} {G : AG} {cc : ByteArray} {mL hh pc : Nat} {lv : List (Nat × Value)} {rest : List Value} {ws : va_W} (K : AK Z G cc RX2 mL (rmH hh)) (hlt : 1 < hh) (d : decode cc pc = .ok (.invokestatic 119, 3)) (hrest : (rest.map fun v => v.category).sum ≤ 8) {v0 : Int32} {v1 : Int32} {v2 : Int32} {P : Int32 → Prop} (h : sm_in v0 v1 v2 P) (kk : ∀ (r : Int32) , P r  → AX Z 0 0 (pc + 3) lv (.int r :: rest) ws) : AX Z 0 0 pc lv (.int v2 :: .int v1 :: .int v0 :: rest) ws :=
  ax_callS (N0 := 3) (σ := σ00) (As := [.int v0, .int v1, .int v2]) K (mm_in (sm_in_ok h)) q1191 q1192 q118 q1193 ⟨by decide, by decide, by decide⟩ rfl ⟨by show 1 + 1 + 1 ≤ hh + 1; omega, by show 8 + (3 + 11) + 60 * (1 + 1) ≤ 60 * (hh + 1); omega⟩ ⟨Nat.zero_le _, Nat.zero_le _⟩ rfl hrest d (fun r σ' hp => by obtain ⟨v, rfl, hp⟩ := hp; exact kk v hp)
/-! m.isHungry -/
set_option maxHeartbeats 4000000 in
theorem km_isHungry_j21 {Z : AZ} {G : AG} {L : Nat → Nat} {P : Int32 → St → Prop} (K : AK Z G cX2_isHungry RX2 3 (rmH 1)) (E : AEi Z cX2_isHungry .boolean (mW G L) 0 0 P) (s0 : Int32) (σ : St) (h : wm_isHungry_j21 P  s0 σ) : AX Z 0 0 21 [(0, .ref (L 0))] [.int s0] (mW G L σ) := by
  unfold wm_isHungry_j21 at h
  exact E _ _ _ _ dX2_isHungry_21 h.1 h.2
set_option maxHeartbeats 4000000 in
theorem mm_isHungry {l : Launch} {G : AG} {L : Nat → Nat} {σ : St} {v1 : Int32} {v2 : Int32} {P : Int32 → St → Prop} (h : wm_isHungry σ v1 v2 P) : CtW l G yX2_isHungry cX2_isHungry 3 (some .boolean) (rmH 1) [.ref (L 0), .int v1, .int v2] (mW G L) σ (pI P) := by
  refine CtW.ofI (by decide) (Nat.le_of_ble_eq_true rfl) fun Z _ K E => ?_
  unfold wm_isHungry at h
  show AX Z 0 0 0 [(0, .ref (L 0)), (1, .int v1), (2, .int v2)] [] (mW G L σ)
  refine ax_aload_n K 0 rfl dX2_isHungry_0 ?_
  refine mg_stuffs K dX2_isHungry_1 ?_
  refine ax_iload_n K 2 rfl dX2_isHungry_4 ?_
  refine ml_stuffs K h.1 dX2_isHungry_5 ?_
  replace h := h.2
  refine ax_aload_n K 0 rfl dX2_isHungry_6 ?_
  refine mg_bars K dX2_isHungry_7 ?_
  refine ax_iload_n K 1 rfl dX2_isHungry_10 ?_
  refine ml_bars K h.1 dX2_isHungry_11 ?_
  replace h := h.2
  refine ax_iand K dX2_isHungry_12 ?_
  refine ax_if_eq (tgt := 20) K dX2_isHungry_13 (by decide) (fun c13 => ?_) (fun c13 => ?_)
  · have h := ax_it h c13
    refine ax_iconst (v := (0 : Int32)) K (by decide) dX2_isHungry_20 ?_
    exact ax_sub [0] rfl (km_isHungry_j21 K E  (0 : Int32) σ h)
  · have h := ax_ie h c13
    refine ax_iconst (v := (1 : Int32)) K (by decide) dX2_isHungry_16 ?_
    refine ax_goto (tgt := 21) K dX2_isHungry_17 (by decide) ?_
    exact ax_sub [0] rfl (km_isHungry_j21 K E  (1 : Int32) σ h)
theorem rm_isHungry {Z : AZ} {G : AG} {cc : ByteArray} {mL hh pc : Nat} {lv : List (Nat × Value)} {rest : List Value} {L : Nat → Nat} {σ : St} (K : AK Z G cc RX2 mL (rmH hh)) (hlt : 1 < hh) (d : decode cc pc = .ok (.invokevirtual 223, 3)) (hrest : (rest.map fun v => v.category).sum ≤ 8) {v1 : Int32} {v2 : Int32} {P : Int32 → St → Prop} (h : sm_isHungry σ v1 v2 P) (kk : ∀ (r : Int32) (σ' : St), P r σ' → AX Z 0 0 (pc + 3) lv (.int r :: rest) (mW G L σ')) : AX Z 0 0 pc lv (.int v2 :: .int v1 :: .ref (L 0) :: rest) (mW G L σ) :=
  ax_callV (N0 := 2) (As := [.int v1, .int v2]) K (mm_isHungry (sm_isHungry_ok h)) q1267 q1269 qs75 q118 q1270 ⟨rfl, by decide, by decide, by decide⟩ rfl ⟨by show 1 + 1 + 1 ≤ hh + 1; omega, by show 8 + (3 + 11) + 60 * (1 + 1) ≤ 60 * (hh + 1); omega⟩ ⟨Nat.zero_le _, Nat.zero_le _⟩ rfl rfl rfl hrest d (fun r σ' hp => by obtain ⟨v, rfl, hp⟩ := hp; exact kk v σ' hp)
/-! m.lookFromNothing -/
set_option maxHeartbeats 4000000 in
theorem mm_lookFromNothing {l : Launch} {G : AG} {L : Nat → Nat} {σ : St} {P : St → Prop} (h : wm_lookFromNothing σ P) : CtW l G yX2_lookFromNothing cX2_lookFromNothing 1 none (rmH 1) [.ref (L 0)] (mW G L) σ (pV P) := by
  refine CtW.ofV (by decide) (Nat.le_of_ble_eq_true rfl) fun Z _ K E => ?_
  unfold wm_lookFromNothing at h
  show AX Z 0 0 0 [(0, .ref (L 0))] [] (mW G L σ)
  refine ax_aload_n K 0 rfl dX2_lookFromNothing_0 ?_
  refine ax_iconst (v := (0 : Int32)) K (by decide) dX2_lookFromNothing_1 ?_
  refine mp_whyNot K dX2_lookFromNothing_2 ?_
  refine ax_aload_n K 0 rfl dX2_lookFromNothing_5 ?_
  refine ax_iconst (v := (0 : Int32)) K (by decide) dX2_lookFromNothing_6 ?_
  refine mp_costTill K dX2_lookFromNothing_7 ?_
  refine ax_aload_n K 0 rfl dX2_lookFromNothing_10 ?_
  refine ax_iconst (v := (0 : Int32)) K (by decide) dX2_lookFromNothing_11 ?_
  refine mp_hungryTill K dX2_lookFromNothing_12 ?_
  refine ax_aload_n K 0 rfl dX2_lookFromNothing_15 ?_
  refine ax_iconst (v := (0 : Int32)) K (by decide) dX2_lookFromNothing_16 ?_
  refine mp_setTill K dX2_lookFromNothing_17 ?_
  refine ax_aload_n K 0 rfl dX2_lookFromNothing_20 ?_
  refine ax_iconst (v := (-1 : Int32)) K (by decide) dX2_lookFromNothing_21 ?_
  refine mp_lastTill K dX2_lookFromNothing_22 ?_
  exact E _ _ _ dX2_lookFromNothing_25 h
theorem rm_lookFromNothing {Z : AZ} {G : AG} {cc : ByteArray} {mL hh pc : Nat} {lv : List (Nat × Value)} {rest : List Value} {L : Nat → Nat} {σ : St} (K : AK Z G cc RX2 mL (rmH hh)) (hlt : 1 < hh) (d : decode cc pc = .ok (.invokevirtual 283, 3)) (hrest : (rest.map fun v => v.category).sum ≤ 8) {P : St → Prop} (h : sm_lookFromNothing σ  P) (kk : ∀ (σ' : St), P σ' → AX Z 0 0 (pc + 3) lv (rest) (mW G L σ')) : AX Z 0 0 pc lv (.ref (L 0) :: rest) (mW G L σ) :=
  ax_callV (N0 := 0) (As := []) K (mm_lookFromNothing (sm_lookFromNothing_ok h)) q1363 q1365 qs86 q118 q1366 ⟨rfl, by decide, by decide, by decide⟩ rfl ⟨by show 1 + 1 + 1 ≤ hh + 1; omega, by show 8 + (1 + 11) + 60 * (1 + 1) ≤ 60 * (hh + 1); omega⟩ ⟨Nat.zero_le _, Nat.zero_le _⟩ rfl rfl rfl hrest d (fun r σ' hp => by obtain ⟨rfl, hp⟩ := hp; exact kk σ' hp)
/-! m.lost -/
set_option maxHeartbeats 4000000 in
theorem mm_lost {l : Launch} {G : AG} {L : Nat → Nat} {σ : St} {P : Int32 → St → Prop} (h : wm_lost σ P) : CtW l G yX2_lost cX2_lost 1 (some .int) (rmH 1) [.ref (L 0)] (mW G L) σ (pI P) := by
  refine CtW.ofI (by decide) (Nat.le_of_ble_eq_true rfl) fun Z _ K E => ?_
  unfold wm_lost at h
  show AX Z 0 0 0 [(0, .ref (L 0))] [] (mW G L σ)
  refine ax_aload_n K 0 rfl dX2_lost_0 ?_
  refine ax_iconst (v := (1 : Int32)) K (by decide) dX2_lost_1 ?_
  refine mp_thrown K dX2_lost_2 ?_
  refine ax_iconst (v := (0 : Int32)) K (by decide) dX2_lost_5 ?_
  exact E _ _ _ _ dX2_lost_6 rfl h
theorem rm_lost {Z : AZ} {G : AG} {cc : ByteArray} {mL hh pc : Nat} {lv : List (Nat × Value)} {rest : List Value} {L : Nat → Nat} {σ : St} (K : AK Z G cc RX2 mL (rmH hh)) (hlt : 1 < hh) (d : decode cc pc = .ok (.invokevirtual 220, 3)) (hrest : (rest.map fun v => v.category).sum ≤ 8) {P : Int32 → St → Prop} (h : sm_lost σ  P) (kk : ∀ (r : Int32) (σ' : St), P r σ' → AX Z 0 0 (pc + 3) lv (.int r :: rest) (mW G L σ')) : AX Z 0 0 pc lv (.ref (L 0) :: rest) (mW G L σ) :=
  ax_callV (N0 := 0) (As := []) K (mm_lost (sm_lost_ok h)) q1263 q1265 qs74 q118 q1266 ⟨rfl, by decide, by decide, by decide⟩ rfl ⟨by show 1 + 1 + 1 ≤ hh + 1; omega, by show 8 + (1 + 11) + 60 * (1 + 1) ≤ 60 * (hh + 1); omega⟩ ⟨Nat.zero_le _, Nat.zero_le _⟩ rfl rfl rfl hrest d (fun r σ' hp => by obtain ⟨v, rfl, hp⟩ := hp; exact kk v σ' hp)
/-! m.noEnds -/
set_option maxHeartbeats 4000000 in
theorem km_noEnds_l2 {Z : AZ} {G : AG} {L : Nat → Nat} {P : St → Prop} (K : AK Z G cX2_noEnds RX2 2 (rmH 1)) (E : AEv Z cX2_noEnds (mW G L) 0 0 P) : ∀ (n : Nat) (v1 : Int32) (σ : St), wm_noEnds_l2 P  n v1 σ → AX Z 0 0 2 [(0, .ref (L 0)), (1, .int v1)] [] (mW G L σ) := by
  intro n
  induction n with
  | zero => intro v1 σ h; exact False.elim h
  | succ n ih =>
    intro v1 σ h
    rw [wm_noEnds_l2_s] at h
    refine ax_iload_n K 1 rfl dX2_noEnds_2 ?_
    refine ax_sipush (v := (11264 : Int32)) K (by decide) dX2_noEnds_3 ?_
    refine ax_icmp_ge (tgt := 22) K dX2_noEnds_6 (by decide) (fun c6 => ?_) (fun c6 => ?_)
    · have h := ax_it h c6
      exact E _ _ _ dX2_noEnds_22 h
    · have h := ax_ie h c6
      refine ax_aload_n K 0 rfl dX2_noEnds_9 ?_
      refine mg_isEnd K dX2_noEnds_10 ?_
      refine ax_iload_n K 1 rfl dX2_noEnds_13 ?_
      refine ax_iconst (v := (0 : Int32)) K (by decide) dX2_noEnds_14 ?_
      refine ms_isEnd K h.1 dX2_noEnds_15 ?_
      replace h := h.2
      refine ax_iinc (lv' := [(1, .int (v1 + (1 : Int32))), (0, .ref (L 0))]) (v := (v1 + (1 : Int32))) K 1 dX2_noEnds_16 rfl (by rfl) (by decide) rfl ?_
      refine ax_goto (tgt := 2) K dX2_noEnds_19 (by decide) ?_
      exact ax_sub [1, 0] rfl (ih (v1 + (1 : Int32)) (mU_isEnd σ v1 (vp_nar .boolean (0 : Int32))) h)
set_option maxHeartbeats 4000000 in
theorem mm_noEnds {l : Launch} {G : AG} {L : Nat → Nat} {σ : St} {P : St → Prop} (h : wm_noEnds σ P) : CtW l G yX2_noEnds cX2_noEnds 2 none (rmH 1) [.ref (L 0)] (mW G L) σ (pV P) := by
  refine CtW.ofV (by decide) (Nat.le_of_ble_eq_true rfl) fun Z _ K E => ?_
  unfold wm_noEnds at h
  show AX Z 0 0 0 [(0, .ref (L 0))] [] (mW G L σ)
  refine ax_iconst (v := (0 : Int32)) K (by decide) dX2_noEnds_0 ?_
  refine ax_istore_n (lv' := [(1, .int (0 : Int32)), (0, .ref (L 0))]) K dX2_noEnds_1 (by decide) rfl ?_
  exact ax_sub [1, 0] rfl (h.elim fun n2 h => km_noEnds_l2 K E  n2 (0 : Int32) σ h)
theorem rm_noEnds {Z : AZ} {G : AG} {cc : ByteArray} {mL hh pc : Nat} {lv : List (Nat × Value)} {rest : List Value} {L : Nat → Nat} {σ : St} (K : AK Z G cc RX2 mL (rmH hh)) (hlt : 1 < hh) (d : decode cc pc = .ok (.invokevirtual 314, 3)) (hrest : (rest.map fun v => v.category).sum ≤ 8) {P : St → Prop} (h : sm_noEnds σ  P) (kk : ∀ (σ' : St), P σ' → AX Z 0 0 (pc + 3) lv (rest) (mW G L σ')) : AX Z 0 0 pc lv (.ref (L 0) :: rest) (mW G L σ) :=
  ax_callV (N0 := 0) (As := []) K (mm_noEnds (sm_noEnds_ok h)) q1425 q1427 qs95 q118 q1428 ⟨rfl, by decide, by decide, by decide⟩ rfl ⟨by show 1 + 1 + 1 ≤ hh + 1; omega, by show 8 + (2 + 11) + 60 * (1 + 1) ≤ 60 * (hh + 1); omega⟩ ⟨Nat.zero_le _, Nat.zero_le _⟩ rfl rfl rfl hrest d (fun r σ' hp => by obtain ⟨rfl, hp⟩ := hp; exact kk σ' hp)
/-! m.place -/
set_option maxHeartbeats 4000000 in
theorem km_place_j15 {Z : AZ} {G : AG} {P : Int32 → Prop} (K : AK Z G cX2_place RX2 2 (rmH 1)) (E : AEi Z cX2_place .int w0 0 0 (fun v _ => P v)) (σ : St) (s0 : Int32) (s1 : Int32) (h : wm_place_j15 P  s0 s1) : AX Z 0 0 15 [] [.int s1, .int s0] [] := by
  unfold wm_place_j15 at h
  refine ax_iadd K dX2_place_15 ?_
  exact E _ _ _ σ dX2_place_16 rfl h
set_option maxHeartbeats 4000000 in
theorem mm_place {l : Launch} {G : AG} {σ : St} {v0 : Int32} {v1 : Int32} {P : Int32 → Prop} (h : wm_place v0 v1 P) : CtW l G yX2_place cX2_place 2 (some .int) (rmH 1) [.int v0, .int v1] w0 σ (pI (fun v _ => P v)) := by
  refine CtW.ofI (by decide) (Nat.le_of_ble_eq_true rfl) fun Z _ K E => ?_
  unfold wm_place at h
  show AX Z 0 0 0 [(0, .int v0), (1, .int v1)] [] []
  refine ax_bipush (v := (11 : Int32)) K (by decide) dX2_place_0 ?_
  refine ax_iload_n K 0 rfl dX2_place_2 ?_
  refine ax_imul K dX2_place_3 ?_
  refine ax_iload_n K 1 rfl dX2_place_4 ?_
  refine ax_iconst (v := (-1 : Int32)) K (by decide) dX2_place_5 ?_
  refine ax_icmp_ne (tgt := 14) K dX2_place_6 (by decide) (fun c6 => ?_) (fun c6 => ?_)
  · have h := ax_ie h c6
    refine ax_iload_n K 1 rfl dX2_place_14 ?_
    exact ax_sub [] rfl (km_place_j15 K E σ  ((11 : Int32) * v0) v1 h)
  · have h := ax_it h c6
    refine ax_bipush (v := (10 : Int32)) K (by decide) dX2_place_9 ?_
    refine ax_goto (tgt := 15) K dX2_place_11 (by decide) ?_
    exact ax_sub [] rfl (km_place_j15 K E σ  ((11 : Int32) * v0) (10 : Int32) h)
theorem rm_place {Z : AZ} {G : AG} {cc : ByteArray} {mL hh pc : Nat} {lv : List (Nat × Value)} {rest : List Value} {ws : va_W} (K : AK Z G cc RX2 mL (rmH hh)) (hlt : 1 < hh) (d : decode cc pc = .ok (.invokestatic 304, 3)) (hrest : (rest.map fun v => v.category).sum ≤ 8) {v0 : Int32} {v1 : Int32} {P : Int32 → Prop} (h : sm_place v0 v1 P) (kk : ∀ (r : Int32) , P r  → AX Z 0 0 (pc + 3) lv (.int r :: rest) ws) : AX Z 0 0 pc lv (.int v1 :: .int v0 :: rest) ws :=
  ax_callS (N0 := 2) (σ := σ00) (As := [.int v0, .int v1]) K (mm_place (sm_place_ok h)) q1415 q1416 q118 q1417 ⟨by decide, by decide, by decide⟩ rfl ⟨by show 1 + 1 + 1 ≤ hh + 1; omega, by show 8 + (2 + 11) + 60 * (1 + 1) ≤ 60 * (hh + 1); omega⟩ ⟨Nat.zero_le _, Nat.zero_le _⟩ rfl hrest d (fun r σ' hp => by obtain ⟨v, rfl, hp⟩ := hp; exact kk v hp)
/-! m.servedLast -/
set_option maxHeartbeats 4000000 in
theorem km_servedLast_j22 {Z : AZ} {G : AG} {L : Nat → Nat} {P : Int32 → St → Prop} (K : AK Z G cX2_servedLast RX2 1 (rmH 1)) (E : AEi Z cX2_servedLast .int (mW G L) 0 0 P) (s0 : Int32) (σ : St) (h : wm_servedLast_j22 P  s0 σ) : AX Z 0 0 22 [(0, .ref (L 0))] [.int s0] (mW G L σ) := by
  unfold wm_servedLast_j22 at h
  exact E _ _ _ _ dX2_servedLast_22 rfl h
set_option maxHeartbeats 4000000 in
theorem mm_servedLast {l : Launch} {G : AG} {L : Nat → Nat} {σ : St} {P : Int32 → St → Prop} (h : wm_servedLast σ P) : CtW l G yX2_servedLast cX2_servedLast 1 (some .int) (rmH 1) [.ref (L 0)] (mW G L) σ (pI P) := by
  refine CtW.ofI (by decide) (Nat.le_of_ble_eq_true rfl) fun Z _ K E => ?_
  unfold wm_servedLast at h
  show AX Z 0 0 0 [(0, .ref (L 0))] [] (mW G L σ)
  refine ax_aload_n K 0 rfl dX2_servedLast_0 ?_
  refine mg_servedMany K dX2_servedLast_1 ?_
  refine ax_if_ne (tgt := 11) K dX2_servedLast_4 (by decide) (fun c4 => ?_) (fun c4 => ?_)
  · have h := ax_ie h c4
    refine ax_aload_n K 0 rfl dX2_servedLast_11 ?_
    refine mg_served K dX2_servedLast_12 ?_
    refine ax_aload_n K 0 rfl dX2_servedLast_15 ?_
    refine mg_servedMany K dX2_servedLast_16 ?_
    refine ax_iconst (v := (1 : Int32)) K (by decide) dX2_servedLast_19 ?_
    refine ax_isub K dX2_servedLast_20 ?_
    refine ml_served K h.1 dX2_servedLast_21 ?_
    replace h := h.2
    exact ax_sub [0] rfl (km_servedLast_j22 K E  (mA_served σ (((mI_servedMany σ) - (1 : Int32))).toNatClampNeg) σ h)
  · have h := ax_it h c4
    refine ax_iconst (v := (-1 : Int32)) K (by decide) dX2_servedLast_7 ?_
    refine ax_goto (tgt := 22) K dX2_servedLast_8 (by decide) ?_
    exact ax_sub [0] rfl (km_servedLast_j22 K E  (-1 : Int32) σ h)
theorem rm_servedLast {Z : AZ} {G : AG} {cc : ByteArray} {mL hh pc : Nat} {lv : List (Nat × Value)} {rest : List Value} {L : Nat → Nat} {σ : St} (K : AK Z G cc RX2 mL (rmH hh)) (hlt : 1 < hh) (d : decode cc pc = .ok (.invokevirtual 258, 3)) (hrest : (rest.map fun v => v.category).sum ≤ 8) {P : Int32 → St → Prop} (h : sm_servedLast σ  P) (kk : ∀ (r : Int32) (σ' : St), P r σ' → AX Z 0 0 (pc + 3) lv (.int r :: rest) (mW G L σ')) : AX Z 0 0 pc lv (.ref (L 0) :: rest) (mW G L σ) :=
  ax_callV (N0 := 0) (As := []) K (mm_servedLast (sm_servedLast_ok h)) q1316 q1318 qs80 q118 q1319 ⟨rfl, by decide, by decide, by decide⟩ rfl ⟨by show 1 + 1 + 1 ≤ hh + 1; omega, by show 8 + (1 + 11) + 60 * (1 + 1) ≤ 60 * (hh + 1); omega⟩ ⟨Nat.zero_le _, Nat.zero_le _⟩ rfl rfl rfl hrest d (fun r σ' hp => by obtain ⟨v, rfl, hp⟩ := hp; exact kk v σ' hp)
/-! m.servedSet -/
set_option maxHeartbeats 4000000 in
theorem km_servedSet_l4 {Z : AZ} {G : AG} {L : Nat → Nat} {P : Int32 → St → Prop} (K : AK Z G cX2_servedSet RX2 3 (rmH 1)) (E : AEi Z cX2_servedSet .int (mW G L) 0 0 P) : ∀ (n : Nat) (v1 : Int32) (v2 : Int32) (σ : St), wm_servedSet_l4 P  n v1 v2 σ → AX Z 0 0 4 [(0, .ref (L 0)), (1, .int v1), (2, .int v2)] [] (mW G L σ) := by
  intro n
  induction n with
  | zero => intro v1 v2 σ h; exact False.elim h
  | succ n ih =>
    intro v1 v2 σ h
    rw [wm_servedSet_l4_s] at h
    refine ax_iload_n K 2 rfl dX2_servedSet_4 ?_
    refine ax_aload_n K 0 rfl dX2_servedSet_5 ?_
    refine mg_servedMany K dX2_servedSet_6 ?_
    refine ax_icmp_ge (tgt := 29) K dX2_servedSet_9 (by decide) (fun c9 => ?_) (fun c9 => ?_)
    · have h := ax_it h c9
      refine ax_iload_n K 1 rfl dX2_servedSet_29 ?_
      exact E _ _ _ _ dX2_servedSet_30 rfl h
    · have h := ax_ie h c9
      refine ax_iload_n K 1 rfl dX2_servedSet_12 ?_
      refine ax_iconst (v := (1 : Int32)) K (by decide) dX2_servedSet_13 ?_
      refine ax_aload_n K 0 rfl dX2_servedSet_14 ?_
      refine mg_served K dX2_servedSet_15 ?_
      refine ax_iload_n K 2 rfl dX2_servedSet_18 ?_
      refine ml_served K h.1 dX2_servedSet_19 ?_
      replace h := h.2
      refine ax_ishl K dX2_servedSet_20 ?_
      refine ax_ior K dX2_servedSet_21 ?_
      refine ax_istore_n (lv' := [(1, .int (v1 ||| ((1 : Int32) <<< ((mA_served σ (v2).toNatClampNeg) &&& 31)))), (0, .ref (L 0)), (2, .int v2)]) K dX2_servedSet_22 (by decide) rfl ?_
      refine ax_iinc (lv' := [(2, .int (v2 + (1 : Int32))), (1, .int (v1 ||| ((1 : Int32) <<< ((mA_served σ (v2).toNatClampNeg) &&& 31)))), (0, .ref (L 0))]) (v := (v2 + (1 : Int32))) K 2 dX2_servedSet_23 rfl (by rfl) (by decide) rfl ?_
      refine ax_goto (tgt := 4) K dX2_servedSet_26 (by decide) ?_
      exact ax_sub [2, 1, 0] rfl (ih (v1 ||| ((1 : Int32) <<< ((mA_served σ (v2).toNatClampNeg) &&& 31))) (v2 + (1 : Int32)) σ h)
set_option maxHeartbeats 4000000 in
theorem mm_servedSet {l : Launch} {G : AG} {L : Nat → Nat} {σ : St} {P : Int32 → St → Prop} (h : wm_servedSet σ P) : CtW l G yX2_servedSet cX2_servedSet 3 (some .int) (rmH 1) [.ref (L 0)] (mW G L) σ (pI P) := by
  refine CtW.ofI (by decide) (Nat.le_of_ble_eq_true rfl) fun Z _ K E => ?_
  unfold wm_servedSet at h
  show AX Z 0 0 0 [(0, .ref (L 0))] [] (mW G L σ)
  refine ax_iconst (v := (0 : Int32)) K (by decide) dX2_servedSet_0 ?_
  refine ax_istore_n (lv' := [(1, .int (0 : Int32)), (0, .ref (L 0))]) K dX2_servedSet_1 (by decide) rfl ?_
  refine ax_iconst (v := (0 : Int32)) K (by decide) dX2_servedSet_2 ?_
  refine ax_istore_n (lv' := [(2, .int (0 : Int32)), (1, .int (0 : Int32)), (0, .ref (L 0))]) K dX2_servedSet_3 (by decide) rfl ?_
  exact ax_sub [2, 1, 0] rfl (h.elim fun n4 h => km_servedSet_l4 K E  n4 (0 : Int32) (0 : Int32) σ h)
theorem rm_servedSet {Z : AZ} {G : AG} {cc : ByteArray} {mL hh pc : Nat} {lv : List (Nat × Value)} {rest : List Value} {L : Nat → Nat} {σ : St} (K : AK Z G cc RX2 mL (rmH hh)) (hlt : 1 < hh) (d : decode cc pc = .ok (.invokevirtual 255, 3)) (hrest : (rest.map fun v => v.category).sum ≤ 8) {P : Int32 → St → Prop} (h : sm_servedSet σ  P) (kk : ∀ (r : Int32) (σ' : St), P r σ' → AX Z 0 0 (pc + 3) lv (.int r :: rest) (mW G L σ')) : AX Z 0 0 pc lv (.ref (L 0) :: rest) (mW G L σ) :=
  ax_callV (N0 := 0) (As := []) K (mm_servedSet (sm_servedSet_ok h)) q1312 q1314 qs79 q118 q1315 ⟨rfl, by decide, by decide, by decide⟩ rfl ⟨by show 1 + 1 + 1 ≤ hh + 1; omega, by show 8 + (3 + 11) + 60 * (1 + 1) ≤ 60 * (hh + 1); omega⟩ ⟨Nat.zero_le _, Nat.zero_le _⟩ rfl rfl rfl hrest d (fun r σ' hp => by obtain ⟨v, rfl, hp⟩ := hp; exact kk v σ' hp)
/-! m.sign -/
set_option maxHeartbeats 4000000 in
theorem km_sign_l20 {Z : AZ} {G : AG} {L : Nat → Nat} {P : Int32 → St → Prop} (K : AK Z G cX2_sign RX2 3 (rmH 1)) (E : AEi Z cX2_sign .int (mW G L) 0 0 P) : ∀ (n : Nat) (v1 : Int32) (v2 : Int32) (σ : St), wm_sign_l20 P  n v1 v2 σ → AX Z 0 0 20 [(0, .ref (L 0)), (1, .int v1), (2, .int v2)] [] (mW G L σ) := by
  intro n
  induction n with
  | zero => intro v1 v2 σ h; exact False.elim h
  | succ n ih =>
    intro v1 v2 σ h
    rw [wm_sign_l20_s] at h
    refine ax_iload_n K 2 rfl dX2_sign_20 ?_
    refine ax_if_lt (tgt := 53) K dX2_sign_21 (by decide) (fun c21 => ?_) (fun c21 => ?_)
    · have h := ax_it h c21
      refine ax_aload_n K 0 rfl dX2_sign_53 ?_
      refine mg_typed K dX2_sign_54 ?_
      exact E _ _ _ _ dX2_sign_57 rfl h
    · have h := ax_ie h c21
      refine ax_aload_n K 0 rfl dX2_sign_24 ?_
      refine mg_text K dX2_sign_25 ?_
      refine ax_aload_n K 0 rfl dX2_sign_28 ?_
      refine ax_dup K rfl dX2_sign_29 ?_
      refine mg_typed K dX2_sign_30 ?_
      refine ax_dup_x1 K rfl rfl dX2_sign_33 ?_
      refine ax_iconst (v := (1 : Int32)) K (by decide) dX2_sign_34 ?_
      refine ax_iadd K dX2_sign_35 ?_
      refine mp_typed K dX2_sign_36 ?_
      refine ax_iload_n K 1 rfl dX2_sign_39 ?_
      refine ax_bipush (v := (8 : Int32)) K (by decide) dX2_sign_40 ?_
      refine ax_iload_n K 2 rfl dX2_sign_42 ?_
      refine ax_imul K dX2_sign_43 ?_
      refine ax_ishr K dX2_sign_44 ?_
      refine ax_i2b K dX2_sign_45 ?_
      refine ms_text K h.1 dX2_sign_46 ?_
      replace h := h.2
      refine ax_iinc (lv' := [(2, .int (v2 + (-1 : Int32))), (0, .ref (L 0)), (1, .int v1)]) (v := (v2 + (-1 : Int32))) K 2 dX2_sign_47 rfl (by rfl) (by decide) rfl ?_
      refine ax_goto (tgt := 20) K dX2_sign_50 (by decide) ?_
      exact ax_sub [1, 2, 0] rfl (ih v1 (v2 + (-1 : Int32)) (mU_text (mS_typed σ ((mI_typed σ) + (1 : Int32))) (mI_typed σ) (vp_nar .byte (((v1 >>> (((8 : Int32) * v2) &&& 31))).toInt8.toInt32))) h)
set_option maxHeartbeats 4000000 in
theorem mm_sign {l : Launch} {G : AG} {L : Nat → Nat} {σ : St} {v1 : Int32} {P : Int32 → St → Prop} (h : wm_sign σ v1 P) : CtW l G yX2_sign cX2_sign 3 (some .int) (rmH 1) [.ref (L 0), .int v1] (mW G L) σ (pI P) := by
  refine CtW.ofI (by decide) (Nat.le_of_ble_eq_true rfl) fun Z _ K E => ?_
  unfold wm_sign at h
  show AX Z 0 0 0 [(0, .ref (L 0)), (1, .int v1)] [] (mW G L σ)
  refine ax_aload_n K 0 rfl dX2_sign_0 ?_
  refine ax_iconst (v := (0 : Int32)) K (by decide) dX2_sign_1 ?_
  refine mp_thrown K dX2_sign_2 ?_
  refine ax_aload_n K 0 rfl dX2_sign_5 ?_
  refine mg_typed K dX2_sign_6 ?_
  refine ax_iconst (v := (4 : Int32)) K (by decide) dX2_sign_9 ?_
  refine ax_iadd K dX2_sign_10 ?_
  refine ax_bipush (v := (80 : Int32)) K (by decide) dX2_sign_11 ?_
  refine ax_icmp_le (tgt := 18) K dX2_sign_13 (by decide) (fun c13 => ?_) (fun c13 => ?_)
  · have h := ax_it h c13
    refine ax_iconst (v := (3 : Int32)) K (by decide) dX2_sign_18 ?_
    refine ax_istore_n (lv' := [(2, .int (3 : Int32)), (0, .ref (L 0)), (1, .int v1)]) K dX2_sign_19 (by decide) rfl ?_
    exact ax_sub [1, 2, 0] rfl (h.elim fun n20 h => km_sign_l20 K E  n20 v1 (3 : Int32) (mS_thrown σ (0 : Int32)) h)
  · have h := ax_ie h c13
    refine ax_iconst (v := (-1 : Int32)) K (by decide) dX2_sign_16 ?_
    exact E _ _ _ _ dX2_sign_17 rfl h

/-! m.tell -/
set_option maxHeartbeats 4000000 in
theorem mm_tell {l : Launch} {G : AG} {L : Nat → Nat} {σ : St} {v1 : Int32} {P : St → Prop} (h : wm_tell σ v1 P) : CtW l G yX2_tell cX2_tell 2 none (rmH 1) [.ref (L 0), .int v1] (mW G L) σ (pV P) := by
  refine CtW.ofV (by decide) (Nat.le_of_ble_eq_true rfl) fun Z _ K E => ?_
  unfold wm_tell at h
  show AX Z 0 0 0 [(0, .ref (L 0)), (1, .int v1)] [] (mW G L σ)
  refine ax_aload_n K 0 rfl dX2_tell_0 ?_
  refine mg_row K dX2_tell_1 ?_
  refine ax_aload_n K 0 rfl dX2_tell_4 ?_
  refine mg_rowMany K dX2_tell_5 ?_
  refine ax_iload_n K 1 rfl dX2_tell_8 ?_
  refine ms_row K h.1 dX2_tell_9 ?_
  replace h := h.2
  refine ax_aload_n K 0 rfl dX2_tell_10 ?_
  refine ax_dup K rfl dX2_tell_11 ?_
  refine mg_rowMany K dX2_tell_12 ?_
  refine ax_iconst (v := (1 : Int32)) K (by decide) dX2_tell_15 ?_
  refine ax_iadd K dX2_tell_16 ?_
  refine mp_rowMany K dX2_tell_17 ?_
  exact E _ _ _ dX2_tell_20 h
theorem rm_tell {Z : AZ} {G : AG} {cc : ByteArray} {mL hh pc : Nat} {lv : List (Nat × Value)} {rest : List Value} {L : Nat → Nat} {σ : St} (K : AK Z G cc RX2 mL (rmH hh)) (hlt : 1 < hh) (d : decode cc pc = .ok (.invokevirtual 289, 3)) (hrest : (rest.map fun v => v.category).sum ≤ 8) {v1 : Int32} {P : St → Prop} (h : sm_tell σ v1 P) (kk : ∀ (σ' : St), P σ' → AX Z 0 0 (pc + 3) lv (rest) (mW G L σ')) : AX Z 0 0 pc lv (.int v1 :: .ref (L 0) :: rest) (mW G L σ) :=
  ax_callV (N0 := 1) (As := [.int v1]) K (mm_tell (sm_tell_ok h)) q1371 q1373 qs88 q118 q1374 ⟨rfl, by decide, by decide, by decide⟩ rfl ⟨by show 1 + 1 + 1 ≤ hh + 1; omega, by show 8 + (2 + 11) + 60 * (1 + 1) ≤ 60 * (hh + 1); omega⟩ ⟨Nat.zero_le _, Nat.zero_le _⟩ rfl rfl rfl hrest d (fun r σ' hp => by obtain ⟨rfl, hp⟩ := hp; exact kk σ' hp)
/-! m.thrown -/
set_option maxHeartbeats 4000000 in
theorem mm_thrown {l : Launch} {G : AG} {L : Nat → Nat} {σ : St} {P : Int32 → St → Prop} (h : wm_thrown σ P) : CtW l G yX2_thrown cX2_thrown 1 (some .int) (rmH 1) [.ref (L 0)] (mW G L) σ (pI P) := by
  refine CtW.ofI (by decide) (Nat.le_of_ble_eq_true rfl) fun Z _ K E => ?_
  unfold wm_thrown at h
  show AX Z 0 0 0 [(0, .ref (L 0))] [] (mW G L σ)
  refine ax_aload_n K 0 rfl dX2_thrown_0 ?_
  refine mg_thrown K dX2_thrown_1 ?_
  exact E _ _ _ _ dX2_thrown_4 rfl h

/-! m.again -/
set_option maxHeartbeats 4000000 in
theorem km_again_l45 {Z : AZ} {G : AG} {L : Nat → Nat} {P : Int32 → St → Prop} (K : AK Z G cX2_again RX2 4 (rmH 2)) (E : AEi Z cX2_again .boolean (mW G L) 0 0 P) {K86 : Int32 → Int32 → St → Prop} (hK86 : ∀ (v2 : Int32) (v3 : Int32) (σ : St), K86 v2 v3 σ → AX Z 0 0 86 [(0, .ref (L 0)), (2, .int v2), (3, .int v3)] [] (mW G L σ)) : ∀ (n : Nat) (v2 : Int32) (v3 : Int32) (σ : St), wm_again_l45 P K86 n v2 v3 σ → AX Z 0 0 45 [(0, .ref (L 0)), (2, .int v2), (3, .int v3)] [] (mW G L σ) := by
  intro n
  induction n with
  | zero => intro v2 v3 σ h; exact False.elim h
  | succ n ih =>
    intro v2 v3 σ h
    rw [wm_again_l45_s] at h
    refine ax_iload_n K 2 rfl dX2_again_45 ?_
    refine ax_bipush (v := (10 : Int32)) K (by decide) dX2_again_46 ?_
    refine ax_icmp_ge (tgt := 71) K dX2_again_48 (by decide) (fun c48 => ?_) (fun c48 => ?_)
    · have h := ax_it h c48
      refine ax_aload_n K 0 rfl dX2_again_71 ?_
      refine ax_aload_n K 0 rfl dX2_again_72 ?_
      refine mg_kept K dX2_again_73 ?_
      refine ax_iload_n K 1 rfl dX2_again_76 ?_
      refine ax_bipush (v := (10 : Int32)) K (by decide) dX2_again_77 ?_
      refine ax_iadd K dX2_again_79 ?_
      refine ml_kept K h.1 dX2_again_80 ?_
      replace h := h.2
      refine mp_servedMany K dX2_again_81 ?_
      refine ax_iconst (v := (0 : Int32)) K (by decide) dX2_again_84 ?_
      refine ax_istore_n (lv' := [(3, .int (0 : Int32)), (0, .ref (L 0)), (2, .int v2)]) K dX2_again_85 (by decide) rfl ?_
      exact ax_sub [1, 2, 0] rfl (hK86 v2 (0 : Int32) (mS_servedMany σ (mA_kept σ ((v2 + (10 : Int32))).toNatClampNeg)) h)
    · have h := ax_ie h c48
      refine ax_aload_n K 0 rfl dX2_again_51 ?_
      refine mg_served K dX2_again_52 ?_
      refine ax_iload_n K 2 rfl dX2_again_55 ?_
      refine ax_aload_n K 0 rfl dX2_again_56 ?_
      refine mg_kept K dX2_again_57 ?_
      refine ax_iload_n K 1 rfl dX2_again_60 ?_
      refine ax_iload_n K 2 rfl dX2_again_61 ?_
      refine ax_iadd K dX2_again_62 ?_
      refine ml_kept K h.1 dX2_again_63 ?_
      replace h := h.2
      refine ms_served K h.1 dX2_again_64 ?_
      replace h := h.2
      refine ax_iinc (lv' := [(3, .int (v3 + (1 : Int32))), (0, .ref (L 0)), (2, .int v2)]) (v := (v3 + (1 : Int32))) K 2 dX2_again_65 rfl (by rfl) (by decide) rfl ?_
      refine ax_goto (tgt := 45) K dX2_again_68 (by decide) ?_
      exact ax_sub [1, 2, 0] rfl (ih v2 (v3 + (1 : Int32)) (mU_served σ v3 (mA_kept σ ((v2 + v3)).toNatClampNeg)) h)
set_option maxHeartbeats 4000000 in
theorem km_again_l86 {Z : AZ} {G : AG} {L : Nat → Nat} {P : Int32 → St → Prop} (K : AK Z G cX2_again RX2 4 (rmH 2)) (E : AEi Z cX2_again .boolean (mW G L) 0 0 P) : ∀ (n : Nat) (v2 : Int32) (v3 : Int32) (σ : St), wm_again_l86 P  n v2 v3 σ → AX Z 0 0 86 [(0, .ref (L 0)), (2, .int v2), (3, .int v3)] [] (mW G L σ) := by
  intro n
  induction n with
  | zero => intro v2 v3 σ h; exact False.elim h
  | succ n ih =>
    intro v2 v3 σ h
    rw [wm_again_l86_s] at h
    refine ax_iload_n K 2 rfl dX2_again_86 ?_
    refine ax_bipush (v := (8 : Int32)) K (by decide) dX2_again_87 ?_
    refine ax_icmp_ge (tgt := 117) K dX2_again_89 (by decide) (fun c89 => ?_) (fun c89 => ?_)
    · have h := ax_it h c89
      refine ax_iinc (lv' := [(2, .int (v2 + (19 : Int32))), (0, .ref (L 0)), (3, .int v3)]) (v := (v2 + (19 : Int32))) K 1 dX2_again_117 rfl (by rfl) (by decide) rfl ?_
      refine ax_aload_n K 1 rfl dX2_again_120 ?_
      refine ax_aload_n K 1 rfl dX2_again_121 ?_
      refine mg_kept K dX2_again_122 ?_
      refine ax_iload_n K 0 rfl dX2_again_125 ?_
      refine ml_kept K h.1 dX2_again_126 ?_
      replace h := h.2
      refine mp_share K dX2_again_127 ?_
      refine ax_aload_n K 1 rfl dX2_again_130 ?_
      refine ax_aload_n K 1 rfl dX2_again_131 ?_
      refine mg_kept K dX2_again_132 ?_
      refine ax_iload_n K 0 rfl dX2_again_135 ?_
      refine ax_iconst (v := (1 : Int32)) K (by decide) dX2_again_136 ?_
      refine ax_iadd K dX2_again_137 ?_
      refine ml_kept K h.1 dX2_again_138 ?_
      replace h := h.2
      refine mp_times K dX2_again_139 ?_
      refine ax_aload_n K 1 rfl dX2_again_142 ?_
      refine ax_aload_n K 1 rfl dX2_again_143 ?_
      refine mg_kept K dX2_again_144 ?_
      refine ax_iload_n K 0 rfl dX2_again_147 ?_
      refine ax_iconst (v := (2 : Int32)) K (by decide) dX2_again_148 ?_
      refine ax_iadd K dX2_again_149 ?_
      refine ml_kept K h.1 dX2_again_150 ?_
      replace h := h.2
      refine mp_heat K dX2_again_151 ?_
      refine ax_iconst (v := (1 : Int32)) K (by decide) dX2_again_154 ?_
      exact E _ _ _ _ dX2_again_155 rfl h
    · have h := ax_ie h c89
      refine ax_aload_n K 0 rfl dX2_again_92 ?_
      refine mg_store K dX2_again_93 ?_
      refine ax_iload_n K 2 rfl dX2_again_96 ?_
      refine ax_aload_n K 0 rfl dX2_again_97 ?_
      refine mg_kept K dX2_again_98 ?_
      refine ax_iload_n K 1 rfl dX2_again_101 ?_
      refine ax_bipush (v := (10 : Int32)) K (by decide) dX2_again_102 ?_
      refine ax_iadd K dX2_again_104 ?_
      refine ax_iconst (v := (1 : Int32)) K (by decide) dX2_again_105 ?_
      refine ax_iadd K dX2_again_106 ?_
      refine ax_iload_n K 2 rfl dX2_again_107 ?_
      refine ax_iadd K dX2_again_108 ?_
      refine ml_kept K h.1 dX2_again_109 ?_
      replace h := h.2
      refine ms_store K h.1 dX2_again_110 ?_
      replace h := h.2
      refine ax_iinc (lv' := [(3, .int (v3 + (1 : Int32))), (0, .ref (L 0)), (2, .int v2)]) (v := (v3 + (1 : Int32))) K 2 dX2_again_111 rfl (by rfl) (by decide) rfl ?_
      refine ax_goto (tgt := 86) K dX2_again_114 (by decide) ?_
      exact ax_sub [1, 2, 0] rfl (ih v2 (v3 + (1 : Int32)) (mU_store σ v3 (mA_kept σ ((((v2 + (10 : Int32)) + (1 : Int32)) + v3)).toNatClampNeg)) h)
set_option maxHeartbeats 4000000 in
theorem mm_again {l : Launch} {G : AG} {L : Nat → Nat} {σ : St} {v1 : Int32} {P : Int32 → St → Prop} (h : wm_again σ v1 P) : CtW l G yX2_again cX2_again 4 (some .boolean) (rmH 2) [.ref (L 0), .int v1] (mW G L) σ (pI P) := by
  refine CtW.ofI (by decide) (Nat.le_of_ble_eq_true rfl) fun Z _ K E => ?_
  unfold wm_again at h
  show AX Z 0 0 0 [(0, .ref (L 0)), (1, .int v1)] [] (mW G L σ)
  refine ax_aload_n K 0 rfl dX2_again_0 ?_
  refine ax_iconst (v := (0 : Int32)) K (by decide) dX2_again_1 ?_
  refine mp_thrown K dX2_again_2 ?_
  refine ax_iload_n K 1 rfl dX2_again_5 ?_
  refine ax_iconst (v := (0 : Int32)) K (by decide) dX2_again_6 ?_
  refine ax_iconst (v := (1 : Int32)) K (by decide) dX2_again_7 ?_
  refine rm_in K (by decide) dX2_again_8 (Nat.le_of_ble_eq_true rfl) h (fun r8 h => ?_)
  refine ax_if_eq (tgt := 36) K dX2_again_11 (by decide) (fun c11 => ?_) (fun c11 => ?_)
  · have h := ax_it h c11
    refine ax_iconst (v := (0 : Int32)) K (by decide) dX2_again_36 ?_
    exact E _ _ _ _ dX2_again_37 rfl h
  · have h := ax_ie h c11
    refine ax_aload_n K 0 rfl dX2_again_14 ?_
    refine mg_isKept K dX2_again_15 ?_
    refine ax_iload_n K 1 rfl dX2_again_18 ?_
    refine ml_isKept K h.1 dX2_again_19 ?_
    replace h := h.2
    refine ax_if_eq (tgt := 36) K dX2_again_20 (by decide) (fun c20 => ?_) (fun c20 => ?_)
    · have h := ax_it h c20
      refine ax_iconst (v := (0 : Int32)) K (by decide) dX2_again_36 ?_
      exact E _ _ _ _ dX2_again_37 rfl h
    · have h := ax_ie h c20
      refine ax_aload_n K 0 rfl dX2_again_23 ?_
      refine mg_keptCame K dX2_again_24 ?_
      refine ax_iload_n K 1 rfl dX2_again_27 ?_
      refine ml_keptCame K h.1 dX2_again_28 ?_
      replace h := h.2
      refine ax_aload_n K 0 rfl dX2_again_29 ?_
      refine mg_came K dX2_again_30 ?_
      refine ax_icmp_eq (tgt := 38) K dX2_again_33 (by decide) (fun c33 => ?_) (fun c33 => ?_)
      · have h := ax_it h c33
        refine ax_bipush (v := (22 : Int32)) K (by decide) dX2_again_38 ?_
        refine ax_iload_n K 1 rfl dX2_again_40 ?_
        refine ax_imul K dX2_again_41 ?_
        refine ax_istore_n (lv' := [(2, .int ((22 : Int32) * v1)), (0, .ref (L 0)), (1, .int v1)]) K dX2_again_42 (by decide) rfl ?_
        refine ax_iconst (v := (0 : Int32)) K (by decide) dX2_again_43 ?_
        refine ax_istore_n (lv' := [(3, .int (0 : Int32)), (2, .int ((22 : Int32) * v1)), (0, .ref (L 0)), (1, .int v1)]) K dX2_again_44 (by decide) rfl ?_
        exact ax_sub [2, 1, 0] rfl (h.elim fun n45 h => km_again_l45 K E (fun v2 v3 σ h => h.elim fun n86 h => km_again_l86 K E  n86 v2 v3 σ h) n45 ((22 : Int32) * v1) (0 : Int32) (mS_thrown σ (0 : Int32)) h)
      · have h := ax_ie h c33
        refine ax_iconst (v := (0 : Int32)) K (by decide) dX2_again_36 ?_
        exact E _ _ _ _ dX2_again_37 rfl h

/-! m.ateOf -/
set_option maxHeartbeats 4000000 in
theorem km_ateOf_j58 {Z : AZ} {G : AG} {L : Nat → Nat} {P : Int32 → St → Prop} (K : AK Z G cX2_ateOf RX2 5 (rmH 2)) (E : AEi Z cX2_ateOf .int (mW G L) 0 0 P) {K5 : Int32 → Int32 → Int32 → Int32 → St → Prop} (hK5 : ∀ (v1 : Int32) (v2 : Int32) (v3 : Int32) (v4 : Int32) (σ : St), K5 v1 v2 v3 v4 σ → AX Z 0 0 5 [(0, .ref (L 0)), (1, .int v1), (2, .int v2), (3, .int v3), (4, .int v4)] [] (mW G L σ)) (v1 : Int32) (v2 : Int32) (v4 : Int32) (s0 : Int32) (s1 : Int32) (σ : St) (h : wm_ateOf_j58 P K5 v1 v2 v4 s0 s1 σ) : AX Z 0 0 58 [(0, .ref (L 0)), (1, .int v1), (2, .int v2), (4, .int v4)] [.int s1, .int s0] (mW G L σ) := by
  unfold wm_ateOf_j58 at h
  refine ax_ior K dX2_ateOf_58 ?_
  refine ax_istore_n (lv' := [(3, .int (s0 ||| s1)), (0, .ref (L 0)), (1, .int v1), (2, .int v2), (4, .int v4)]) K dX2_ateOf_59 (by decide) rfl ?_
  refine ax_iinc (lv' := [(4, .int (v4 + (1 : Int32))), (3, .int (s0 ||| s1)), (0, .ref (L 0)), (1, .int v1), (2, .int v2)]) (v := (v4 + (1 : Int32))) K 4 dX2_ateOf_60 rfl (by rfl) (by decide) rfl ?_
  refine ax_goto (tgt := 5) K dX2_ateOf_63 (by decide) ?_
  exact ax_sub [2, 3, 4, 1, 0] rfl (hK5 v1 v2 (s0 ||| s1) (v4 + (1 : Int32)) σ h)
set_option maxHeartbeats 4000000 in
theorem km_ateOf_l5 {Z : AZ} {G : AG} {L : Nat → Nat} {P : Int32 → St → Prop} (K : AK Z G cX2_ateOf RX2 5 (rmH 2)) (E : AEi Z cX2_ateOf .int (mW G L) 0 0 P) : ∀ (n : Nat) (v1 : Int32) (v2 : Int32) (v3 : Int32) (v4 : Int32) (σ : St), wm_ateOf_l5 P  n v1 v2 v3 v4 σ → AX Z 0 0 5 [(0, .ref (L 0)), (1, .int v1), (2, .int v2), (3, .int v3), (4, .int v4)] [] (mW G L σ) := by
  intro n
  induction n with
  | zero => intro v1 v2 v3 v4 σ h; exact False.elim h
  | succ n ih =>
    intro v1 v2 v3 v4 σ h
    rw [wm_ateOf_l5_s] at h
    refine ax_iload K 4 rfl dX2_ateOf_5 ?_
    refine ax_aload_n K 0 rfl dX2_ateOf_7 ?_
    refine mg_menuLong K dX2_ateOf_8 ?_
    refine ax_iload_n K 1 rfl dX2_ateOf_11 ?_
    refine ml_menuLong K h.1 dX2_ateOf_12 ?_
    replace h := h.2
    refine ax_icmp_ge (tgt := 66) K dX2_ateOf_13 (by decide) (fun c13 => ?_) (fun c13 => ?_)
    · have h := ax_it h c13
      refine ax_iload_n K 3 rfl dX2_ateOf_66 ?_
      exact E _ _ _ _ dX2_ateOf_67 rfl h
    · have h := ax_ie h c13
      refine ax_iload_n K 3 rfl dX2_ateOf_16 ?_
      refine ax_aload_n K 0 rfl dX2_ateOf_17 ?_
      refine ax_iload_n K 2 rfl dX2_ateOf_18 ?_
      refine ax_aload_n K 0 rfl dX2_ateOf_19 ?_
      refine mg_menus K dX2_ateOf_20 ?_
      refine ax_bipush (v := (10 : Int32)) K (by decide) dX2_ateOf_23 ?_
      refine ax_iload_n K 1 rfl dX2_ateOf_25 ?_
      refine ax_imul K dX2_ateOf_26 ?_
      refine ax_iload K 4 rfl dX2_ateOf_27 ?_
      refine ax_iadd K dX2_ateOf_29 ?_
      refine ml_menus K h.1 dX2_ateOf_30 ?_
      replace h := h.2
      refine rm_isHungry K (by decide) dX2_ateOf_31 (Nat.le_of_ble_eq_true rfl) h (fun r31 σ31 h => ?_)
      refine ax_if_eq (tgt := 41) K dX2_ateOf_34 (by decide) (fun c34 => ?_) (fun c34 => ?_)
      · have h := ax_it h c34
        refine ax_aload_n K 0 rfl dX2_ateOf_41 ?_
        refine mg_stuffs K dX2_ateOf_42 ?_
        refine ax_aload_n K 0 rfl dX2_ateOf_45 ?_
        refine mg_menus K dX2_ateOf_46 ?_
        refine ax_bipush (v := (10 : Int32)) K (by decide) dX2_ateOf_49 ?_
        refine ax_iload_n K 1 rfl dX2_ateOf_51 ?_
        refine ax_imul K dX2_ateOf_52 ?_
        refine ax_iload K 4 rfl dX2_ateOf_53 ?_
        refine ax_iadd K dX2_ateOf_55 ?_
        refine ml_menus K h.1 dX2_ateOf_56 ?_
        replace h := h.2
        refine ml_stuffs K h.1 dX2_ateOf_57 ?_
        replace h := h.2
        exact ax_sub [0, 1, 2, 4] rfl (km_ateOf_j58 K E ih v1 v2 v4 v3 (mA_stuffs σ31 ((mA_menus σ31 ((((10 : Int32) * v1) + v4)).toNatClampNeg)).toNatClampNeg) σ31 h)
      · have h := ax_ie h c34
        refine ax_iconst (v := (0 : Int32)) K (by decide) dX2_ateOf_37 ?_
        refine ax_goto (tgt := 58) K dX2_ateOf_38 (by decide) ?_
        exact ax_sub [0, 1, 2, 4] rfl (km_ateOf_j58 K E ih v1 v2 v4 v3 (0 : Int32) σ31 h)
set_option maxHeartbeats 4000000 in
theorem mm_ateOf {l : Launch} {G : AG} {L : Nat → Nat} {σ : St} {v1 : Int32} {v2 : Int32} {P : Int32 → St → Prop} (h : wm_ateOf σ v1 v2 P) : CtW l G yX2_ateOf cX2_ateOf 5 (some .int) (rmH 2) [.ref (L 0), .int v1, .int v2] (mW G L) σ (pI P) := by
  refine CtW.ofI (by decide) (Nat.le_of_ble_eq_true rfl) fun Z _ K E => ?_
  unfold wm_ateOf at h
  show AX Z 0 0 0 [(0, .ref (L 0)), (1, .int v1), (2, .int v2)] [] (mW G L σ)
  refine ax_iconst (v := (0 : Int32)) K (by decide) dX2_ateOf_0 ?_
  refine ax_istore_n (lv' := [(3, .int (0 : Int32)), (0, .ref (L 0)), (1, .int v1), (2, .int v2)]) K dX2_ateOf_1 (by decide) rfl ?_
  refine ax_iconst (v := (0 : Int32)) K (by decide) dX2_ateOf_2 ?_
  refine ax_istore (lv' := [(4, .int (0 : Int32)), (3, .int (0 : Int32)), (0, .ref (L 0)), (1, .int v1), (2, .int v2)]) K dX2_ateOf_3 (by decide) rfl ?_
  exact ax_sub [2, 3, 4, 1, 0] rfl (h.elim fun n5 h => km_ateOf_l5 K E  n5 v1 v2 (0 : Int32) (0 : Int32) σ h)
theorem rm_ateOf {Z : AZ} {G : AG} {cc : ByteArray} {mL hh pc : Nat} {lv : List (Nat × Value)} {rest : List Value} {L : Nat → Nat} {σ : St} (K : AK Z G cc RX2 mL (rmH hh)) (hlt : 2 < hh) (d : decode cc pc = .ok (.invokevirtual 390, 3)) (hrest : (rest.map fun v => v.category).sum ≤ 8) {v1 : Int32} {v2 : Int32} {P : Int32 → St → Prop} (h : sm_ateOf σ v1 v2 P) (kk : ∀ (r : Int32) (σ' : St), P r σ' → AX Z 0 0 (pc + 3) lv (.int r :: rest) (mW G L σ')) : AX Z 0 0 pc lv (.int v2 :: .int v1 :: .ref (L 0) :: rest) (mW G L σ) :=
  ax_callV (N0 := 2) (As := [.int v1, .int v2]) K (mm_ateOf (sm_ateOf_ok h)) q1592 q1594 qs114 q118 q1595 ⟨rfl, by decide, by decide, by decide⟩ rfl ⟨by show 2 + 1 + 1 ≤ hh + 1; omega, by show 8 + (5 + 11) + 60 * (2 + 1) ≤ 60 * (hh + 1); omega⟩ ⟨Nat.zero_le _, Nat.zero_le _⟩ rfl rfl rfl hrest d (fun r σ' hp => by obtain ⟨v, rfl, hp⟩ := hp; exact kk v σ' hp)
/-! m.costIn -/
set_option maxHeartbeats 4000000 in
theorem km_costIn_j31 {Z : AZ} {G : AG} {L : Nat → Nat} {P : Int32 → St → Prop} (K : AK Z G cX2_costIn RX2 4 (rmH 2)) (E : AEi Z cX2_costIn .int (mW G L) 0 0 P) {K4 : Int32 → Int32 → Int32 → St → Prop} (hK4 : ∀ (v1 : Int32) (v2 : Int32) (v3 : Int32) (σ : St), K4 v1 v2 v3 σ → AX Z 0 0 4 [(0, .ref (L 0)), (1, .int v1), (2, .int v2), (3, .int v3)] [] (mW G L σ)) (v1 : Int32) (v3 : Int32) (s0 : Int32) (s1 : Int32) (σ : St) (h : wm_costIn_j31 P K4 v1 v3 s0 s1 σ) : AX Z 0 0 31 [(0, .ref (L 0)), (1, .int v1), (3, .int v3)] [.int s1, .int s0] (mW G L σ) := by
  unfold wm_costIn_j31 at h
  refine ax_iadd K dX2_costIn_31 ?_
  refine ax_istore_n (lv' := [(2, .int (s0 + s1)), (0, .ref (L 0)), (1, .int v1), (3, .int v3)]) K dX2_costIn_32 (by decide) rfl ?_
  refine ax_iinc (lv' := [(3, .int (v3 + (1 : Int32))), (2, .int (s0 + s1)), (0, .ref (L 0)), (1, .int v1)]) (v := (v3 + (1 : Int32))) K 3 dX2_costIn_33 rfl (by rfl) (by decide) rfl ?_
  refine ax_goto (tgt := 4) K dX2_costIn_36 (by decide) ?_
  exact ax_sub [2, 3, 1, 0] rfl (hK4 v1 (s0 + s1) (v3 + (1 : Int32)) σ h)
set_option maxHeartbeats 4000000 in
theorem km_costIn_l4 {Z : AZ} {G : AG} {L : Nat → Nat} {P : Int32 → St → Prop} (K : AK Z G cX2_costIn RX2 4 (rmH 2)) (E : AEi Z cX2_costIn .int (mW G L) 0 0 P) : ∀ (n : Nat) (v1 : Int32) (v2 : Int32) (v3 : Int32) (σ : St), wm_costIn_l4 P  n v1 v2 v3 σ → AX Z 0 0 4 [(0, .ref (L 0)), (1, .int v1), (2, .int v2), (3, .int v3)] [] (mW G L σ) := by
  intro n
  induction n with
  | zero => intro v1 v2 v3 σ h; exact False.elim h
  | succ n ih =>
    intro v1 v2 v3 σ h
    rw [wm_costIn_l4_s] at h
    refine ax_iload_n K 3 rfl dX2_costIn_4 ?_
    refine ax_aload_n K 0 rfl dX2_costIn_5 ?_
    refine mg_dishes K dX2_costIn_6 ?_
    refine ax_icmp_ge (tgt := 39) K dX2_costIn_9 (by decide) (fun c9 => ?_) (fun c9 => ?_)
    · have h := ax_it h c9
      refine ax_iload_n K 2 rfl dX2_costIn_39 ?_
      exact E _ _ _ _ dX2_costIn_40 rfl h
    · have h := ax_ie h c9
      refine ax_iload_n K 2 rfl dX2_costIn_12 ?_
      refine ax_iload_n K 1 rfl dX2_costIn_13 ?_
      refine ax_iload_n K 3 rfl dX2_costIn_14 ?_
      refine rm_has K (by decide) dX2_costIn_15 (Nat.le_of_ble_eq_true rfl) h (fun r15 h => ?_)
      refine ax_if_eq (tgt := 30) K dX2_costIn_18 (by decide) (fun c18 => ?_) (fun c18 => ?_)
      · have h := ax_it h c18
        refine ax_iconst (v := (0 : Int32)) K (by decide) dX2_costIn_30 ?_
        exact ax_sub [0, 1, 3] rfl (km_costIn_j31 K E ih v1 v3 v2 (0 : Int32) σ h)
      · have h := ax_ie h c18
        refine ax_aload_n K 0 rfl dX2_costIn_21 ?_
        refine mg_cost K dX2_costIn_22 ?_
        refine ax_iload_n K 3 rfl dX2_costIn_25 ?_
        refine ml_cost K h.1 dX2_costIn_26 ?_
        replace h := h.2
        refine ax_goto (tgt := 31) K dX2_costIn_27 (by decide) ?_
        exact ax_sub [0, 1, 3] rfl (km_costIn_j31 K E ih v1 v3 v2 (mA_cost σ (v3).toNatClampNeg) σ h)
set_option maxHeartbeats 4000000 in
theorem mm_costIn {l : Launch} {G : AG} {L : Nat → Nat} {σ : St} {v1 : Int32} {P : Int32 → St → Prop} (h : wm_costIn σ v1 P) : CtW l G yX2_costIn cX2_costIn 4 (some .int) (rmH 2) [.ref (L 0), .int v1] (mW G L) σ (pI P) := by
  refine CtW.ofI (by decide) (Nat.le_of_ble_eq_true rfl) fun Z _ K E => ?_
  unfold wm_costIn at h
  show AX Z 0 0 0 [(0, .ref (L 0)), (1, .int v1)] [] (mW G L σ)
  refine ax_iconst (v := (0 : Int32)) K (by decide) dX2_costIn_0 ?_
  refine ax_istore_n (lv' := [(2, .int (0 : Int32)), (0, .ref (L 0)), (1, .int v1)]) K dX2_costIn_1 (by decide) rfl ?_
  refine ax_iconst (v := (0 : Int32)) K (by decide) dX2_costIn_2 ?_
  refine ax_istore_n (lv' := [(3, .int (0 : Int32)), (2, .int (0 : Int32)), (0, .ref (L 0)), (1, .int v1)]) K dX2_costIn_3 (by decide) rfl ?_
  exact ax_sub [2, 3, 1, 0] rfl (h.elim fun n4 h => km_costIn_l4 K E  n4 v1 (0 : Int32) (0 : Int32) σ h)
theorem rm_costIn {Z : AZ} {G : AG} {cc : ByteArray} {mL hh pc : Nat} {lv : List (Nat × Value)} {rest : List Value} {L : Nat → Nat} {σ : St} (K : AK Z G cc RX2 mL (rmH hh)) (hlt : 2 < hh) (d : decode cc pc = .ok (.invokevirtual 338, 3)) (hrest : (rest.map fun v => v.category).sum ≤ 8) {v1 : Int32} {P : Int32 → St → Prop} (h : sm_costIn σ v1 P) (kk : ∀ (r : Int32) (σ' : St), P r σ' → AX Z 0 0 (pc + 3) lv (.int r :: rest) (mW G L σ')) : AX Z 0 0 pc lv (.int v1 :: .ref (L 0) :: rest) (mW G L σ) :=
  ax_callV (N0 := 1) (As := [.int v1]) K (mm_costIn (sm_costIn_ok h)) q1499 q1501 qs103 q118 q1502 ⟨rfl, by decide, by decide, by decide⟩ rfl ⟨by show 2 + 1 + 1 ≤ hh + 1; omega, by show 8 + (4 + 11) + 60 * (2 + 1) ≤ 60 * (hh + 1); omega⟩ ⟨Nat.zero_le _, Nat.zero_le _⟩ rfl rfl rfl hrest d (fun r σ' hp => by obtain ⟨v, rfl, hp⟩ := hp; exact kk v σ' hp)
/-! m.count -/
set_option maxHeartbeats 4000000 in
theorem km_count_l78 {Z : AZ} {G : AG} {L : Nat → Nat} {P : Int32 → St → Prop} (K : AK Z G cX2_count RX2 4 (rmH 2)) (E : AEi Z cX2_count .int (mW G L) 0 0 P) : ∀ (n : Nat) (v2 : Int32) (v3 : Int32) (σ : St), wm_count_l78 P  n v2 v3 σ → AX Z 0 0 78 [(0, .ref (L 0)), (2, .int v2), (3, .int v3)] [] (mW G L σ) := by
  intro n
  induction n with
  | zero => intro v2 v3 σ h; exact False.elim h
  | succ n ih =>
    intro v2 v3 σ h
    rw [wm_count_l78_s] at h
    refine ax_iload_n K 2 rfl dX2_count_78 ?_
    refine ax_aload_n K 0 rfl dX2_count_79 ?_
    refine mg_servedMany K dX2_count_80 ?_
    refine ax_icmp_ge (tgt := 106) K dX2_count_83 (by decide) (fun c83 => ?_) (fun c83 => ?_)
    · have h := ax_it h c83
      refine ax_iload_n K 1 rfl dX2_count_106 ?_
      exact E _ _ _ _ dX2_count_107 rfl h
    · have h := ax_ie h c83
      refine ax_iload_n K 1 rfl dX2_count_86 ?_
      refine ax_aload_n K 0 rfl dX2_count_87 ?_
      refine mg_cost K dX2_count_88 ?_
      refine ax_aload_n K 0 rfl dX2_count_91 ?_
      refine mg_served K dX2_count_92 ?_
      refine ax_iload_n K 2 rfl dX2_count_95 ?_
      refine ml_served K h.1 dX2_count_96 ?_
      replace h := h.2
      refine ml_cost K h.1 dX2_count_97 ?_
      replace h := h.2
      refine ax_iadd K dX2_count_98 ?_
      refine ax_istore_n (lv' := [(2, .int (v2 + (mA_cost σ ((mA_served σ (v3).toNatClampNeg)).toNatClampNeg))), (0, .ref (L 0)), (3, .int v3)]) K dX2_count_99 (by decide) rfl ?_
      refine ax_iinc (lv' := [(3, .int (v3 + (1 : Int32))), (2, .int (v2 + (mA_cost σ ((mA_served σ (v3).toNatClampNeg)).toNatClampNeg))), (0, .ref (L 0))]) (v := (v3 + (1 : Int32))) K 2 dX2_count_100 rfl (by rfl) (by decide) rfl ?_
      refine ax_goto (tgt := 78) K dX2_count_103 (by decide) ?_
      exact ax_sub [2, 1, 0] rfl (ih (v2 + (mA_cost σ ((mA_served σ (v3).toNatClampNeg)).toNatClampNeg)) (v3 + (1 : Int32)) σ h)
set_option maxHeartbeats 4000000 in
theorem km_count_j142 {Z : AZ} {G : AG} {L : Nat → Nat} {P : Int32 → St → Prop} (K : AK Z G cX2_count RX2 4 (rmH 2)) (E : AEi Z cX2_count .int (mW G L) 0 0 P) {K120 : Int32 → Int32 → St → Prop} (hK120 : ∀ (v2 : Int32) (v3 : Int32) (σ : St), K120 v2 v3 σ → AX Z 0 0 120 [(0, .ref (L 0)), (2, .int v2), (3, .int v3)] [] (mW G L σ)) (v3 : Int32) (s0 : Int32) (s1 : Int32) (σ : St) (h : wm_count_j142 P K120 v3 s0 s1 σ) : AX Z 0 0 142 [(0, .ref (L 0)), (3, .int v3)] [.int s1, .int s0] (mW G L σ) := by
  unfold wm_count_j142 at h
  refine ax_ior K dX2_count_142 ?_
  refine ax_istore_n (lv' := [(2, .int (s0 ||| s1)), (0, .ref (L 0)), (3, .int v3)]) K dX2_count_143 (by decide) rfl ?_
  refine ax_iinc (lv' := [(3, .int (v3 + (1 : Int32))), (2, .int (s0 ||| s1)), (0, .ref (L 0))]) (v := (v3 + (1 : Int32))) K 2 dX2_count_144 rfl (by rfl) (by decide) rfl ?_
  refine ax_goto (tgt := 120) K dX2_count_147 (by decide) ?_
  exact ax_sub [2, 1, 0] rfl (hK120 (s0 ||| s1) (v3 + (1 : Int32)) σ h)
set_option maxHeartbeats 4000000 in
theorem km_count_l120 {Z : AZ} {G : AG} {L : Nat → Nat} {P : Int32 → St → Prop} (K : AK Z G cX2_count RX2 4 (rmH 2)) (E : AEi Z cX2_count .int (mW G L) 0 0 P) : ∀ (n : Nat) (v2 : Int32) (v3 : Int32) (σ : St), wm_count_l120 P  n v2 v3 σ → AX Z 0 0 120 [(0, .ref (L 0)), (2, .int v2), (3, .int v3)] [] (mW G L σ) := by
  intro n
  induction n with
  | zero => intro v2 v3 σ h; exact False.elim h
  | succ n ih =>
    intro v2 v3 σ h
    rw [wm_count_l120_s] at h
    refine ax_iload_n K 2 rfl dX2_count_120 ?_
    refine ax_iconst (v := (3 : Int32)) K (by decide) dX2_count_121 ?_
    refine ax_icmp_ge (tgt := 150) K dX2_count_122 (by decide) (fun c122 => ?_) (fun c122 => ?_)
    · have h := ax_it h c122
      refine ax_iload_n K 1 rfl dX2_count_150 ?_
      exact E _ _ _ _ dX2_count_151 rfl h
    · have h := ax_ie h c122
      refine ax_iload_n K 1 rfl dX2_count_125 ?_
      refine ax_aload_n K 0 rfl dX2_count_126 ?_
      refine mg_menuLong K dX2_count_127 ?_
      refine ax_iload_n K 2 rfl dX2_count_130 ?_
      refine ml_menuLong K h.1 dX2_count_131 ?_
      replace h := h.2
      refine ax_if_le (tgt := 141) K dX2_count_132 (by decide) (fun c132 => ?_) (fun c132 => ?_)
      · have h := ax_it h c132
        refine ax_iconst (v := (0 : Int32)) K (by decide) dX2_count_141 ?_
        exact ax_sub [0, 2] rfl (km_count_j142 K E ih v3 v2 (0 : Int32) σ h)
      · have h := ax_ie h c132
        refine ax_iconst (v := (1 : Int32)) K (by decide) dX2_count_135 ?_
        refine ax_iload_n K 2 rfl dX2_count_136 ?_
        refine ax_ishl K dX2_count_137 ?_
        refine ax_goto (tgt := 142) K dX2_count_138 (by decide) ?_
        exact ax_sub [0, 2] rfl (km_count_j142 K E ih v3 v2 ((1 : Int32) <<< (v3 &&& 31)) σ h)
set_option maxHeartbeats 4000000 in
theorem mm_count {l : Launch} {G : AG} {L : Nat → Nat} {σ : St} {v1 : Int32} {P : Int32 → St → Prop} (h : wm_count σ v1 P) : CtW l G yX2_count cX2_count 4 (some .int) (rmH 2) [.ref (L 0), .int v1] (mW G L) σ (pI P) := by
  refine CtW.ofI (by decide) (Nat.le_of_ble_eq_true rfl) fun Z _ K E => ?_
  unfold wm_count at h
  show AX Z 0 0 0 [(0, .ref (L 0)), (1, .int v1)] [] (mW G L σ)
  refine ax_aload_n K 0 rfl dX2_count_0 ?_
  refine ax_iconst (v := (0 : Int32)) K (by decide) dX2_count_1 ?_
  refine mp_thrown K dX2_count_2 ?_
  refine ax_iconst (v := (0 : Int32)) K (by decide) dX2_count_5 ?_
  refine ax_istore_n (lv' := [(2, .int (0 : Int32)), (0, .ref (L 0)), (1, .int v1)]) K dX2_count_6 (by decide) rfl ?_
  refine ax_iload_n K 2 rfl dX2_count_7 ?_
  by_cases c8_0 : v1 = (0 : Int32)
  · have h := ax_it h c8_0
    refine ax_tableIn (tgt := 56) K dX2_count_8 (by rw [c8_0]; decide) (by rw [c8_0]; decide) (by rw [c8_0]; rfl) (by decide) ?_
    refine ax_aload_n K 1 rfl dX2_count_56 ?_
    refine mg_dishes K dX2_count_57 ?_
    exact E _ _ _ _ dX2_count_60 rfl h
  · have h := ax_ie h c8_0
    by_cases c8_1 : v1 = (1 : Int32)
    · have h := ax_it h c8_1
      refine ax_tableIn (tgt := 61) K dX2_count_8 (by rw [c8_1]; decide) (by rw [c8_1]; decide) (by rw [c8_1]; rfl) (by decide) ?_
      refine ax_aload_n K 1 rfl dX2_count_61 ?_
      refine mg_guests K dX2_count_62 ?_
      exact E _ _ _ _ dX2_count_65 rfl h
    · have h := ax_ie h c8_1
      by_cases c8_2 : v1 = (2 : Int32)
      · have h := ax_it h c8_2
        refine ax_tableIn (tgt := 66) K dX2_count_8 (by rw [c8_2]; decide) (by rw [c8_2]; decide) (by rw [c8_2]; rfl) (by decide) ?_
        refine ax_aload_n K 1 rfl dX2_count_66 ?_
        refine mg_servedMany K dX2_count_67 ?_
        exact E _ _ _ _ dX2_count_70 rfl h
      · have h := ax_ie h c8_2
        by_cases c8_3 : v1 = (3 : Int32)
        · have h := ax_it h c8_3
          refine ax_tableIn (tgt := 71) K dX2_count_8 (by rw [c8_3]; decide) (by rw [c8_3]; decide) (by rw [c8_3]; rfl) (by decide) ?_
          refine ax_aload_n K 1 rfl dX2_count_71 ?_
          refine rm_servedLast K (by decide) dX2_count_72 (Nat.le_of_ble_eq_true rfl) h (fun r72 σ72 h => ?_)
          exact E _ _ _ _ dX2_count_75 rfl h
        · have h := ax_ie h c8_3
          by_cases c8_4 : v1 = (4 : Int32)
          · have h := ax_it h c8_4
            refine ax_tableIn (tgt := 76) K dX2_count_8 (by rw [c8_4]; decide) (by rw [c8_4]; decide) (by rw [c8_4]; rfl) (by decide) ?_
            refine ax_iconst (v := (0 : Int32)) K (by decide) dX2_count_76 ?_
            refine ax_istore_n (lv' := [(3, .int (0 : Int32)), (2, .int (0 : Int32)), (0, .ref (L 0)), (1, .int v1)]) K dX2_count_77 (by decide) rfl ?_
            exact ax_sub [2, 1, 0] rfl (h.elim fun n78 h => km_count_l78 K E  n78 (0 : Int32) (0 : Int32) (mS_thrown σ (0 : Int32)) h)
          · have h := ax_ie h c8_4
            by_cases c8_5 : v1 = (5 : Int32)
            · have h := ax_it h c8_5
              refine ax_tableIn (tgt := 108) K dX2_count_8 (by rw [c8_5]; decide) (by rw [c8_5]; decide) (by rw [c8_5]; rfl) (by decide) ?_
              refine ax_aload_n K 1 rfl dX2_count_108 ?_
              refine mg_rowMany K dX2_count_109 ?_
              exact E _ _ _ _ dX2_count_112 rfl h
            · have h := ax_ie h c8_5
              by_cases c8_6 : v1 = (6 : Int32)
              · have h := ax_it h c8_6
                refine ax_tableIn (tgt := 113) K dX2_count_8 (by rw [c8_6]; decide) (by rw [c8_6]; decide) (by rw [c8_6]; rfl) (by decide) ?_
                refine ax_aload_n K 1 rfl dX2_count_113 ?_
                refine mg_typed K dX2_count_114 ?_
                exact E _ _ _ _ dX2_count_117 rfl h
              · have h := ax_ie h c8_6
                by_cases c8_7 : v1 = (7 : Int32)
                · have h := ax_it h c8_7
                  refine ax_tableIn (tgt := 118) K dX2_count_8 (by rw [c8_7]; decide) (by rw [c8_7]; decide) (by rw [c8_7]; rfl) (by decide) ?_
                  refine ax_iconst (v := (0 : Int32)) K (by decide) dX2_count_118 ?_
                  refine ax_istore_n (lv' := [(3, .int (0 : Int32)), (2, .int (0 : Int32)), (0, .ref (L 0)), (1, .int v1)]) K dX2_count_119 (by decide) rfl ?_
                  exact ax_sub [2, 1, 0] rfl (h.elim fun n120 h => km_count_l120 K E  n120 (0 : Int32) (0 : Int32) (mS_thrown σ (0 : Int32)) h)
                · have h := ax_ie h c8_7
                  refine ax_tableOut (tgt := 152) K dX2_count_8 (by have q0 := lv_neT c8_0 (by decide : (0 : Int32).toInt = 0); have q1 := lv_neT c8_1 (by decide : (1 : Int32).toInt = 1); have q2 := lv_neT c8_2 (by decide : (2 : Int32).toInt = 2); have q3 := lv_neT c8_3 (by decide : (3 : Int32).toInt = 3); have q4 := lv_neT c8_4 (by decide : (4 : Int32).toInt = 4); have q5 := lv_neT c8_5 (by decide : (5 : Int32).toInt = 5); have q6 := lv_neT c8_6 (by decide : (6 : Int32).toInt = 6); have q7 := lv_neT c8_7 (by decide : (7 : Int32).toInt = 7); omega) (by decide) ?_
                  refine ax_iconst (v := (-1 : Int32)) K (by decide) dX2_count_152 ?_
                  exact E _ _ _ _ dX2_count_153 rfl h

/-! m.end -/
set_option maxHeartbeats 4000000 in
theorem mm_end {l : Launch} {G : AG} {L : Nat → Nat} {σ : St} {v1 : Int32} {P : Int32 → St → Prop} (h : wm_end σ v1 P) : CtW l G yX2_end cX2_end 2 (some .boolean) (rmH 2) [.ref (L 0), .int v1] (mW G L) σ (pI P) := by
  refine CtW.ofI (by decide) (Nat.le_of_ble_eq_true rfl) fun Z _ K E => ?_
  unfold wm_end at h
  show AX Z 0 0 0 [(0, .ref (L 0)), (1, .int v1)] [] (mW G L σ)
  refine ax_aload_n K 0 rfl dX2_end_0 ?_
  refine ax_iconst (v := (0 : Int32)) K (by decide) dX2_end_1 ?_
  refine mp_thrown K dX2_end_2 ?_
  refine ax_iload_n K 1 rfl dX2_end_5 ?_
  refine ax_iconst (v := (0 : Int32)) K (by decide) dX2_end_6 ?_
  refine ax_aload_n K 0 rfl dX2_end_7 ?_
  refine mg_typed K dX2_end_8 ?_
  refine rm_in K (by decide) dX2_end_11 (Nat.le_of_ble_eq_true rfl) h (fun r11 h => ?_)
  refine ax_if_ne (tgt := 19) K dX2_end_14 (by decide) (fun c14 => ?_) (fun c14 => ?_)
  · have h := ax_ie h c14
    refine ax_aload_n K 0 rfl dX2_end_19 ?_
    refine ax_iload_n K 1 rfl dX2_end_20 ?_
    refine mp_typed K dX2_end_21 ?_
    refine ax_iconst (v := (1 : Int32)) K (by decide) dX2_end_24 ?_
    exact E _ _ _ _ dX2_end_25 rfl h
  · have h := ax_it h c14
    refine ax_iconst (v := (0 : Int32)) K (by decide) dX2_end_17 ?_
    exact E _ _ _ _ dX2_end_18 rfl h

/-! m.fault -/
set_option maxHeartbeats 4000000 in
theorem mm_fault {l : Launch} {G : AG} {L : Nat → Nat} {σ : St} {v1 : Int32} {P : St → Prop} (h : wm_fault σ v1 P) : CtW l G yX2_fault cX2_fault 2 none (rmH 2) [.ref (L 0), .int v1] (mW G L) σ (pV P) := by
  refine CtW.ofV (by decide) (Nat.le_of_ble_eq_true rfl) fun Z _ K E => ?_
  unfold wm_fault at h
  show AX Z 0 0 0 [(0, .ref (L 0)), (1, .int v1)] [] (mW G L σ)
  refine ax_aload_n K 0 rfl dX2_fault_0 ?_
  refine rm_fine K (by decide) dX2_fault_1 (Nat.le_of_ble_eq_true rfl) h (fun r1 σ1 h => ?_)
  refine ax_if_eq (tgt := 12) K dX2_fault_4 (by decide) (fun c4 => ?_) (fun c4 => ?_)
  · have h := ax_it h c4
    exact E _ _ _ dX2_fault_12 h
  · have h := ax_ie h c4
    refine ax_aload_n K 0 rfl dX2_fault_7 ?_
    refine ax_iload_n K 1 rfl dX2_fault_8 ?_
    refine mp_wrong K dX2_fault_9 ?_
    exact E _ _ _ dX2_fault_12 h
theorem rm_fault {Z : AZ} {G : AG} {cc : ByteArray} {mL hh pc : Nat} {lv : List (Nat × Value)} {rest : List Value} {L : Nat → Nat} {σ : St} (K : AK Z G cc RX2 mL (rmH hh)) (hlt : 2 < hh) (d : decode cc pc = .ok (.invokevirtual 152, 3)) (hrest : (rest.map fun v => v.category).sum ≤ 8) {v1 : Int32} {P : St → Prop} (h : sm_fault σ v1 P) (kk : ∀ (σ' : St), P σ' → AX Z 0 0 (pc + 3) lv (rest) (mW G L σ')) : AX Z 0 0 pc lv (.int v1 :: .ref (L 0) :: rest) (mW G L σ) :=
  ax_callV (N0 := 1) (As := [.int v1]) K (mm_fault (sm_fault_ok h)) q1210 q1212 qs63 q118 q1213 ⟨rfl, by decide, by decide, by decide⟩ rfl ⟨by show 2 + 1 + 1 ≤ hh + 1; omega, by show 8 + (2 + 11) + 60 * (2 + 1) ≤ 60 * (hh + 1); omega⟩ ⟨Nat.zero_le _, Nat.zero_le _⟩ rfl rfl rfl hrest d (fun r σ' hp => by obtain ⟨rfl, hp⟩ := hp; exact kk σ' hp)
/-! m.fits -/
set_option maxHeartbeats 4000000 in
theorem km_fits_j74 {Z : AZ} {G : AG} {L : Nat → Nat} {P : Int32 → St → Prop} (K : AK Z G cX2_fits RX2 7 (rmH 2)) (E : AEi Z cX2_fits .boolean (mW G L) 0 0 P) {K34 : Int32 → Int32 → Int32 → Int32 → Int32 → Int32 → St → Prop} (hK34 : ∀ (v1 : Int32) (v2 : Int32) (v3 : Int32) (v4 : Int32) (v5 : Int32) (v6 : Int32) (σ : St), K34 v1 v2 v3 v4 v5 v6 σ → AX Z 0 0 34 [(0, .ref (L 0)), (1, .int v1), (2, .int v2), (3, .int v3), (4, .int v4), (5, .int v5), (6, .int v6)] [] (mW G L σ)) (v1 : Int32) (v2 : Int32) (v3 : Int32) (v4 : Int32) (v6 : Int32) (s0 : Int32) (s1 : Int32) (σ : St) (h : wm_fits_j74 P K34 v1 v2 v3 v4 v6 s0 s1 σ) : AX Z 0 0 74 [(0, .ref (L 0)), (1, .int v1), (2, .int v2), (3, .int v3), (4, .int v4), (6, .int v6)] [.int s1, .int s0] (mW G L σ) := by
  unfold wm_fits_j74 at h
  refine ax_iadd K dX2_fits_74 ?_
  refine ax_istore (lv' := [(5, .int (s0 + s1)), (0, .ref (L 0)), (1, .int v1), (2, .int v2), (3, .int v3), (4, .int v4), (6, .int v6)]) K dX2_fits_75 (by decide) rfl ?_
  refine ax_iinc (lv' := [(6, .int (v6 + (1 : Int32))), (5, .int (s0 + s1)), (0, .ref (L 0)), (1, .int v1), (2, .int v2), (3, .int v3), (4, .int v4)]) (v := (v6 + (1 : Int32))) K 6 dX2_fits_77 rfl (by rfl) (by decide) rfl ?_
  refine ax_goto (tgt := 34) K dX2_fits_80 (by decide) ?_
  exact ax_sub [2, 3, 4, 5, 6, 1, 0] rfl (hK34 v1 v2 v3 v4 (s0 + s1) (v6 + (1 : Int32)) σ h)
set_option maxHeartbeats 4000000 in
theorem km_fits_j73 {Z : AZ} {G : AG} {L : Nat → Nat} {P : Int32 → St → Prop} (K : AK Z G cX2_fits RX2 7 (rmH 2)) (E : AEi Z cX2_fits .boolean (mW G L) 0 0 P) {K34 : Int32 → Int32 → Int32 → Int32 → Int32 → Int32 → St → Prop} (hK34 : ∀ (v1 : Int32) (v2 : Int32) (v3 : Int32) (v4 : Int32) (v5 : Int32) (v6 : Int32) (σ : St), K34 v1 v2 v3 v4 v5 v6 σ → AX Z 0 0 34 [(0, .ref (L 0)), (1, .int v1), (2, .int v2), (3, .int v3), (4, .int v4), (5, .int v5), (6, .int v6)] [] (mW G L σ)) (v1 : Int32) (v2 : Int32) (v3 : Int32) (v4 : Int32) (v6 : Int32) (s0 : Int32) (σ : St) (h : wm_fits_j73 P K34 v1 v2 v3 v4 v6 s0 σ) : AX Z 0 0 73 [(0, .ref (L 0)), (1, .int v1), (2, .int v2), (3, .int v3), (4, .int v4), (6, .int v6)] [.int s0] (mW G L σ) := by
  unfold wm_fits_j73 at h
  refine ax_iconst (v := (0 : Int32)) K (by decide) dX2_fits_73 ?_
  exact ax_sub [0, 1, 2, 3, 4, 5] rfl (km_fits_j74 K E hK34 v1 v2 v3 v4 v6 s0 (0 : Int32) σ h)
set_option maxHeartbeats 4000000 in
theorem km_fits_l34 {Z : AZ} {G : AG} {L : Nat → Nat} {P : Int32 → St → Prop} (K : AK Z G cX2_fits RX2 7 (rmH 2)) (E : AEi Z cX2_fits .boolean (mW G L) 0 0 P) {K103 : Int32 → Int32 → Int32 → Int32 → Int32 → Int32 → St → Prop} (hK103 : ∀ (v1 : Int32) (v2 : Int32) (v3 : Int32) (v4 : Int32) (s0 : Int32) (s1 : Int32) (σ : St), K103 v1 v2 v3 v4 s0 s1 σ → AX Z 0 0 103 [(0, .ref (L 0)), (1, .int v1), (2, .int v2), (3, .int v3), (4, .int v4)] [.int s1, .int s0] (mW G L σ)) : ∀ (n : Nat) (v1 : Int32) (v2 : Int32) (v3 : Int32) (v4 : Int32) (v5 : Int32) (v6 : Int32) (σ : St), wm_fits_l34 P K103 n v1 v2 v3 v4 v5 v6 σ → AX Z 0 0 34 [(0, .ref (L 0)), (1, .int v1), (2, .int v2), (3, .int v3), (4, .int v4), (5, .int v5), (6, .int v6)] [] (mW G L σ) := by
  intro n
  induction n with
  | zero => intro v1 v2 v3 v4 v5 v6 σ h; exact False.elim h
  | succ n ih =>
    intro v1 v2 v3 v4 v5 v6 σ h
    rw [wm_fits_l34_s] at h
    refine ax_iload K 6 rfl dX2_fits_34 ?_
    refine ax_aload_n K 0 rfl dX2_fits_36 ?_
    refine mg_dishes K dX2_fits_37 ?_
    refine ax_icmp_gt (tgt := 83) K dX2_fits_40 (by decide) (fun c40 => ?_) (fun c40 => ?_)
    · have h := ax_it h c40
      refine ax_iload K 5 rfl dX2_fits_83 ?_
      refine ax_iload_n K 3 rfl dX2_fits_85 ?_
      refine ax_if_eq (tgt := 99) K dX2_fits_86 (by decide) (fun c86 => ?_) (fun c86 => ?_)
      · have h := ax_it h c86
        refine ax_aload_n K 0 rfl dX2_fits_99 ?_
        refine mg_times K dX2_fits_100 ?_
        exact ax_sub [0, 1, 2, 3, 4] rfl (hK103 v1 v2 v3 v4 v5 (mI_times σ) σ h)
      · have h := ax_ie h c86
        refine ax_aload_n K 0 rfl dX2_fits_89 ?_
        refine mg_store K dX2_fits_90 ?_
        refine ax_iload K 4 rfl dX2_fits_93 ?_
        refine ml_store K h.1 dX2_fits_95 ?_
        replace h := h.2
        refine ax_goto (tgt := 103) K dX2_fits_96 (by decide) ?_
        exact ax_sub [0, 1, 2, 3, 4] rfl (hK103 v1 v2 v3 v4 v5 (mA_store σ (v4).toNatClampNeg) σ h)
    · have h := ax_ie h c40
      refine ax_iload K 5 rfl dX2_fits_43 ?_
      refine ax_iload_n K 1 rfl dX2_fits_45 ?_
      refine ax_iload K 6 rfl dX2_fits_46 ?_
      refine rm_has K (by decide) dX2_fits_48 (Nat.le_of_ble_eq_true rfl) h (fun r48 h => ?_)
      refine ax_if_eq (tgt := 73) K dX2_fits_51 (by decide) (fun c51 => ?_) (fun c51 => ?_)
      · have h := ax_it h c51
        exact ax_sub [0, 1, 2, 3, 4, 6] rfl (km_fits_j73 K E ih v1 v2 v3 v4 v6 v5 σ h)
      · have h := ax_ie h c51
        refine ax_aload_n K 0 rfl dX2_fits_54 ?_
        refine mg_stuffs K dX2_fits_55 ?_
        refine ax_iload K 6 rfl dX2_fits_58 ?_
        refine ml_stuffs K h.1 dX2_fits_60 ?_
        replace h := h.2
        refine ax_iload K 4 rfl dX2_fits_61 ?_
        refine rm_has K (by decide) dX2_fits_63 (Nat.le_of_ble_eq_true rfl) h (fun r63 h => ?_)
        refine ax_if_eq (tgt := 73) K dX2_fits_66 (by decide) (fun c66 => ?_) (fun c66 => ?_)
        · have h := ax_it h c66
          exact ax_sub [0, 1, 2, 3, 4, 6] rfl (km_fits_j73 K E ih v1 v2 v3 v4 v6 v5 σ h)
        · have h := ax_ie h c66
          refine ax_iconst (v := (1 : Int32)) K (by decide) dX2_fits_69 ?_
          refine ax_goto (tgt := 74) K dX2_fits_70 (by decide) ?_
          exact ax_sub [0, 1, 2, 3, 4, 6] rfl (km_fits_j74 K E ih v1 v2 v3 v4 v6 v5 (1 : Int32) σ h)
set_option maxHeartbeats 4000000 in
theorem km_fits_j103 {Z : AZ} {G : AG} {L : Nat → Nat} {P : Int32 → St → Prop} (K : AK Z G cX2_fits RX2 7 (rmH 2)) (E : AEi Z cX2_fits .boolean (mW G L) 0 0 P) {K3 : Int32 → Int32 → Int32 → Int32 → St → Prop} (hK3 : ∀ (v1 : Int32) (v2 : Int32) (v3 : Int32) (v4 : Int32) (σ : St), K3 v1 v2 v3 v4 σ → AX Z 0 0 3 [(0, .ref (L 0)), (1, .int v1), (2, .int v2), (3, .int v3), (4, .int v4)] [] (mW G L σ)) (v1 : Int32) (v2 : Int32) (v3 : Int32) (v4 : Int32) (s0 : Int32) (s1 : Int32) (σ : St) (h : wm_fits_j103 P K3 v1 v2 v3 v4 s0 s1 σ) : AX Z 0 0 103 [(0, .ref (L 0)), (1, .int v1), (2, .int v2), (3, .int v3), (4, .int v4)] [.int s1, .int s0] (mW G L σ) := by
  unfold wm_fits_j103 at h
  refine ax_icmp_le (tgt := 108) K dX2_fits_103 (by decide) (fun c103 => ?_) (fun c103 => ?_)
  · have h := ax_it h c103
    refine ax_iinc (lv' := [(4, .int (v4 + (1 : Int32))), (0, .ref (L 0)), (1, .int v1), (2, .int v2), (3, .int v3)]) (v := (v4 + (1 : Int32))) K 4 dX2_fits_108 rfl (by rfl) (by decide) rfl ?_
    refine ax_goto (tgt := 3) K dX2_fits_111 (by decide) ?_
    exact ax_sub [1, 2, 3, 4, 0] rfl (hK3 v1 v2 v3 (v4 + (1 : Int32)) σ h)
  · have h := ax_ie h c103
    refine ax_iconst (v := (0 : Int32)) K (by decide) dX2_fits_106 ?_
    exact E _ _ _ _ dX2_fits_107 rfl h
set_option maxHeartbeats 4000000 in
theorem km_fits_j29 {Z : AZ} {G : AG} {L : Nat → Nat} {P : Int32 → St → Prop} (K : AK Z G cX2_fits RX2 7 (rmH 2)) (E : AEi Z cX2_fits .boolean (mW G L) 0 0 P) {K3 : Int32 → Int32 → Int32 → Int32 → St → Prop} (hK3 : ∀ (v1 : Int32) (v2 : Int32) (v3 : Int32) (v4 : Int32) (σ : St), K3 v1 v2 v3 v4 σ → AX Z 0 0 3 [(0, .ref (L 0)), (1, .int v1), (2, .int v2), (3, .int v3), (4, .int v4)] [] (mW G L σ)) (v1 : Int32) (v2 : Int32) (v3 : Int32) (v4 : Int32) (s0 : Int32) (σ : St) (h : wm_fits_j29 P K3 v1 v2 v3 v4 s0 σ) : AX Z 0 0 29 [(0, .ref (L 0)), (1, .int v1), (2, .int v2), (3, .int v3), (4, .int v4)] [.int s0] (mW G L σ) := by
  unfold wm_fits_j29 at h
  refine ax_istore (lv' := [(5, .int s0), (0, .ref (L 0)), (1, .int v1), (2, .int v2), (3, .int v3), (4, .int v4)]) K dX2_fits_29 (by decide) rfl ?_
  refine ax_iconst (v := (0 : Int32)) K (by decide) dX2_fits_31 ?_
  refine ax_istore (lv' := [(6, .int (0 : Int32)), (5, .int s0), (0, .ref (L 0)), (1, .int v1), (2, .int v2), (3, .int v3), (4, .int v4)]) K dX2_fits_32 (by decide) rfl ?_
  exact ax_sub [2, 3, 4, 5, 6, 1, 0] rfl (h.elim fun n34 h => km_fits_l34 K E (km_fits_j103 K E hK3) n34 v1 v2 v3 v4 s0 (0 : Int32) σ h)
set_option maxHeartbeats 4000000 in
theorem km_fits_l3 {Z : AZ} {G : AG} {L : Nat → Nat} {P : Int32 → St → Prop} (K : AK Z G cX2_fits RX2 7 (rmH 2)) (E : AEi Z cX2_fits .boolean (mW G L) 0 0 P) : ∀ (n : Nat) (v1 : Int32) (v2 : Int32) (v3 : Int32) (v4 : Int32) (σ : St), wm_fits_l3 P  n v1 v2 v3 v4 σ → AX Z 0 0 3 [(0, .ref (L 0)), (1, .int v1), (2, .int v2), (3, .int v3), (4, .int v4)] [] (mW G L σ) := by
  intro n
  induction n with
  | zero => intro v1 v2 v3 v4 σ h; exact False.elim h
  | succ n ih =>
    intro v1 v2 v3 v4 σ h
    rw [wm_fits_l3_s] at h
    refine ax_iload K 4 rfl dX2_fits_3 ?_
    refine ax_bipush (v := (8 : Int32)) K (by decide) dX2_fits_5 ?_
    refine ax_icmp_ge (tgt := 114) K dX2_fits_7 (by decide) (fun c7 => ?_) (fun c7 => ?_)
    · have h := ax_it h c7
      refine ax_iconst (v := (1 : Int32)) K (by decide) dX2_fits_114 ?_
      exact E _ _ _ _ dX2_fits_115 rfl h
    · have h := ax_ie h c7
      refine ax_aload_n K 0 rfl dX2_fits_10 ?_
      refine mg_stuffs K dX2_fits_11 ?_
      refine ax_iload_n K 2 rfl dX2_fits_14 ?_
      refine ml_stuffs K h.1 dX2_fits_15 ?_
      replace h := h.2
      refine ax_iload K 4 rfl dX2_fits_16 ?_
      refine rm_has K (by decide) dX2_fits_18 (Nat.le_of_ble_eq_true rfl) h (fun r18 h => ?_)
      refine ax_if_eq (tgt := 28) K dX2_fits_21 (by decide) (fun c21 => ?_) (fun c21 => ?_)
      · have h := ax_it h c21
        refine ax_iconst (v := (0 : Int32)) K (by decide) dX2_fits_28 ?_
        exact ax_sub [0, 1, 2, 3, 4] rfl (km_fits_j29 K E ih v1 v2 v3 v4 (0 : Int32) σ h)
      · have h := ax_ie h c21
        refine ax_iconst (v := (1 : Int32)) K (by decide) dX2_fits_24 ?_
        refine ax_goto (tgt := 29) K dX2_fits_25 (by decide) ?_
        exact ax_sub [0, 1, 2, 3, 4] rfl (km_fits_j29 K E ih v1 v2 v3 v4 (1 : Int32) σ h)
set_option maxHeartbeats 4000000 in
theorem mm_fits {l : Launch} {G : AG} {L : Nat → Nat} {σ : St} {v1 : Int32} {v2 : Int32} {v3 : Int32} {P : Int32 → St → Prop} (h : wm_fits σ v1 v2 v3 P) : CtW l G yX2_fits cX2_fits 7 (some .boolean) (rmH 2) [.ref (L 0), .int v1, .int v2, .int v3] (mW G L) σ (pI P) := by
  refine CtW.ofI (by decide) (Nat.le_of_ble_eq_true rfl) fun Z _ K E => ?_
  unfold wm_fits at h
  show AX Z 0 0 0 [(0, .ref (L 0)), (1, .int v1), (2, .int v2), (3, .int v3)] [] (mW G L σ)
  refine ax_iconst (v := (0 : Int32)) K (by decide) dX2_fits_0 ?_
  refine ax_istore (lv' := [(4, .int (0 : Int32)), (0, .ref (L 0)), (1, .int v1), (2, .int v2), (3, .int v3)]) K dX2_fits_1 (by decide) rfl ?_
  exact ax_sub [1, 2, 3, 4, 0] rfl (h.elim fun n3 h => km_fits_l3 K E  n3 v1 v2 v3 (0 : Int32) σ h)
theorem rm_fits {Z : AZ} {G : AG} {cc : ByteArray} {mL hh pc : Nat} {lv : List (Nat × Value)} {rest : List Value} {L : Nat → Nat} {σ : St} (K : AK Z G cc RX2 mL (rmH hh)) (hlt : 2 < hh) (d : decode cc pc = .ok (.invokevirtual 248, 3)) (hrest : (rest.map fun v => v.category).sum ≤ 8) {v1 : Int32} {v2 : Int32} {v3 : Int32} {P : Int32 → St → Prop} (h : sm_fits σ v1 v2 v3 P) (kk : ∀ (r : Int32) (σ' : St), P r σ' → AX Z 0 0 (pc + 3) lv (.int r :: rest) (mW G L σ')) : AX Z 0 0 pc lv (.int v3 :: .int v2 :: .int v1 :: .ref (L 0) :: rest) (mW G L σ) :=
  ax_callV (N0 := 3) (As := [.int v1, .int v2, .int v3]) K (mm_fits (sm_fits_ok h)) q1335 q1337 qs84 q118 q1338 ⟨rfl, by decide, by decide, by decide⟩ rfl ⟨by show 2 + 1 + 1 ≤ hh + 1; omega, by show 8 + (7 + 11) + 60 * (2 + 1) ≤ 60 * (hh + 1); omega⟩ ⟨Nat.zero_le _, Nat.zero_le _⟩ rfl rfl rfl hrest d (fun r σ' hp => by obtain ⟨v, rfl, hp⟩ := hp; exact kk v σ' hp)
/-! m.hasHot -/
set_option maxHeartbeats 4000000 in
theorem km_hasHot_j29 {Z : AZ} {G : AG} {L : Nat → Nat} {P : Int32 → St → Prop} (K : AK Z G cX2_hasHot RX2 3 (rmH 2)) (E : AEi Z cX2_hasHot .boolean (mW G L) 0 0 P) {K2 : Int32 → Int32 → St → Prop} (hK2 : ∀ (v1 : Int32) (v2 : Int32) (σ : St), K2 v1 v2 σ → AX Z 0 0 2 [(0, .ref (L 0)), (1, .int v1), (2, .int v2)] [] (mW G L σ)) (v1 : Int32) (v2 : Int32) (σ : St) (h : wm_hasHot_j29 P K2 v1 v2 σ) : AX Z 0 0 29 [(0, .ref (L 0)), (1, .int v1), (2, .int v2)] [] (mW G L σ) := by
  unfold wm_hasHot_j29 at h
  refine ax_iinc (lv' := [(2, .int (v2 + (1 : Int32))), (0, .ref (L 0)), (1, .int v1)]) (v := (v2 + (1 : Int32))) K 2 dX2_hasHot_29 rfl (by rfl) (by decide) rfl ?_
  refine ax_goto (tgt := 2) K dX2_hasHot_32 (by decide) ?_
  exact ax_sub [1, 2, 0] rfl (hK2 v1 (v2 + (1 : Int32)) σ h)
set_option maxHeartbeats 4000000 in
theorem km_hasHot_l2 {Z : AZ} {G : AG} {L : Nat → Nat} {P : Int32 → St → Prop} (K : AK Z G cX2_hasHot RX2 3 (rmH 2)) (E : AEi Z cX2_hasHot .boolean (mW G L) 0 0 P) : ∀ (n : Nat) (v1 : Int32) (v2 : Int32) (σ : St), wm_hasHot_l2 P  n v1 v2 σ → AX Z 0 0 2 [(0, .ref (L 0)), (1, .int v1), (2, .int v2)] [] (mW G L σ) := by
  intro n
  induction n with
  | zero => intro v1 v2 σ h; exact False.elim h
  | succ n ih =>
    intro v1 v2 σ h
    rw [wm_hasHot_l2_s] at h
    refine ax_iload_n K 2 rfl dX2_hasHot_2 ?_
    refine ax_aload_n K 0 rfl dX2_hasHot_3 ?_
    refine mg_dishes K dX2_hasHot_4 ?_
    refine ax_icmp_gt (tgt := 35) K dX2_hasHot_7 (by decide) (fun c7 => ?_) (fun c7 => ?_)
    · have h := ax_it h c7
      refine ax_iconst (v := (0 : Int32)) K (by decide) dX2_hasHot_35 ?_
      exact E _ _ _ _ dX2_hasHot_36 rfl h
    · have h := ax_ie h c7
      refine ax_iload_n K 1 rfl dX2_hasHot_10 ?_
      refine ax_iload_n K 2 rfl dX2_hasHot_11 ?_
      refine rm_has K (by decide) dX2_hasHot_12 (Nat.le_of_ble_eq_true rfl) h (fun r12 h => ?_)
      refine ax_if_eq (tgt := 29) K dX2_hasHot_15 (by decide) (fun c15 => ?_) (fun c15 => ?_)
      · have h := ax_it h c15
        exact ax_sub [0, 1, 2] rfl (km_hasHot_j29 K E ih v1 v2 σ h)
      · have h := ax_ie h c15
        refine ax_aload_n K 0 rfl dX2_hasHot_18 ?_
        refine mg_isHot K dX2_hasHot_19 ?_
        refine ax_iload_n K 2 rfl dX2_hasHot_22 ?_
        refine ml_isHot K h.1 dX2_hasHot_23 ?_
        replace h := h.2
        refine ax_if_eq (tgt := 29) K dX2_hasHot_24 (by decide) (fun c24 => ?_) (fun c24 => ?_)
        · have h := ax_it h c24
          exact ax_sub [0, 1, 2] rfl (km_hasHot_j29 K E ih v1 v2 σ h)
        · have h := ax_ie h c24
          refine ax_iconst (v := (1 : Int32)) K (by decide) dX2_hasHot_27 ?_
          exact E _ _ _ _ dX2_hasHot_28 rfl h
set_option maxHeartbeats 4000000 in
theorem mm_hasHot {l : Launch} {G : AG} {L : Nat → Nat} {σ : St} {v1 : Int32} {P : Int32 → St → Prop} (h : wm_hasHot σ v1 P) : CtW l G yX2_hasHot cX2_hasHot 3 (some .boolean) (rmH 2) [.ref (L 0), .int v1] (mW G L) σ (pI P) := by
  refine CtW.ofI (by decide) (Nat.le_of_ble_eq_true rfl) fun Z _ K E => ?_
  unfold wm_hasHot at h
  show AX Z 0 0 0 [(0, .ref (L 0)), (1, .int v1)] [] (mW G L σ)
  refine ax_iconst (v := (0 : Int32)) K (by decide) dX2_hasHot_0 ?_
  refine ax_istore_n (lv' := [(2, .int (0 : Int32)), (0, .ref (L 0)), (1, .int v1)]) K dX2_hasHot_1 (by decide) rfl ?_
  exact ax_sub [1, 2, 0] rfl (h.elim fun n2 h => km_hasHot_l2 K E  n2 v1 (0 : Int32) σ h)
theorem rm_hasHot {Z : AZ} {G : AG} {cc : ByteArray} {mL hh pc : Nat} {lv : List (Nat × Value)} {rest : List Value} {L : Nat → Nat} {σ : St} (K : AK Z G cc RX2 mL (rmH hh)) (hlt : 2 < hh) (d : decode cc pc = .ok (.invokevirtual 245, 3)) (hrest : (rest.map fun v => v.category).sum ≤ 8) {v1 : Int32} {P : Int32 → St → Prop} (h : sm_hasHot σ v1 P) (kk : ∀ (r : Int32) (σ' : St), P r σ' → AX Z 0 0 (pc + 3) lv (.int r :: rest) (mW G L σ')) : AX Z 0 0 pc lv (.int v1 :: .ref (L 0) :: rest) (mW G L σ) :=
  ax_callV (N0 := 1) (As := [.int v1]) K (mm_hasHot (sm_hasHot_ok h)) q1331 q1333 qs83 q118 q1334 ⟨rfl, by decide, by decide, by decide⟩ rfl ⟨by show 2 + 1 + 1 ≤ hh + 1; omega, by show 8 + (3 + 11) + 60 * (2 + 1) ≤ 60 * (hh + 1); omega⟩ ⟨Nat.zero_le _, Nat.zero_le _⟩ rfl rfl rfl hrest d (fun r σ' hp => by obtain ⟨v, rfl, hp⟩ := hp; exact kk v σ' hp)
/-! m.isDish -/
set_option maxHeartbeats 4000000 in
theorem mm_isDish {l : Launch} {G : AG} {L : Nat → Nat} {σ : St} {v1 : Int32} {P : Int32 → St → Prop} (h : wm_isDish σ v1 P) : CtW l G yX2_isDish cX2_isDish 2 (some .boolean) (rmH 2) [.ref (L 0), .int v1] (mW G L) σ (pI P) := by
  refine CtW.ofI (by decide) (Nat.le_of_ble_eq_true rfl) fun Z _ K E => ?_
  unfold wm_isDish at h
  show AX Z 0 0 0 [(0, .ref (L 0)), (1, .int v1)] [] (mW G L σ)
  refine ax_iload_n K 1 rfl dX2_isDish_0 ?_
  refine ax_iconst (v := (0 : Int32)) K (by decide) dX2_isDish_1 ?_
  refine ax_aload_n K 0 rfl dX2_isDish_2 ?_
  refine mg_dishes K dX2_isDish_3 ?_
  refine ax_iconst (v := (1 : Int32)) K (by decide) dX2_isDish_6 ?_
  refine ax_isub K dX2_isDish_7 ?_
  refine rm_in K (by decide) dX2_isDish_8 (Nat.le_of_ble_eq_true rfl) h (fun r8 h => ?_)
  exact E _ _ _ _ dX2_isDish_11 h.1 h.2
theorem rm_isDish {Z : AZ} {G : AG} {cc : ByteArray} {mL hh pc : Nat} {lv : List (Nat × Value)} {rest : List Value} {L : Nat → Nat} {σ : St} (K : AK Z G cc RX2 mL (rmH hh)) (hlt : 2 < hh) (d : decode cc pc = .ok (.invokevirtual 216, 3)) (hrest : (rest.map fun v => v.category).sum ≤ 8) {v1 : Int32} {P : Int32 → St → Prop} (h : sm_isDish σ v1 P) (kk : ∀ (r : Int32) (σ' : St), P r σ' → AX Z 0 0 (pc + 3) lv (.int r :: rest) (mW G L σ')) : AX Z 0 0 pc lv (.int v1 :: .ref (L 0) :: rest) (mW G L σ) :=
  ax_callV (N0 := 1) (As := [.int v1]) K (mm_isDish (sm_isDish_ok h)) q1259 q1261 qs73 q118 q1262 ⟨rfl, by decide, by decide, by decide⟩ rfl ⟨by show 2 + 1 + 1 ≤ hh + 1; omega, by show 8 + (2 + 11) + 60 * (2 + 1) ≤ 60 * (hh + 1); omega⟩ ⟨Nat.zero_le _, Nat.zero_le _⟩ rfl rfl rfl hrest d (fun r σ' hp => by obtain ⟨v, rfl, hp⟩ := hp; exact kk v σ' hp)
/-! m.isGuest -/
set_option maxHeartbeats 4000000 in
theorem mm_isGuest {l : Launch} {G : AG} {L : Nat → Nat} {σ : St} {v1 : Int32} {P : Int32 → St → Prop} (h : wm_isGuest σ v1 P) : CtW l G yX2_isGuest cX2_isGuest 2 (some .boolean) (rmH 2) [.ref (L 0), .int v1] (mW G L) σ (pI P) := by
  refine CtW.ofI (by decide) (Nat.le_of_ble_eq_true rfl) fun Z _ K E => ?_
  unfold wm_isGuest at h
  show AX Z 0 0 0 [(0, .ref (L 0)), (1, .int v1)] [] (mW G L σ)
  refine ax_iload_n K 1 rfl dX2_isGuest_0 ?_
  refine ax_iconst (v := (0 : Int32)) K (by decide) dX2_isGuest_1 ?_
  refine ax_aload_n K 0 rfl dX2_isGuest_2 ?_
  refine mg_guests K dX2_isGuest_3 ?_
  refine ax_iconst (v := (1 : Int32)) K (by decide) dX2_isGuest_6 ?_
  refine ax_isub K dX2_isGuest_7 ?_
  refine rm_in K (by decide) dX2_isGuest_8 (Nat.le_of_ble_eq_true rfl) h (fun r8 h => ?_)
  exact E _ _ _ _ dX2_isGuest_11 h.1 h.2
theorem rm_isGuest {Z : AZ} {G : AG} {cc : ByteArray} {mL hh pc : Nat} {lv : List (Nat × Value)} {rest : List Value} {L : Nat → Nat} {σ : St} (K : AK Z G cc RX2 mL (rmH hh)) (hlt : 2 < hh) (d : decode cc pc = .ok (.invokevirtual 230, 3)) (hrest : (rest.map fun v => v.category).sum ≤ 8) {v1 : Int32} {P : Int32 → St → Prop} (h : sm_isGuest σ v1 P) (kk : ∀ (r : Int32) (σ' : St), P r σ' → AX Z 0 0 (pc + 3) lv (.int r :: rest) (mW G L σ')) : AX Z 0 0 pc lv (.int v1 :: .ref (L 0) :: rest) (mW G L σ) :=
  ax_callV (N0 := 1) (As := [.int v1]) K (mm_isGuest (sm_isGuest_ok h)) q1285 q1287 qs78 q118 q1288 ⟨rfl, by decide, by decide, by decide⟩ rfl ⟨by show 2 + 1 + 1 ≤ hh + 1; omega, by show 8 + (2 + 11) + 60 * (2 + 1) ≤ 60 * (hh + 1); omega⟩ ⟨Nat.zero_le _, Nat.zero_le _⟩ rfl rfl rfl hrest d (fun r σ' hp => by obtain ⟨v, rfl, hp⟩ := hp; exact kk v σ' hp)
/-! m.isLaw -/
set_option maxHeartbeats 4000000 in
theorem km_isLaw_j48 {Z : AZ} {G : AG} {P : Int32 → Prop} (K : AK Z G cX2_isLaw RX2 2 (rmH 2)) (E : AEi Z cX2_isLaw .boolean w0 0 0 (fun v _ => P v)) (σ : St) (s0 : Int32) (h : wm_isLaw_j48 P  s0) : AX Z 0 0 48 [] [.int s0] [] := by
  unfold wm_isLaw_j48 at h
  exact E _ _ _ σ dX2_isLaw_48 h.1 h.2
set_option maxHeartbeats 4000000 in
theorem km_isLaw_j47 {Z : AZ} {G : AG} {P : Int32 → Prop} (K : AK Z G cX2_isLaw RX2 2 (rmH 2)) (E : AEi Z cX2_isLaw .boolean w0 0 0 (fun v _ => P v)) (σ : St)  (h : wm_isLaw_j47 P  ) : AX Z 0 0 47 [] [] [] := by
  unfold wm_isLaw_j47 at h
  refine ax_iconst (v := (0 : Int32)) K (by decide) dX2_isLaw_47 ?_
  exact ax_sub [] rfl (km_isLaw_j48 K E σ  (0 : Int32) h)
set_option maxHeartbeats 4000000 in
theorem mm_isLaw {l : Launch} {G : AG} {σ : St} {v0 : Int32} {v1 : Int32} {P : Int32 → Prop} (h : wm_isLaw v0 v1 P) : CtW l G yX2_isLaw cX2_isLaw 2 (some .boolean) (rmH 2) [.int v0, .int v1] w0 σ (pI (fun v _ => P v)) := by
  refine CtW.ofI (by decide) (Nat.le_of_ble_eq_true rfl) fun Z _ K E => ?_
  unfold wm_isLaw at h
  show AX Z 0 0 0 [(0, .int v0), (1, .int v1)] [] []
  refine ax_iload_n K 0 rfl dX2_isLaw_0 ?_
  refine ax_if_ne (tgt := 14) K dX2_isLaw_1 (by decide) (fun c1 => ?_) (fun c1 => ?_)
  · have h := ax_ie h c1
    refine ax_iload_n K 0 rfl dX2_isLaw_14 ?_
    refine ax_iconst (v := (1 : Int32)) K (by decide) dX2_isLaw_15 ?_
    refine ax_icmp_ne (tgt := 29) K dX2_isLaw_16 (by decide) (fun c16 => ?_) (fun c16 => ?_)
    · have h := ax_ie h c16
      refine ax_iload_n K 0 rfl dX2_isLaw_29 ?_
      refine ax_iconst (v := (2 : Int32)) K (by decide) dX2_isLaw_30 ?_
      refine ax_icmp_ne (tgt := 47) K dX2_isLaw_31 (by decide) (fun c31 => ?_) (fun c31 => ?_)
      · have h := ax_ie h c31
        exact ax_sub [] rfl (km_isLaw_j47 K E σ   h)
      · have h := ax_it h c31
        refine ax_iload_n K 1 rfl dX2_isLaw_34 ?_
        refine ax_iconst (v := (0 : Int32)) K (by decide) dX2_isLaw_35 ?_
        refine ax_iconst (v := (2 : Int32)) K (by decide) dX2_isLaw_36 ?_
        refine rm_in K (by decide) dX2_isLaw_37 (Nat.le_of_ble_eq_true rfl) h (fun r37 h => ?_)
        refine ax_if_eq (tgt := 47) K dX2_isLaw_40 (by decide) (fun c40 => ?_) (fun c40 => ?_)
        · have h := ax_it h c40
          exact ax_sub [] rfl (km_isLaw_j47 K E σ   h)
        · have h := ax_ie h c40
          refine ax_iconst (v := (1 : Int32)) K (by decide) dX2_isLaw_43 ?_
          refine ax_goto (tgt := 48) K dX2_isLaw_44 (by decide) ?_
          exact ax_sub [] rfl (km_isLaw_j48 K E σ  (1 : Int32) h)
    · have h := ax_it h c16
      refine ax_iload_n K 1 rfl dX2_isLaw_19 ?_
      refine ax_iconst (v := (1 : Int32)) K (by decide) dX2_isLaw_20 ?_
      refine ax_bipush (v := (9 : Int32)) K (by decide) dX2_isLaw_21 ?_
      refine rm_in K (by decide) dX2_isLaw_23 (Nat.le_of_ble_eq_true rfl) h (fun r23 h => ?_)
      refine ax_goto (tgt := 48) K dX2_isLaw_26 (by decide) ?_
      exact ax_sub [] rfl (km_isLaw_j48 K E σ  r23 h)
  · have h := ax_it h c1
    refine ax_iload_n K 1 rfl dX2_isLaw_4 ?_
    refine ax_iconst (v := (1 : Int32)) K (by decide) dX2_isLaw_5 ?_
    refine ax_bipush (v := (8 : Int32)) K (by decide) dX2_isLaw_6 ?_
    refine rm_in K (by decide) dX2_isLaw_8 (Nat.le_of_ble_eq_true rfl) h (fun r8 h => ?_)
    refine ax_goto (tgt := 48) K dX2_isLaw_11 (by decide) ?_
    exact ax_sub [] rfl (km_isLaw_j48 K E σ  r8 h)
theorem rm_isLaw {Z : AZ} {G : AG} {cc : ByteArray} {mL hh pc : Nat} {lv : List (Nat × Value)} {rest : List Value} {ws : va_W} (K : AK Z G cc RX2 mL (rmH hh)) (hlt : 2 < hh) (d : decode cc pc = .ok (.invokestatic 233, 3)) (hrest : (rest.map fun v => v.category).sum ≤ 8) {v0 : Int32} {v1 : Int32} {P : Int32 → Prop} (h : sm_isLaw v0 v1 P) (kk : ∀ (r : Int32) , P r  → AX Z 0 0 (pc + 3) lv (.int r :: rest) ws) : AX Z 0 0 pc lv (.int v1 :: .int v0 :: rest) ws :=
  ax_callS (N0 := 2) (σ := σ00) (As := [.int v0, .int v1]) K (mm_isLaw (sm_isLaw_ok h)) q1297 q1298 q118 q1299 ⟨by decide, by decide, by decide⟩ rfl ⟨by show 2 + 1 + 1 ≤ hh + 1; omega, by show 8 + (2 + 11) + 60 * (2 + 1) ≤ 60 * (hh + 1); omega⟩ ⟨Nat.zero_le _, Nat.zero_le _⟩ rfl hrest d (fun r σ' hp => by obtain ⟨v, rfl, hp⟩ := hp; exact kk v hp)
/-! m.isMenu -/
set_option maxHeartbeats 4000000 in
theorem km_isMenu_j23 {Z : AZ} {G : AG} {L : Nat → Nat} {P : Int32 → St → Prop} (K : AK Z G cX2_isMenu RX2 2 (rmH 2)) (E : AEi Z cX2_isMenu .boolean (mW G L) 0 0 P) (s0 : Int32) (σ : St) (h : wm_isMenu_j23 P  s0 σ) : AX Z 0 0 23 [(0, .ref (L 0))] [.int s0] (mW G L σ) := by
  unfold wm_isMenu_j23 at h
  exact E _ _ _ _ dX2_isMenu_23 h.1 h.2
set_option maxHeartbeats 4000000 in
theorem km_isMenu_j22 {Z : AZ} {G : AG} {L : Nat → Nat} {P : Int32 → St → Prop} (K : AK Z G cX2_isMenu RX2 2 (rmH 2)) (E : AEi Z cX2_isMenu .boolean (mW G L) 0 0 P) (σ : St) (h : wm_isMenu_j22 P  σ) : AX Z 0 0 22 [(0, .ref (L 0))] [] (mW G L σ) := by
  unfold wm_isMenu_j22 at h
  refine ax_iconst (v := (0 : Int32)) K (by decide) dX2_isMenu_22 ?_
  exact ax_sub [0] rfl (km_isMenu_j23 K E  (0 : Int32) σ h)
set_option maxHeartbeats 4000000 in
theorem mm_isMenu {l : Launch} {G : AG} {L : Nat → Nat} {σ : St} {v1 : Int32} {P : Int32 → St → Prop} (h : wm_isMenu σ v1 P) : CtW l G yX2_isMenu cX2_isMenu 2 (some .boolean) (rmH 2) [.ref (L 0), .int v1] (mW G L) σ (pI P) := by
  refine CtW.ofI (by decide) (Nat.le_of_ble_eq_true rfl) fun Z _ K E => ?_
  unfold wm_isMenu at h
  show AX Z 0 0 0 [(0, .ref (L 0)), (1, .int v1)] [] (mW G L σ)
  refine ax_iload_n K 1 rfl dX2_isMenu_0 ?_
  refine ax_iconst (v := (0 : Int32)) K (by decide) dX2_isMenu_1 ?_
  refine ax_iconst (v := (2 : Int32)) K (by decide) dX2_isMenu_2 ?_
  refine rm_in K (by decide) dX2_isMenu_3 (Nat.le_of_ble_eq_true rfl) h (fun r3 h => ?_)
  refine ax_if_eq (tgt := 22) K dX2_isMenu_6 (by decide) (fun c6 => ?_) (fun c6 => ?_)
  · have h := ax_it h c6
    exact ax_sub [0] rfl (km_isMenu_j22 K E  σ h)
  · have h := ax_ie h c6
    refine ax_aload_n K 0 rfl dX2_isMenu_9 ?_
    refine mg_menuLong K dX2_isMenu_10 ?_
    refine ax_iload_n K 1 rfl dX2_isMenu_13 ?_
    refine ml_menuLong K h.1 dX2_isMenu_14 ?_
    replace h := h.2
    refine ax_if_le (tgt := 22) K dX2_isMenu_15 (by decide) (fun c15 => ?_) (fun c15 => ?_)
    · have h := ax_it h c15
      exact ax_sub [0] rfl (km_isMenu_j22 K E  σ h)
    · have h := ax_ie h c15
      refine ax_iconst (v := (1 : Int32)) K (by decide) dX2_isMenu_18 ?_
      refine ax_goto (tgt := 23) K dX2_isMenu_19 (by decide) ?_
      exact ax_sub [0] rfl (km_isMenu_j23 K E  (1 : Int32) σ h)
theorem rm_isMenu {Z : AZ} {G : AG} {cc : ByteArray} {mL hh pc : Nat} {lv : List (Nat × Value)} {rest : List Value} {L : Nat → Nat} {σ : St} (K : AK Z G cc RX2 mL (rmH hh)) (hlt : 2 < hh) (d : decode cc pc = .ok (.invokevirtual 265, 3)) (hrest : (rest.map fun v => v.category).sum ≤ 8) {v1 : Int32} {P : Int32 → St → Prop} (h : sm_isMenu σ v1 P) (kk : ∀ (r : Int32) (σ' : St), P r σ' → AX Z 0 0 (pc + 3) lv (.int r :: rest) (mW G L σ')) : AX Z 0 0 pc lv (.int v1 :: .ref (L 0) :: rest) (mW G L σ) :=
  ax_callV (N0 := 1) (As := [.int v1]) K (mm_isMenu (sm_isMenu_ok h)) q1359 q1361 qs85 q118 q1362 ⟨rfl, by decide, by decide, by decide⟩ rfl ⟨by show 2 + 1 + 1 ≤ hh + 1; omega, by show 8 + (2 + 11) + 60 * (2 + 1) ≤ 60 * (hh + 1); omega⟩ ⟨Nat.zero_le _, Nat.zero_le _⟩ rfl rfl rfl hrest d (fun r σ' hp => by obtain ⟨v, rfl, hp⟩ := hp; exact kk v σ' hp)
/-! m.isState -/
set_option maxHeartbeats 4000000 in
theorem km_isState_j22 {Z : AZ} {G : AG} {P : Int32 → Prop} (K : AK Z G cX2_isState RX2 2 (rmH 2)) (E : AEi Z cX2_isState .boolean w0 0 0 (fun v _ => P v)) (σ : St) (s0 : Int32) (h : wm_isState_j22 P  s0) : AX Z 0 0 22 [] [.int s0] [] := by
  unfold wm_isState_j22 at h
  exact E _ _ _ σ dX2_isState_22 h.1 h.2
set_option maxHeartbeats 4000000 in
theorem mm_isState {l : Launch} {G : AG} {σ : St} {v0 : Int32} {v1 : Int32} {P : Int32 → Prop} (h : wm_isState v0 v1 P) : CtW l G yX2_isState cX2_isState 2 (some .boolean) (rmH 2) [.int v0, .int v1] w0 σ (pI (fun v _ => P v)) := by
  refine CtW.ofI (by decide) (Nat.le_of_ble_eq_true rfl) fun Z _ K E => ?_
  unfold wm_isState at h
  show AX Z 0 0 0 [(0, .int v0), (1, .int v1)] [] []
  refine ax_iload_n K 1 rfl dX2_isState_0 ?_
  refine ax_iconst (v := (-1 : Int32)) K (by decide) dX2_isState_1 ?_
  refine ax_icmp_ne (tgt := 17) K dX2_isState_2 (by decide) (fun c2 => ?_) (fun c2 => ?_)
  · have h := ax_ie h c2
    refine ax_iload_n K 0 rfl dX2_isState_17 ?_
    refine ax_iload_n K 1 rfl dX2_isState_18 ?_
    refine rm_has K (by decide) dX2_isState_19 (Nat.le_of_ble_eq_true rfl) h (fun r19 h => ?_)
    exact ax_sub [] rfl (km_isState_j22 K E σ  r19 h)
  · have h := ax_it h c2
    refine ax_iload_n K 0 rfl dX2_isState_5 ?_
    refine ax_if_ne (tgt := 13) K dX2_isState_6 (by decide) (fun c6 => ?_) (fun c6 => ?_)
    · have h := ax_ie h c6
      refine ax_iconst (v := (0 : Int32)) K (by decide) dX2_isState_13 ?_
      refine ax_goto (tgt := 22) K dX2_isState_14 (by decide) ?_
      exact ax_sub [] rfl (km_isState_j22 K E σ  (0 : Int32) h)
    · have h := ax_it h c6
      refine ax_iconst (v := (1 : Int32)) K (by decide) dX2_isState_9 ?_
      refine ax_goto (tgt := 22) K dX2_isState_10 (by decide) ?_
      exact ax_sub [] rfl (km_isState_j22 K E σ  (1 : Int32) h)
theorem rm_isState {Z : AZ} {G : AG} {cc : ByteArray} {mL hh pc : Nat} {lv : List (Nat × Value)} {rest : List Value} {ws : va_W} (K : AK Z G cc RX2 mL (rmH hh)) (hlt : 2 < hh) (d : decode cc pc = .ok (.invokestatic 301, 3)) (hrest : (rest.map fun v => v.category).sum ≤ 8) {v0 : Int32} {v1 : Int32} {P : Int32 → Prop} (h : sm_isState v0 v1 P) (kk : ∀ (r : Int32) , P r  → AX Z 0 0 (pc + 3) lv (.int r :: rest) ws) : AX Z 0 0 pc lv (.int v1 :: .int v0 :: rest) ws :=
  ax_callS (N0 := 2) (σ := σ00) (As := [.int v0, .int v1]) K (mm_isState (sm_isState_ok h)) q1418 q1419 q118 q1420 ⟨by decide, by decide, by decide⟩ rfl ⟨by show 2 + 1 + 1 ≤ hh + 1; omega, by show 8 + (2 + 11) + 60 * (2 + 1) ≤ 60 * (hh + 1); omega⟩ ⟨Nat.zero_le _, Nat.zero_le _⟩ rfl hrest d (fun r σ' hp => by obtain ⟨v, rfl, hp⟩ := hp; exact kk v hp)
/-! m.keep -/
set_option maxHeartbeats 4000000 in
theorem km_keep_l40 {Z : AZ} {G : AG} {L : Nat → Nat} {P : Int32 → St → Prop} (K : AK Z G cX2_keep RX2 4 (rmH 2)) (E : AEi Z cX2_keep .boolean (mW G L) 0 0 P) {K81 : Int32 → Int32 → St → Prop} (hK81 : ∀ (v2 : Int32) (v3 : Int32) (σ : St), K81 v2 v3 σ → AX Z 0 0 81 [(0, .ref (L 0)), (2, .int v2), (3, .int v3)] [] (mW G L σ)) : ∀ (n : Nat) (v2 : Int32) (v3 : Int32) (σ : St), wm_keep_l40 P K81 n v2 v3 σ → AX Z 0 0 40 [(0, .ref (L 0)), (2, .int v2), (3, .int v3)] [] (mW G L σ) := by
  intro n
  induction n with
  | zero => intro v2 v3 σ h; exact False.elim h
  | succ n ih =>
    intro v2 v3 σ h
    rw [wm_keep_l40_s] at h
    refine ax_iload_n K 2 rfl dX2_keep_40 ?_
    refine ax_bipush (v := (10 : Int32)) K (by decide) dX2_keep_41 ?_
    refine ax_icmp_ge (tgt := 66) K dX2_keep_43 (by decide) (fun c43 => ?_) (fun c43 => ?_)
    · have h := ax_it h c43
      refine ax_aload_n K 0 rfl dX2_keep_66 ?_
      refine mg_kept K dX2_keep_67 ?_
      refine ax_iload_n K 1 rfl dX2_keep_70 ?_
      refine ax_bipush (v := (10 : Int32)) K (by decide) dX2_keep_71 ?_
      refine ax_iadd K dX2_keep_73 ?_
      refine ax_aload_n K 0 rfl dX2_keep_74 ?_
      refine mg_servedMany K dX2_keep_75 ?_
      refine ms_kept K h.1 dX2_keep_78 ?_
      replace h := h.2
      refine ax_iconst (v := (0 : Int32)) K (by decide) dX2_keep_79 ?_
      refine ax_istore_n (lv' := [(3, .int (0 : Int32)), (0, .ref (L 0)), (2, .int v2)]) K dX2_keep_80 (by decide) rfl ?_
      exact ax_sub [1, 2, 0] rfl (hK81 v2 (0 : Int32) (mU_kept σ (v2 + (10 : Int32)) (mI_servedMany σ)) h)
    · have h := ax_ie h c43
      refine ax_aload_n K 0 rfl dX2_keep_46 ?_
      refine mg_kept K dX2_keep_47 ?_
      refine ax_iload_n K 1 rfl dX2_keep_50 ?_
      refine ax_iload_n K 2 rfl dX2_keep_51 ?_
      refine ax_iadd K dX2_keep_52 ?_
      refine ax_aload_n K 0 rfl dX2_keep_53 ?_
      refine mg_served K dX2_keep_54 ?_
      refine ax_iload_n K 2 rfl dX2_keep_57 ?_
      refine ml_served K h.1 dX2_keep_58 ?_
      replace h := h.2
      refine ms_kept K h.1 dX2_keep_59 ?_
      replace h := h.2
      refine ax_iinc (lv' := [(3, .int (v3 + (1 : Int32))), (0, .ref (L 0)), (2, .int v2)]) (v := (v3 + (1 : Int32))) K 2 dX2_keep_60 rfl (by rfl) (by decide) rfl ?_
      refine ax_goto (tgt := 40) K dX2_keep_63 (by decide) ?_
      exact ax_sub [1, 2, 0] rfl (ih v2 (v3 + (1 : Int32)) (mU_kept σ (v2 + v3) (mA_served σ (v3).toNatClampNeg)) h)
set_option maxHeartbeats 4000000 in
theorem km_keep_l81 {Z : AZ} {G : AG} {L : Nat → Nat} {P : Int32 → St → Prop} (K : AK Z G cX2_keep RX2 4 (rmH 2)) (E : AEi Z cX2_keep .boolean (mW G L) 0 0 P) : ∀ (n : Nat) (v2 : Int32) (v3 : Int32) (σ : St), wm_keep_l81 P  n v2 v3 σ → AX Z 0 0 81 [(0, .ref (L 0)), (2, .int v2), (3, .int v3)] [] (mW G L σ) := by
  intro n
  induction n with
  | zero => intro v2 v3 σ h; exact False.elim h
  | succ n ih =>
    intro v2 v3 σ h
    rw [wm_keep_l81_s] at h
    refine ax_iload_n K 2 rfl dX2_keep_81 ?_
    refine ax_bipush (v := (8 : Int32)) K (by decide) dX2_keep_82 ?_
    refine ax_icmp_ge (tgt := 112) K dX2_keep_84 (by decide) (fun c84 => ?_) (fun c84 => ?_)
    · have h := ax_it h c84
      refine ax_iinc (lv' := [(2, .int (v2 + (19 : Int32))), (0, .ref (L 0)), (3, .int v3)]) (v := (v2 + (19 : Int32))) K 1 dX2_keep_112 rfl (by rfl) (by decide) rfl ?_
      refine ax_aload_n K 1 rfl dX2_keep_115 ?_
      refine mg_kept K dX2_keep_116 ?_
      refine ax_iload_n K 0 rfl dX2_keep_119 ?_
      refine ax_aload_n K 1 rfl dX2_keep_120 ?_
      refine mg_share K dX2_keep_121 ?_
      refine ms_kept K h.1 dX2_keep_124 ?_
      replace h := h.2
      refine ax_aload_n K 1 rfl dX2_keep_125 ?_
      refine mg_kept K dX2_keep_126 ?_
      refine ax_iload_n K 0 rfl dX2_keep_129 ?_
      refine ax_iconst (v := (1 : Int32)) K (by decide) dX2_keep_130 ?_
      refine ax_iadd K dX2_keep_131 ?_
      refine ax_aload_n K 1 rfl dX2_keep_132 ?_
      refine mg_times K dX2_keep_133 ?_
      refine ms_kept K h.1 dX2_keep_136 ?_
      replace h := h.2
      refine ax_aload_n K 1 rfl dX2_keep_137 ?_
      refine mg_kept K dX2_keep_138 ?_
      refine ax_iload_n K 0 rfl dX2_keep_141 ?_
      refine ax_iconst (v := (2 : Int32)) K (by decide) dX2_keep_142 ?_
      refine ax_iadd K dX2_keep_143 ?_
      refine ax_aload_n K 1 rfl dX2_keep_144 ?_
      refine mg_heat K dX2_keep_145 ?_
      refine ms_kept K h.1 dX2_keep_148 ?_
      replace h := h.2
      refine ax_iconst (v := (1 : Int32)) K (by decide) dX2_keep_149 ?_
      exact E _ _ _ _ dX2_keep_150 rfl h
    · have h := ax_ie h c84
      refine ax_aload_n K 0 rfl dX2_keep_87 ?_
      refine mg_kept K dX2_keep_88 ?_
      refine ax_iload_n K 1 rfl dX2_keep_91 ?_
      refine ax_bipush (v := (10 : Int32)) K (by decide) dX2_keep_92 ?_
      refine ax_iadd K dX2_keep_94 ?_
      refine ax_iconst (v := (1 : Int32)) K (by decide) dX2_keep_95 ?_
      refine ax_iadd K dX2_keep_96 ?_
      refine ax_iload_n K 2 rfl dX2_keep_97 ?_
      refine ax_iadd K dX2_keep_98 ?_
      refine ax_aload_n K 0 rfl dX2_keep_99 ?_
      refine mg_store K dX2_keep_100 ?_
      refine ax_iload_n K 2 rfl dX2_keep_103 ?_
      refine ml_store K h.1 dX2_keep_104 ?_
      replace h := h.2
      refine ms_kept K h.1 dX2_keep_105 ?_
      replace h := h.2
      refine ax_iinc (lv' := [(3, .int (v3 + (1 : Int32))), (0, .ref (L 0)), (2, .int v2)]) (v := (v3 + (1 : Int32))) K 2 dX2_keep_106 rfl (by rfl) (by decide) rfl ?_
      refine ax_goto (tgt := 81) K dX2_keep_109 (by decide) ?_
      exact ax_sub [1, 2, 0] rfl (ih v2 (v3 + (1 : Int32)) (mU_kept σ (((v2 + (10 : Int32)) + (1 : Int32)) + v3) (mA_store σ (v3).toNatClampNeg)) h)
set_option maxHeartbeats 4000000 in
theorem mm_keep {l : Launch} {G : AG} {L : Nat → Nat} {σ : St} {v1 : Int32} {P : Int32 → St → Prop} (h : wm_keep σ v1 P) : CtW l G yX2_keep cX2_keep 4 (some .boolean) (rmH 2) [.ref (L 0), .int v1] (mW G L) σ (pI P) := by
  refine CtW.ofI (by decide) (Nat.le_of_ble_eq_true rfl) fun Z _ K E => ?_
  unfold wm_keep at h
  show AX Z 0 0 0 [(0, .ref (L 0)), (1, .int v1)] [] (mW G L σ)
  refine ax_aload_n K 0 rfl dX2_keep_0 ?_
  refine ax_iconst (v := (0 : Int32)) K (by decide) dX2_keep_1 ?_
  refine mp_thrown K dX2_keep_2 ?_
  refine ax_iload_n K 1 rfl dX2_keep_5 ?_
  refine ax_iconst (v := (0 : Int32)) K (by decide) dX2_keep_6 ?_
  refine ax_iconst (v := (1 : Int32)) K (by decide) dX2_keep_7 ?_
  refine rm_in K (by decide) dX2_keep_8 (Nat.le_of_ble_eq_true rfl) h (fun r8 h => ?_)
  refine ax_if_ne (tgt := 16) K dX2_keep_11 (by decide) (fun c11 => ?_) (fun c11 => ?_)
  · have h := ax_ie h c11
    refine ax_aload_n K 0 rfl dX2_keep_16 ?_
    refine mg_isKept K dX2_keep_17 ?_
    refine ax_iload_n K 1 rfl dX2_keep_20 ?_
    refine ax_iconst (v := (1 : Int32)) K (by decide) dX2_keep_21 ?_
    refine ms_isKept K h.1 dX2_keep_22 ?_
    replace h := h.2
    refine ax_aload_n K 0 rfl dX2_keep_23 ?_
    refine mg_keptCame K dX2_keep_24 ?_
    refine ax_iload_n K 1 rfl dX2_keep_27 ?_
    refine ax_aload_n K 0 rfl dX2_keep_28 ?_
    refine mg_came K dX2_keep_29 ?_
    refine ms_keptCame K h.1 dX2_keep_32 ?_
    replace h := h.2
    refine ax_bipush (v := (22 : Int32)) K (by decide) dX2_keep_33 ?_
    refine ax_iload_n K 1 rfl dX2_keep_35 ?_
    refine ax_imul K dX2_keep_36 ?_
    refine ax_istore_n (lv' := [(2, .int ((22 : Int32) * v1)), (0, .ref (L 0)), (1, .int v1)]) K dX2_keep_37 (by decide) rfl ?_
    refine ax_iconst (v := (0 : Int32)) K (by decide) dX2_keep_38 ?_
    refine ax_istore_n (lv' := [(3, .int (0 : Int32)), (2, .int ((22 : Int32) * v1)), (0, .ref (L 0)), (1, .int v1)]) K dX2_keep_39 (by decide) rfl ?_
    exact ax_sub [2, 1, 0] rfl (h.elim fun n40 h => km_keep_l40 K E (fun v2 v3 σ h => h.elim fun n81 h => km_keep_l81 K E  n81 v2 v3 σ h) n40 ((22 : Int32) * v1) (0 : Int32) (mU_keptCame (mU_isKept (mS_thrown σ (0 : Int32)) v1 (vp_nar .boolean (1 : Int32))) v1 (mI_came (mU_isKept (mS_thrown σ (0 : Int32)) v1 (vp_nar .boolean (1 : Int32))))) h)
  · have h := ax_it h c11
    refine ax_iconst (v := (0 : Int32)) K (by decide) dX2_keep_14 ?_
    exact E _ _ _ _ dX2_keep_15 rfl h

/-! m.letter -/
set_option maxHeartbeats 4000000 in
theorem km_letter_j147 {Z : AZ} {G : AG} {L : Nat → Nat} {P : Int32 → St → Prop} (K : AK Z G cX2_letter RX2 3 (rmH 2)) (E : AEi Z cX2_letter .int (mW G L) 0 0 P) (s0 : Int32) (σ : St) (h : wm_letter_j147 P  s0 σ) : AX Z 0 0 147 [(0, .ref (L 0))] [.int s0] (mW G L σ) := by
  unfold wm_letter_j147 at h
  exact E _ _ _ _ dX2_letter_147 rfl h
set_option maxHeartbeats 4000000 in
theorem km_letter_j160 {Z : AZ} {G : AG} {L : Nat → Nat} {P : Int32 → St → Prop} (K : AK Z G cX2_letter RX2 3 (rmH 2)) (E : AEi Z cX2_letter .int (mW G L) 0 0 P) (v2 : Int32) (σ : St) (h : wm_letter_j160 P  v2 σ) : AX Z 0 0 160 [(0, .ref (L 0)), (2, .int v2)] [] (mW G L σ) := by
  unfold wm_letter_j160 at h
  refine ax_iload_n K 1 rfl dX2_letter_160 ?_
  exact E _ _ _ _ dX2_letter_161 rfl h
set_option maxHeartbeats 4000000 in
theorem mm_letter {l : Launch} {G : AG} {L : Nat → Nat} {σ : St} {v1 : Int32} {P : Int32 → St → Prop} (h : wm_letter σ v1 P) : CtW l G yX2_letter cX2_letter 3 (some .int) (rmH 2) [.ref (L 0), .int v1] (mW G L) σ (pI P) := by
  refine CtW.ofI (by decide) (Nat.le_of_ble_eq_true rfl) fun Z _ K E => ?_
  unfold wm_letter at h
  show AX Z 0 0 0 [(0, .ref (L 0)), (1, .int v1)] [] (mW G L σ)
  refine ax_aload_n K 0 rfl dX2_letter_0 ?_
  refine mg_askedDish K dX2_letter_1 ?_
  refine ax_istore_n (lv' := [(2, .int (mI_askedDish σ)), (0, .ref (L 0)), (1, .int v1)]) K dX2_letter_4 (by decide) rfl ?_
  refine ax_iload_n K 2 rfl dX2_letter_5 ?_
  by_cases c6_98 : v1 = (98 : Int32)
  · have h := ax_it h c6_98
    refine ax_tableIn (tgt := 96) K dX2_letter_6 (by rw [c6_98]; decide) (by rw [c6_98]; decide) (by rw [c6_98]; rfl) (by decide) ?_
    refine ax_aload_n K 1 rfl dX2_letter_96 ?_
    refine mg_stuffs K dX2_letter_97 ?_
    refine ax_iload_n K 0 rfl dX2_letter_100 ?_
    refine ml_stuffs K h.1 dX2_letter_101 ?_
    replace h := h.2
    refine ax_aload_n K 1 rfl dX2_letter_102 ?_
    refine mg_bars K dX2_letter_103 ?_
    refine ax_aload_n K 1 rfl dX2_letter_106 ?_
    refine mg_askedGuest K dX2_letter_107 ?_
    refine ml_bars K h.1 dX2_letter_110 ?_
    replace h := h.2
    refine ax_iand K dX2_letter_111 ?_
    refine rm_bitCount K (by decide) dX2_letter_112 (Nat.le_of_ble_eq_true rfl) ?_
    exact E _ _ _ _ dX2_letter_115 rfl h
  · have h := ax_ie h c6_98
    by_cases c6_99 : v1 = (99 : Int32)
    · have h := ax_it h c6_99
      refine ax_tableIn (tgt := 126) K dX2_letter_6 (by rw [c6_99]; decide) (by rw [c6_99]; decide) (by rw [c6_99]; rfl) (by decide) ?_
      refine ax_aload_n K 1 rfl dX2_letter_126 ?_
      refine mg_cost K dX2_letter_127 ?_
      refine ax_iload_n K 0 rfl dX2_letter_130 ?_
      refine ml_cost K h.1 dX2_letter_131 ?_
      replace h := h.2
      exact E _ _ _ _ dX2_letter_132 rfl h
    · have h := ax_ie h c6_99
      by_cases c6_100 : v1 = (100 : Int32)
      · have h := ax_it h c6_100
        refine ax_tableIn (tgt := 160) K dX2_letter_6 (by rw [c6_100]; decide) (by rw [c6_100]; decide) (by rw [c6_100]; rfl) (by decide) ?_
        exact ax_sub [1, 0] rfl (km_letter_j160 K E  (mI_askedDish σ) σ h)
      · have h := ax_ie h c6_100
        by_cases c6_101 : v1 = (101 : Int32)
        · have h := ax_it h c6_101
          refine ax_tableIn (tgt := 160) K dX2_letter_6 (by rw [c6_101]; decide) (by rw [c6_101]; decide) (by rw [c6_101]; rfl) (by decide) ?_
          exact ax_sub [1, 0] rfl (km_letter_j160 K E  (mI_askedDish σ) σ h)
        · have h := ax_ie h c6_101
          by_cases c6_102 : v1 = (102 : Int32)
          · have h := ax_it h c6_102
            refine ax_tableIn (tgt := 160) K dX2_letter_6 (by rw [c6_102]; decide) (by rw [c6_102]; decide) (by rw [c6_102]; rfl) (by decide) ?_
            exact ax_sub [1, 0] rfl (km_letter_j160 K E  (mI_askedDish σ) σ h)
          · have h := ax_ie h c6_102
            by_cases c6_103 : v1 = (103 : Int32)
            · have h := ax_it h c6_103
              refine ax_tableIn (tgt := 155) K dX2_letter_6 (by rw [c6_103]; decide) (by rw [c6_103]; decide) (by rw [c6_103]; rfl) (by decide) ?_
              refine ax_aload_n K 1 rfl dX2_letter_155 ?_
              refine mg_askedGuest K dX2_letter_156 ?_
              exact E _ _ _ _ dX2_letter_159 rfl h
            · have h := ax_ie h c6_103
              by_cases c6_104 : v1 = (104 : Int32)
              · have h := ax_it h c6_104
                refine ax_tableIn (tgt := 133) K dX2_letter_6 (by rw [c6_104]; decide) (by rw [c6_104]; decide) (by rw [c6_104]; rfl) (by decide) ?_
                refine ax_aload_n K 1 rfl dX2_letter_133 ?_
                refine mg_isHot K dX2_letter_134 ?_
                refine ax_iload_n K 0 rfl dX2_letter_137 ?_
                refine ml_isHot K h.1 dX2_letter_138 ?_
                replace h := h.2
                refine ax_if_eq (tgt := 146) K dX2_letter_139 (by decide) (fun c139 => ?_) (fun c139 => ?_)
                · have h := ax_it h c139
                  refine ax_iconst (v := (0 : Int32)) K (by decide) dX2_letter_146 ?_
                  exact ax_sub [1] rfl (km_letter_j147 K E  (0 : Int32) σ h)
                · have h := ax_ie h c139
                  refine ax_iconst (v := (1 : Int32)) K (by decide) dX2_letter_142 ?_
                  refine ax_goto (tgt := 147) K dX2_letter_143 (by decide) ?_
                  exact ax_sub [1] rfl (km_letter_j147 K E  (1 : Int32) σ h)
              · have h := ax_ie h c6_104
                by_cases c6_105 : v1 = (105 : Int32)
                · have h := ax_it h c6_105
                  refine ax_tableIn (tgt := 160) K dX2_letter_6 (by rw [c6_105]; decide) (by rw [c6_105]; decide) (by rw [c6_105]; rfl) (by decide) ?_
                  exact ax_sub [1, 0] rfl (km_letter_j160 K E  (mI_askedDish σ) σ h)
                · have h := ax_ie h c6_105
                  by_cases c6_106 : v1 = (106 : Int32)
                  · have h := ax_it h c6_106
                    refine ax_tableIn (tgt := 160) K dX2_letter_6 (by rw [c6_106]; decide) (by rw [c6_106]; decide) (by rw [c6_106]; rfl) (by decide) ?_
                    exact ax_sub [1, 0] rfl (km_letter_j160 K E  (mI_askedDish σ) σ h)
                  · have h := ax_ie h c6_106
                    by_cases c6_107 : v1 = (107 : Int32)
                    · have h := ax_it h c6_107
                      refine ax_tableIn (tgt := 160) K dX2_letter_6 (by rw [c6_107]; decide) (by rw [c6_107]; decide) (by rw [c6_107]; rfl) (by decide) ?_
                      exact ax_sub [1, 0] rfl (km_letter_j160 K E  (mI_askedDish σ) σ h)
                    · have h := ax_ie h c6_107
                      by_cases c6_108 : v1 = (108 : Int32)
                      · have h := ax_it h c6_108
                        refine ax_tableIn (tgt := 76) K dX2_letter_6 (by rw [c6_108]; decide) (by rw [c6_108]; decide) (by rw [c6_108]; rfl) (by decide) ?_
                        refine ax_aload_n K 1 rfl dX2_letter_76 ?_
                        refine mg_stuffs K dX2_letter_77 ?_
                        refine ax_iload_n K 0 rfl dX2_letter_80 ?_
                        refine ml_stuffs K h.1 dX2_letter_81 ?_
                        replace h := h.2
                        refine ax_aload_n K 1 rfl dX2_letter_82 ?_
                        refine mg_loves K dX2_letter_83 ?_
                        refine ax_aload_n K 1 rfl dX2_letter_86 ?_
                        refine mg_askedGuest K dX2_letter_87 ?_
                        refine ml_loves K h.1 dX2_letter_90 ?_
                        replace h := h.2
                        refine ax_iand K dX2_letter_91 ?_
                        refine rm_bitCount K (by decide) dX2_letter_92 (Nat.le_of_ble_eq_true rfl) ?_
                        exact E _ _ _ _ dX2_letter_95 rfl h
                      · have h := ax_ie h c6_108
                        by_cases c6_109 : v1 = (109 : Int32)
                        · have h := ax_it h c6_109
                          refine ax_tableIn (tgt := 160) K dX2_letter_6 (by rw [c6_109]; decide) (by rw [c6_109]; decide) (by rw [c6_109]; rfl) (by decide) ?_
                          exact ax_sub [1, 0] rfl (km_letter_j160 K E  (mI_askedDish σ) σ h)
                        · have h := ax_ie h c6_109
                          by_cases c6_110 : v1 = (110 : Int32)
                          · have h := ax_it h c6_110
                            refine ax_tableIn (tgt := 116) K dX2_letter_6 (by rw [c6_110]; decide) (by rw [c6_110]; decide) (by rw [c6_110]; rfl) (by decide) ?_
                            refine ax_aload_n K 1 rfl dX2_letter_116 ?_
                            refine mg_stuffs K dX2_letter_117 ?_
                            refine ax_iload_n K 0 rfl dX2_letter_120 ?_
                            refine ml_stuffs K h.1 dX2_letter_121 ?_
                            replace h := h.2
                            refine rm_bitCount K (by decide) dX2_letter_122 (Nat.le_of_ble_eq_true rfl) ?_
                            exact E _ _ _ _ dX2_letter_125 rfl h
                          · have h := ax_ie h c6_110
                            by_cases c6_111 : v1 = (111 : Int32)
                            · have h := ax_it h c6_111
                              refine ax_tableIn (tgt := 148) K dX2_letter_6 (by rw [c6_111]; decide) (by rw [c6_111]; decide) (by rw [c6_111]; rfl) (by decide) ?_
                              refine ax_aload_n K 1 rfl dX2_letter_148 ?_
                              refine mg_hours K dX2_letter_149 ?_
                              refine ax_iload_n K 0 rfl dX2_letter_152 ?_
                              refine ml_hours K h.1 dX2_letter_153 ?_
                              replace h := h.2
                              exact E _ _ _ _ dX2_letter_154 rfl h
                            · have h := ax_ie h c6_111
                              refine ax_tableOut (tgt := 160) K dX2_letter_6 (by have q98 := lv_neT c6_98 (by decide : (98 : Int32).toInt = 98); have q99 := lv_neT c6_99 (by decide : (99 : Int32).toInt = 99); have q100 := lv_neT c6_100 (by decide : (100 : Int32).toInt = 100); have q101 := lv_neT c6_101 (by decide : (101 : Int32).toInt = 101); have q102 := lv_neT c6_102 (by decide : (102 : Int32).toInt = 102); have q103 := lv_neT c6_103 (by decide : (103 : Int32).toInt = 103); have q104 := lv_neT c6_104 (by decide : (104 : Int32).toInt = 104); have q105 := lv_neT c6_105 (by decide : (105 : Int32).toInt = 105); have q106 := lv_neT c6_106 (by decide : (106 : Int32).toInt = 106); have q107 := lv_neT c6_107 (by decide : (107 : Int32).toInt = 107); have q108 := lv_neT c6_108 (by decide : (108 : Int32).toInt = 108); have q109 := lv_neT c6_109 (by decide : (109 : Int32).toInt = 109); have q110 := lv_neT c6_110 (by decide : (110 : Int32).toInt = 110); have q111 := lv_neT c6_111 (by decide : (111 : Int32).toInt = 111); omega) (by decide) ?_
                              exact ax_sub [1, 0] rfl (km_letter_j160 K E  (mI_askedDish σ) σ h)
theorem rm_letter {Z : AZ} {G : AG} {cc : ByteArray} {mL hh pc : Nat} {lv : List (Nat × Value)} {rest : List Value} {L : Nat → Nat} {σ : St} (K : AK Z G cc RX2 mL (rmH hh)) (hlt : 2 < hh) (d : decode cc pc = .ok (.invokevirtual 190, 3)) (hrest : (rest.map fun v => v.category).sum ≤ 8) {v1 : Int32} {P : Int32 → St → Prop} (h : sm_letter σ v1 P) (kk : ∀ (r : Int32) (σ' : St), P r σ' → AX Z 0 0 (pc + 3) lv (.int r :: rest) (mW G L σ')) : AX Z 0 0 pc lv (.int v1 :: .ref (L 0) :: rest) (mW G L σ) :=
  ax_callV (N0 := 1) (As := [.int v1]) K (mm_letter (sm_letter_ok h)) q1250 q1252 qs72 q118 q1253 ⟨rfl, by decide, by decide, by decide⟩ rfl ⟨by show 2 + 1 + 1 ≤ hh + 1; omega, by show 8 + (3 + 11) + 60 * (2 + 1) ≤ 60 * (hh + 1); omega⟩ ⟨Nat.zero_le _, Nat.zero_le _⟩ rfl rfl rfl hrest d (fun r σ' hp => by obtain ⟨v, rfl, hp⟩ := hp; exact kk v σ' hp)
/-! m.menuAt -/
set_option maxHeartbeats 4000000 in
theorem mm_menuAt {l : Launch} {G : AG} {L : Nat → Nat} {σ : St} {v1 : Int32} {v2 : Int32} {P : Int32 → St → Prop} (h : wm_menuAt σ v1 v2 P) : CtW l G yX2_menuAt cX2_menuAt 3 (some .int) (rmH 2) [.ref (L 0), .int v1, .int v2] (mW G L) σ (pI P) := by
  refine CtW.ofI (by decide) (Nat.le_of_ble_eq_true rfl) fun Z _ K E => ?_
  unfold wm_menuAt at h
  show AX Z 0 0 0 [(0, .ref (L 0)), (1, .int v1), (2, .int v2)] [] (mW G L σ)
  refine ax_aload_n K 0 rfl dX2_menuAt_0 ?_
  refine mg_menus K dX2_menuAt_1 ?_
  refine ax_bipush (v := (10 : Int32)) K (by decide) dX2_menuAt_4 ?_
  refine ax_iload_n K 1 rfl dX2_menuAt_6 ?_
  refine ax_imul K dX2_menuAt_7 ?_
  refine ax_iload_n K 2 rfl dX2_menuAt_8 ?_
  refine rm_bitCount K (by decide) dX2_menuAt_9 (Nat.le_of_ble_eq_true rfl) ?_
  refine ax_iadd K dX2_menuAt_12 ?_
  refine ml_menus K h.1 dX2_menuAt_13 ?_
  replace h := h.2
  exact E _ _ _ _ dX2_menuAt_14 rfl h
theorem rm_menuAt {Z : AZ} {G : AG} {cc : ByteArray} {mL hh pc : Nat} {lv : List (Nat × Value)} {rest : List Value} {L : Nat → Nat} {σ : St} (K : AK Z G cc RX2 mL (rmH hh)) (hlt : 2 < hh) (d : decode cc pc = .ok (.invokevirtual 375, 3)) (hrest : (rest.map fun v => v.category).sum ≤ 8) {v1 : Int32} {v2 : Int32} {P : Int32 → St → Prop} (h : sm_menuAt σ v1 v2 P) (kk : ∀ (r : Int32) (σ' : St), P r σ' → AX Z 0 0 (pc + 3) lv (.int r :: rest) (mW G L σ')) : AX Z 0 0 pc lv (.int v2 :: .int v1 :: .ref (L 0) :: rest) (mW G L σ) :=
  ax_callV (N0 := 2) (As := [.int v1, .int v2]) K (mm_menuAt (sm_menuAt_ok h)) q1555 q1557 qs110 q118 q1558 ⟨rfl, by decide, by decide, by decide⟩ rfl ⟨by show 2 + 1 + 1 ≤ hh + 1; omega, by show 8 + (3 + 11) + 60 * (2 + 1) ≤ 60 * (hh + 1); omega⟩ ⟨Nat.zero_le _, Nat.zero_le _⟩ rfl rfl rfl hrest d (fun r σ' hp => by obtain ⟨v, rfl, hp⟩ := hp; exact kk v σ' hp)
/-! m.over -/
set_option maxHeartbeats 4000000 in
theorem km_over_j58 {Z : AZ} {G : AG} {L : Nat → Nat} {P : Int32 → St → Prop} (K : AK Z G cX2_over RX2 3 (rmH 2)) (E : AEi Z cX2_over .int (mW G L) 0 0 P) {K17 : Int32 → Int32 → St → Prop} (hK17 : ∀ (v1 : Int32) (v2 : Int32) (σ : St), K17 v1 v2 σ → AX Z 0 0 17 [(0, .ref (L 0)), (1, .int v1), (2, .int v2)] [] (mW G L σ)) (v1 : Int32) (v2 : Int32) (s1 : Int32) (s2 : Int32) (s3 : Int32) (s4 : Int32) (σ : St) (h : wm_over_j58 P K17 v1 v2 s1 s2 s3 s4 σ) : AX Z 0 0 58 [(0, .ref (L 0)), (1, .int v1), (2, .int v2)] [.int s4, .int s3, .int s2, .int s1, .ref (L 1)] (mW G L σ) := by
  unfold wm_over_j58 at h
  refine ax_isub K dX2_over_58 ?_
  refine rm_max K (by decide) (Nat.le_of_ble_eq_true rfl) dX2_over_59 ?_
  refine ms_store K h.1 dX2_over_62 ?_
  replace h := h.2
  refine ax_iinc (lv' := [(2, .int (v2 + (1 : Int32))), (0, .ref (L 0)), (1, .int v1)]) (v := (v2 + (1 : Int32))) K 2 dX2_over_63 rfl (by rfl) (by decide) rfl ?_
  refine ax_goto (tgt := 17) K dX2_over_66 (by decide) ?_
  exact ax_sub [1, 2, 0] rfl (hK17 v1 (v2 + (1 : Int32)) (mU_store σ s1 (jmax s2 (s3 - s4))) h)
set_option maxHeartbeats 4000000 in
theorem km_over_l17 {Z : AZ} {G : AG} {L : Nat → Nat} {P : Int32 → St → Prop} (K : AK Z G cX2_over RX2 3 (rmH 2)) (E : AEi Z cX2_over .int (mW G L) 0 0 P) {K7 : Int32 → St → Prop} (hK7 : ∀ (v1 : Int32) (σ : St), K7 v1 σ → AX Z 0 0 7 [(0, .ref (L 0)), (1, .int v1)] [] (mW G L σ)) : ∀ (n : Nat) (v1 : Int32) (v2 : Int32) (σ : St), wm_over_l17 P K7 n v1 v2 σ → AX Z 0 0 17 [(0, .ref (L 0)), (1, .int v1), (2, .int v2)] [] (mW G L σ) := by
  intro n
  induction n with
  | zero => intro v1 v2 σ h; exact False.elim h
  | succ n ih =>
    intro v1 v2 σ h
    rw [wm_over_l17_s] at h
    refine ax_iload_n K 2 rfl dX2_over_17 ?_
    refine ax_bipush (v := (8 : Int32)) K (by decide) dX2_over_18 ?_
    refine ax_icmp_ge (tgt := 69) K dX2_over_20 (by decide) (fun c20 => ?_) (fun c20 => ?_)
    · have h := ax_it h c20
      refine ax_iinc (lv' := [(1, .int (v1 + (1 : Int32))), (0, .ref (L 0)), (2, .int v2)]) (v := (v1 + (1 : Int32))) K 1 dX2_over_69 rfl (by rfl) (by decide) rfl ?_
      refine ax_goto (tgt := 7) K dX2_over_72 (by decide) ?_
      exact ax_sub [1, 0] rfl (hK7 (v1 + (1 : Int32)) σ h)
    · have h := ax_ie h c20
      refine ax_aload_n K 0 rfl dX2_over_23 ?_
      refine mg_store K dX2_over_24 ?_
      refine ax_iload_n K 2 rfl dX2_over_27 ?_
      refine ax_iconst (v := (0 : Int32)) K (by decide) dX2_over_28 ?_
      refine ax_aload_n K 0 rfl dX2_over_29 ?_
      refine mg_store K dX2_over_30 ?_
      refine ax_iload_n K 2 rfl dX2_over_33 ?_
      refine ml_store K h.1 dX2_over_34 ?_
      replace h := h.2
      refine ax_aload_n K 0 rfl dX2_over_35 ?_
      refine mg_stuffs K dX2_over_36 ?_
      refine ax_aload_n K 0 rfl dX2_over_39 ?_
      refine mg_served K dX2_over_40 ?_
      refine ax_iload_n K 1 rfl dX2_over_43 ?_
      refine ml_served K h.1 dX2_over_44 ?_
      replace h := h.2
      refine ml_stuffs K h.1 dX2_over_45 ?_
      replace h := h.2
      refine ax_iload_n K 2 rfl dX2_over_46 ?_
      refine rm_has K (by decide) dX2_over_47 (Nat.le_of_ble_eq_true rfl) h (fun r47 h => ?_)
      refine ax_if_eq (tgt := 57) K dX2_over_50 (by decide) (fun c50 => ?_) (fun c50 => ?_)
      · have h := ax_it h c50
        refine ax_iconst (v := (0 : Int32)) K (by decide) dX2_over_57 ?_
        exact ax_sub [0, 1, 2] rfl (km_over_j58 K E ih v1 v2 v2 (0 : Int32) (mA_store σ (v2).toNatClampNeg) (0 : Int32) σ h)
      · have h := ax_ie h c50
        refine ax_iconst (v := (1 : Int32)) K (by decide) dX2_over_53 ?_
        refine ax_goto (tgt := 58) K dX2_over_54 (by decide) ?_
        exact ax_sub [0, 1, 2] rfl (km_over_j58 K E ih v1 v2 v2 (0 : Int32) (mA_store σ (v2).toNatClampNeg) (1 : Int32) σ h)
set_option maxHeartbeats 4000000 in
theorem km_over_l7 {Z : AZ} {G : AG} {L : Nat → Nat} {P : Int32 → St → Prop} (K : AK Z G cX2_over RX2 3 (rmH 2)) (E : AEi Z cX2_over .int (mW G L) 0 0 P) : ∀ (n : Nat) (v1 : Int32) (σ : St), wm_over_l7 P  n v1 σ → AX Z 0 0 7 [(0, .ref (L 0)), (1, .int v1)] [] (mW G L σ) := by
  intro n
  induction n with
  | zero => intro v1 σ h; exact False.elim h
  | succ n ih =>
    intro v1 σ h
    rw [wm_over_l7_s] at h
    refine ax_iload_n K 1 rfl dX2_over_7 ?_
    refine ax_aload_n K 0 rfl dX2_over_8 ?_
    refine mg_servedMany K dX2_over_9 ?_
    refine ax_icmp_ge (tgt := 75) K dX2_over_12 (by decide) (fun c12 => ?_) (fun c12 => ?_)
    · have h := ax_it h c12
      refine ax_aload_n K 0 rfl dX2_over_75 ?_
      refine mg_servedMany K dX2_over_76 ?_
      refine ax_istore_n (lv' := [(1, .int (mI_servedMany σ)), (0, .ref (L 0))]) K dX2_over_79 (by decide) rfl ?_
      refine ax_aload_n K 1 rfl dX2_over_80 ?_
      refine ax_iconst (v := (0 : Int32)) K (by decide) dX2_over_81 ?_
      refine mp_servedMany K dX2_over_82 ?_
      refine ax_iload_n K 0 rfl dX2_over_85 ?_
      exact E _ _ _ _ dX2_over_86 rfl h
    · have h := ax_ie h c12
      refine ax_iconst (v := (0 : Int32)) K (by decide) dX2_over_15 ?_
      refine ax_istore_n (lv' := [(2, .int (0 : Int32)), (0, .ref (L 0)), (1, .int v1)]) K dX2_over_16 (by decide) rfl ?_
      exact ax_sub [1, 2, 0] rfl (h.elim fun n17 h => km_over_l17 K E ih n17 v1 (0 : Int32) σ h)
set_option maxHeartbeats 4000000 in
theorem mm_over {l : Launch} {G : AG} {L : Nat → Nat} {σ : St} {P : Int32 → St → Prop} (h : wm_over σ P) : CtW l G yX2_over cX2_over 3 (some .int) (rmH 2) [.ref (L 0)] (mW G L) σ (pI P) := by
  refine CtW.ofI (by decide) (Nat.le_of_ble_eq_true rfl) fun Z _ K E => ?_
  unfold wm_over at h
  show AX Z 0 0 0 [(0, .ref (L 0))] [] (mW G L σ)
  refine ax_aload_n K 0 rfl dX2_over_0 ?_
  refine ax_iconst (v := (0 : Int32)) K (by decide) dX2_over_1 ?_
  refine mp_thrown K dX2_over_2 ?_
  refine ax_iconst (v := (0 : Int32)) K (by decide) dX2_over_5 ?_
  refine ax_istore_n (lv' := [(1, .int (0 : Int32)), (0, .ref (L 0))]) K dX2_over_6 (by decide) rfl ?_
  exact ax_sub [1, 0] rfl (h.elim fun n7 h => km_over_l7 K E  n7 (0 : Int32) (mS_thrown σ (0 : Int32)) h)

/-! m.passes -/
set_option maxHeartbeats 4000000 in
theorem mm_passes {l : Launch} {G : AG} {L : Nat → Nat} {σ : St} {v1 : Int32} {P : Int32 → St → Prop} (h : wm_passes σ v1 P) : CtW l G yX2_passes cX2_passes 2 (some .boolean) (rmH 2) [.ref (L 0), .int v1] (mW G L) σ (pI P) := by
  refine CtW.ofI (by decide) (Nat.le_of_ble_eq_true rfl) fun Z _ K E => ?_
  unfold wm_passes at h
  show AX Z 0 0 0 [(0, .ref (L 0)), (1, .int v1)] [] (mW G L σ)
  refine ax_aload_n K 0 rfl dX2_passes_0 ?_
  refine rm_fine K (by decide) dX2_passes_1 (Nat.le_of_ble_eq_true rfl) h (fun r1 σ1 h => ?_)
  refine ax_if_eq (tgt := 15) K dX2_passes_4 (by decide) (fun c4 => ?_) (fun c4 => ?_)
  · have h := ax_it h c4
    refine ax_iconst (v := (0 : Int32)) K (by decide) dX2_passes_15 ?_
    exact E _ _ _ _ dX2_passes_16 rfl h
  · have h := ax_ie h c4
    refine ax_aload_n K 0 rfl dX2_passes_7 ?_
    refine rm_here K (by decide) dX2_passes_8 (Nat.le_of_ble_eq_true rfl) h (fun r8 σ8 h => ?_)
    refine ax_iload_n K 1 rfl dX2_passes_11 ?_
    refine ax_icmp_eq (tgt := 17) K dX2_passes_12 (by decide) (fun c12 => ?_) (fun c12 => ?_)
    · have h := ax_it h c12
      refine ax_aload_n K 0 rfl dX2_passes_17 ?_
      refine ax_dup K rfl dX2_passes_18 ?_
      refine mg_at K dX2_passes_19 ?_
      refine ax_iconst (v := (1 : Int32)) K (by decide) dX2_passes_22 ?_
      refine ax_iadd K dX2_passes_23 ?_
      refine mp_at K dX2_passes_24 ?_
      refine ax_iconst (v := (1 : Int32)) K (by decide) dX2_passes_27 ?_
      exact E _ _ _ _ dX2_passes_28 rfl h
    · have h := ax_ie h c12
      refine ax_iconst (v := (0 : Int32)) K (by decide) dX2_passes_15 ?_
      exact E _ _ _ _ dX2_passes_16 rfl h
theorem rm_passes {Z : AZ} {G : AG} {cc : ByteArray} {mL hh pc : Nat} {lv : List (Nat × Value)} {rest : List Value} {L : Nat → Nat} {σ : St} (K : AK Z G cc RX2 mL (rmH hh)) (hlt : 2 < hh) (d : decode cc pc = .ok (.invokevirtual 171, 3)) (hrest : (rest.map fun v => v.category).sum ≤ 8) {v1 : Int32} {P : Int32 → St → Prop} (h : sm_passes σ v1 P) (kk : ∀ (r : Int32) (σ' : St), P r σ' → AX Z 0 0 (pc + 3) lv (.int r :: rest) (mW G L σ')) : AX Z 0 0 pc lv (.int v1 :: .ref (L 0) :: rest) (mW G L σ) :=
  ax_callV (N0 := 1) (As := [.int v1]) K (mm_passes (sm_passes_ok h)) q1222 q1224 qs66 q118 q1225 ⟨rfl, by decide, by decide, by decide⟩ rfl ⟨by show 2 + 1 + 1 ≤ hh + 1; omega, by show 8 + (2 + 11) + 60 * (2 + 1) ≤ 60 * (hh + 1); omega⟩ ⟨Nat.zero_le _, Nat.zero_le _⟩ rfl rfl rfl hrest d (fun r σ' hp => by obtain ⟨v, rfl, hp⟩ := hp; exact kk v σ' hp)
/-! m.rare -/
set_option maxHeartbeats 4000000 in
theorem km_rare_j66 {Z : AZ} {G : AG} {L : Nat → Nat} {P : Int32 → St → Prop} (K : AK Z G cX2_rare RX2 6 (rmH 2)) (E : AEi Z cX2_rare .int (mW G L) 0 0 P) {K33 : Int32 → Int32 → Int32 → Int32 → Int32 → St → Prop} (hK33 : ∀ (v1 : Int32) (v2 : Int32) (v3 : Int32) (v4 : Int32) (v5 : Int32) (σ : St), K33 v1 v2 v3 v4 v5 σ → AX Z 0 0 33 [(0, .ref (L 0)), (1, .int v1), (2, .int v2), (3, .int v3), (4, .int v4), (5, .int v5)] [] (mW G L σ)) (v1 : Int32) (v2 : Int32) (v3 : Int32) (v5 : Int32) (s0 : Int32) (s1 : Int32) (σ : St) (h : wm_rare_j66 P K33 v1 v2 v3 v5 s0 s1 σ) : AX Z 0 0 66 [(0, .ref (L 0)), (1, .int v1), (2, .int v2), (3, .int v3), (5, .int v5)] [.int s1, .int s0] (mW G L σ) := by
  unfold wm_rare_j66 at h
  refine ax_ior K dX2_rare_66 ?_
  refine ax_istore (lv' := [(4, .int (s0 ||| s1)), (0, .ref (L 0)), (1, .int v1), (2, .int v2), (3, .int v3), (5, .int v5)]) K dX2_rare_67 (by decide) rfl ?_
  refine ax_iinc (lv' := [(5, .int (v5 + (1 : Int32))), (4, .int (s0 ||| s1)), (0, .ref (L 0)), (1, .int v1), (2, .int v2), (3, .int v3)]) (v := (v5 + (1 : Int32))) K 5 dX2_rare_69 rfl (by rfl) (by decide) rfl ?_
  refine ax_goto (tgt := 33) K dX2_rare_72 (by decide) ?_
  exact ax_sub [2, 3, 4, 5, 1, 0] rfl (hK33 v1 v2 v3 (s0 ||| s1) (v5 + (1 : Int32)) σ h)
set_option maxHeartbeats 4000000 in
theorem km_rare_l33 {Z : AZ} {G : AG} {L : Nat → Nat} {P : Int32 → St → Prop} (K : AK Z G cX2_rare RX2 6 (rmH 2)) (E : AEi Z cX2_rare .int (mW G L) 0 0 P) {K100 : Int32 → Int32 → St → Prop} (hK100 : ∀ (v3 : Int32) (v4 : Int32) (σ : St), K100 v3 v4 σ → AX Z 0 0 100 [(0, .ref (L 0)), (3, .int v3), (4, .int v4)] [] (mW G L σ)) {K105 : Int32 → Int32 → Int32 → St → Prop} (hK105 : ∀ (v1 : Int32) (v2 : Int32) (v3 : Int32) (σ : St), K105 v1 v2 v3 σ → AX Z 0 0 105 [(0, .ref (L 0)), (1, .int v1), (2, .int v2), (3, .int v3)] [] (mW G L σ)) : ∀ (n : Nat) (v1 : Int32) (v2 : Int32) (v3 : Int32) (v4 : Int32) (v5 : Int32) (σ : St), wm_rare_l33 P K100 K105 n v1 v2 v3 v4 v5 σ → AX Z 0 0 33 [(0, .ref (L 0)), (1, .int v1), (2, .int v2), (3, .int v3), (4, .int v4), (5, .int v5)] [] (mW G L σ) := by
  intro n
  induction n with
  | zero => intro v1 v2 v3 v4 v5 σ h; exact False.elim h
  | succ n ih =>
    intro v1 v2 v3 v4 v5 σ h
    rw [wm_rare_l33_s] at h
    refine ax_iload K 5 rfl dX2_rare_33 ?_
    refine ax_aload_n K 0 rfl dX2_rare_35 ?_
    refine mg_dishes K dX2_rare_36 ?_
    refine ax_icmp_ge (tgt := 75) K dX2_rare_39 (by decide) (fun c39 => ?_) (fun c39 => ?_)
    · have h := ax_it h c39
      refine ax_iload K 4 rfl dX2_rare_75 ?_
      refine ax_if_eq (tgt := 105) K dX2_rare_77 (by decide) (fun c77 => ?_) (fun c77 => ?_)
      · have h := ax_it h c77
        exact ax_sub [0, 1, 2, 3] rfl (hK105 v1 v2 v3 σ h)
      · have h := ax_ie h c77
        refine ax_iload_n K 1 rfl dX2_rare_80 ?_
        refine ax_iconst (v := (-1 : Int32)) K (by decide) dX2_rare_81 ?_
        refine ax_icmp_eq (tgt := 100) K dX2_rare_82 (by decide) (fun c82 => ?_) (fun c82 => ?_)
        · have h := ax_it h c82
          exact ax_sub [0, 3, 4] rfl (hK100 v3 v4 σ h)
        · have h := ax_ie h c82
          refine ax_iload K 4 rfl dX2_rare_85 ?_
          refine rm_bitCount K (by decide) dX2_rare_87 (Nat.le_of_ble_eq_true rfl) ?_
          refine ax_iload_n K 2 rfl dX2_rare_90 ?_
          refine rm_bitCount K (by decide) dX2_rare_91 (Nat.le_of_ble_eq_true rfl) ?_
          refine ax_icmp_lt (tgt := 100) K dX2_rare_94 (by decide) (fun c94 => ?_) (fun c94 => ?_)
          · have h := ax_it h c94
            exact ax_sub [0, 3, 4] rfl (hK100 v3 v4 σ h)
          · have h := ax_ie h c94
            refine ax_goto (tgt := 105) K dX2_rare_97 (by decide) ?_
            exact ax_sub [0, 1, 2, 3] rfl (hK105 v1 v2 v3 σ h)
    · have h := ax_ie h c39
      refine ax_iload K 4 rfl dX2_rare_42 ?_
      refine ax_aload_n K 0 rfl dX2_rare_44 ?_
      refine mg_stuffs K dX2_rare_45 ?_
      refine ax_iload K 5 rfl dX2_rare_48 ?_
      refine ml_stuffs K h.1 dX2_rare_50 ?_
      replace h := h.2
      refine ax_iload_n K 3 rfl dX2_rare_51 ?_
      refine rm_has K (by decide) dX2_rare_52 (Nat.le_of_ble_eq_true rfl) h (fun r52 h => ?_)
      refine ax_if_eq (tgt := 65) K dX2_rare_55 (by decide) (fun c55 => ?_) (fun c55 => ?_)
      · have h := ax_it h c55
        refine ax_iconst (v := (0 : Int32)) K (by decide) dX2_rare_65 ?_
        exact ax_sub [0, 1, 2, 3, 5] rfl (km_rare_j66 K E ih v1 v2 v3 v5 v4 (0 : Int32) σ h)
      · have h := ax_ie h c55
        refine ax_iconst (v := (1 : Int32)) K (by decide) dX2_rare_58 ?_
        refine ax_iload K 5 rfl dX2_rare_59 ?_
        refine ax_ishl K dX2_rare_61 ?_
        refine ax_goto (tgt := 66) K dX2_rare_62 (by decide) ?_
        exact ax_sub [0, 1, 2, 3, 5] rfl (km_rare_j66 K E ih v1 v2 v3 v5 v4 ((1 : Int32) <<< (v5 &&& 31)) σ h)
set_option maxHeartbeats 4000000 in
theorem km_rare_j105 {Z : AZ} {G : AG} {L : Nat → Nat} {P : Int32 → St → Prop} (K : AK Z G cX2_rare RX2 6 (rmH 2)) (E : AEi Z cX2_rare .int (mW G L) 0 0 P) {K21 : Int32 → Int32 → Int32 → St → Prop} (hK21 : ∀ (v1 : Int32) (v2 : Int32) (v3 : Int32) (σ : St), K21 v1 v2 v3 σ → AX Z 0 0 21 [(0, .ref (L 0)), (1, .int v1), (2, .int v2), (3, .int v3)] [] (mW G L σ)) (v1 : Int32) (v2 : Int32) (v3 : Int32) (σ : St) (h : wm_rare_j105 P K21 v1 v2 v3 σ) : AX Z 0 0 105 [(0, .ref (L 0)), (1, .int v1), (2, .int v2), (3, .int v3)] [] (mW G L σ) := by
  unfold wm_rare_j105 at h
  refine ax_iinc (lv' := [(3, .int (v3 + (1 : Int32))), (0, .ref (L 0)), (1, .int v1), (2, .int v2)]) (v := (v3 + (1 : Int32))) K 3 dX2_rare_105 rfl (by rfl) (by decide) rfl ?_
  refine ax_goto (tgt := 21) K dX2_rare_108 (by decide) ?_
  exact ax_sub [1, 2, 3, 0] rfl (hK21 v1 v2 (v3 + (1 : Int32)) σ h)
set_option maxHeartbeats 4000000 in
theorem km_rare_j100 {Z : AZ} {G : AG} {L : Nat → Nat} {P : Int32 → St → Prop} (K : AK Z G cX2_rare RX2 6 (rmH 2)) (E : AEi Z cX2_rare .int (mW G L) 0 0 P) {K21 : Int32 → Int32 → Int32 → St → Prop} (hK21 : ∀ (v1 : Int32) (v2 : Int32) (v3 : Int32) (σ : St), K21 v1 v2 v3 σ → AX Z 0 0 21 [(0, .ref (L 0)), (1, .int v1), (2, .int v2), (3, .int v3)] [] (mW G L σ)) (v3 : Int32) (v4 : Int32) (σ : St) (h : wm_rare_j100 P K21 v3 v4 σ) : AX Z 0 0 100 [(0, .ref (L 0)), (3, .int v3), (4, .int v4)] [] (mW G L σ) := by
  unfold wm_rare_j100 at h
  refine ax_iload_n K 1 rfl dX2_rare_100 ?_
  refine ax_istore_n (lv' := [(1, .int v3), (0, .ref (L 0)), (3, .int v3), (4, .int v4)]) K dX2_rare_101 (by decide) rfl ?_
  refine ax_iload K 3 rfl dX2_rare_102 ?_
  refine ax_istore_n (lv' := [(2, .int v4), (1, .int v3), (0, .ref (L 0)), (3, .int v3), (4, .int v4)]) K dX2_rare_104 (by decide) rfl ?_
  exact ax_sub [2, 1, 0, 3] rfl (km_rare_j105 K E hK21 v3 v4 v3 σ h)
set_option maxHeartbeats 4000000 in
theorem km_rare_l21 {Z : AZ} {G : AG} {L : Nat → Nat} {P : Int32 → St → Prop} (K : AK Z G cX2_rare RX2 6 (rmH 2)) (E : AEi Z cX2_rare .int (mW G L) 0 0 P) : ∀ (n : Nat) (v1 : Int32) (v2 : Int32) (v3 : Int32) (σ : St), wm_rare_l21 P  n v1 v2 v3 σ → AX Z 0 0 21 [(0, .ref (L 0)), (1, .int v1), (2, .int v2), (3, .int v3)] [] (mW G L σ) := by
  intro n
  induction n with
  | zero => intro v1 v2 v3 σ h; exact False.elim h
  | succ n ih =>
    intro v1 v2 v3 σ h
    rw [wm_rare_l21_s] at h
    refine ax_iload_n K 3 rfl dX2_rare_21 ?_
    refine ax_bipush (v := (8 : Int32)) K (by decide) dX2_rare_22 ?_
    refine ax_icmp_ge (tgt := 111) K dX2_rare_24 (by decide) (fun c24 => ?_) (fun c24 => ?_)
    · have h := ax_it h c24
      refine ax_aload_n K 0 rfl dX2_rare_111 ?_
      refine ax_iconst (v := (0 : Int32)) K (by decide) dX2_rare_112 ?_
      refine mp_rowMany K dX2_rare_113 ?_
      refine ax_aload_n K 0 rfl dX2_rare_116 ?_
      refine ax_iload_n K 2 rfl dX2_rare_117 ?_
      refine rm_tell K (by decide) dX2_rare_118 (Nat.le_of_ble_eq_true rfl) h (fun σ118 h => ?_)
      refine ax_iload_n K 1 rfl dX2_rare_121 ?_
      exact E _ _ _ _ dX2_rare_122 rfl h
    · have h := ax_ie h c24
      refine ax_iconst (v := (0 : Int32)) K (by decide) dX2_rare_27 ?_
      refine ax_istore (lv' := [(4, .int (0 : Int32)), (0, .ref (L 0)), (1, .int v1), (2, .int v2), (3, .int v3)]) K dX2_rare_28 (by decide) rfl ?_
      refine ax_iconst (v := (0 : Int32)) K (by decide) dX2_rare_30 ?_
      refine ax_istore (lv' := [(5, .int (0 : Int32)), (4, .int (0 : Int32)), (0, .ref (L 0)), (1, .int v1), (2, .int v2), (3, .int v3)]) K dX2_rare_31 (by decide) rfl ?_
      exact ax_sub [2, 3, 4, 5, 1, 0] rfl (h.elim fun n33 h => km_rare_l33 K E (km_rare_j100 K E ih) (km_rare_j105 K E ih) n33 v1 v2 v3 (0 : Int32) (0 : Int32) σ h)
set_option maxHeartbeats 4000000 in
theorem mm_rare {l : Launch} {G : AG} {L : Nat → Nat} {σ : St} {P : Int32 → St → Prop} (h : wm_rare σ P) : CtW l G yX2_rare cX2_rare 6 (some .int) (rmH 2) [.ref (L 0)] (mW G L) σ (pI P) := by
  refine CtW.ofI (by decide) (Nat.le_of_ble_eq_true rfl) fun Z _ K E => ?_
  unfold wm_rare at h
  show AX Z 0 0 0 [(0, .ref (L 0))] [] (mW G L σ)
  refine ax_aload_n K 0 rfl dX2_rare_0 ?_
  refine ax_iconst (v := (0 : Int32)) K (by decide) dX2_rare_1 ?_
  refine mp_thrown K dX2_rare_2 ?_
  refine ax_aload_n K 0 rfl dX2_rare_5 ?_
  refine mg_dishes K dX2_rare_6 ?_
  refine ax_if_ne (tgt := 15) K dX2_rare_9 (by decide) (fun c9 => ?_) (fun c9 => ?_)
  · have h := ax_ie h c9
    refine ax_iconst (v := (-1 : Int32)) K (by decide) dX2_rare_15 ?_
    refine ax_istore_n (lv' := [(1, .int (-1 : Int32)), (0, .ref (L 0))]) K dX2_rare_16 (by decide) rfl ?_
    refine ax_iconst (v := (0 : Int32)) K (by decide) dX2_rare_17 ?_
    refine ax_istore_n (lv' := [(2, .int (0 : Int32)), (1, .int (-1 : Int32)), (0, .ref (L 0))]) K dX2_rare_18 (by decide) rfl ?_
    refine ax_iconst (v := (0 : Int32)) K (by decide) dX2_rare_19 ?_
    refine ax_istore_n (lv' := [(3, .int (0 : Int32)), (2, .int (0 : Int32)), (1, .int (-1 : Int32)), (0, .ref (L 0))]) K dX2_rare_20 (by decide) rfl ?_
    exact ax_sub [3, 2, 1, 0] rfl (h.elim fun n21 h => km_rare_l21 K E  n21 (-1 : Int32) (0 : Int32) (0 : Int32) (mS_thrown σ (0 : Int32)) h)
  · have h := ax_it h c9
    refine ax_bipush (v := (-2 : Int32)) K (by decide) dX2_rare_12 ?_
    exact E _ _ _ _ dX2_rare_14 rfl h

/-! m.row -/
set_option maxHeartbeats 4000000 in
theorem km_row_j32 {Z : AZ} {G : AG} {L : Nat → Nat} {P : Int32 → St → Prop} (K : AK Z G cX2_row RX2 2 (rmH 2)) (E : AEi Z cX2_row .int (mW G L) 0 0 P) (s0 : Int32) (σ : St) (h : wm_row_j32 P  s0 σ) : AX Z 0 0 32 [(0, .ref (L 0))] [.int s0] (mW G L σ) := by
  unfold wm_row_j32 at h
  exact E _ _ _ _ dX2_row_32 rfl h
set_option maxHeartbeats 4000000 in
theorem mm_row {l : Launch} {G : AG} {L : Nat → Nat} {σ : St} {v1 : Int32} {P : Int32 → St → Prop} (h : wm_row σ v1 P) : CtW l G yX2_row cX2_row 2 (some .int) (rmH 2) [.ref (L 0), .int v1] (mW G L) σ (pI P) := by
  refine CtW.ofI (by decide) (Nat.le_of_ble_eq_true rfl) fun Z _ K E => ?_
  unfold wm_row at h
  show AX Z 0 0 0 [(0, .ref (L 0)), (1, .int v1)] [] (mW G L σ)
  refine ax_aload_n K 0 rfl dX2_row_0 ?_
  refine ax_iconst (v := (0 : Int32)) K (by decide) dX2_row_1 ?_
  refine mp_thrown K dX2_row_2 ?_
  refine ax_iload_n K 1 rfl dX2_row_5 ?_
  refine ax_iconst (v := (0 : Int32)) K (by decide) dX2_row_6 ?_
  refine ax_aload_n K 0 rfl dX2_row_7 ?_
  refine mg_rowMany K dX2_row_8 ?_
  refine ax_iconst (v := (1 : Int32)) K (by decide) dX2_row_11 ?_
  refine ax_isub K dX2_row_12 ?_
  refine rm_in K (by decide) dX2_row_13 (Nat.le_of_ble_eq_true rfl) h (fun r13 h => ?_)
  refine ax_if_eq (tgt := 28) K dX2_row_16 (by decide) (fun c16 => ?_) (fun c16 => ?_)
  · have h := ax_it h c16
    refine ax_aload_n K 0 rfl dX2_row_28 ?_
    refine rm_lost K (by decide) dX2_row_29 (Nat.le_of_ble_eq_true rfl) h (fun r29 σ29 h => ?_)
    exact ax_sub [0] rfl (km_row_j32 K E  r29 σ29 h)
  · have h := ax_ie h c16
    refine ax_aload_n K 0 rfl dX2_row_19 ?_
    refine mg_row K dX2_row_20 ?_
    refine ax_iload_n K 1 rfl dX2_row_23 ?_
    refine ml_row K h.1 dX2_row_24 ?_
    replace h := h.2
    refine ax_goto (tgt := 32) K dX2_row_25 (by decide) ?_
    exact ax_sub [0] rfl (km_row_j32 K E  (mA_row (mS_thrown σ (0 : Int32)) (v1).toNatClampNeg) (mS_thrown σ (0 : Int32)) h)

/-! m.shared -/
set_option maxHeartbeats 4000000 in
theorem mm_shared {l : Launch} {G : AG} {L : Nat → Nat} {σ : St} {v1 : Int32} {v2 : Int32} {P : Int32 → St → Prop} (h : wm_shared σ v1 v2 P) : CtW l G yX2_shared cX2_shared 3 (some .int) (rmH 2) [.ref (L 0), .int v1, .int v2] (mW G L) σ (pI P) := by
  refine CtW.ofI (by decide) (Nat.le_of_ble_eq_true rfl) fun Z _ K E => ?_
  unfold wm_shared at h
  show AX Z 0 0 0 [(0, .ref (L 0)), (1, .int v1), (2, .int v2)] [] (mW G L σ)
  refine ax_aload_n K 0 rfl dX2_shared_0 ?_
  refine mg_stuffs K dX2_shared_1 ?_
  refine ax_iload_n K 1 rfl dX2_shared_4 ?_
  refine ml_stuffs K h.1 dX2_shared_5 ?_
  replace h := h.2
  refine ax_aload_n K 0 rfl dX2_shared_6 ?_
  refine mg_stuffs K dX2_shared_7 ?_
  refine ax_iload_n K 2 rfl dX2_shared_10 ?_
  refine ml_stuffs K h.1 dX2_shared_11 ?_
  replace h := h.2
  refine ax_iand K dX2_shared_12 ?_
  refine rm_bitCount K (by decide) dX2_shared_13 (Nat.le_of_ble_eq_true rfl) ?_
  exact E _ _ _ _ dX2_shared_16 rfl h
theorem rm_shared {Z : AZ} {G : AG} {cc : ByteArray} {mL hh pc : Nat} {lv : List (Nat × Value)} {rest : List Value} {L : Nat → Nat} {σ : St} (K : AK Z G cc RX2 mL (rmH hh)) (hlt : 2 < hh) (d : decode cc pc = .ok (.invokevirtual 242, 3)) (hrest : (rest.map fun v => v.category).sum ≤ 8) {v1 : Int32} {v2 : Int32} {P : Int32 → St → Prop} (h : sm_shared σ v1 v2 P) (kk : ∀ (r : Int32) (σ' : St), P r σ' → AX Z 0 0 (pc + 3) lv (.int r :: rest) (mW G L σ')) : AX Z 0 0 pc lv (.int v2 :: .int v1 :: .ref (L 0) :: rest) (mW G L σ) :=
  ax_callV (N0 := 2) (As := [.int v1, .int v2]) K (mm_shared (sm_shared_ok h)) q1327 q1329 qs82 q118 q1330 ⟨rfl, by decide, by decide, by decide⟩ rfl ⟨by show 2 + 1 + 1 ≤ hh + 1; omega, by show 8 + (3 + 11) + 60 * (2 + 1) ≤ 60 * (hh + 1); omega⟩ ⟨Nat.zero_le _, Nat.zero_le _⟩ rfl rfl rfl hrest d (fun r σ' hp => by obtain ⟨v, rfl, hp⟩ := hp; exact kk v σ' hp)
/-! m.sheet -/
set_option maxHeartbeats 4000000 in
theorem km_sheet_j109 {Z : AZ} {G : AG} {L : Nat → Nat} {P : Int32 → St → Prop} (K : AK Z G cX2_sheet RX2 9 (rmH 2)) (E : AEi Z cX2_sheet .int (mW G L) 0 0 P) {K43 : Int32 → Int32 → Int32 → Int32 → Int32 → Int32 → St → Prop} (hK43 : ∀ (v1 : Int32) (v2 : Int32) (v4 : Int32) (v5 : Int32) (v6 : Int32) (v7 : Int32) (σ : St), K43 v1 v2 v4 v5 v6 v7 σ → AX Z 0 0 43 [(0, .ref (L 0)), (1, .int v1), (2, .int v2), (4, .int v4), (5, .int v5), (6, .int v6), (7, .int v7)] [] (mW G L σ)) (v1 : Int32) (v2 : Int32) (v4 : Int32) (v5 : Int32) (v6 : Int32) (v7 : Int32) (s1 : Int32) (s2 : Int32) (σ : St) (h : wm_sheet_j109 P K43 v1 v2 v4 v5 v6 v7 s1 s2 σ) : AX Z 0 0 109 [(0, .ref (L 0)), (1, .int v1), (2, .int v2), (4, .int v4), (5, .int v5), (6, .int v6), (7, .int v7)] [.int s2, .int s1, .ref (L 3)] (mW G L σ) := by
  unfold wm_sheet_j109 at h
  refine ms_cost K h.1 dX2_sheet_109 ?_
  replace h := h.2
  refine ax_iload K 4 rfl dX2_sheet_110 ?_
  refine ax_aload_n K 0 rfl dX2_sheet_112 ?_
  refine mg_cost K dX2_sheet_113 ?_
  refine ax_iload K 6 rfl dX2_sheet_116 ?_
  refine ml_cost K h.1 dX2_sheet_118 ?_
  replace h := h.2
  refine ax_iadd K dX2_sheet_119 ?_
  refine ax_istore (lv' := [(5, .int (v5 + (mA_cost (mU_cost σ s1 s2) (v7).toNatClampNeg))), (0, .ref (L 0)), (1, .int v1), (2, .int v2), (4, .int v4), (6, .int v6), (7, .int v7)]) K dX2_sheet_120 (by decide) rfl ?_
  refine ax_iload K 5 rfl dX2_sheet_122 ?_
  refine ax_iload K 4 rfl dX2_sheet_124 ?_
  refine ax_iadd K dX2_sheet_126 ?_
  refine ax_istore (lv' := [(6, .int (v6 + v4)), (5, .int (v5 + (mA_cost (mU_cost σ s1 s2) (v7).toNatClampNeg))), (0, .ref (L 0)), (1, .int v1), (2, .int v2), (4, .int v4), (7, .int v7)]) K dX2_sheet_127 (by decide) rfl ?_
  refine ax_iinc (lv' := [(7, .int (v7 + (1 : Int32))), (6, .int (v6 + v4)), (5, .int (v5 + (mA_cost (mU_cost σ s1 s2) (v7).toNatClampNeg))), (0, .ref (L 0)), (1, .int v1), (2, .int v2), (4, .int v4)]) (v := (v7 + (1 : Int32))) K 6 dX2_sheet_129 rfl (by rfl) (by decide) rfl ?_
  refine ax_goto (tgt := 43) K dX2_sheet_132 (by decide) ?_
  exact ax_sub [3, 4, 5, 6, 2, 1, 0] rfl (hK43 v1 v2 v4 (v5 + (mA_cost (mU_cost σ s1 s2) (v7).toNatClampNeg)) (v6 + v4) (v7 + (1 : Int32)) (mU_cost σ s1 s2) h)
set_option maxHeartbeats 4000000 in
theorem km_sheet_j94 {Z : AZ} {G : AG} {L : Nat → Nat} {P : Int32 → St → Prop} (K : AK Z G cX2_sheet RX2 9 (rmH 2)) (E : AEi Z cX2_sheet .int (mW G L) 0 0 P) {K43 : Int32 → Int32 → Int32 → Int32 → Int32 → Int32 → St → Prop} (hK43 : ∀ (v1 : Int32) (v2 : Int32) (v4 : Int32) (v5 : Int32) (v6 : Int32) (v7 : Int32) (σ : St), K43 v1 v2 v4 v5 v6 v7 σ → AX Z 0 0 43 [(0, .ref (L 0)), (1, .int v1), (2, .int v2), (4, .int v4), (5, .int v5), (6, .int v6), (7, .int v7)] [] (mW G L σ)) (v1 : Int32) (v2 : Int32) (v4 : Int32) (v5 : Int32) (v6 : Int32) (v7 : Int32) (s1 : Int32) (σ : St) (h : wm_sheet_j94 P K43 v1 v2 v4 v5 v6 v7 s1 σ) : AX Z 0 0 94 [(0, .ref (L 0)), (1, .int v1), (2, .int v2), (4, .int v4), (5, .int v5), (6, .int v6), (7, .int v7)] [.int s1, .ref (L 3)] (mW G L σ) := by
  unfold wm_sheet_j94 at h
  refine ax_iconst (v := (0 : Int32)) K (by decide) dX2_sheet_94 ?_
  refine ax_goto (tgt := 109) K dX2_sheet_95 (by decide) ?_
  exact ax_sub [0, 1, 2, 3, 4, 5, 6] rfl (km_sheet_j109 K E hK43 v1 v2 v4 v5 v6 v7 s1 (0 : Int32) σ h)
set_option maxHeartbeats 4000000 in
theorem km_sheet_j75 {Z : AZ} {G : AG} {L : Nat → Nat} {P : Int32 → St → Prop} (K : AK Z G cX2_sheet RX2 9 (rmH 2)) (E : AEi Z cX2_sheet .int (mW G L) 0 0 P) {K43 : Int32 → Int32 → Int32 → Int32 → Int32 → Int32 → St → Prop} (hK43 : ∀ (v1 : Int32) (v2 : Int32) (v4 : Int32) (v5 : Int32) (v6 : Int32) (v7 : Int32) (σ : St), K43 v1 v2 v4 v5 v6 v7 σ → AX Z 0 0 43 [(0, .ref (L 0)), (1, .int v1), (2, .int v2), (4, .int v4), (5, .int v5), (6, .int v6), (7, .int v7)] [] (mW G L σ)) (v1 : Int32) (v2 : Int32) (v4 : Int32) (v5 : Int32) (v6 : Int32) (v7 : Int32) (s0 : Int32) (σ : St) (h : wm_sheet_j75 P K43 v1 v2 v4 v5 v6 v7 s0 σ) : AX Z 0 0 75 [(0, .ref (L 0)), (1, .int v1), (2, .int v2), (4, .int v4), (5, .int v5), (6, .int v6), (7, .int v7)] [.int s0] (mW G L σ) := by
  unfold wm_sheet_j75 at h
  refine ax_istore (lv' := [(8, .int s0), (0, .ref (L 0)), (1, .int v1), (2, .int v2), (4, .int v4), (5, .int v5), (6, .int v6), (7, .int v7)]) K dX2_sheet_75 (by decide) rfl ?_
  refine ax_aload_n K 1 rfl dX2_sheet_77 ?_
  refine mg_cost K dX2_sheet_78 ?_
  refine ax_iload K 7 rfl dX2_sheet_81 ?_
  refine ax_iload_n K 2 rfl dX2_sheet_83 ?_
  refine ax_iconst (v := (3 : Int32)) K (by decide) dX2_sheet_84 ?_
  refine ax_icmp_eq (tgt := 94) K dX2_sheet_85 (by decide) (fun c85 => ?_) (fun c85 => ?_)
  · have h := ax_it h c85
    exact ax_sub [1, 2, 3, 4, 5, 6, 7] rfl (km_sheet_j94 K E hK43 v1 v2 v4 v5 v6 v7 v7 σ h)
  · have h := ax_ie h c85
    refine ax_iload K 7 rfl dX2_sheet_88 ?_
    refine ax_iload_n K 3 rfl dX2_sheet_90 ?_
    refine ax_icmp_lt (tgt := 98) K dX2_sheet_91 (by decide) (fun c91 => ?_) (fun c91 => ?_)
    · have h := ax_it h c91
      refine ax_iconst (v := (0 : Int32)) K (by decide) dX2_sheet_98 ?_
      refine ax_bipush (v := (99 : Int32)) K (by decide) dX2_sheet_99 ?_
      refine ax_iload K 0 rfl dX2_sheet_101 ?_
      refine rm_min K (by decide) (Nat.le_of_ble_eq_true rfl) dX2_sheet_103 ?_
      refine rm_max K (by decide) (Nat.le_of_ble_eq_true rfl) dX2_sheet_106 ?_
      exact ax_sub [1, 2, 3, 4, 5, 6, 7] rfl (km_sheet_j109 K E hK43 v1 v2 v4 v5 v6 v7 v7 (jmax (0 : Int32) (jmin (99 : Int32) s0)) σ h)
    · have h := ax_ie h c91
      exact ax_sub [1, 2, 3, 4, 5, 6, 7] rfl (km_sheet_j94 K E hK43 v1 v2 v4 v5 v6 v7 v7 σ h)
set_option maxHeartbeats 4000000 in
theorem km_sheet_l43 {Z : AZ} {G : AG} {L : Nat → Nat} {P : Int32 → St → Prop} (K : AK Z G cX2_sheet RX2 9 (rmH 2)) (E : AEi Z cX2_sheet .int (mW G L) 0 0 P) {K147 : Int32 → St → Prop} (hK147 : ∀ (s0 : Int32) (σ : St), K147 s0 σ → AX Z 0 0 147 [(0, .ref (L 0))] [.int s0] (mW G L σ)) : ∀ (n : Nat) (v1 : Int32) (v2 : Int32) (v4 : Int32) (v5 : Int32) (v6 : Int32) (v7 : Int32) (σ : St), wm_sheet_l43 P K147 n v1 v2 v4 v5 v6 v7 σ → AX Z 0 0 43 [(0, .ref (L 0)), (1, .int v1), (2, .int v2), (4, .int v4), (5, .int v5), (6, .int v6), (7, .int v7)] [] (mW G L σ) := by
  intro n
  induction n with
  | zero => intro v1 v2 v4 v5 v6 v7 σ h; exact False.elim h
  | succ n ih =>
    intro v1 v2 v4 v5 v6 v7 σ h
    rw [wm_sheet_l43_s] at h
    refine ax_iload K 6 rfl dX2_sheet_43 ?_
    refine ax_aload_n K 0 rfl dX2_sheet_45 ?_
    refine mg_dishes K dX2_sheet_46 ?_
    refine ax_icmp_ge (tgt := 135) K dX2_sheet_49 (by decide) (fun c49 => ?_) (fun c49 => ?_)
    · have h := ax_it h c49
      refine ax_iload_n K 1 rfl dX2_sheet_135 ?_
      refine ax_iconst (v := (3 : Int32)) K (by decide) dX2_sheet_136 ?_
      refine ax_icmp_ne (tgt := 145) K dX2_sheet_137 (by decide) (fun c137 => ?_) (fun c137 => ?_)
      · have h := ax_ie h c137
        refine ax_iload K 4 rfl dX2_sheet_145 ?_
        exact ax_sub [0] rfl (hK147 v5 σ h)
      · have h := ax_it h c137
        refine ax_bipush (v := (-3 : Int32)) K (by decide) dX2_sheet_140 ?_
        refine ax_goto (tgt := 147) K dX2_sheet_142 (by decide) ?_
        exact ax_sub [0] rfl (hK147 (-3 : Int32) σ h)
    · have h := ax_ie h c49
      refine ax_iload_n K 1 rfl dX2_sheet_52 ?_
      refine ax_if_ne (tgt := 62) K dX2_sheet_53 (by decide) (fun c53 => ?_) (fun c53 => ?_)
      · have h := ax_ie h c53
        refine ax_iload_n K 1 rfl dX2_sheet_62 ?_
        refine ax_iconst (v := (1 : Int32)) K (by decide) dX2_sheet_63 ?_
        refine ax_icmp_ne (tgt := 73) K dX2_sheet_64 (by decide) (fun c64 => ?_) (fun c64 => ?_)
        · have h := ax_ie h c64
          refine ax_iload K 5 rfl dX2_sheet_73 ?_
          exact ax_sub [0, 1, 2, 3, 4, 5, 6] rfl (km_sheet_j75 K E ih v1 v2 v4 v5 v6 v7 v6 σ h)
        · have h := ax_it h c64
          refine ax_iload K 5 rfl dX2_sheet_67 ?_
          refine ax_i2s K dX2_sheet_69 ?_
          refine ax_goto (tgt := 75) K dX2_sheet_70 (by decide) ?_
          exact ax_sub [0, 1, 2, 3, 4, 5, 6] rfl (km_sheet_j75 K E ih v1 v2 v4 v5 v6 v7 ((v6).toInt16.toInt32) σ h)
      · have h := ax_it h c53
        refine ax_iload K 5 rfl dX2_sheet_56 ?_
        refine ax_i2b K dX2_sheet_58 ?_
        refine ax_goto (tgt := 75) K dX2_sheet_59 (by decide) ?_
        exact ax_sub [0, 1, 2, 3, 4, 5, 6] rfl (km_sheet_j75 K E ih v1 v2 v4 v5 v6 v7 ((v6).toInt8.toInt32) σ h)
set_option maxHeartbeats 4000000 in
theorem km_sheet_j147 {Z : AZ} {G : AG} {L : Nat → Nat} {P : Int32 → St → Prop} (K : AK Z G cX2_sheet RX2 9 (rmH 2)) (E : AEi Z cX2_sheet .int (mW G L) 0 0 P) (s0 : Int32) (σ : St) (h : wm_sheet_j147 P  s0 σ) : AX Z 0 0 147 [(0, .ref (L 0))] [.int s0] (mW G L σ) := by
  unfold wm_sheet_j147 at h
  exact E _ _ _ _ dX2_sheet_147 rfl h
set_option maxHeartbeats 4000000 in
theorem km_sheet_j34 {Z : AZ} {G : AG} {L : Nat → Nat} {P : Int32 → St → Prop} (K : AK Z G cX2_sheet RX2 9 (rmH 2)) (E : AEi Z cX2_sheet .int (mW G L) 0 0 P) (v1 : Int32) (v2 : Int32) (v3 : Int32) (v4 : Int32) (σ : St) (h : wm_sheet_j34 P  v1 v2 v3 v4 σ) : AX Z 0 0 34 [(0, .ref (L 0)), (1, .int v1), (2, .int v2), (3, .int v3), (4, .int v4)] [] (mW G L σ) := by
  unfold wm_sheet_j34 at h
  refine ax_iconst (v := (0 : Int32)) K (by decide) dX2_sheet_34 ?_
  refine ax_istore (lv' := [(5, .int (0 : Int32)), (0, .ref (L 0)), (1, .int v1), (2, .int v2), (3, .int v3), (4, .int v4)]) K dX2_sheet_35 (by decide) rfl ?_
  refine ax_iload_n K 4 rfl dX2_sheet_37 ?_
  refine ax_istore (lv' := [(6, .int v3), (5, .int (0 : Int32)), (0, .ref (L 0)), (1, .int v1), (2, .int v2), (3, .int v3), (4, .int v4)]) K dX2_sheet_38 (by decide) rfl ?_
  refine ax_iconst (v := (0 : Int32)) K (by decide) dX2_sheet_40 ?_
  refine ax_istore (lv' := [(7, .int (0 : Int32)), (6, .int v3), (5, .int (0 : Int32)), (0, .ref (L 0)), (1, .int v1), (2, .int v2), (3, .int v3), (4, .int v4)]) K dX2_sheet_41 (by decide) rfl ?_
  exact ax_sub [3, 4, 5, 7, 2, 1, 0] rfl (h.elim fun n43 h => km_sheet_l43 K E (km_sheet_j147 K E) n43 v1 v2 v4 (0 : Int32) v3 (0 : Int32) σ h)
set_option maxHeartbeats 4000000 in
theorem mm_sheet {l : Launch} {G : AG} {L : Nat → Nat} {σ : St} {v1 : Int32} {v2 : Int32} {v3 : Int32} {v4 : Int32} {P : Int32 → St → Prop} (h : wm_sheet σ v1 v2 v3 v4 P) : CtW l G yX2_sheet cX2_sheet 9 (some .int) (rmH 2) [.ref (L 0), .int v1, .int v2, .int v3, .int v4] (mW G L) σ (pI P) := by
  refine CtW.ofI (by decide) (Nat.le_of_ble_eq_true rfl) fun Z _ K E => ?_
  unfold wm_sheet at h
  show AX Z 0 0 0 [(0, .ref (L 0)), (1, .int v1), (2, .int v2), (3, .int v3), (4, .int v4)] [] (mW G L σ)
  refine ax_aload_n K 0 rfl dX2_sheet_0 ?_
  refine ax_iconst (v := (0 : Int32)) K (by decide) dX2_sheet_1 ?_
  refine mp_thrown K dX2_sheet_2 ?_
  refine ax_iload_n K 1 rfl dX2_sheet_5 ?_
  refine ax_iconst (v := (0 : Int32)) K (by decide) dX2_sheet_6 ?_
  refine ax_iconst (v := (3 : Int32)) K (by decide) dX2_sheet_7 ?_
  refine rm_in K (by decide) dX2_sheet_8 (Nat.le_of_ble_eq_true rfl) h (fun r8 h => ?_)
  refine ax_if_eq (tgt := 20) K dX2_sheet_11 (by decide) (fun c11 => ?_) (fun c11 => ?_)
  · have h := ax_it h c11
    refine ax_iconst (v := (-1 : Int32)) K (by decide) dX2_sheet_20 ?_
    exact E _ _ _ _ dX2_sheet_21 rfl h
  · have h := ax_ie h c11
    refine ax_iload_n K 2 rfl dX2_sheet_14 ?_
    refine ax_bipush (v := (10 : Int32)) K (by decide) dX2_sheet_15 ?_
    refine ax_icmp_le (tgt := 22) K dX2_sheet_17 (by decide) (fun c17 => ?_) (fun c17 => ?_)
    · have h := ax_it h c17
      refine ax_iload_n K 1 rfl dX2_sheet_22 ?_
      refine ax_iconst (v := (3 : Int32)) K (by decide) dX2_sheet_23 ?_
      refine ax_icmp_ge (tgt := 34) K dX2_sheet_24 (by decide) (fun c24 => ?_) (fun c24 => ?_)
      · have h := ax_it h c24
        exact ax_sub [0, 1, 2, 3, 4] rfl (km_sheet_j34 K E  v1 v2 v3 v4 (mS_thrown σ (0 : Int32)) h)
      · have h := ax_ie h c24
        refine ax_iload_n K 2 rfl dX2_sheet_27 ?_
        refine ax_if_ge (tgt := 34) K dX2_sheet_28 (by decide) (fun c28 => ?_) (fun c28 => ?_)
        · have h := ax_it h c28
          exact ax_sub [0, 1, 2, 3, 4] rfl (km_sheet_j34 K E  v1 v2 v3 v4 (mS_thrown σ (0 : Int32)) h)
        · have h := ax_ie h c28
          refine ax_bipush (v := (-2 : Int32)) K (by decide) dX2_sheet_31 ?_
          exact E _ _ _ _ dX2_sheet_33 rfl h
    · have h := ax_ie h c17
      refine ax_iconst (v := (-1 : Int32)) K (by decide) dX2_sheet_20 ?_
      exact E _ _ _ _ dX2_sheet_21 rfl h

/-! m.store -/
set_option maxHeartbeats 4000000 in
theorem mm_store {l : Launch} {G : AG} {L : Nat → Nat} {σ : St} {v1 : Int32} {v2 : Int32} {P : Int32 → St → Prop} (h : wm_store σ v1 v2 P) : CtW l G yX2_store cX2_store 4 (some .int) (rmH 2) [.ref (L 0), .int v1, .int v2] (mW G L) σ (pI P) := by
  refine CtW.ofI (by decide) (Nat.le_of_ble_eq_true rfl) fun Z _ K E => ?_
  unfold wm_store at h
  show AX Z 0 0 0 [(0, .ref (L 0)), (1, .int v1), (2, .int v2)] [] (mW G L σ)
  refine ax_aload_n K 0 rfl dX2_store_0 ?_
  refine ax_iconst (v := (0 : Int32)) K (by decide) dX2_store_1 ?_
  refine mp_thrown K dX2_store_2 ?_
  refine ax_iload_n K 1 rfl dX2_store_5 ?_
  refine ax_iconst (v := (0 : Int32)) K (by decide) dX2_store_6 ?_
  refine ax_bipush (v := (7 : Int32)) K (by decide) dX2_store_7 ?_
  refine rm_in K (by decide) dX2_store_9 (Nat.le_of_ble_eq_true rfl) h (fun r9 h => ?_)
  refine ax_if_eq (tgt := 25) K dX2_store_12 (by decide) (fun c12 => ?_) (fun c12 => ?_)
  · have h := ax_it h c12
    refine ax_iconst (v := (-1 : Int32)) K (by decide) dX2_store_25 ?_
    exact E _ _ _ _ dX2_store_26 rfl h
  · have h := ax_ie h c12
    refine ax_iload_n K 2 rfl dX2_store_15 ?_
    refine ax_iconst (v := (0 : Int32)) K (by decide) dX2_store_16 ?_
    refine ax_bipush (v := (99 : Int32)) K (by decide) dX2_store_17 ?_
    refine rm_in K (by decide) dX2_store_19 (Nat.le_of_ble_eq_true rfl) h (fun r19 h => ?_)
    refine ax_if_ne (tgt := 27) K dX2_store_22 (by decide) (fun c22 => ?_) (fun c22 => ?_)
    · have h := ax_ie h c22
      refine ax_aload_n K 0 rfl dX2_store_27 ?_
      refine mg_store K dX2_store_28 ?_
      refine ax_iload_n K 1 rfl dX2_store_31 ?_
      refine ml_store K h.1 dX2_store_32 ?_
      replace h := h.2
      refine ax_istore_n (lv' := [(3, .int (mA_store (mS_thrown σ (0 : Int32)) (v1).toNatClampNeg)), (0, .ref (L 0)), (1, .int v1), (2, .int v2)]) K dX2_store_33 (by decide) rfl ?_
      refine ax_aload_n K 1 rfl dX2_store_34 ?_
      refine mg_store K dX2_store_35 ?_
      refine ax_iload_n K 2 rfl dX2_store_38 ?_
      refine ax_iload_n K 3 rfl dX2_store_39 ?_
      refine ms_store K h.1 dX2_store_40 ?_
      replace h := h.2
      refine ax_iload_n K 0 rfl dX2_store_41 ?_
      exact E _ _ _ _ dX2_store_42 rfl h
    · have h := ax_it h c22
      refine ax_iconst (v := (-1 : Int32)) K (by decide) dX2_store_25 ?_
      exact E _ _ _ _ dX2_store_26 rfl h

/-! m.besides -/
set_option maxHeartbeats 4000000 in
theorem km_besides_j38 {Z : AZ} {G : AG} {L : Nat → Nat} {P : Int32 → St → Prop} (K : AK Z G cX2_besides RX2 4 (rmH 3)) (E : AEi Z cX2_besides .int (mW G L) 0 0 P) {K4 : Int32 → Int32 → Int32 → St → Prop} (hK4 : ∀ (v1 : Int32) (v2 : Int32) (v3 : Int32) (σ : St), K4 v1 v2 v3 σ → AX Z 0 0 4 [(0, .ref (L 0)), (1, .int v1), (2, .int v2), (3, .int v3)] [] (mW G L σ)) (v1 : Int32) (v3 : Int32) (s0 : Int32) (s1 : Int32) (σ : St) (h : wm_besides_j38 P K4 v1 v3 s0 s1 σ) : AX Z 0 0 38 [(0, .ref (L 0)), (1, .int v1), (3, .int v3)] [.int s1, .int s0] (mW G L σ) := by
  unfold wm_besides_j38 at h
  refine ax_ior K dX2_besides_38 ?_
  refine ax_istore_n (lv' := [(2, .int (s0 ||| s1)), (0, .ref (L 0)), (1, .int v1), (3, .int v3)]) K dX2_besides_39 (by decide) rfl ?_
  refine ax_iinc (lv' := [(3, .int (v3 + (1 : Int32))), (2, .int (s0 ||| s1)), (0, .ref (L 0)), (1, .int v1)]) (v := (v3 + (1 : Int32))) K 3 dX2_besides_40 rfl (by rfl) (by decide) rfl ?_
  refine ax_goto (tgt := 4) K dX2_besides_43 (by decide) ?_
  exact ax_sub [2, 3, 1, 0] rfl (hK4 v1 (s0 ||| s1) (v3 + (1 : Int32)) σ h)
set_option maxHeartbeats 4000000 in
theorem km_besides_j37 {Z : AZ} {G : AG} {L : Nat → Nat} {P : Int32 → St → Prop} (K : AK Z G cX2_besides RX2 4 (rmH 3)) (E : AEi Z cX2_besides .int (mW G L) 0 0 P) {K4 : Int32 → Int32 → Int32 → St → Prop} (hK4 : ∀ (v1 : Int32) (v2 : Int32) (v3 : Int32) (σ : St), K4 v1 v2 v3 σ → AX Z 0 0 4 [(0, .ref (L 0)), (1, .int v1), (2, .int v2), (3, .int v3)] [] (mW G L σ)) (v1 : Int32) (v3 : Int32) (s0 : Int32) (σ : St) (h : wm_besides_j37 P K4 v1 v3 s0 σ) : AX Z 0 0 37 [(0, .ref (L 0)), (1, .int v1), (3, .int v3)] [.int s0] (mW G L σ) := by
  unfold wm_besides_j37 at h
  refine ax_iconst (v := (0 : Int32)) K (by decide) dX2_besides_37 ?_
  exact ax_sub [0, 1, 2] rfl (km_besides_j38 K E hK4 v1 v3 s0 (0 : Int32) σ h)
set_option maxHeartbeats 4000000 in
theorem km_besides_l4 {Z : AZ} {G : AG} {L : Nat → Nat} {P : Int32 → St → Prop} (K : AK Z G cX2_besides RX2 4 (rmH 3)) (E : AEi Z cX2_besides .int (mW G L) 0 0 P) : ∀ (n : Nat) (v1 : Int32) (v2 : Int32) (v3 : Int32) (σ : St), wm_besides_l4 P  n v1 v2 v3 σ → AX Z 0 0 4 [(0, .ref (L 0)), (1, .int v1), (2, .int v2), (3, .int v3)] [] (mW G L σ) := by
  intro n
  induction n with
  | zero => intro v1 v2 v3 σ h; exact False.elim h
  | succ n ih =>
    intro v1 v2 v3 σ h
    rw [wm_besides_l4_s] at h
    refine ax_iload_n K 3 rfl dX2_besides_4 ?_
    refine ax_aload_n K 0 rfl dX2_besides_5 ?_
    refine mg_dishes K dX2_besides_6 ?_
    refine ax_icmp_ge (tgt := 46) K dX2_besides_9 (by decide) (fun c9 => ?_) (fun c9 => ?_)
    · have h := ax_it h c9
      refine ax_iload_n K 2 rfl dX2_besides_46 ?_
      exact E _ _ _ _ dX2_besides_47 rfl h
    · have h := ax_ie h c9
      refine ax_iload_n K 2 rfl dX2_besides_12 ?_
      refine ax_iload_n K 3 rfl dX2_besides_13 ?_
      refine ax_iload_n K 1 rfl dX2_besides_14 ?_
      refine ax_icmp_eq (tgt := 37) K dX2_besides_15 (by decide) (fun c15 => ?_) (fun c15 => ?_)
      · have h := ax_it h c15
        exact ax_sub [0, 1, 3] rfl (km_besides_j37 K E ih v1 v3 v2 σ h)
      · have h := ax_ie h c15
        refine ax_aload_n K 0 rfl dX2_besides_18 ?_
        refine ax_iload_n K 1 rfl dX2_besides_19 ?_
        refine ax_iload_n K 3 rfl dX2_besides_20 ?_
        refine rm_shared K (by decide) dX2_besides_21 (Nat.le_of_ble_eq_true rfl) h (fun r21 σ21 h => ?_)
        refine ax_aload_n K 0 rfl dX2_besides_24 ?_
        refine mg_share K dX2_besides_25 ?_
        refine ax_icmp_lt (tgt := 37) K dX2_besides_28 (by decide) (fun c28 => ?_) (fun c28 => ?_)
        · have h := ax_it h c28
          exact ax_sub [0, 1, 3] rfl (km_besides_j37 K E ih v1 v3 v2 σ21 h)
        · have h := ax_ie h c28
          refine ax_iconst (v := (1 : Int32)) K (by decide) dX2_besides_31 ?_
          refine ax_iload_n K 3 rfl dX2_besides_32 ?_
          refine ax_ishl K dX2_besides_33 ?_
          refine ax_goto (tgt := 38) K dX2_besides_34 (by decide) ?_
          exact ax_sub [0, 1, 3] rfl (km_besides_j38 K E ih v1 v3 v2 ((1 : Int32) <<< (v3 &&& 31)) σ21 h)
set_option maxHeartbeats 4000000 in
theorem mm_besides {l : Launch} {G : AG} {L : Nat → Nat} {σ : St} {v1 : Int32} {P : Int32 → St → Prop} (h : wm_besides σ v1 P) : CtW l G yX2_besides cX2_besides 4 (some .int) (rmH 3) [.ref (L 0), .int v1] (mW G L) σ (pI P) := by
  refine CtW.ofI (by decide) (Nat.le_of_ble_eq_true rfl) fun Z _ K E => ?_
  unfold wm_besides at h
  show AX Z 0 0 0 [(0, .ref (L 0)), (1, .int v1)] [] (mW G L σ)
  refine ax_iconst (v := (0 : Int32)) K (by decide) dX2_besides_0 ?_
  refine ax_istore_n (lv' := [(2, .int (0 : Int32)), (0, .ref (L 0)), (1, .int v1)]) K dX2_besides_1 (by decide) rfl ?_
  refine ax_iconst (v := (0 : Int32)) K (by decide) dX2_besides_2 ?_
  refine ax_istore_n (lv' := [(3, .int (0 : Int32)), (2, .int (0 : Int32)), (0, .ref (L 0)), (1, .int v1)]) K dX2_besides_3 (by decide) rfl ?_
  exact ax_sub [2, 3, 1, 0] rfl (h.elim fun n4 h => km_besides_l4 K E  n4 v1 (0 : Int32) (0 : Int32) σ h)
theorem rm_besides {Z : AZ} {G : AG} {cc : ByteArray} {mL hh pc : Nat} {lv : List (Nat × Value)} {rest : List Value} {L : Nat → Nat} {σ : St} (K : AK Z G cc RX2 mL (rmH hh)) (hlt : 3 < hh) (d : decode cc pc = .ok (.invokevirtual 335, 3)) (hrest : (rest.map fun v => v.category).sum ≤ 8) {v1 : Int32} {P : Int32 → St → Prop} (h : sm_besides σ v1 P) (kk : ∀ (r : Int32) (σ' : St), P r σ' → AX Z 0 0 (pc + 3) lv (.int r :: rest) (mW G L σ')) : AX Z 0 0 pc lv (.int v1 :: .ref (L 0) :: rest) (mW G L σ) :=
  ax_callV (N0 := 1) (As := [.int v1]) K (mm_besides (sm_besides_ok h)) q1466 q1468 qs100 q118 q1469 ⟨rfl, by decide, by decide, by decide⟩ rfl ⟨by show 3 + 1 + 1 ≤ hh + 1; omega, by show 8 + (4 + 11) + 60 * (3 + 1) ≤ 60 * (hh + 1); omega⟩ ⟨Nat.zero_le _, Nat.zero_le _⟩ rfl rfl rfl hrest d (fun r σ' hp => by obtain ⟨v, rfl, hp⟩ := hp; exact kk v σ' hp)
/-! m.canAll -/
set_option maxHeartbeats 4000000 in
theorem km_canAll_j36 {Z : AZ} {G : AG} {L : Nat → Nat} {P : Int32 → St → Prop} (K : AK Z G cX2_canAll RX2 8 (rmH 3)) (E : AEi Z cX2_canAll .boolean (mW G L) 0 0 P) {K11 : Int32 → Int32 → Int32 → Int32 → St → Prop} (hK11 : ∀ (v1 : Int32) (v2 : Int32) (v3 : Int32) (v4 : Int32) (σ : St), K11 v1 v2 v3 v4 σ → AX Z 0 0 11 [(0, .ref (L 0)), (1, .int v1), (2, .int v2), (3, .int v3), (4, .int v4)] [] (mW G L σ)) (v1 : Int32) (v2 : Int32) (v4 : Int32) (s0 : Int32) (s1 : Int32) (σ : St) (h : wm_canAll_j36 P K11 v1 v2 v4 s0 s1 σ) : AX Z 0 0 36 [(0, .ref (L 0)), (1, .int v1), (2, .int v2), (4, .int v4)] [.int s1, .int s0] (mW G L σ) := by
  unfold wm_canAll_j36 at h
  refine ax_ior K dX2_canAll_36 ?_
  refine ax_istore_n (lv' := [(3, .int (s0 ||| s1)), (0, .ref (L 0)), (1, .int v1), (2, .int v2), (4, .int v4)]) K dX2_canAll_37 (by decide) rfl ?_
  refine ax_iinc (lv' := [(4, .int (v4 + (1 : Int32))), (3, .int (s0 ||| s1)), (0, .ref (L 0)), (1, .int v1), (2, .int v2)]) (v := (v4 + (1 : Int32))) K 4 dX2_canAll_38 rfl (by rfl) (by decide) rfl ?_
  refine ax_goto (tgt := 11) K dX2_canAll_41 (by decide) ?_
  exact ax_sub [2, 3, 4, 1, 0] rfl (hK11 v1 v2 (s0 ||| s1) (v4 + (1 : Int32)) σ h)
set_option maxHeartbeats 4000000 in
theorem km_canAll_l11 {Z : AZ} {G : AG} {L : Nat → Nat} {P : Int32 → St → Prop} (K : AK Z G cX2_canAll RX2 8 (rmH 3)) (E : AEi Z cX2_canAll .boolean (mW G L) 0 0 P) {K47 : Int32 → Int32 → Int32 → Int32 → St → Prop} (hK47 : ∀ (v1 : Int32) (v2 : Int32) (v3 : Int32) (v4 : Int32) (σ : St), K47 v1 v2 v3 v4 σ → AX Z 0 0 47 [(0, .ref (L 0)), (1, .int v1), (2, .int v2), (3, .int v3), (4, .int v4)] [] (mW G L σ)) : ∀ (n : Nat) (v1 : Int32) (v2 : Int32) (v3 : Int32) (v4 : Int32) (σ : St), wm_canAll_l11 P K47 n v1 v2 v3 v4 σ → AX Z 0 0 11 [(0, .ref (L 0)), (1, .int v1), (2, .int v2), (3, .int v3), (4, .int v4)] [] (mW G L σ) := by
  intro n
  induction n with
  | zero => intro v1 v2 v3 v4 σ h; exact False.elim h
  | succ n ih =>
    intro v1 v2 v3 v4 σ h
    rw [wm_canAll_l11_s] at h
    refine ax_iload K 4 rfl dX2_canAll_11 ?_
    refine ax_iload_n K 1 rfl dX2_canAll_13 ?_
    refine ax_icmp_ge (tgt := 44) K dX2_canAll_14 (by decide) (fun c14 => ?_) (fun c14 => ?_)
    · have h := ax_it h c14
      refine ax_iconst (v := (0 : Int32)) K (by decide) dX2_canAll_44 ?_
      refine ax_istore (lv' := [(4, .int (0 : Int32)), (0, .ref (L 0)), (1, .int v1), (2, .int v2), (3, .int v3)]) K dX2_canAll_45 (by decide) rfl ?_
      exact ax_sub [1, 2, 3, 4, 0] rfl (hK47 v1 v2 v3 (0 : Int32) σ h)
    · have h := ax_ie h c14
      refine ax_iload_n K 3 rfl dX2_canAll_17 ?_
      refine ax_aload_n K 0 rfl dX2_canAll_18 ?_
      refine mg_isHot K dX2_canAll_19 ?_
      refine ax_iload K 4 rfl dX2_canAll_22 ?_
      refine ml_isHot K h.1 dX2_canAll_24 ?_
      replace h := h.2
      refine ax_if_eq (tgt := 35) K dX2_canAll_25 (by decide) (fun c25 => ?_) (fun c25 => ?_)
      · have h := ax_it h c25
        refine ax_iconst (v := (0 : Int32)) K (by decide) dX2_canAll_35 ?_
        exact ax_sub [0, 1, 2, 4] rfl (km_canAll_j36 K E ih v1 v2 v4 v3 (0 : Int32) σ h)
      · have h := ax_ie h c25
        refine ax_iconst (v := (1 : Int32)) K (by decide) dX2_canAll_28 ?_
        refine ax_iload K 4 rfl dX2_canAll_29 ?_
        refine ax_ishl K dX2_canAll_31 ?_
        refine ax_goto (tgt := 36) K dX2_canAll_32 (by decide) ?_
        exact ax_sub [0, 1, 2, 4] rfl (km_canAll_j36 K E ih v1 v2 v4 v3 ((1 : Int32) <<< (v4 &&& 31)) σ h)
set_option maxHeartbeats 4000000 in
theorem km_canAll_j88 {Z : AZ} {G : AG} {L : Nat → Nat} {P : Int32 → St → Prop} (K : AK Z G cX2_canAll RX2 8 (rmH 3)) (E : AEi Z cX2_canAll .boolean (mW G L) 0 0 P) {K60 : Int32 → Int32 → Int32 → Int32 → Int32 → Int32 → St → Prop} (hK60 : ∀ (v1 : Int32) (v2 : Int32) (v3 : Int32) (v4 : Int32) (v5 : Int32) (v6 : Int32) (σ : St), K60 v1 v2 v3 v4 v5 v6 σ → AX Z 0 0 60 [(0, .ref (L 0)), (1, .int v1), (2, .int v2), (3, .int v3), (4, .int v4), (5, .int v5), (6, .int v6)] [] (mW G L σ)) (v1 : Int32) (v2 : Int32) (v3 : Int32) (v4 : Int32) (v6 : Int32) (s0 : Int32) (s1 : Int32) (σ : St) (h : wm_canAll_j88 P K60 v1 v2 v3 v4 v6 s0 s1 σ) : AX Z 0 0 88 [(0, .ref (L 0)), (1, .int v1), (2, .int v2), (3, .int v3), (4, .int v4), (6, .int v6)] [.int s1, .int s0] (mW G L σ) := by
  unfold wm_canAll_j88 at h
  refine ax_iadd K dX2_canAll_88 ?_
  refine ax_istore (lv' := [(5, .int (s0 + s1)), (0, .ref (L 0)), (1, .int v1), (2, .int v2), (3, .int v3), (4, .int v4), (6, .int v6)]) K dX2_canAll_89 (by decide) rfl ?_
  refine ax_iinc (lv' := [(6, .int (v6 + (1 : Int32))), (5, .int (s0 + s1)), (0, .ref (L 0)), (1, .int v1), (2, .int v2), (3, .int v3), (4, .int v4)]) (v := (v6 + (1 : Int32))) K 6 dX2_canAll_91 rfl (by rfl) (by decide) rfl ?_
  refine ax_goto (tgt := 60) K dX2_canAll_94 (by decide) ?_
  exact ax_sub [2, 3, 4, 5, 6, 1, 0] rfl (hK60 v1 v2 v3 v4 (s0 + s1) (v6 + (1 : Int32)) σ h)
set_option maxHeartbeats 4000000 in
theorem km_canAll_l60 {Z : AZ} {G : AG} {L : Nat → Nat} {P : Int32 → St → Prop} (K : AK Z G cX2_canAll RX2 8 (rmH 3)) (E : AEi Z cX2_canAll .boolean (mW G L) 0 0 P) {K47 : Int32 → Int32 → Int32 → Int32 → St → Prop} (hK47 : ∀ (v1 : Int32) (v2 : Int32) (v3 : Int32) (v4 : Int32) (σ : St), K47 v1 v2 v3 v4 σ → AX Z 0 0 47 [(0, .ref (L 0)), (1, .int v1), (2, .int v2), (3, .int v3), (4, .int v4)] [] (mW G L σ)) : ∀ (n : Nat) (v1 : Int32) (v2 : Int32) (v3 : Int32) (v4 : Int32) (v5 : Int32) (v6 : Int32) (σ : St), wm_canAll_l60 P K47 n v1 v2 v3 v4 v5 v6 σ → AX Z 0 0 60 [(0, .ref (L 0)), (1, .int v1), (2, .int v2), (3, .int v3), (4, .int v4), (5, .int v5), (6, .int v6)] [] (mW G L σ) := by
  intro n
  induction n with
  | zero => intro v1 v2 v3 v4 v5 v6 σ h; exact False.elim h
  | succ n ih =>
    intro v1 v2 v3 v4 v5 v6 σ h
    rw [wm_canAll_l60_s] at h
    refine ax_iload K 6 rfl dX2_canAll_60 ?_
    refine ax_iload_n K 1 rfl dX2_canAll_62 ?_
    refine ax_icmp_ge (tgt := 97) K dX2_canAll_63 (by decide) (fun c63 => ?_) (fun c63 => ?_)
    · have h := ax_it h c63
      refine ax_iload K 5 rfl dX2_canAll_97 ?_
      refine ax_aload_n K 0 rfl dX2_canAll_99 ?_
      refine mg_times K dX2_canAll_100 ?_
      refine ax_icmp_gt (tgt := 118) K dX2_canAll_103 (by decide) (fun c103 => ?_) (fun c103 => ?_)
      · have h := ax_it h c103
        refine ax_iconst (v := (0 : Int32)) K (by decide) dX2_canAll_118 ?_
        exact E _ _ _ _ dX2_canAll_119 rfl h
      · have h := ax_ie h c103
        refine ax_iload K 5 rfl dX2_canAll_106 ?_
        refine ax_aload_n K 0 rfl dX2_canAll_108 ?_
        refine mg_store K dX2_canAll_109 ?_
        refine ax_iload K 4 rfl dX2_canAll_112 ?_
        refine ml_store K h.1 dX2_canAll_114 ?_
        replace h := h.2
        refine ax_icmp_le (tgt := 120) K dX2_canAll_115 (by decide) (fun c115 => ?_) (fun c115 => ?_)
        · have h := ax_it h c115
          refine ax_iinc (lv' := [(4, .int (v4 + (1 : Int32))), (0, .ref (L 0)), (1, .int v1), (2, .int v2), (3, .int v3), (5, .int v5), (6, .int v6)]) (v := (v4 + (1 : Int32))) K 4 dX2_canAll_120 rfl (by rfl) (by decide) rfl ?_
          refine ax_goto (tgt := 47) K dX2_canAll_123 (by decide) ?_
          exact ax_sub [1, 2, 3, 4, 0] rfl (hK47 v1 v2 v3 (v4 + (1 : Int32)) σ h)
        · have h := ax_ie h c115
          refine ax_iconst (v := (0 : Int32)) K (by decide) dX2_canAll_118 ?_
          exact E _ _ _ _ dX2_canAll_119 rfl h
    · have h := ax_ie h c63
      refine ax_iload K 5 rfl dX2_canAll_66 ?_
      refine ax_aload_n K 0 rfl dX2_canAll_68 ?_
      refine mg_stuffs K dX2_canAll_69 ?_
      refine ax_iload K 6 rfl dX2_canAll_72 ?_
      refine ml_stuffs K h.1 dX2_canAll_74 ?_
      replace h := h.2
      refine ax_iload K 4 rfl dX2_canAll_75 ?_
      refine rm_has K (by decide) dX2_canAll_77 (Nat.le_of_ble_eq_true rfl) h (fun r77 h => ?_)
      refine ax_if_eq (tgt := 87) K dX2_canAll_80 (by decide) (fun c80 => ?_) (fun c80 => ?_)
      · have h := ax_it h c80
        refine ax_iconst (v := (0 : Int32)) K (by decide) dX2_canAll_87 ?_
        exact ax_sub [0, 1, 2, 3, 4, 6] rfl (km_canAll_j88 K E ih v1 v2 v3 v4 v6 v5 (0 : Int32) σ h)
      · have h := ax_ie h c80
        refine ax_iconst (v := (1 : Int32)) K (by decide) dX2_canAll_83 ?_
        refine ax_goto (tgt := 88) K dX2_canAll_84 (by decide) ?_
        exact ax_sub [0, 1, 2, 3, 4, 6] rfl (km_canAll_j88 K E ih v1 v2 v3 v4 v6 v5 (1 : Int32) σ h)
set_option maxHeartbeats 4000000 in
theorem km_canAll_l47 {Z : AZ} {G : AG} {L : Nat → Nat} {P : Int32 → St → Prop} (K : AK Z G cX2_canAll RX2 8 (rmH 3)) (E : AEi Z cX2_canAll .boolean (mW G L) 0 0 P) {K129 : Int32 → Int32 → Int32 → Int32 → St → Prop} (hK129 : ∀ (v1 : Int32) (v2 : Int32) (v3 : Int32) (v4 : Int32) (σ : St), K129 v1 v2 v3 v4 σ → AX Z 0 0 129 [(0, .ref (L 0)), (1, .int v1), (2, .int v2), (3, .int v3), (4, .int v4)] [] (mW G L σ)) : ∀ (n : Nat) (v1 : Int32) (v2 : Int32) (v3 : Int32) (v4 : Int32) (σ : St), wm_canAll_l47 P K129 n v1 v2 v3 v4 σ → AX Z 0 0 47 [(0, .ref (L 0)), (1, .int v1), (2, .int v2), (3, .int v3), (4, .int v4)] [] (mW G L σ) := by
  intro n
  induction n with
  | zero => intro v1 v2 v3 v4 σ h; exact False.elim h
  | succ n ih =>
    intro v1 v2 v3 v4 σ h
    rw [wm_canAll_l47_s] at h
    refine ax_iload K 4 rfl dX2_canAll_47 ?_
    refine ax_bipush (v := (8 : Int32)) K (by decide) dX2_canAll_49 ?_
    refine ax_icmp_ge (tgt := 126) K dX2_canAll_51 (by decide) (fun c51 => ?_) (fun c51 => ?_)
    · have h := ax_it h c51
      refine ax_iconst (v := (0 : Int32)) K (by decide) dX2_canAll_126 ?_
      refine ax_istore (lv' := [(4, .int (0 : Int32)), (0, .ref (L 0)), (1, .int v1), (2, .int v2), (3, .int v3)]) K dX2_canAll_127 (by decide) rfl ?_
      exact ax_sub [1, 2, 3, 4, 0] rfl (hK129 v1 v2 v3 (0 : Int32) σ h)
    · have h := ax_ie h c51
      refine ax_iconst (v := (0 : Int32)) K (by decide) dX2_canAll_54 ?_
      refine ax_istore (lv' := [(5, .int (0 : Int32)), (0, .ref (L 0)), (1, .int v1), (2, .int v2), (3, .int v3), (4, .int v4)]) K dX2_canAll_55 (by decide) rfl ?_
      refine ax_iconst (v := (0 : Int32)) K (by decide) dX2_canAll_57 ?_
      refine ax_istore (lv' := [(6, .int (0 : Int32)), (5, .int (0 : Int32)), (0, .ref (L 0)), (1, .int v1), (2, .int v2), (3, .int v3), (4, .int v4)]) K dX2_canAll_58 (by decide) rfl ?_
      exact ax_sub [2, 3, 4, 5, 6, 1, 0] rfl (h.elim fun n60 h => km_canAll_l60 K E ih n60 v1 v2 v3 v4 (0 : Int32) (0 : Int32) σ h)
set_option maxHeartbeats 4000000 in
theorem km_canAll_l129 {Z : AZ} {G : AG} {L : Nat → Nat} {P : Int32 → St → Prop} (K : AK Z G cX2_canAll RX2 8 (rmH 3)) (E : AEi Z cX2_canAll .boolean (mW G L) 0 0 P) {K152 : Int32 → Int32 → Int32 → Int32 → St → Prop} (hK152 : ∀ (v1 : Int32) (v2 : Int32) (v3 : Int32) (v4 : Int32) (σ : St), K152 v1 v2 v3 v4 σ → AX Z 0 0 152 [(0, .ref (L 0)), (1, .int v1), (2, .int v2), (3, .int v3), (4, .int v4)] [] (mW G L σ)) : ∀ (n : Nat) (v1 : Int32) (v2 : Int32) (v3 : Int32) (v4 : Int32) (σ : St), wm_canAll_l129 P K152 n v1 v2 v3 v4 σ → AX Z 0 0 129 [(0, .ref (L 0)), (1, .int v1), (2, .int v2), (3, .int v3), (4, .int v4)] [] (mW G L σ) := by
  intro n
  induction n with
  | zero => intro v1 v2 v3 v4 σ h; exact False.elim h
  | succ n ih =>
    intro v1 v2 v3 v4 σ h
    rw [wm_canAll_l129_s] at h
    refine ax_iload K 4 rfl dX2_canAll_129 ?_
    refine ax_iload_n K 2 rfl dX2_canAll_131 ?_
    refine ax_icmp_gt (tgt := 149) K dX2_canAll_132 (by decide) (fun c132 => ?_) (fun c132 => ?_)
    · have h := ax_it h c132
      refine ax_iconst (v := (0 : Int32)) K (by decide) dX2_canAll_149 ?_
      refine ax_istore (lv' := [(4, .int (0 : Int32)), (0, .ref (L 0)), (1, .int v1), (2, .int v2), (3, .int v3)]) K dX2_canAll_150 (by decide) rfl ?_
      exact ax_sub [1, 2, 3, 4, 0] rfl (hK152 v1 v2 v3 (0 : Int32) σ h)
    · have h := ax_ie h c132
      refine ax_aload_n K 0 rfl dX2_canAll_135 ?_
      refine mg_lastsOf K dX2_canAll_136 ?_
      refine ax_iload K 4 rfl dX2_canAll_139 ?_
      refine ax_iconst (v := (0 : Int32)) K (by decide) dX2_canAll_141 ?_
      refine ms_lastsOf K h.1 dX2_canAll_142 ?_
      replace h := h.2
      refine ax_iinc (lv' := [(4, .int (v4 + (1 : Int32))), (0, .ref (L 0)), (1, .int v1), (2, .int v2), (3, .int v3)]) (v := (v4 + (1 : Int32))) K 4 dX2_canAll_143 rfl (by rfl) (by decide) rfl ?_
      refine ax_goto (tgt := 129) K dX2_canAll_146 (by decide) ?_
      exact ax_sub [1, 2, 3, 4, 0] rfl (ih v1 v2 v3 (v4 + (1 : Int32)) (mU_lastsOf σ v4 (0 : Int32)) h)
set_option maxHeartbeats 4000000 in
theorem km_canAll_j291 {Z : AZ} {G : AG} {L : Nat → Nat} {P : Int32 → St → Prop} (K : AK Z G cX2_canAll RX2 8 (rmH 3)) (E : AEi Z cX2_canAll .boolean (mW G L) 0 0 P) {K220 : Int32 → Int32 → Int32 → Int32 → Int32 → Int32 → Int32 → St → Prop} (hK220 : ∀ (v1 : Int32) (v2 : Int32) (v3 : Int32) (v4 : Int32) (v5 : Int32) (v6 : Int32) (v7 : Int32) (σ : St), K220 v1 v2 v3 v4 v5 v6 v7 σ → AX Z 0 0 220 [(0, .ref (L 0)), (1, .int v1), (2, .int v2), (3, .int v3), (4, .int v4), (5, .int v5), (6, .int v6), (7, .int v7)] [] (mW G L σ)) (v1 : Int32) (v2 : Int32) (v3 : Int32) (v4 : Int32) (v5 : Int32) (v7 : Int32) (s0 : Int32) (σ : St) (h : wm_canAll_j291 P K220 v1 v2 v3 v4 v5 v7 s0 σ) : AX Z 0 0 291 [(0, .ref (L 0)), (1, .int v1), (2, .int v2), (3, .int v3), (4, .int v4), (5, .int v5), (7, .int v7)] [.int s0] (mW G L σ) := by
  unfold wm_canAll_j291 at h
  refine ax_istore (lv' := [(6, .int s0), (0, .ref (L 0)), (1, .int v1), (2, .int v2), (3, .int v3), (4, .int v4), (5, .int v5), (7, .int v7)]) K dX2_canAll_291 (by decide) rfl ?_
  refine ax_iinc (lv' := [(7, .int (v7 + (1 : Int32))), (6, .int s0), (0, .ref (L 0)), (1, .int v1), (2, .int v2), (3, .int v3), (4, .int v4), (5, .int v5)]) (v := (v7 + (1 : Int32))) K 7 dX2_canAll_293 rfl (by rfl) (by decide) rfl ?_
  refine ax_goto (tgt := 220) K dX2_canAll_296 (by decide) ?_
  exact ax_sub [2, 3, 4, 5, 6, 7, 1, 0] rfl (hK220 v1 v2 v3 v4 v5 s0 (v7 + (1 : Int32)) σ h)
set_option maxHeartbeats 4000000 in
theorem km_canAll_j286 {Z : AZ} {G : AG} {L : Nat → Nat} {P : Int32 → St → Prop} (K : AK Z G cX2_canAll RX2 8 (rmH 3)) (E : AEi Z cX2_canAll .boolean (mW G L) 0 0 P) {K220 : Int32 → Int32 → Int32 → Int32 → Int32 → Int32 → Int32 → St → Prop} (hK220 : ∀ (v1 : Int32) (v2 : Int32) (v3 : Int32) (v4 : Int32) (v5 : Int32) (v6 : Int32) (v7 : Int32) (σ : St), K220 v1 v2 v3 v4 v5 v6 v7 σ → AX Z 0 0 220 [(0, .ref (L 0)), (1, .int v1), (2, .int v2), (3, .int v3), (4, .int v4), (5, .int v5), (6, .int v6), (7, .int v7)] [] (mW G L σ)) (v1 : Int32) (v2 : Int32) (v3 : Int32) (v4 : Int32) (v5 : Int32) (v7 : Int32) (σ : St) (h : wm_canAll_j286 P K220 v1 v2 v3 v4 v5 v7 σ) : AX Z 0 0 286 [(0, .ref (L 0)), (1, .int v1), (2, .int v2), (3, .int v3), (4, .int v4), (5, .int v5), (7, .int v7)] [] (mW G L σ) := by
  unfold wm_canAll_j286 at h
  refine ax_iconst (v := (1 : Int32)) K (by decide) dX2_canAll_286 ?_
  refine ax_goto (tgt := 291) K dX2_canAll_287 (by decide) ?_
  exact ax_sub [0, 1, 2, 3, 4, 5, 6] rfl (km_canAll_j291 K E hK220 v1 v2 v3 v4 v5 v7 (1 : Int32) σ h)
set_option maxHeartbeats 4000000 in
theorem km_canAll_j290 {Z : AZ} {G : AG} {L : Nat → Nat} {P : Int32 → St → Prop} (K : AK Z G cX2_canAll RX2 8 (rmH 3)) (E : AEi Z cX2_canAll .boolean (mW G L) 0 0 P) {K220 : Int32 → Int32 → Int32 → Int32 → Int32 → Int32 → Int32 → St → Prop} (hK220 : ∀ (v1 : Int32) (v2 : Int32) (v3 : Int32) (v4 : Int32) (v5 : Int32) (v6 : Int32) (v7 : Int32) (σ : St), K220 v1 v2 v3 v4 v5 v6 v7 σ → AX Z 0 0 220 [(0, .ref (L 0)), (1, .int v1), (2, .int v2), (3, .int v3), (4, .int v4), (5, .int v5), (6, .int v6), (7, .int v7)] [] (mW G L σ)) (v1 : Int32) (v2 : Int32) (v3 : Int32) (v4 : Int32) (v5 : Int32) (v7 : Int32) (σ : St) (h : wm_canAll_j290 P K220 v1 v2 v3 v4 v5 v7 σ) : AX Z 0 0 290 [(0, .ref (L 0)), (1, .int v1), (2, .int v2), (3, .int v3), (4, .int v4), (5, .int v5), (7, .int v7)] [] (mW G L σ) := by
  unfold wm_canAll_j290 at h
  refine ax_iconst (v := (0 : Int32)) K (by decide) dX2_canAll_290 ?_
  exact ax_sub [0, 1, 2, 3, 4, 5, 6] rfl (km_canAll_j291 K E hK220 v1 v2 v3 v4 v5 v7 (0 : Int32) σ h)
set_option maxHeartbeats 4000000 in
theorem km_canAll_l220 {Z : AZ} {G : AG} {L : Nat → Nat} {P : Int32 → St → Prop} (K : AK Z G cX2_canAll RX2 8 (rmH 3)) (E : AEi Z cX2_canAll .boolean (mW G L) 0 0 P) {K299 : Int32 → Int32 → Int32 → Int32 → Int32 → Int32 → St → Prop} (hK299 : ∀ (v1 : Int32) (v2 : Int32) (v3 : Int32) (v4 : Int32) (v5 : Int32) (v6 : Int32) (σ : St), K299 v1 v2 v3 v4 v5 v6 σ → AX Z 0 0 299 [(0, .ref (L 0)), (1, .int v1), (2, .int v2), (3, .int v3), (4, .int v4), (5, .int v5), (6, .int v6)] [] (mW G L σ)) : ∀ (n : Nat) (v1 : Int32) (v2 : Int32) (v3 : Int32) (v4 : Int32) (v5 : Int32) (v6 : Int32) (v7 : Int32) (σ : St), wm_canAll_l220 P K299 n v1 v2 v3 v4 v5 v6 v7 σ → AX Z 0 0 220 [(0, .ref (L 0)), (1, .int v1), (2, .int v2), (3, .int v3), (4, .int v4), (5, .int v5), (6, .int v6), (7, .int v7)] [] (mW G L σ) := by
  intro n
  induction n with
  | zero => intro v1 v2 v3 v4 v5 v6 v7 σ h; exact False.elim h
  | succ n ih =>
    intro v1 v2 v3 v4 v5 v6 v7 σ h
    rw [wm_canAll_l220_s] at h
    refine ax_iload K 7 rfl dX2_canAll_220 ?_
    refine ax_iload_n K 1 rfl dX2_canAll_222 ?_
    refine ax_icmp_ge (tgt := 299) K dX2_canAll_223 (by decide) (fun c223 => ?_) (fun c223 => ?_)
    · have h := ax_it h c223
      exact ax_sub [0, 1, 2, 3, 4, 5, 6] rfl (hK299 v1 v2 v3 v4 v5 v6 σ h)
    · have h := ax_ie h c223
      refine ax_iload K 6 rfl dX2_canAll_226 ?_
      refine ax_if_ne (tgt := 299) K dX2_canAll_228 (by decide) (fun c228 => ?_) (fun c228 => ?_)
      · have h := ax_ie h c228
        exact ax_sub [0, 1, 2, 3, 4, 5, 6] rfl (hK299 v1 v2 v3 v4 v5 v6 σ h)
      · have h := ax_it h c228
        refine ax_aload_n K 0 rfl dX2_canAll_231 ?_
        refine mg_lastsOf K dX2_canAll_232 ?_
        refine ax_iload K 4 rfl dX2_canAll_235 ?_
        refine ml_lastsOf K h.1 dX2_canAll_237 ?_
        replace h := h.2
        refine ax_iload K 7 rfl dX2_canAll_238 ?_
        refine rm_has K (by decide) dX2_canAll_240 (Nat.le_of_ble_eq_true rfl) h (fun r240 h => ?_)
        refine ax_if_eq (tgt := 290) K dX2_canAll_243 (by decide) (fun c243 => ?_) (fun c243 => ?_)
        · have h := ax_it h c243
          exact ax_sub [0, 1, 2, 3, 4, 5, 7] rfl (km_canAll_j290 K E ih v1 v2 v3 v4 v5 v7 σ h)
        · have h := ax_ie h c243
          refine ax_aload_n K 0 rfl dX2_canAll_246 ?_
          refine ax_iload K 7 rfl dX2_canAll_247 ?_
          refine ax_iload K 5 rfl dX2_canAll_249 ?_
          refine rm_shared K (by decide) dX2_canAll_251 (Nat.le_of_ble_eq_true rfl) h (fun r251 σ251 h => ?_)
          refine ax_aload_n K 0 rfl dX2_canAll_254 ?_
          refine mg_share K dX2_canAll_255 ?_
          refine ax_icmp_lt (tgt := 290) K dX2_canAll_258 (by decide) (fun c258 => ?_) (fun c258 => ?_)
          · have h := ax_it h c258
            exact ax_sub [0, 1, 2, 3, 4, 5, 7] rfl (km_canAll_j290 K E ih v1 v2 v3 v4 v5 v7 σ251 h)
          · have h := ax_ie h c258
            refine ax_aload_n K 0 rfl dX2_canAll_261 ?_
            refine mg_heat K dX2_canAll_262 ?_
            refine ax_iconst (v := (2 : Int32)) K (by decide) dX2_canAll_265 ?_
            refine ax_icmp_ne (tgt := 286) K dX2_canAll_266 (by decide) (fun c266 => ?_) (fun c266 => ?_)
            · have h := ax_ie h c266
              exact ax_sub [0, 1, 2, 3, 4, 5, 7] rfl (km_canAll_j286 K E ih v1 v2 v3 v4 v5 v7 σ251 h)
            · have h := ax_it h c266
              refine ax_aload_n K 0 rfl dX2_canAll_269 ?_
              refine mg_isHot K dX2_canAll_270 ?_
              refine ax_iload K 7 rfl dX2_canAll_273 ?_
              refine ml_isHot K h.1 dX2_canAll_275 ?_
              replace h := h.2
              refine ax_aload_n K 0 rfl dX2_canAll_276 ?_
              refine mg_isHot K dX2_canAll_277 ?_
              refine ax_iload K 5 rfl dX2_canAll_280 ?_
              refine ml_isHot K h.1 dX2_canAll_282 ?_
              replace h := h.2
              refine ax_icmp_eq (tgt := 290) K dX2_canAll_283 (by decide) (fun c283 => ?_) (fun c283 => ?_)
              · have h := ax_it h c283
                exact ax_sub [0, 1, 2, 3, 4, 5, 7] rfl (km_canAll_j290 K E ih v1 v2 v3 v4 v5 v7 σ251 h)
              · have h := ax_ie h c283
                exact ax_sub [0, 1, 2, 3, 4, 5, 7] rfl (km_canAll_j286 K E ih v1 v2 v3 v4 v5 v7 σ251 h)
set_option maxHeartbeats 4000000 in
theorem km_canAll_j323 {Z : AZ} {G : AG} {L : Nat → Nat} {P : Int32 → St → Prop} (K : AK Z G cX2_canAll RX2 8 (rmH 3)) (E : AEi Z cX2_canAll .boolean (mW G L) 0 0 P) {K161 : Int32 → Int32 → Int32 → Int32 → Int32 → St → Prop} (hK161 : ∀ (v1 : Int32) (v2 : Int32) (v3 : Int32) (v4 : Int32) (v5 : Int32) (σ : St), K161 v1 v2 v3 v4 v5 σ → AX Z 0 0 161 [(0, .ref (L 0)), (1, .int v1), (2, .int v2), (3, .int v3), (4, .int v4), (5, .int v5)] [] (mW G L σ)) (v1 : Int32) (v2 : Int32) (v3 : Int32) (v4 : Int32) (v5 : Int32) (σ : St) (h : wm_canAll_j323 P K161 v1 v2 v3 v4 v5 σ) : AX Z 0 0 323 [(0, .ref (L 0)), (1, .int v1), (2, .int v2), (3, .int v3), (4, .int v4), (5, .int v5)] [] (mW G L σ) := by
  unfold wm_canAll_j323 at h
  refine ax_iinc (lv' := [(5, .int (v5 + (1 : Int32))), (0, .ref (L 0)), (1, .int v1), (2, .int v2), (3, .int v3), (4, .int v4)]) (v := (v5 + (1 : Int32))) K 5 dX2_canAll_323 rfl (by rfl) (by decide) rfl ?_
  refine ax_goto (tgt := 161) K dX2_canAll_326 (by decide) ?_
  exact ax_sub [1, 2, 3, 4, 5, 0] rfl (hK161 v1 v2 v3 v4 (v5 + (1 : Int32)) σ h)
set_option maxHeartbeats 4000000 in
theorem km_canAll_j299 {Z : AZ} {G : AG} {L : Nat → Nat} {P : Int32 → St → Prop} (K : AK Z G cX2_canAll RX2 8 (rmH 3)) (E : AEi Z cX2_canAll .boolean (mW G L) 0 0 P) {K161 : Int32 → Int32 → Int32 → Int32 → Int32 → St → Prop} (hK161 : ∀ (v1 : Int32) (v2 : Int32) (v3 : Int32) (v4 : Int32) (v5 : Int32) (σ : St), K161 v1 v2 v3 v4 v5 σ → AX Z 0 0 161 [(0, .ref (L 0)), (1, .int v1), (2, .int v2), (3, .int v3), (4, .int v4), (5, .int v5)] [] (mW G L σ)) (v1 : Int32) (v2 : Int32) (v3 : Int32) (v4 : Int32) (v5 : Int32) (v6 : Int32) (σ : St) (h : wm_canAll_j299 P K161 v1 v2 v3 v4 v5 v6 σ) : AX Z 0 0 299 [(0, .ref (L 0)), (1, .int v1), (2, .int v2), (3, .int v3), (4, .int v4), (5, .int v5), (6, .int v6)] [] (mW G L σ) := by
  unfold wm_canAll_j299 at h
  refine ax_iload K 6 rfl dX2_canAll_299 ?_
  refine ax_if_eq (tgt := 323) K dX2_canAll_301 (by decide) (fun c301 => ?_) (fun c301 => ?_)
  · have h := ax_it h c301
    exact ax_sub [0, 1, 2, 3, 4, 5] rfl (km_canAll_j323 K E hK161 v1 v2 v3 v4 v5 σ h)
  · have h := ax_ie h c301
    refine ax_aload_n K 0 rfl dX2_canAll_304 ?_
    refine mg_lastsOf K dX2_canAll_305 ?_
    refine ax_iload K 4 rfl dX2_canAll_308 ?_
    refine ax_iconst (v := (1 : Int32)) K (by decide) dX2_canAll_310 ?_
    refine ax_iload K 5 rfl dX2_canAll_311 ?_
    refine ax_ishl K dX2_canAll_313 ?_
    refine ax_ior K dX2_canAll_314 ?_
    refine ax_dup2 K rfl rfl dX2_canAll_315 ?_
    refine ml_lastsOf K h.1 dX2_canAll_316 ?_
    replace h := h.2
    refine ax_iconst (v := (1 : Int32)) K (by decide) dX2_canAll_317 ?_
    refine ax_iload K 5 rfl dX2_canAll_318 ?_
    refine ax_ishl K dX2_canAll_320 ?_
    refine ax_ior K dX2_canAll_321 ?_
    refine ms_lastsOf K h.1 dX2_canAll_322 ?_
    replace h := h.2
    exact ax_sub [0, 1, 2, 3, 4, 5] rfl (km_canAll_j323 K E hK161 v1 v2 v3 v4 v5 (mU_lastsOf σ (v4 ||| ((1 : Int32) <<< (v5 &&& 31))) ((mA_lastsOf σ ((v4 ||| ((1 : Int32) <<< (v5 &&& 31)))).toNatClampNeg) ||| ((1 : Int32) <<< (v5 &&& 31)))) h)
set_option maxHeartbeats 4000000 in
theorem km_canAll_j215 {Z : AZ} {G : AG} {L : Nat → Nat} {P : Int32 → St → Prop} (K : AK Z G cX2_canAll RX2 8 (rmH 3)) (E : AEi Z cX2_canAll .boolean (mW G L) 0 0 P) {K161 : Int32 → Int32 → Int32 → Int32 → Int32 → St → Prop} (hK161 : ∀ (v1 : Int32) (v2 : Int32) (v3 : Int32) (v4 : Int32) (v5 : Int32) (σ : St), K161 v1 v2 v3 v4 v5 σ → AX Z 0 0 161 [(0, .ref (L 0)), (1, .int v1), (2, .int v2), (3, .int v3), (4, .int v4), (5, .int v5)] [] (mW G L σ)) (v1 : Int32) (v2 : Int32) (v3 : Int32) (v4 : Int32) (v5 : Int32) (s0 : Int32) (σ : St) (h : wm_canAll_j215 P K161 v1 v2 v3 v4 v5 s0 σ) : AX Z 0 0 215 [(0, .ref (L 0)), (1, .int v1), (2, .int v2), (3, .int v3), (4, .int v4), (5, .int v5)] [.int s0] (mW G L σ) := by
  unfold wm_canAll_j215 at h
  refine ax_istore (lv' := [(6, .int s0), (0, .ref (L 0)), (1, .int v1), (2, .int v2), (3, .int v3), (4, .int v4), (5, .int v5)]) K dX2_canAll_215 (by decide) rfl ?_
  refine ax_iconst (v := (0 : Int32)) K (by decide) dX2_canAll_217 ?_
  refine ax_istore (lv' := [(7, .int (0 : Int32)), (6, .int s0), (0, .ref (L 0)), (1, .int v1), (2, .int v2), (3, .int v3), (4, .int v4), (5, .int v5)]) K dX2_canAll_218 (by decide) rfl ?_
  exact ax_sub [2, 3, 4, 5, 6, 7, 1, 0] rfl (h.elim fun n220 h => km_canAll_l220 K E (km_canAll_j299 K E hK161) n220 v1 v2 v3 v4 v5 s0 (0 : Int32) σ h)
set_option maxHeartbeats 4000000 in
theorem km_canAll_j205 {Z : AZ} {G : AG} {L : Nat → Nat} {P : Int32 → St → Prop} (K : AK Z G cX2_canAll RX2 8 (rmH 3)) (E : AEi Z cX2_canAll .boolean (mW G L) 0 0 P) {K161 : Int32 → Int32 → Int32 → Int32 → Int32 → St → Prop} (hK161 : ∀ (v1 : Int32) (v2 : Int32) (v3 : Int32) (v4 : Int32) (v5 : Int32) (σ : St), K161 v1 v2 v3 v4 v5 σ → AX Z 0 0 161 [(0, .ref (L 0)), (1, .int v1), (2, .int v2), (3, .int v3), (4, .int v4), (5, .int v5)] [] (mW G L σ)) (v1 : Int32) (v2 : Int32) (v3 : Int32) (v4 : Int32) (v5 : Int32) (σ : St) (h : wm_canAll_j205 P K161 v1 v2 v3 v4 v5 σ) : AX Z 0 0 205 [(0, .ref (L 0)), (1, .int v1), (2, .int v2), (3, .int v3), (4, .int v4), (5, .int v5)] [] (mW G L σ) := by
  unfold wm_canAll_j205 at h
  refine ax_iload K 4 rfl dX2_canAll_205 ?_
  refine ax_if_ne (tgt := 214) K dX2_canAll_207 (by decide) (fun c207 => ?_) (fun c207 => ?_)
  · have h := ax_ie h c207
    refine ax_iconst (v := (0 : Int32)) K (by decide) dX2_canAll_214 ?_
    exact ax_sub [0, 1, 2, 3, 4, 5] rfl (km_canAll_j215 K E hK161 v1 v2 v3 v4 v5 (0 : Int32) σ h)
  · have h := ax_it h c207
    refine ax_iconst (v := (1 : Int32)) K (by decide) dX2_canAll_210 ?_
    refine ax_goto (tgt := 215) K dX2_canAll_211 (by decide) ?_
    exact ax_sub [0, 1, 2, 3, 4, 5] rfl (km_canAll_j215 K E hK161 v1 v2 v3 v4 v5 (1 : Int32) σ h)
set_option maxHeartbeats 4000000 in
theorem km_canAll_l161 {Z : AZ} {G : AG} {L : Nat → Nat} {P : Int32 → St → Prop} (K : AK Z G cX2_canAll RX2 8 (rmH 3)) (E : AEi Z cX2_canAll .boolean (mW G L) 0 0 P) {K152 : Int32 → Int32 → Int32 → Int32 → St → Prop} (hK152 : ∀ (v1 : Int32) (v2 : Int32) (v3 : Int32) (v4 : Int32) (σ : St), K152 v1 v2 v3 v4 σ → AX Z 0 0 152 [(0, .ref (L 0)), (1, .int v1), (2, .int v2), (3, .int v3), (4, .int v4)] [] (mW G L σ)) : ∀ (n : Nat) (v1 : Int32) (v2 : Int32) (v3 : Int32) (v4 : Int32) (v5 : Int32) (σ : St), wm_canAll_l161 P K152 n v1 v2 v3 v4 v5 σ → AX Z 0 0 161 [(0, .ref (L 0)), (1, .int v1), (2, .int v2), (3, .int v3), (4, .int v4), (5, .int v5)] [] (mW G L σ) := by
  intro n
  induction n with
  | zero => intro v1 v2 v3 v4 v5 σ h; exact False.elim h
  | succ n ih =>
    intro v1 v2 v3 v4 v5 σ h
    rw [wm_canAll_l161_s] at h
    refine ax_iload K 5 rfl dX2_canAll_161 ?_
    refine ax_iload_n K 1 rfl dX2_canAll_163 ?_
    refine ax_icmp_ge (tgt := 329) K dX2_canAll_164 (by decide) (fun c164 => ?_) (fun c164 => ?_)
    · have h := ax_it h c164
      refine ax_iinc (lv' := [(4, .int (v4 + (1 : Int32))), (0, .ref (L 0)), (1, .int v1), (2, .int v2), (3, .int v3), (5, .int v5)]) (v := (v4 + (1 : Int32))) K 4 dX2_canAll_329 rfl (by rfl) (by decide) rfl ?_
      refine ax_goto (tgt := 152) K dX2_canAll_332 (by decide) ?_
      exact ax_sub [1, 2, 3, 4, 0] rfl (hK152 v1 v2 v3 (v4 + (1 : Int32)) σ h)
    · have h := ax_ie h c164
      refine ax_iload K 4 rfl dX2_canAll_167 ?_
      refine ax_iload K 5 rfl dX2_canAll_169 ?_
      refine rm_has K (by decide) dX2_canAll_171 (Nat.le_of_ble_eq_true rfl) h (fun r171 h => ?_)
      refine ax_if_ne (tgt := 323) K dX2_canAll_174 (by decide) (fun c174 => ?_) (fun c174 => ?_)
      · have h := ax_ie h c174
        exact ax_sub [0, 1, 2, 3, 4, 5] rfl (km_canAll_j323 K E ih v1 v2 v3 v4 v5 σ h)
      · have h := ax_it h c174
        refine ax_aload_n K 0 rfl dX2_canAll_177 ?_
        refine mg_heat K dX2_canAll_178 ?_
        refine ax_iconst (v := (1 : Int32)) K (by decide) dX2_canAll_181 ?_
        refine ax_icmp_ne (tgt := 205) K dX2_canAll_182 (by decide) (fun c182 => ?_) (fun c182 => ?_)
        · have h := ax_ie h c182
          exact ax_sub [0, 1, 2, 3, 4, 5] rfl (km_canAll_j205 K E ih v1 v2 v3 v4 v5 σ h)
        · have h := ax_it h c182
          refine ax_aload_n K 0 rfl dX2_canAll_185 ?_
          refine mg_isHot K dX2_canAll_186 ?_
          refine ax_iload K 5 rfl dX2_canAll_189 ?_
          refine ml_isHot K h.1 dX2_canAll_191 ?_
          replace h := h.2
          refine ax_if_ne (tgt := 205) K dX2_canAll_192 (by decide) (fun c192 => ?_) (fun c192 => ?_)
          · have h := ax_ie h c192
            exact ax_sub [0, 1, 2, 3, 4, 5] rfl (km_canAll_j205 K E ih v1 v2 v3 v4 v5 σ h)
          · have h := ax_it h c192
            refine ax_iload K 4 rfl dX2_canAll_195 ?_
            refine ax_iload_n K 3 rfl dX2_canAll_197 ?_
            refine ax_iand K dX2_canAll_198 ?_
            refine ax_if_eq (tgt := 205) K dX2_canAll_199 (by decide) (fun c199 => ?_) (fun c199 => ?_)
            · have h := ax_it h c199
              exact ax_sub [0, 1, 2, 3, 4, 5] rfl (km_canAll_j205 K E ih v1 v2 v3 v4 v5 σ h)
            · have h := ax_ie h c199
              refine ax_goto (tgt := 323) K dX2_canAll_202 (by decide) ?_
              exact ax_sub [0, 1, 2, 3, 4, 5] rfl (km_canAll_j323 K E ih v1 v2 v3 v4 v5 σ h)
set_option maxHeartbeats 4000000 in
theorem km_canAll_l152 {Z : AZ} {G : AG} {L : Nat → Nat} {P : Int32 → St → Prop} (K : AK Z G cX2_canAll RX2 8 (rmH 3)) (E : AEi Z cX2_canAll .boolean (mW G L) 0 0 P) {K348 : St → Prop} (hK348 : ∀ (σ : St), K348 σ → AX Z 0 0 348 [(0, .ref (L 0))] [] (mW G L σ)) {K353 : Int32 → St → Prop} (hK353 : ∀ (s0 : Int32) (σ : St), K353 s0 σ → AX Z 0 0 353 [(0, .ref (L 0))] [.int s0] (mW G L σ)) : ∀ (n : Nat) (v1 : Int32) (v2 : Int32) (v3 : Int32) (v4 : Int32) (σ : St), wm_canAll_l152 P K348 K353 n v1 v2 v3 v4 σ → AX Z 0 0 152 [(0, .ref (L 0)), (1, .int v1), (2, .int v2), (3, .int v3), (4, .int v4)] [] (mW G L σ) := by
  intro n
  induction n with
  | zero => intro v1 v2 v3 v4 σ h; exact False.elim h
  | succ n ih =>
    intro v1 v2 v3 v4 σ h
    rw [wm_canAll_l152_s] at h
    refine ax_iload K 4 rfl dX2_canAll_152 ?_
    refine ax_iload_n K 2 rfl dX2_canAll_154 ?_
    refine ax_icmp_ge (tgt := 335) K dX2_canAll_155 (by decide) (fun c155 => ?_) (fun c155 => ?_)
    · have h := ax_it h c155
      refine ax_iload_n K 1 rfl dX2_canAll_335 ?_
      refine ax_if_eq (tgt := 348) K dX2_canAll_336 (by decide) (fun c336 => ?_) (fun c336 => ?_)
      · have h := ax_it h c336
        exact ax_sub [0] rfl (hK348 σ h)
      · have h := ax_ie h c336
        refine ax_aload_n K 0 rfl dX2_canAll_339 ?_
        refine mg_lastsOf K dX2_canAll_340 ?_
        refine ax_iload_n K 2 rfl dX2_canAll_343 ?_
        refine ml_lastsOf K h.1 dX2_canAll_344 ?_
        replace h := h.2
        refine ax_if_eq (tgt := 352) K dX2_canAll_345 (by decide) (fun c345 => ?_) (fun c345 => ?_)
        · have h := ax_it h c345
          refine ax_iconst (v := (0 : Int32)) K (by decide) dX2_canAll_352 ?_
          exact ax_sub [0] rfl (hK353 (0 : Int32) σ h)
        · have h := ax_ie h c345
          exact ax_sub [0] rfl (hK348 σ h)
    · have h := ax_ie h c155
      refine ax_iconst (v := (0 : Int32)) K (by decide) dX2_canAll_158 ?_
      refine ax_istore (lv' := [(5, .int (0 : Int32)), (0, .ref (L 0)), (1, .int v1), (2, .int v2), (3, .int v3), (4, .int v4)]) K dX2_canAll_159 (by decide) rfl ?_
      exact ax_sub [1, 2, 3, 4, 5, 0] rfl (h.elim fun n161 h => km_canAll_l161 K E ih n161 v1 v2 v3 v4 (0 : Int32) σ h)
set_option maxHeartbeats 4000000 in
theorem km_canAll_j353 {Z : AZ} {G : AG} {L : Nat → Nat} {P : Int32 → St → Prop} (K : AK Z G cX2_canAll RX2 8 (rmH 3)) (E : AEi Z cX2_canAll .boolean (mW G L) 0 0 P) (s0 : Int32) (σ : St) (h : wm_canAll_j353 P  s0 σ) : AX Z 0 0 353 [(0, .ref (L 0))] [.int s0] (mW G L σ) := by
  unfold wm_canAll_j353 at h
  exact E _ _ _ _ dX2_canAll_353 h.1 h.2
set_option maxHeartbeats 4000000 in
theorem km_canAll_j348 {Z : AZ} {G : AG} {L : Nat → Nat} {P : Int32 → St → Prop} (K : AK Z G cX2_canAll RX2 8 (rmH 3)) (E : AEi Z cX2_canAll .boolean (mW G L) 0 0 P) (σ : St) (h : wm_canAll_j348 P  σ) : AX Z 0 0 348 [(0, .ref (L 0))] [] (mW G L σ) := by
  unfold wm_canAll_j348 at h
  refine ax_iconst (v := (1 : Int32)) K (by decide) dX2_canAll_348 ?_
  refine ax_goto (tgt := 353) K dX2_canAll_349 (by decide) ?_
  exact ax_sub [0] rfl (km_canAll_j353 K E  (1 : Int32) σ h)
set_option maxHeartbeats 4000000 in
theorem mm_canAll {l : Launch} {G : AG} {L : Nat → Nat} {σ : St} {v1 : Int32} {P : Int32 → St → Prop} (h : wm_canAll σ v1 P) : CtW l G yX2_canAll cX2_canAll 8 (some .boolean) (rmH 3) [.ref (L 0), .int v1] (mW G L) σ (pI P) := by
  refine CtW.ofI (by decide) (Nat.le_of_ble_eq_true rfl) fun Z _ K E => ?_
  unfold wm_canAll at h
  show AX Z 0 0 0 [(0, .ref (L 0)), (1, .int v1)] [] (mW G L σ)
  refine ax_iconst (v := (1 : Int32)) K (by decide) dX2_canAll_0 ?_
  refine ax_iload_n K 1 rfl dX2_canAll_1 ?_
  refine ax_ishl K dX2_canAll_2 ?_
  refine ax_iconst (v := (1 : Int32)) K (by decide) dX2_canAll_3 ?_
  refine ax_isub K dX2_canAll_4 ?_
  refine ax_istore_n (lv' := [(2, .int (((1 : Int32) <<< (v1 &&& 31)) - (1 : Int32))), (0, .ref (L 0)), (1, .int v1)]) K dX2_canAll_5 (by decide) rfl ?_
  refine ax_iconst (v := (0 : Int32)) K (by decide) dX2_canAll_6 ?_
  refine ax_istore_n (lv' := [(3, .int (0 : Int32)), (2, .int (((1 : Int32) <<< (v1 &&& 31)) - (1 : Int32))), (0, .ref (L 0)), (1, .int v1)]) K dX2_canAll_7 (by decide) rfl ?_
  refine ax_iconst (v := (0 : Int32)) K (by decide) dX2_canAll_8 ?_
  refine ax_istore (lv' := [(4, .int (0 : Int32)), (3, .int (0 : Int32)), (2, .int (((1 : Int32) <<< (v1 &&& 31)) - (1 : Int32))), (0, .ref (L 0)), (1, .int v1)]) K dX2_canAll_9 (by decide) rfl ?_
  exact ax_sub [3, 4, 2, 1, 0] rfl (h.elim fun n11 h => km_canAll_l11 K E (fun v1 v2 v3 v4 σ h => h.elim fun n47 h => km_canAll_l47 K E (fun v1 v2 v3 v4 σ h => h.elim fun n129 h => km_canAll_l129 K E (fun v1 v2 v3 v4 σ h => h.elim fun n152 h => km_canAll_l152 K E (km_canAll_j348 K E) (km_canAll_j353 K E) n152 v1 v2 v3 v4 σ h) n129 v1 v2 v3 v4 σ h) n47 v1 v2 v3 v4 σ h) n11 v1 (((1 : Int32) <<< (v1 &&& 31)) - (1 : Int32)) (0 : Int32) (0 : Int32) σ h)
theorem rm_canAll {Z : AZ} {G : AG} {cc : ByteArray} {mL hh pc : Nat} {lv : List (Nat × Value)} {rest : List Value} {L : Nat → Nat} {σ : St} (K : AK Z G cc RX2 mL (rmH hh)) (hlt : 3 < hh) (d : decode cc pc = .ok (.invokevirtual 393, 3)) (hrest : (rest.map fun v => v.category).sum ≤ 8) {v1 : Int32} {P : Int32 → St → Prop} (h : sm_canAll σ v1 P) (kk : ∀ (r : Int32) (σ' : St), P r σ' → AX Z 0 0 (pc + 3) lv (.int r :: rest) (mW G L σ')) : AX Z 0 0 pc lv (.int v1 :: .ref (L 0) :: rest) (mW G L σ) :=
  ax_callV (N0 := 1) (As := [.int v1]) K (mm_canAll (sm_canAll_ok h)) q1604 q1606 qs115 q118 q1607 ⟨rfl, by decide, by decide, by decide⟩ rfl ⟨by show 3 + 1 + 1 ≤ hh + 1; omega, by show 8 + (8 + 11) + 60 * (3 + 1) ≤ 60 * (hh + 1); omega⟩ ⟨Nat.zero_le _, Nat.zero_le _⟩ rfl rfl rfl hrest d (fun r σ' hp => by obtain ⟨v, rfl, hp⟩ := hp; exact kk v σ' hp)
/-! m.guest -/
set_option maxHeartbeats 4000000 in
theorem km_guest_j22 {Z : AZ} {G : AG} {L : Nat → Nat} {P : Int32 → St → Prop} (K : AK Z G cX2_guest RX2 3 (rmH 3)) (E : AEi Z cX2_guest .int (mW G L) 0 0 P) (σ : St) (h : wm_guest_j22 P  σ) : AX Z 0 0 22 [(0, .ref (L 0))] [] (mW G L σ) := by
  unfold wm_guest_j22 at h
  refine ax_aload_n K 0 rfl dX2_guest_22 ?_
  refine rm_lost K (by decide) dX2_guest_23 (Nat.le_of_ble_eq_true rfl) h (fun r23 σ23 h => ?_)
  exact E _ _ _ _ dX2_guest_26 rfl h
set_option maxHeartbeats 4000000 in
theorem km_guest_j46 {Z : AZ} {G : AG} {L : Nat → Nat} {P : Int32 → St → Prop} (K : AK Z G cX2_guest RX2 3 (rmH 3)) (E : AEi Z cX2_guest .int (mW G L) 0 0 P) (s0 : Int32) (σ : St) (h : wm_guest_j46 P  s0 σ) : AX Z 0 0 46 [(0, .ref (L 0))] [.int s0] (mW G L σ) := by
  unfold wm_guest_j46 at h
  exact E _ _ _ _ dX2_guest_46 rfl h
set_option maxHeartbeats 4000000 in
theorem mm_guest {l : Launch} {G : AG} {L : Nat → Nat} {σ : St} {v1 : Int32} {v2 : Int32} {P : Int32 → St → Prop} (h : wm_guest σ v1 v2 P) : CtW l G yX2_guest cX2_guest 3 (some .int) (rmH 3) [.ref (L 0), .int v1, .int v2] (mW G L) σ (pI P) := by
  refine CtW.ofI (by decide) (Nat.le_of_ble_eq_true rfl) fun Z _ K E => ?_
  unfold wm_guest at h
  show AX Z 0 0 0 [(0, .ref (L 0)), (1, .int v1), (2, .int v2)] [] (mW G L σ)
  refine ax_aload_n K 0 rfl dX2_guest_0 ?_
  refine ax_iconst (v := (0 : Int32)) K (by decide) dX2_guest_1 ?_
  refine mp_thrown K dX2_guest_2 ?_
  refine ax_aload_n K 0 rfl dX2_guest_5 ?_
  refine ax_iload_n K 1 rfl dX2_guest_6 ?_
  refine rm_isGuest K (by decide) dX2_guest_7 (Nat.le_of_ble_eq_true rfl) h (fun r7 σ7 h => ?_)
  refine ax_if_eq (tgt := 22) K dX2_guest_10 (by decide) (fun c10 => ?_) (fun c10 => ?_)
  · have h := ax_it h c10
    exact ax_sub [0] rfl (km_guest_j22 K E  σ7 h)
  · have h := ax_ie h c10
    refine ax_iload_n K 2 rfl dX2_guest_13 ?_
    refine ax_iconst (v := (0 : Int32)) K (by decide) dX2_guest_14 ?_
    refine ax_iconst (v := (1 : Int32)) K (by decide) dX2_guest_15 ?_
    refine rm_in K (by decide) dX2_guest_16 (Nat.le_of_ble_eq_true rfl) h (fun r16 h => ?_)
    refine ax_if_ne (tgt := 27) K dX2_guest_19 (by decide) (fun c19 => ?_) (fun c19 => ?_)
    · have h := ax_ie h c19
      refine ax_iload_n K 2 rfl dX2_guest_27 ?_
      refine ax_if_ne (tgt := 40) K dX2_guest_28 (by decide) (fun c28 => ?_) (fun c28 => ?_)
      · have h := ax_ie h c28
        refine ax_aload_n K 0 rfl dX2_guest_40 ?_
        refine mg_bars K dX2_guest_41 ?_
        refine ax_iload_n K 1 rfl dX2_guest_44 ?_
        refine ml_bars K h.1 dX2_guest_45 ?_
        replace h := h.2
        exact ax_sub [0] rfl (km_guest_j46 K E  (mA_bars σ7 (v1).toNatClampNeg) σ7 h)
      · have h := ax_it h c28
        refine ax_aload_n K 0 rfl dX2_guest_31 ?_
        refine mg_loves K dX2_guest_32 ?_
        refine ax_iload_n K 1 rfl dX2_guest_35 ?_
        refine ml_loves K h.1 dX2_guest_36 ?_
        replace h := h.2
        refine ax_goto (tgt := 46) K dX2_guest_37 (by decide) ?_
        exact ax_sub [0] rfl (km_guest_j46 K E  (mA_loves σ7 (v1).toNatClampNeg) σ7 h)
    · have h := ax_it h c19
      exact ax_sub [0] rfl (km_guest_j22 K E  σ7 h)

/-! m.isAsked -/
set_option maxHeartbeats 4000000 in
theorem km_isAsked_j26 {Z : AZ} {G : AG} {L : Nat → Nat} {P : Int32 → St → Prop} (K : AK Z G cX2_isAsked RX2 5 (rmH 3)) (E : AEi Z cX2_isAsked .boolean (mW G L) 0 0 P) (s0 : Int32) (σ : St) (h : wm_isAsked_j26 P  s0 σ) : AX Z 0 0 26 [(0, .ref (L 0))] [.int s0] (mW G L σ) := by
  unfold wm_isAsked_j26 at h
  exact E _ _ _ _ dX2_isAsked_26 h.1 h.2
set_option maxHeartbeats 4000000 in
theorem km_isAsked_j21 {Z : AZ} {G : AG} {L : Nat → Nat} {P : Int32 → St → Prop} (K : AK Z G cX2_isAsked RX2 5 (rmH 3)) (E : AEi Z cX2_isAsked .boolean (mW G L) 0 0 P) (σ : St) (h : wm_isAsked_j21 P  σ) : AX Z 0 0 21 [(0, .ref (L 0))] [] (mW G L σ) := by
  unfold wm_isAsked_j21 at h
  refine ax_iconst (v := (1 : Int32)) K (by decide) dX2_isAsked_21 ?_
  refine ax_goto (tgt := 26) K dX2_isAsked_22 (by decide) ?_
  exact ax_sub [0] rfl (km_isAsked_j26 K E  (1 : Int32) σ h)
set_option maxHeartbeats 4000000 in
theorem mm_isAsked {l : Launch} {G : AG} {L : Nat → Nat} {σ : St} {v1 : Int32} {v2 : Int32} {v3 : Int32} {P : Int32 → St → Prop} (h : wm_isAsked σ v1 v2 v3 P) : CtW l G yX2_isAsked cX2_isAsked 5 (some .boolean) (rmH 3) [.ref (L 0), .int v1, .int v2, .int v3] (mW G L) σ (pI P) := by
  refine CtW.ofI (by decide) (Nat.le_of_ble_eq_true rfl) fun Z _ K E => ?_
  unfold wm_isAsked at h
  show AX Z 0 0 0 [(0, .ref (L 0)), (1, .int v1), (2, .int v2), (3, .int v3)] [] (mW G L σ)
  refine ax_aload_n K 0 rfl dX2_isAsked_0 ?_
  refine ax_iload_n K 1 rfl dX2_isAsked_1 ?_
  refine ax_iload_n K 2 rfl dX2_isAsked_2 ?_
  refine rm_menuAt K (by decide) dX2_isAsked_3 (Nat.le_of_ble_eq_true rfl) h (fun r3 σ3 h => ?_)
  refine ax_istore (lv' := [(4, .int r3), (0, .ref (L 0)), (1, .int v1), (2, .int v2), (3, .int v3)]) K dX2_isAsked_6 (by decide) rfl ?_
  refine ax_iload K 0 rfl dX2_isAsked_8 ?_
  refine ax_bipush (v := (99 : Int32)) K (by decide) dX2_isAsked_10 ?_
  refine ax_icmp_eq (tgt := 21) K dX2_isAsked_12 (by decide) (fun c12 => ?_) (fun c12 => ?_)
  · have h := ax_it h c12
    exact ax_sub [1] rfl (km_isAsked_j21 K E  σ3 h)
  · have h := ax_ie h c12
    refine ax_iload K 0 rfl dX2_isAsked_15 ?_
    refine ax_iload_n K 4 rfl dX2_isAsked_17 ?_
    refine ax_icmp_ne (tgt := 25) K dX2_isAsked_18 (by decide) (fun c18 => ?_) (fun c18 => ?_)
    · have h := ax_ie h c18
      refine ax_iconst (v := (0 : Int32)) K (by decide) dX2_isAsked_25 ?_
      exact ax_sub [1] rfl (km_isAsked_j26 K E  (0 : Int32) σ3 h)
    · have h := ax_it h c18
      exact ax_sub [1] rfl (km_isAsked_j21 K E  σ3 h)
theorem rm_isAsked {Z : AZ} {G : AG} {cc : ByteArray} {mL hh pc : Nat} {lv : List (Nat × Value)} {rest : List Value} {L : Nat → Nat} {σ : St} (K : AK Z G cc RX2 mL (rmH hh)) (hlt : 3 < hh) (d : decode cc pc = .ok (.invokevirtual 381, 3)) (hrest : (rest.map fun v => v.category).sum ≤ 8) {v1 : Int32} {v2 : Int32} {v3 : Int32} {P : Int32 → St → Prop} (h : sm_isAsked σ v1 v2 v3 P) (kk : ∀ (r : Int32) (σ' : St), P r σ' → AX Z 0 0 (pc + 3) lv (.int r :: rest) (mW G L σ')) : AX Z 0 0 pc lv (.int v3 :: .int v2 :: .int v1 :: .ref (L 0) :: rest) (mW G L σ) :=
  ax_callV (N0 := 3) (As := [.int v1, .int v2, .int v3]) K (mm_isAsked (sm_isAsked_ok h)) q1572 q1574 qs113 q118 q1575 ⟨rfl, by decide, by decide, by decide⟩ rfl ⟨by show 3 + 1 + 1 ≤ hh + 1; omega, by show 8 + (5 + 11) + 60 * (3 + 1) ≤ 60 * (hh + 1); omega⟩ ⟨Nat.zero_le _, Nat.zero_le _⟩ rfl rfl rfl hrest d (fun r σ' hp => by obtain ⟨v, rfl, hp⟩ := hp; exact kk v σ' hp)
/-! m.isWhole -/
set_option maxHeartbeats 4000000 in
theorem km_isWhole_l12 {Z : AZ} {G : AG} {L : Nat → Nat} {P : Int32 → St → Prop} (K : AK Z G cX2_isWhole RX2 3 (rmH 3)) (E : AEi Z cX2_isWhole .boolean (mW G L) 0 0 P) : ∀ (n : Nat) (v1 : Int32) (v2 : Int32) (σ : St), wm_isWhole_l12 P  n v1 v2 σ → AX Z 0 0 12 [(0, .ref (L 0)), (1, .int v1), (2, .int v2)] [] (mW G L σ) := by
  intro n
  induction n with
  | zero => intro v1 v2 σ h; exact False.elim h
  | succ n ih =>
    intro v1 v2 σ h
    rw [wm_isWhole_l12_s] at h
    refine ax_iload_n K 2 rfl dX2_isWhole_12 ?_
    refine ax_aload_n K 0 rfl dX2_isWhole_13 ?_
    refine mg_menuLong K dX2_isWhole_14 ?_
    refine ax_iload_n K 1 rfl dX2_isWhole_17 ?_
    refine ml_menuLong K h.1 dX2_isWhole_18 ?_
    replace h := h.2
    refine ax_icmp_ge (tgt := 46) K dX2_isWhole_19 (by decide) (fun c19 => ?_) (fun c19 => ?_)
    · have h := ax_it h c19
      refine ax_iconst (v := (1 : Int32)) K (by decide) dX2_isWhole_46 ?_
      exact E _ _ _ _ dX2_isWhole_47 rfl h
    · have h := ax_ie h c19
      refine ax_aload_n K 0 rfl dX2_isWhole_22 ?_
      refine mg_menus K dX2_isWhole_23 ?_
      refine ax_bipush (v := (10 : Int32)) K (by decide) dX2_isWhole_26 ?_
      refine ax_iload_n K 1 rfl dX2_isWhole_28 ?_
      refine ax_imul K dX2_isWhole_29 ?_
      refine ax_iload_n K 2 rfl dX2_isWhole_30 ?_
      refine ax_iadd K dX2_isWhole_31 ?_
      refine ml_menus K h.1 dX2_isWhole_32 ?_
      replace h := h.2
      refine ax_bipush (v := (99 : Int32)) K (by decide) dX2_isWhole_33 ?_
      refine ax_icmp_ne (tgt := 40) K dX2_isWhole_35 (by decide) (fun c35 => ?_) (fun c35 => ?_)
      · have h := ax_ie h c35
        refine ax_iinc (lv' := [(2, .int (v2 + (1 : Int32))), (0, .ref (L 0)), (1, .int v1)]) (v := (v2 + (1 : Int32))) K 2 dX2_isWhole_40 rfl (by rfl) (by decide) rfl ?_
        refine ax_goto (tgt := 12) K dX2_isWhole_43 (by decide) ?_
        exact ax_sub [1, 2, 0] rfl (ih v1 (v2 + (1 : Int32)) σ h)
      · have h := ax_it h c35
        refine ax_iconst (v := (0 : Int32)) K (by decide) dX2_isWhole_38 ?_
        exact E _ _ _ _ dX2_isWhole_39 rfl h
set_option maxHeartbeats 4000000 in
theorem mm_isWhole {l : Launch} {G : AG} {L : Nat → Nat} {σ : St} {v1 : Int32} {P : Int32 → St → Prop} (h : wm_isWhole σ v1 P) : CtW l G yX2_isWhole cX2_isWhole 3 (some .boolean) (rmH 3) [.ref (L 0), .int v1] (mW G L) σ (pI P) := by
  refine CtW.ofI (by decide) (Nat.le_of_ble_eq_true rfl) fun Z _ K E => ?_
  unfold wm_isWhole at h
  show AX Z 0 0 0 [(0, .ref (L 0)), (1, .int v1)] [] (mW G L σ)
  refine ax_aload_n K 0 rfl dX2_isWhole_0 ?_
  refine ax_iload_n K 1 rfl dX2_isWhole_1 ?_
  refine rm_isMenu K (by decide) dX2_isWhole_2 (Nat.le_of_ble_eq_true rfl) h (fun r2 σ2 h => ?_)
  refine ax_if_ne (tgt := 10) K dX2_isWhole_5 (by decide) (fun c5 => ?_) (fun c5 => ?_)
  · have h := ax_ie h c5
    refine ax_iconst (v := (0 : Int32)) K (by decide) dX2_isWhole_10 ?_
    refine ax_istore_n (lv' := [(2, .int (0 : Int32)), (0, .ref (L 0)), (1, .int v1)]) K dX2_isWhole_11 (by decide) rfl ?_
    exact ax_sub [1, 2, 0] rfl (h.elim fun n12 h => km_isWhole_l12 K E  n12 v1 (0 : Int32) σ2 h)
  · have h := ax_it h c5
    refine ax_iconst (v := (0 : Int32)) K (by decide) dX2_isWhole_8 ?_
    exact E _ _ _ _ dX2_isWhole_9 rfl h
theorem rm_isWhole {Z : AZ} {G : AG} {cc : ByteArray} {mL hh pc : Nat} {lv : List (Nat × Value)} {rest : List Value} {L : Nat → Nat} {σ : St} (K : AK Z G cc RX2 mL (rmH hh)) (hlt : 3 < hh) (d : decode cc pc = .ok (.invokevirtual 292, 3)) (hrest : (rest.map fun v => v.category).sum ≤ 8) {v1 : Int32} {P : Int32 → St → Prop} (h : sm_isWhole σ v1 P) (kk : ∀ (r : Int32) (σ' : St), P r σ' → AX Z 0 0 (pc + 3) lv (.int r :: rest) (mW G L σ')) : AX Z 0 0 pc lv (.int v1 :: .ref (L 0) :: rest) (mW G L σ) :=
  ax_callV (N0 := 1) (As := [.int v1]) K (mm_isWhole (sm_isWhole_ok h)) q1387 q1389 qs89 q118 q1390 ⟨rfl, by decide, by decide, by decide⟩ rfl ⟨by show 3 + 1 + 1 ≤ hh + 1; omega, by show 8 + (3 + 11) + 60 * (3 + 1) ≤ 60 * (hh + 1); omega⟩ ⟨Nat.zero_le _, Nat.zero_le _⟩ rfl rfl rfl hrest d (fun r σ' hp => by obtain ⟨v, rfl, hp⟩ := hp; exact kk v σ' hp)
/-! m.law -/
set_option maxHeartbeats 4000000 in
theorem km_law_j73 {Z : AZ} {G : AG} {L : Nat → Nat} {P : Int32 → St → Prop} (K : AK Z G cX2_law RX2 4 (rmH 3)) (E : AEi Z cX2_law .int (mW G L) 0 0 P) (v3 : Int32) (σ : St) (h : wm_law_j73 P  v3 σ) : AX Z 0 0 73 [(0, .ref (L 0)), (3, .int v3)] [] (mW G L σ) := by
  unfold wm_law_j73 at h
  refine ax_iload_n K 1 rfl dX2_law_73 ?_
  exact E _ _ _ _ dX2_law_74 rfl h
set_option maxHeartbeats 4000000 in
theorem km_law_j42 {Z : AZ} {G : AG} {L : Nat → Nat} {P : Int32 → St → Prop} (K : AK Z G cX2_law RX2 4 (rmH 3)) (E : AEi Z cX2_law .int (mW G L) 0 0 P) (v1 : Int32) (v2 : Int32) (s0 : Int32) (σ : St) (h : wm_law_j42 P  v1 v2 s0 σ) : AX Z 0 0 42 [(0, .ref (L 0)), (1, .int v1), (2, .int v2)] [.int s0] (mW G L σ) := by
  unfold wm_law_j42 at h
  refine ax_istore_n (lv' := [(3, .int s0), (0, .ref (L 0)), (1, .int v1), (2, .int v2)]) K dX2_law_42 (by decide) rfl ?_
  refine ax_iload_n K 2 rfl dX2_law_43 ?_
  refine ax_if_ne (tgt := 55) K dX2_law_44 (by decide) (fun c44 => ?_) (fun c44 => ?_)
  · have h := ax_ie h c44
    refine ax_iload_n K 2 rfl dX2_law_55 ?_
    refine ax_iconst (v := (1 : Int32)) K (by decide) dX2_law_56 ?_
    refine ax_icmp_ne (tgt := 68) K dX2_law_57 (by decide) (fun c57 => ?_) (fun c57 => ?_)
    · have h := ax_ie h c57
      refine ax_aload_n K 1 rfl dX2_law_68 ?_
      refine ax_iload_n K 3 rfl dX2_law_69 ?_
      refine mp_heat K dX2_law_70 ?_
      exact ax_sub [1, 0] rfl (km_law_j73 K E  s0 (mS_heat σ v2) h)
    · have h := ax_it h c57
      refine ax_aload_n K 1 rfl dX2_law_60 ?_
      refine ax_iload_n K 3 rfl dX2_law_61 ?_
      refine mp_times K dX2_law_62 ?_
      refine ax_goto (tgt := 73) K dX2_law_65 (by decide) ?_
      exact ax_sub [1, 0] rfl (km_law_j73 K E  s0 (mS_times σ v2) h)
  · have h := ax_it h c44
    refine ax_aload_n K 1 rfl dX2_law_47 ?_
    refine ax_iload_n K 3 rfl dX2_law_48 ?_
    refine mp_share K dX2_law_49 ?_
    refine ax_goto (tgt := 73) K dX2_law_52 (by decide) ?_
    exact ax_sub [1, 0] rfl (km_law_j73 K E  s0 (mS_share σ v2) h)
set_option maxHeartbeats 4000000 in
theorem mm_law {l : Launch} {G : AG} {L : Nat → Nat} {σ : St} {v1 : Int32} {v2 : Int32} {P : Int32 → St → Prop} (h : wm_law σ v1 v2 P) : CtW l G yX2_law cX2_law 4 (some .int) (rmH 3) [.ref (L 0), .int v1, .int v2] (mW G L) σ (pI P) := by
  refine CtW.ofI (by decide) (Nat.le_of_ble_eq_true rfl) fun Z _ K E => ?_
  unfold wm_law at h
  show AX Z 0 0 0 [(0, .ref (L 0)), (1, .int v1), (2, .int v2)] [] (mW G L σ)
  refine ax_aload_n K 0 rfl dX2_law_0 ?_
  refine ax_iconst (v := (0 : Int32)) K (by decide) dX2_law_1 ?_
  refine mp_thrown K dX2_law_2 ?_
  refine ax_iload_n K 1 rfl dX2_law_5 ?_
  refine ax_iload_n K 2 rfl dX2_law_6 ?_
  refine rm_isLaw K (by decide) dX2_law_7 (Nat.le_of_ble_eq_true rfl) h (fun r7 h => ?_)
  refine ax_if_ne (tgt := 15) K dX2_law_10 (by decide) (fun c10 => ?_) (fun c10 => ?_)
  · have h := ax_ie h c10
    refine ax_iload_n K 1 rfl dX2_law_15 ?_
    refine ax_if_ne (tgt := 26) K dX2_law_16 (by decide) (fun c16 => ?_) (fun c16 => ?_)
    · have h := ax_ie h c16
      refine ax_iload_n K 1 rfl dX2_law_26 ?_
      refine ax_iconst (v := (1 : Int32)) K (by decide) dX2_law_27 ?_
      refine ax_icmp_ne (tgt := 38) K dX2_law_28 (by decide) (fun c28 => ?_) (fun c28 => ?_)
      · have h := ax_ie h c28
        refine ax_aload_n K 0 rfl dX2_law_38 ?_
        refine mg_heat K dX2_law_39 ?_
        exact ax_sub [0, 1, 2] rfl (km_law_j42 K E  v1 v2 (mI_heat (mS_thrown σ (0 : Int32))) (mS_thrown σ (0 : Int32)) h)
      · have h := ax_it h c28
        refine ax_aload_n K 0 rfl dX2_law_31 ?_
        refine mg_times K dX2_law_32 ?_
        refine ax_goto (tgt := 42) K dX2_law_35 (by decide) ?_
        exact ax_sub [0, 1, 2] rfl (km_law_j42 K E  v1 v2 (mI_times (mS_thrown σ (0 : Int32))) (mS_thrown σ (0 : Int32)) h)
    · have h := ax_it h c16
      refine ax_aload_n K 0 rfl dX2_law_19 ?_
      refine mg_share K dX2_law_20 ?_
      refine ax_goto (tgt := 42) K dX2_law_23 (by decide) ?_
      exact ax_sub [0, 1, 2] rfl (km_law_j42 K E  v1 v2 (mI_share (mS_thrown σ (0 : Int32))) (mS_thrown σ (0 : Int32)) h)
  · have h := ax_it h c10
    refine ax_iconst (v := (-1 : Int32)) K (by decide) dX2_law_13 ?_
    exact E _ _ _ _ dX2_law_14 rfl h

/-! m.letters -/
set_option maxHeartbeats 4000000 in
theorem km_letters_l4 {Z : AZ} {G : AG} {L : Nat → Nat} {P : Int32 → St → Prop} (K : AK Z G cX2_letters RX2 5 (rmH 3)) (E : AEi Z cX2_letters .int (mW G L) 0 0 P) {K73 : Int32 → Int32 → St → Prop} (hK73 : ∀ (v1 : Int32) (v2 : Int32) (σ : St), K73 v1 v2 σ → AX Z 0 0 73 [(0, .ref (L 0)), (1, .int v1), (2, .int v2)] [] (mW G L σ)) : ∀ (n : Nat) (v1 : Int32) (v2 : Int32) (v3 : Int32) (σ : St), wm_letters_l4 P K73 n v1 v2 v3 σ → AX Z 0 0 4 [(0, .ref (L 0)), (1, .int v1), (2, .int v2), (3, .int v3)] [] (mW G L σ) := by
  intro n
  induction n with
  | zero => intro v1 v2 v3 σ h; exact False.elim h
  | succ n ih =>
    intro v1 v2 v3 σ h
    rw [wm_letters_l4_s] at h
    refine ax_aload_n K 0 rfl dX2_letters_4 ?_
    refine rm_fine K (by decide) dX2_letters_5 (Nat.le_of_ble_eq_true rfl) h (fun r5 σ5 h => ?_)
    refine ax_if_eq (tgt := 73) K dX2_letters_8 (by decide) (fun c8 => ?_) (fun c8 => ?_)
    · have h := ax_it h c8
      exact ax_sub [0, 1, 2] rfl (hK73 v1 v2 σ5 h)
    · have h := ax_ie h c8
      refine ax_aload_n K 0 rfl dX2_letters_11 ?_
      refine rm_here K (by decide) dX2_letters_12 (Nat.le_of_ble_eq_true rfl) h (fun r12 σ12 h => ?_)
      refine ax_bipush (v := (97 : Int32)) K (by decide) dX2_letters_15 ?_
      refine ax_bipush (v := (104 : Int32)) K (by decide) dX2_letters_17 ?_
      refine rm_in K (by decide) dX2_letters_19 (Nat.le_of_ble_eq_true rfl) h (fun r19 h => ?_)
      refine ax_if_eq (tgt := 73) K dX2_letters_22 (by decide) (fun c22 => ?_) (fun c22 => ?_)
      · have h := ax_it h c22
        exact ax_sub [0, 1, 2] rfl (hK73 v1 v2 σ12 h)
      · have h := ax_ie h c22
        refine ax_aload_n K 0 rfl dX2_letters_25 ?_
        refine rm_here K (by decide) dX2_letters_26 (Nat.le_of_ble_eq_true rfl) h (fun r26 σ26 h => ?_)
        refine ax_bipush (v := (97 : Int32)) K (by decide) dX2_letters_29 ?_
        refine ax_isub K dX2_letters_31 ?_
        refine ax_istore (lv' := [(4, .int (r26 - (97 : Int32))), (0, .ref (L 0)), (1, .int v1), (2, .int v2), (3, .int v3)]) K dX2_letters_32 (by decide) rfl ?_
        refine ax_iload K 0 rfl dX2_letters_34 ?_
        refine ax_iload_n K 4 rfl dX2_letters_36 ?_
        refine ax_icmp_gt (tgt := 50) K dX2_letters_37 (by decide) (fun c37 => ?_) (fun c37 => ?_)
        · have h := ax_it h c37
          refine ax_iload K 0 rfl dX2_letters_50 ?_
          refine ax_istore_n (lv' := [(3, .int (r26 - (97 : Int32))), (4, .int (r26 - (97 : Int32))), (0, .ref (L 0)), (1, .int v1), (2, .int v2)]) K dX2_letters_52 (by decide) rfl ?_
          refine ax_iload_n K 4 rfl dX2_letters_53 ?_
          refine ax_iconst (v := (1 : Int32)) K (by decide) dX2_letters_54 ?_
          refine ax_iload K 1 rfl dX2_letters_55 ?_
          refine ax_ishl K dX2_letters_57 ?_
          refine ax_ior K dX2_letters_58 ?_
          refine ax_istore_n (lv' := [(2, .int (v2 ||| ((1 : Int32) <<< ((r26 - (97 : Int32)) &&& 31)))), (3, .int (r26 - (97 : Int32))), (4, .int (r26 - (97 : Int32))), (0, .ref (L 0)), (1, .int v1)]) K dX2_letters_59 (by decide) rfl ?_
          refine ax_aload_n K 3 rfl dX2_letters_60 ?_
          refine ax_dup K rfl dX2_letters_61 ?_
          refine mg_at K dX2_letters_62 ?_
          refine ax_iconst (v := (1 : Int32)) K (by decide) dX2_letters_65 ?_
          refine ax_iadd K dX2_letters_66 ?_
          refine mp_at K dX2_letters_67 ?_
          refine ax_goto (tgt := 4) K dX2_letters_70 (by decide) ?_
          exact ax_sub [3, 4, 0, 1] rfl (ih v1 (v2 ||| ((1 : Int32) <<< ((r26 - (97 : Int32)) &&& 31))) (r26 - (97 : Int32)) (mS_at σ26 ((mI_at σ26) + (1 : Int32))) h)
        · have h := ax_ie h c37
          refine ax_aload_n K 1 rfl dX2_letters_40 ?_
          refine ax_aload_n K 1 rfl dX2_letters_41 ?_
          refine mg_at K dX2_letters_42 ?_
          refine rm_fault K (by decide) dX2_letters_45 (Nat.le_of_ble_eq_true rfl) h (fun σ45 h => ?_)
          refine ax_iconst (v := (0 : Int32)) K (by decide) dX2_letters_48 ?_
          exact E _ _ _ _ dX2_letters_49 rfl h
set_option maxHeartbeats 4000000 in
theorem km_letters_j89 {Z : AZ} {G : AG} {L : Nat → Nat} {P : Int32 → St → Prop} (K : AK Z G cX2_letters RX2 5 (rmH 3)) (E : AEi Z cX2_letters .int (mW G L) 0 0 P) (v2 : Int32) (σ : St) (h : wm_letters_j89 P  v2 σ) : AX Z 0 0 89 [(0, .ref (L 0)), (2, .int v2)] [] (mW G L σ) := by
  unfold wm_letters_j89 at h
  refine ax_iload_n K 1 rfl dX2_letters_89 ?_
  exact E _ _ _ _ dX2_letters_90 rfl h
set_option maxHeartbeats 4000000 in
theorem km_letters_j73 {Z : AZ} {G : AG} {L : Nat → Nat} {P : Int32 → St → Prop} (K : AK Z G cX2_letters RX2 5 (rmH 3)) (E : AEi Z cX2_letters .int (mW G L) 0 0 P) (v1 : Int32) (v2 : Int32) (σ : St) (h : wm_letters_j73 P  v1 v2 σ) : AX Z 0 0 73 [(0, .ref (L 0)), (1, .int v1), (2, .int v2)] [] (mW G L σ) := by
  unfold wm_letters_j73 at h
  refine ax_iload_n K 1 rfl dX2_letters_73 ?_
  refine ax_if_eq (tgt := 89) K dX2_letters_74 (by decide) (fun c74 => ?_) (fun c74 => ?_)
  · have h := ax_it h c74
    exact ax_sub [0, 2] rfl (km_letters_j89 K E  v2 σ h)
  · have h := ax_ie h c74
    refine ax_iload_n K 2 rfl dX2_letters_77 ?_
    refine ax_if_ne (tgt := 89) K dX2_letters_78 (by decide) (fun c78 => ?_) (fun c78 => ?_)
    · have h := ax_ie h c78
      exact ax_sub [0, 2] rfl (km_letters_j89 K E  v2 σ h)
    · have h := ax_it h c78
      refine ax_aload_n K 0 rfl dX2_letters_81 ?_
      refine ax_aload_n K 0 rfl dX2_letters_82 ?_
      refine mg_at K dX2_letters_83 ?_
      refine rm_fault K (by decide) dX2_letters_86 (Nat.le_of_ble_eq_true rfl) h (fun σ86 h => ?_)
      exact ax_sub [0, 2] rfl (km_letters_j89 K E  v2 σ86 h)
set_option maxHeartbeats 4000000 in
theorem mm_letters {l : Launch} {G : AG} {L : Nat → Nat} {σ : St} {v1 : Int32} {P : Int32 → St → Prop} (h : wm_letters σ v1 P) : CtW l G yX2_letters cX2_letters 5 (some .int) (rmH 3) [.ref (L 0), .int v1] (mW G L) σ (pI P) := by
  refine CtW.ofI (by decide) (Nat.le_of_ble_eq_true rfl) fun Z _ K E => ?_
  unfold wm_letters at h
  show AX Z 0 0 0 [(0, .ref (L 0)), (1, .int v1)] [] (mW G L σ)
  refine ax_iconst (v := (0 : Int32)) K (by decide) dX2_letters_0 ?_
  refine ax_istore_n (lv' := [(2, .int (0 : Int32)), (0, .ref (L 0)), (1, .int v1)]) K dX2_letters_1 (by decide) rfl ?_
  refine ax_iconst (v := (-1 : Int32)) K (by decide) dX2_letters_2 ?_
  refine ax_istore_n (lv' := [(3, .int (-1 : Int32)), (2, .int (0 : Int32)), (0, .ref (L 0)), (1, .int v1)]) K dX2_letters_3 (by decide) rfl ?_
  exact ax_sub [2, 3, 1, 0] rfl (h.elim fun n4 h => km_letters_l4 K E (km_letters_j73 K E) n4 v1 (0 : Int32) (-1 : Int32) σ h)
theorem rm_letters {Z : AZ} {G : AG} {cc : ByteArray} {mL hh pc : Nat} {lv : List (Nat × Value)} {rest : List Value} {L : Nat → Nat} {σ : St} (K : AK Z G cc RX2 mL (rmH hh)) (hlt : 3 < hh) (d : decode cc pc = .ok (.invokevirtual 163, 3)) (hrest : (rest.map fun v => v.category).sum ≤ 8) {v1 : Int32} {P : Int32 → St → Prop} (h : sm_letters σ v1 P) (kk : ∀ (r : Int32) (σ' : St), P r σ' → AX Z 0 0 (pc + 3) lv (.int r :: rest) (mW G L σ')) : AX Z 0 0 pc lv (.int v1 :: .ref (L 0) :: rest) (mW G L σ) :=
  ax_callV (N0 := 1) (As := [.int v1]) K (mm_letters (sm_letters_ok h)) q1218 q1220 qs65 q118 q1221 ⟨rfl, by decide, by decide, by decide⟩ rfl ⟨by show 3 + 1 + 1 ≤ hh + 1; omega, by show 8 + (5 + 11) + 60 * (3 + 1) ≤ 60 * (hh + 1); omega⟩ ⟨Nat.zero_le _, Nat.zero_le _⟩ rfl rfl rfl hrest d (fun r σ' hp => by obtain ⟨v, rfl, hp⟩ := hp; exact kk v σ' hp)
/-! m.menu -/
set_option maxHeartbeats 4000000 in
theorem km_menu_j115 {Z : AZ} {G : AG} {L : Nat → Nat} {P : Int32 → St → Prop} (K : AK Z G cX2_menu RX2 3 (rmH 3)) (E : AEi Z cX2_menu .int (mW G L) 0 0 P) {K36 : Int32 → St → Prop} (hK36 : ∀ (v1 : Int32) (σ : St), K36 v1 σ → AX Z 0 0 36 [(0, .ref (L 0)), (1, .int v1)] [] (mW G L σ)) (v1 : Int32) (σ : St) (h : wm_menu_j115 P K36 v1 σ) : AX Z 0 0 115 [(0, .ref (L 0)), (1, .int v1)] [] (mW G L σ) := by
  unfold wm_menu_j115 at h
  refine ax_goto (tgt := 36) K dX2_menu_115 (by decide) ?_
  exact ax_sub [0, 1] rfl (hK36 v1 σ h)
set_option maxHeartbeats 4000000 in
theorem km_menu_j105 {Z : AZ} {G : AG} {L : Nat → Nat} {P : Int32 → St → Prop} (K : AK Z G cX2_menu RX2 3 (rmH 3)) (E : AEi Z cX2_menu .int (mW G L) 0 0 P) {K36 : Int32 → St → Prop} (hK36 : ∀ (v1 : Int32) (σ : St), K36 v1 σ → AX Z 0 0 36 [(0, .ref (L 0)), (1, .int v1)] [] (mW G L σ)) (v1 : Int32) (σ : St) (h : wm_menu_j105 P K36 v1 σ) : AX Z 0 0 105 [(0, .ref (L 0)), (1, .int v1)] [] (mW G L σ) := by
  unfold wm_menu_j105 at h
  refine ax_aload_n K 0 rfl dX2_menu_105 ?_
  refine ax_dup K rfl dX2_menu_106 ?_
  refine mg_at K dX2_menu_107 ?_
  refine ax_iconst (v := (1 : Int32)) K (by decide) dX2_menu_110 ?_
  refine ax_iadd K dX2_menu_111 ?_
  refine mp_at K dX2_menu_112 ?_
  exact ax_sub [0, 1] rfl (km_menu_j115 K E hK36 v1 (mS_at σ ((mI_at σ) + (1 : Int32))) h)
set_option maxHeartbeats 4000000 in
theorem km_menu_l36 {Z : AZ} {G : AG} {L : Nat → Nat} {P : Int32 → St → Prop} (K : AK Z G cX2_menu RX2 3 (rmH 3)) (E : AEi Z cX2_menu .int (mW G L) 0 0 P) {K118 : Int32 → St → Prop} (hK118 : ∀ (v1 : Int32) (σ : St), K118 v1 σ → AX Z 0 0 118 [(0, .ref (L 0)), (1, .int v1)] [] (mW G L σ)) : ∀ (n : Nat) (v1 : Int32) (σ : St), wm_menu_l36 P K118 n v1 σ → AX Z 0 0 36 [(0, .ref (L 0)), (1, .int v1)] [] (mW G L σ) := by
  intro n
  induction n with
  | zero => intro v1 σ h; exact False.elim h
  | succ n ih =>
    intro v1 σ h
    rw [wm_menu_l36_s] at h
    refine ax_aload_n K 0 rfl dX2_menu_36 ?_
    refine rm_fine K (by decide) dX2_menu_37 (Nat.le_of_ble_eq_true rfl) h (fun r37 σ37 h => ?_)
    refine ax_if_eq (tgt := 118) K dX2_menu_40 (by decide) (fun c40 => ?_) (fun c40 => ?_)
    · have h := ax_it h c40
      exact ax_sub [0, 1] rfl (hK118 v1 σ37 h)
    · have h := ax_ie h c40
      refine ax_aload_n K 0 rfl dX2_menu_43 ?_
      refine mg_at K dX2_menu_44 ?_
      refine ax_aload_n K 0 rfl dX2_menu_47 ?_
      refine mg_size K dX2_menu_48 ?_
      refine ax_icmp_ge (tgt := 118) K dX2_menu_51 (by decide) (fun c51 => ?_) (fun c51 => ?_)
      · have h := ax_it h c51
        exact ax_sub [0, 1] rfl (hK118 v1 σ37 h)
      · have h := ax_ie h c51
        refine ax_aload_n K 0 rfl dX2_menu_54 ?_
        refine mg_at K dX2_menu_55 ?_
        refine ax_aload_n K 0 rfl dX2_menu_58 ?_
        refine mg_top K dX2_menu_59 ?_
        refine ax_icmp_ge (tgt := 118) K dX2_menu_62 (by decide) (fun c62 => ?_) (fun c62 => ?_)
        · have h := ax_it h c62
          exact ax_sub [0, 1] rfl (hK118 v1 σ37 h)
        · have h := ax_ie h c62
          refine ax_aload_n K 0 rfl dX2_menu_65 ?_
          refine rm_here K (by decide) dX2_menu_66 (Nat.le_of_ble_eq_true rfl) h (fun r66 σ66 h => ?_)
          refine ax_istore_n (lv' := [(2, .int r66), (0, .ref (L 0)), (1, .int v1)]) K dX2_menu_69 (by decide) rfl ?_
          refine ax_iload_n K 0 rfl dX2_menu_70 ?_
          refine ax_bipush (v := (63 : Int32)) K (by decide) dX2_menu_71 ?_
          refine ax_icmp_eq (tgt := 105) K dX2_menu_73 (by decide) (fun c73 => ?_) (fun c73 => ?_)
          · have h := ax_it h c73
            exact ax_sub [1, 2] rfl (km_menu_j105 K E ih v1 σ66 h)
          · have h := ax_ie h c73
            refine ax_iload_n K 0 rfl dX2_menu_76 ?_
            refine ax_bipush (v := (65 : Int32)) K (by decide) dX2_menu_77 ?_
            refine ax_bipush (v := (65 : Int32)) K (by decide) dX2_menu_79 ?_
            refine ax_aload_n K 1 rfl dX2_menu_81 ?_
            refine mg_dishes K dX2_menu_82 ?_
            refine ax_iadd K dX2_menu_85 ?_
            refine ax_iconst (v := (1 : Int32)) K (by decide) dX2_menu_86 ?_
            refine ax_isub K dX2_menu_87 ?_
            refine rm_in K (by decide) dX2_menu_88 (Nat.le_of_ble_eq_true rfl) h (fun r88 h => ?_)
            refine ax_if_ne (tgt := 105) K dX2_menu_91 (by decide) (fun c91 => ?_) (fun c91 => ?_)
            · have h := ax_ie h c91
              exact ax_sub [1, 2] rfl (km_menu_j105 K E ih v1 σ66 h)
            · have h := ax_it h c91
              refine ax_aload_n K 1 rfl dX2_menu_94 ?_
              refine ax_aload_n K 1 rfl dX2_menu_95 ?_
              refine mg_at K dX2_menu_96 ?_
              refine rm_fault K (by decide) dX2_menu_99 (Nat.le_of_ble_eq_true rfl) h (fun σ99 h => ?_)
              refine ax_goto (tgt := 115) K dX2_menu_102 (by decide) ?_
              exact ax_sub [1, 2] rfl (km_menu_j115 K E ih v1 σ99 h)
set_option maxHeartbeats 4000000 in
theorem km_menu_j196 {Z : AZ} {G : AG} {L : Nat → Nat} {P : Int32 → St → Prop} (K : AK Z G cX2_menu RX2 3 (rmH 3)) (E : AEi Z cX2_menu .int (mW G L) 0 0 P) {K153 : Int32 → Int32 → St → Prop} (hK153 : ∀ (v1 : Int32) (v2 : Int32) (σ : St), K153 v1 v2 σ → AX Z 0 0 153 [(0, .ref (L 0)), (1, .int v1), (2, .int v2)] [] (mW G L σ)) (v1 : Int32) (v2 : Int32) (s1 : Int32) (s2 : Int32) (σ : St) (h : wm_menu_j196 P K153 v1 v2 s1 s2 σ) : AX Z 0 0 196 [(0, .ref (L 0)), (1, .int v1), (2, .int v2)] [.int s2, .int s1, .ref (L 9)] (mW G L σ) := by
  unfold wm_menu_j196 at h
  refine ms_menus K h.1 dX2_menu_196 ?_
  replace h := h.2
  refine ax_iinc (lv' := [(2, .int (v2 + (1 : Int32))), (0, .ref (L 0)), (1, .int v1)]) (v := (v2 + (1 : Int32))) K 2 dX2_menu_197 rfl (by rfl) (by decide) rfl ?_
  refine ax_goto (tgt := 153) K dX2_menu_200 (by decide) ?_
  exact ax_sub [1, 2, 0] rfl (hK153 v1 (v2 + (1 : Int32)) (mU_menus σ s1 s2) h)
set_option maxHeartbeats 4000000 in
theorem km_menu_l153 {Z : AZ} {G : AG} {L : Nat → Nat} {P : Int32 → St → Prop} (K : AK Z G cX2_menu RX2 3 (rmH 3)) (E : AEi Z cX2_menu .int (mW G L) 0 0 P) : ∀ (n : Nat) (v1 : Int32) (v2 : Int32) (σ : St), wm_menu_l153 P  n v1 v2 σ → AX Z 0 0 153 [(0, .ref (L 0)), (1, .int v1), (2, .int v2)] [] (mW G L σ) := by
  intro n
  induction n with
  | zero => intro v1 v2 σ h; exact False.elim h
  | succ n ih =>
    intro v1 v2 σ h
    rw [wm_menu_l153_s] at h
    refine ax_iload_n K 2 rfl dX2_menu_153 ?_
    refine ax_aload_n K 0 rfl dX2_menu_154 ?_
    refine mg_size K dX2_menu_155 ?_
    refine ax_icmp_ge (tgt := 203) K dX2_menu_158 (by decide) (fun c158 => ?_) (fun c158 => ?_)
    · have h := ax_it h c158
      refine ax_aload_n K 0 rfl dX2_menu_203 ?_
      refine mg_menuLong K dX2_menu_204 ?_
      refine ax_iload_n K 1 rfl dX2_menu_207 ?_
      refine ax_aload_n K 0 rfl dX2_menu_208 ?_
      refine mg_size K dX2_menu_209 ?_
      refine ms_menuLong K h.1 dX2_menu_212 ?_
      replace h := h.2
      refine ax_aload_n K 0 rfl dX2_menu_213 ?_
      refine mg_size K dX2_menu_214 ?_
      exact E _ _ _ _ dX2_menu_217 rfl h
    · have h := ax_ie h c158
      refine ax_aload_n K 0 rfl dX2_menu_161 ?_
      refine mg_menus K dX2_menu_162 ?_
      refine ax_bipush (v := (10 : Int32)) K (by decide) dX2_menu_165 ?_
      refine ax_iload_n K 1 rfl dX2_menu_167 ?_
      refine ax_imul K dX2_menu_168 ?_
      refine ax_iload_n K 2 rfl dX2_menu_169 ?_
      refine ax_iadd K dX2_menu_170 ?_
      refine ax_aload_n K 0 rfl dX2_menu_171 ?_
      refine mg_text K dX2_menu_172 ?_
      refine ax_iload_n K 2 rfl dX2_menu_175 ?_
      refine ml_text K h.1 dX2_menu_176 ?_
      replace h := h.2
      refine ax_bipush (v := (63 : Int32)) K (by decide) dX2_menu_177 ?_
      refine ax_icmp_ne (tgt := 187) K dX2_menu_179 (by decide) (fun c179 => ?_) (fun c179 => ?_)
      · have h := ax_ie h c179
        refine ax_aload_n K 0 rfl dX2_menu_187 ?_
        refine mg_text K dX2_menu_188 ?_
        refine ax_iload_n K 2 rfl dX2_menu_191 ?_
        refine ml_text K h.1 dX2_menu_192 ?_
        replace h := h.2
        refine ax_bipush (v := (65 : Int32)) K (by decide) dX2_menu_193 ?_
        refine ax_isub K dX2_menu_195 ?_
        exact ax_sub [0, 1, 2] rfl (km_menu_j196 K E ih v1 v2 (((10 : Int32) * v1) + v2) ((mA_text σ (v2).toNatClampNeg) - (65 : Int32)) σ h)
      · have h := ax_it h c179
        refine ax_bipush (v := (99 : Int32)) K (by decide) dX2_menu_182 ?_
        refine ax_goto (tgt := 196) K dX2_menu_184 (by decide) ?_
        exact ax_sub [0, 1, 2] rfl (km_menu_j196 K E ih v1 v2 (((10 : Int32) * v1) + v2) (99 : Int32) σ h)
set_option maxHeartbeats 4000000 in
theorem km_menu_j137 {Z : AZ} {G : AG} {L : Nat → Nat} {P : Int32 → St → Prop} (K : AK Z G cX2_menu RX2 3 (rmH 3)) (E : AEi Z cX2_menu .int (mW G L) 0 0 P) (v1 : Int32) (σ : St) (h : wm_menu_j137 P  v1 σ) : AX Z 0 0 137 [(0, .ref (L 0)), (1, .int v1)] [] (mW G L σ) := by
  unfold wm_menu_j137 at h
  refine ax_aload_n K 0 rfl dX2_menu_137 ?_
  refine rm_fine K (by decide) dX2_menu_138 (Nat.le_of_ble_eq_true rfl) h (fun r138 σ138 h => ?_)
  refine ax_if_ne (tgt := 151) K dX2_menu_141 (by decide) (fun c141 => ?_) (fun c141 => ?_)
  · have h := ax_ie h c141
    refine ax_iconst (v := (0 : Int32)) K (by decide) dX2_menu_151 ?_
    refine ax_istore_n (lv' := [(2, .int (0 : Int32)), (0, .ref (L 0)), (1, .int v1)]) K dX2_menu_152 (by decide) rfl ?_
    exact ax_sub [1, 2, 0] rfl (h.elim fun n153 h => km_menu_l153 K E  n153 v1 (0 : Int32) σ138 h)
  · have h := ax_it h c141
    refine ax_iconst (v := (-1 : Int32)) K (by decide) dX2_menu_144 ?_
    refine ax_aload_n K 0 rfl dX2_menu_145 ?_
    refine mg_wrong K dX2_menu_146 ?_
    refine ax_isub K dX2_menu_149 ?_
    exact E _ _ _ _ dX2_menu_150 rfl h
set_option maxHeartbeats 4000000 in
theorem km_menu_j118 {Z : AZ} {G : AG} {L : Nat → Nat} {P : Int32 → St → Prop} (K : AK Z G cX2_menu RX2 3 (rmH 3)) (E : AEi Z cX2_menu .int (mW G L) 0 0 P) (v1 : Int32) (σ : St) (h : wm_menu_j118 P  v1 σ) : AX Z 0 0 118 [(0, .ref (L 0)), (1, .int v1)] [] (mW G L σ) := by
  unfold wm_menu_j118 at h
  refine ax_aload_n K 0 rfl dX2_menu_118 ?_
  refine mg_at K dX2_menu_119 ?_
  refine ax_aload_n K 0 rfl dX2_menu_122 ?_
  refine mg_size K dX2_menu_123 ?_
  refine ax_icmp_ge (tgt := 137) K dX2_menu_126 (by decide) (fun c126 => ?_) (fun c126 => ?_)
  · have h := ax_it h c126
    exact ax_sub [0, 1] rfl (km_menu_j137 K E  v1 σ h)
  · have h := ax_ie h c126
    refine ax_aload_n K 0 rfl dX2_menu_129 ?_
    refine ax_aload_n K 0 rfl dX2_menu_130 ?_
    refine mg_at K dX2_menu_131 ?_
    refine rm_fault K (by decide) dX2_menu_134 (Nat.le_of_ble_eq_true rfl) h (fun σ134 h => ?_)
    exact ax_sub [0, 1] rfl (km_menu_j137 K E  v1 σ134 h)
set_option maxHeartbeats 4000000 in
theorem mm_menu {l : Launch} {G : AG} {L : Nat → Nat} {σ : St} {v1 : Int32} {P : Int32 → St → Prop} (h : wm_menu σ v1 P) : CtW l G yX2_menu cX2_menu 3 (some .int) (rmH 3) [.ref (L 0), .int v1] (mW G L) σ (pI P) := by
  refine CtW.ofI (by decide) (Nat.le_of_ble_eq_true rfl) fun Z _ K E => ?_
  unfold wm_menu at h
  show AX Z 0 0 0 [(0, .ref (L 0)), (1, .int v1)] [] (mW G L σ)
  refine ax_aload_n K 0 rfl dX2_menu_0 ?_
  refine ax_iconst (v := (0 : Int32)) K (by decide) dX2_menu_1 ?_
  refine mp_thrown K dX2_menu_2 ?_
  refine ax_aload_n K 0 rfl dX2_menu_5 ?_
  refine ax_aload_n K 0 rfl dX2_menu_6 ?_
  refine mg_text K dX2_menu_7 ?_
  refine ax_aload_n K 0 rfl dX2_menu_10 ?_
  refine mg_typed K dX2_menu_11 ?_
  refine ax_bipush (v := (10 : Int32)) K (by decide) dX2_menu_14 ?_
  refine rm_begin_text K (by decide) dX2_menu_16 (Nat.le_of_ble_eq_true rfl) h (fun σ16 h => ?_)
  refine ax_aload_n K 0 rfl dX2_menu_19 ?_
  refine ax_iconst (v := (0 : Int32)) K (by decide) dX2_menu_20 ?_
  refine mp_typed K dX2_menu_21 ?_
  refine ax_iload_n K 1 rfl dX2_menu_24 ?_
  refine ax_iconst (v := (0 : Int32)) K (by decide) dX2_menu_25 ?_
  refine ax_iconst (v := (2 : Int32)) K (by decide) dX2_menu_26 ?_
  refine rm_in K (by decide) dX2_menu_27 (Nat.le_of_ble_eq_true rfl) h (fun r27 h => ?_)
  refine ax_if_ne (tgt := 36) K dX2_menu_30 (by decide) (fun c30 => ?_) (fun c30 => ?_)
  · have h := ax_ie h c30
    exact ax_sub [0, 1] rfl (h.elim fun n36 h => km_menu_l36 K E (km_menu_j118 K E) n36 v1 (mS_typed σ16 (0 : Int32)) h)
  · have h := ax_it h c30
    refine ax_bipush (v := (-100 : Int32)) K (by decide) dX2_menu_33 ?_
    exact E _ _ _ _ dX2_menu_35 rfl h

/-! m.number -/
set_option maxHeartbeats 4000000 in
theorem km_number_l16 {Z : AZ} {G : AG} {L : Nat → Nat} {P : Int32 → St → Prop} (K : AK Z G cX2_number RX2 4 (rmH 3)) (E : AEi Z cX2_number .int (mW G L) 0 0 P) {K66 : Int32 → Int32 → St → Prop} (hK66 : ∀ (v2 : Int32) (v3 : Int32) (σ : St), K66 v2 v3 σ → AX Z 0 0 66 [(0, .ref (L 0)), (2, .int v2), (3, .int v3)] [] (mW G L σ)) : ∀ (n : Nat) (v1 : Int32) (v2 : Int32) (v3 : Int32) (σ : St), wm_number_l16 P K66 n v1 v2 v3 σ → AX Z 0 0 16 [(0, .ref (L 0)), (1, .int v1), (2, .int v2), (3, .int v3)] [] (mW G L σ) := by
  intro n
  induction n with
  | zero => intro v1 v2 v3 σ h; exact False.elim h
  | succ n ih =>
    intro v1 v2 v3 σ h
    rw [wm_number_l16_s] at h
    refine ax_aload_n K 0 rfl dX2_number_16 ?_
    refine mg_at K dX2_number_17 ?_
    refine ax_iload_n K 2 rfl dX2_number_20 ?_
    refine ax_iload_n K 1 rfl dX2_number_21 ?_
    refine ax_iadd K dX2_number_22 ?_
    refine ax_icmp_ge (tgt := 66) K dX2_number_23 (by decide) (fun c23 => ?_) (fun c23 => ?_)
    · have h := ax_it h c23
      exact ax_sub [0, 2, 3] rfl (hK66 v2 v3 σ h)
    · have h := ax_ie h c23
      refine ax_aload_n K 0 rfl dX2_number_26 ?_
      refine rm_here K (by decide) dX2_number_27 (Nat.le_of_ble_eq_true rfl) h (fun r27 σ27 h => ?_)
      refine ax_bipush (v := (48 : Int32)) K (by decide) dX2_number_30 ?_
      refine ax_bipush (v := (57 : Int32)) K (by decide) dX2_number_32 ?_
      refine rm_in K (by decide) dX2_number_34 (Nat.le_of_ble_eq_true rfl) h (fun r34 h => ?_)
      refine ax_if_eq (tgt := 66) K dX2_number_37 (by decide) (fun c37 => ?_) (fun c37 => ?_)
      · have h := ax_it h c37
        exact ax_sub [0, 2, 3] rfl (hK66 v2 v3 σ27 h)
      · have h := ax_ie h c37
        refine ax_bipush (v := (10 : Int32)) K (by decide) dX2_number_40 ?_
        refine ax_iload_n K 3 rfl dX2_number_42 ?_
        refine ax_imul K dX2_number_43 ?_
        refine ax_aload_n K 0 rfl dX2_number_44 ?_
        refine rm_here K (by decide) dX2_number_45 (Nat.le_of_ble_eq_true rfl) h (fun r45 σ45 h => ?_)
        refine ax_iadd K dX2_number_48 ?_
        refine ax_bipush (v := (48 : Int32)) K (by decide) dX2_number_49 ?_
        refine ax_isub K dX2_number_51 ?_
        refine ax_istore_n (lv' := [(3, .int ((((10 : Int32) * v3) + r45) - (48 : Int32))), (0, .ref (L 0)), (1, .int v1), (2, .int v2)]) K dX2_number_52 (by decide) rfl ?_
        refine ax_aload_n K 1 rfl dX2_number_53 ?_
        refine ax_dup K rfl dX2_number_54 ?_
        refine mg_at K dX2_number_55 ?_
        refine ax_iconst (v := (1 : Int32)) K (by decide) dX2_number_58 ?_
        refine ax_iadd K dX2_number_59 ?_
        refine mp_at K dX2_number_60 ?_
        refine ax_goto (tgt := 16) K dX2_number_63 (by decide) ?_
        exact ax_sub [1, 2, 3, 0] rfl (ih v1 v2 ((((10 : Int32) * v3) + r45) - (48 : Int32)) (mS_at σ45 ((mI_at σ45) + (1 : Int32))) h)
set_option maxHeartbeats 4000000 in
theorem km_number_j82 {Z : AZ} {G : AG} {L : Nat → Nat} {P : Int32 → St → Prop} (K : AK Z G cX2_number RX2 4 (rmH 3)) (E : AEi Z cX2_number .int (mW G L) 0 0 P) (v3 : Int32) (σ : St) (h : wm_number_j82 P  v3 σ) : AX Z 0 0 82 [(0, .ref (L 0)), (3, .int v3)] [] (mW G L σ) := by
  unfold wm_number_j82 at h
  refine ax_iload_n K 1 rfl dX2_number_82 ?_
  exact E _ _ _ _ dX2_number_83 rfl h
set_option maxHeartbeats 4000000 in
theorem km_number_j66 {Z : AZ} {G : AG} {L : Nat → Nat} {P : Int32 → St → Prop} (K : AK Z G cX2_number RX2 4 (rmH 3)) (E : AEi Z cX2_number .int (mW G L) 0 0 P) (v2 : Int32) (v3 : Int32) (σ : St) (h : wm_number_j66 P  v2 v3 σ) : AX Z 0 0 66 [(0, .ref (L 0)), (2, .int v2), (3, .int v3)] [] (mW G L σ) := by
  unfold wm_number_j66 at h
  refine ax_aload_n K 0 rfl dX2_number_66 ?_
  refine mg_at K dX2_number_67 ?_
  refine ax_iload_n K 1 rfl dX2_number_70 ?_
  refine ax_icmp_ne (tgt := 82) K dX2_number_71 (by decide) (fun c71 => ?_) (fun c71 => ?_)
  · have h := ax_ie h c71
    exact ax_sub [0, 2] rfl (km_number_j82 K E  v3 σ h)
  · have h := ax_it h c71
    refine ax_aload_n K 0 rfl dX2_number_74 ?_
    refine ax_aload_n K 0 rfl dX2_number_75 ?_
    refine mg_at K dX2_number_76 ?_
    refine rm_fault K (by decide) dX2_number_79 (Nat.le_of_ble_eq_true rfl) h (fun σ79 h => ?_)
    exact ax_sub [0, 2] rfl (km_number_j82 K E  v3 σ79 h)
set_option maxHeartbeats 4000000 in
theorem mm_number {l : Launch} {G : AG} {L : Nat → Nat} {σ : St} {v1 : Int32} {P : Int32 → St → Prop} (h : wm_number σ v1 P) : CtW l G yX2_number cX2_number 4 (some .int) (rmH 3) [.ref (L 0), .int v1] (mW G L) σ (pI P) := by
  refine CtW.ofI (by decide) (Nat.le_of_ble_eq_true rfl) fun Z _ K E => ?_
  unfold wm_number at h
  show AX Z 0 0 0 [(0, .ref (L 0)), (1, .int v1)] [] (mW G L σ)
  refine ax_aload_n K 0 rfl dX2_number_0 ?_
  refine rm_fine K (by decide) dX2_number_1 (Nat.le_of_ble_eq_true rfl) h (fun r1 σ1 h => ?_)
  refine ax_if_ne (tgt := 9) K dX2_number_4 (by decide) (fun c4 => ?_) (fun c4 => ?_)
  · have h := ax_ie h c4
    refine ax_aload_n K 0 rfl dX2_number_9 ?_
    refine mg_at K dX2_number_10 ?_
    refine ax_istore_n (lv' := [(2, .int (mI_at σ1)), (0, .ref (L 0)), (1, .int v1)]) K dX2_number_13 (by decide) rfl ?_
    refine ax_iconst (v := (0 : Int32)) K (by decide) dX2_number_14 ?_
    refine ax_istore_n (lv' := [(3, .int (0 : Int32)), (2, .int (mI_at σ1)), (0, .ref (L 0)), (1, .int v1)]) K dX2_number_15 (by decide) rfl ?_
    exact ax_sub [2, 3, 1, 0] rfl (h.elim fun n16 h => km_number_l16 K E (km_number_j66 K E) n16 v1 (mI_at σ1) (0 : Int32) σ1 h)
  · have h := ax_it h c4
    refine ax_iconst (v := (0 : Int32)) K (by decide) dX2_number_7 ?_
    exact E _ _ _ _ dX2_number_8 rfl h
theorem rm_number {Z : AZ} {G : AG} {cc : ByteArray} {mL hh pc : Nat} {lv : List (Nat × Value)} {rest : List Value} {L : Nat → Nat} {σ : St} (K : AK Z G cc RX2 mL (rmH hh)) (hlt : 3 < hh) (d : decode cc pc = .ok (.invokevirtual 167, 3)) (hrest : (rest.map fun v => v.category).sum ≤ 8) {v1 : Int32} {P : Int32 → St → Prop} (h : sm_number σ v1 P) (kk : ∀ (r : Int32) (σ' : St), P r σ' → AX Z 0 0 (pc + 3) lv (.int r :: rest) (mW G L σ')) : AX Z 0 0 pc lv (.int v1 :: .ref (L 0) :: rest) (mW G L σ) :=
  ax_callV (N0 := 1) (As := [.int v1]) K (mm_number (sm_number_ok h)) q1226 q1228 qs67 q118 q1229 ⟨rfl, by decide, by decide, by decide⟩ rfl ⟨by show 3 + 1 + 1 ≤ hh + 1; omega, by show 8 + (4 + 11) + 60 * (3 + 1) ≤ 60 * (hh + 1); omega⟩ ⟨Nat.zero_le _, Nat.zero_le _⟩ rfl rfl rfl hrest d (fun r σ' hp => by obtain ⟨v, rfl, hp⟩ := hp; exact kk v σ' hp)
/-! m.refusal -/
set_option maxHeartbeats 4000000 in
theorem km_refusal_j120 {Z : AZ} {G : AG} {L : Nat → Nat} {P : Int32 → St → Prop} (K : AK Z G cX2_refusal RX2 4 (rmH 3)) (E : AEi Z cX2_refusal .int (mW G L) 0 0 P) (s0 : Int32) (σ : St) (h : wm_refusal_j120 P  s0 σ) : AX Z 0 0 120 [(0, .ref (L 0))] [.int s0] (mW G L σ) := by
  unfold wm_refusal_j120 at h
  exact E _ _ _ _ dX2_refusal_120 rfl h
set_option maxHeartbeats 4000000 in
theorem km_refusal_j91 {Z : AZ} {G : AG} {L : Nat → Nat} {P : Int32 → St → Prop} (K : AK Z G cX2_refusal RX2 4 (rmH 3)) (E : AEi Z cX2_refusal .int (mW G L) 0 0 P) (v1 : Int32) (v3 : Int32) (σ : St) (h : wm_refusal_j91 P  v1 v3 σ) : AX Z 0 0 91 [(0, .ref (L 0)), (1, .int v1), (3, .int v3)] [] (mW G L σ) := by
  unfold wm_refusal_j91 at h
  refine ax_aload_n K 0 rfl dX2_refusal_91 ?_
  refine ax_iload_n K 1 rfl dX2_refusal_92 ?_
  refine ax_iload_n K 2 rfl dX2_refusal_93 ?_
  refine ax_iconst (v := (0 : Int32)) K (by decide) dX2_refusal_94 ?_
  refine rm_fits K (by decide) dX2_refusal_95 (Nat.le_of_ble_eq_true rfl) h (fun r95 σ95 h => ?_)
  refine ax_if_ne (tgt := 104) K dX2_refusal_98 (by decide) (fun c98 => ?_) (fun c98 => ?_)
  · have h := ax_ie h c98
    refine ax_aload_n K 0 rfl dX2_refusal_104 ?_
    refine ax_iload_n K 1 rfl dX2_refusal_105 ?_
    refine ax_iload_n K 2 rfl dX2_refusal_106 ?_
    refine ax_iconst (v := (1 : Int32)) K (by decide) dX2_refusal_107 ?_
    refine rm_fits K (by decide) dX2_refusal_108 (Nat.le_of_ble_eq_true rfl) h (fun r108 σ108 h => ?_)
    refine ax_if_eq (tgt := 118) K dX2_refusal_111 (by decide) (fun c111 => ?_) (fun c111 => ?_)
    · have h := ax_it h c111
      refine ax_bipush (v := (-6 : Int32)) K (by decide) dX2_refusal_118 ?_
      exact ax_sub [0] rfl (km_refusal_j120 K E  (-6 : Int32) σ108 h)
    · have h := ax_ie h c111
      refine ax_iconst (v := (0 : Int32)) K (by decide) dX2_refusal_114 ?_
      refine ax_goto (tgt := 120) K dX2_refusal_115 (by decide) ?_
      exact ax_sub [0] rfl (km_refusal_j120 K E  (0 : Int32) σ108 h)
  · have h := ax_it h c98
    refine ax_bipush (v := (-5 : Int32)) K (by decide) dX2_refusal_101 ?_
    exact E _ _ _ _ dX2_refusal_103 rfl h
set_option maxHeartbeats 4000000 in
theorem km_refusal_j60 {Z : AZ} {G : AG} {L : Nat → Nat} {P : Int32 → St → Prop} (K : AK Z G cX2_refusal RX2 4 (rmH 3)) (E : AEi Z cX2_refusal .int (mW G L) 0 0 P) (v1 : Int32) (v2 : Int32) (v3 : Int32) (σ : St) (h : wm_refusal_j60 P  v1 v2 v3 σ) : AX Z 0 0 60 [(0, .ref (L 0)), (1, .int v1), (2, .int v2), (3, .int v3)] [] (mW G L σ) := by
  unfold wm_refusal_j60 at h
  refine ax_aload_n K 0 rfl dX2_refusal_60 ?_
  refine mg_heat K dX2_refusal_61 ?_
  refine ax_iconst (v := (2 : Int32)) K (by decide) dX2_refusal_64 ?_
  refine ax_icmp_ne (tgt := 91) K dX2_refusal_65 (by decide) (fun c65 => ?_) (fun c65 => ?_)
  · have h := ax_ie h c65
    exact ax_sub [0, 1, 3] rfl (km_refusal_j91 K E  v1 v3 σ h)
  · have h := ax_it h c65
    refine ax_iload_n K 2 rfl dX2_refusal_68 ?_
    refine ax_iconst (v := (-1 : Int32)) K (by decide) dX2_refusal_69 ?_
    refine ax_icmp_eq (tgt := 91) K dX2_refusal_70 (by decide) (fun c70 => ?_) (fun c70 => ?_)
    · have h := ax_it h c70
      exact ax_sub [0, 1, 3] rfl (km_refusal_j91 K E  v1 v3 σ h)
    · have h := ax_ie h c70
      refine ax_aload_n K 0 rfl dX2_refusal_73 ?_
      refine mg_isHot K dX2_refusal_74 ?_
      refine ax_iload_n K 2 rfl dX2_refusal_77 ?_
      refine ml_isHot K h.1 dX2_refusal_78 ?_
      replace h := h.2
      refine ax_aload_n K 0 rfl dX2_refusal_79 ?_
      refine mg_isHot K dX2_refusal_80 ?_
      refine ax_iload_n K 3 rfl dX2_refusal_83 ?_
      refine ml_isHot K h.1 dX2_refusal_84 ?_
      replace h := h.2
      refine ax_icmp_ne (tgt := 91) K dX2_refusal_85 (by decide) (fun c85 => ?_) (fun c85 => ?_)
      · have h := ax_ie h c85
        exact ax_sub [0, 1, 3] rfl (km_refusal_j91 K E  v1 v3 σ h)
      · have h := ax_it h c85
        refine ax_bipush (v := (-4 : Int32)) K (by decide) dX2_refusal_88 ?_
        exact E _ _ _ _ dX2_refusal_90 rfl h
set_option maxHeartbeats 4000000 in
theorem km_refusal_j32 {Z : AZ} {G : AG} {L : Nat → Nat} {P : Int32 → St → Prop} (K : AK Z G cX2_refusal RX2 4 (rmH 3)) (E : AEi Z cX2_refusal .int (mW G L) 0 0 P) (v1 : Int32) (v2 : Int32) (v3 : Int32) (σ : St) (h : wm_refusal_j32 P  v1 v2 v3 σ) : AX Z 0 0 32 [(0, .ref (L 0)), (1, .int v1), (2, .int v2), (3, .int v3)] [] (mW G L σ) := by
  unfold wm_refusal_j32 at h
  refine ax_aload_n K 0 rfl dX2_refusal_32 ?_
  refine mg_heat K dX2_refusal_33 ?_
  refine ax_iconst (v := (1 : Int32)) K (by decide) dX2_refusal_36 ?_
  refine ax_icmp_ne (tgt := 60) K dX2_refusal_37 (by decide) (fun c37 => ?_) (fun c37 => ?_)
  · have h := ax_ie h c37
    exact ax_sub [0, 1, 2, 3] rfl (km_refusal_j60 K E  v1 v2 v3 σ h)
  · have h := ax_it h c37
    refine ax_aload_n K 0 rfl dX2_refusal_40 ?_
    refine mg_isHot K dX2_refusal_41 ?_
    refine ax_iload_n K 3 rfl dX2_refusal_44 ?_
    refine ml_isHot K h.1 dX2_refusal_45 ?_
    replace h := h.2
    refine ax_if_ne (tgt := 60) K dX2_refusal_46 (by decide) (fun c46 => ?_) (fun c46 => ?_)
    · have h := ax_ie h c46
      exact ax_sub [0, 1, 2, 3] rfl (km_refusal_j60 K E  v1 v2 v3 σ h)
    · have h := ax_it h c46
      refine ax_aload_n K 0 rfl dX2_refusal_49 ?_
      refine ax_iload_n K 1 rfl dX2_refusal_50 ?_
      refine rm_hasHot K (by decide) dX2_refusal_51 (Nat.le_of_ble_eq_true rfl) h (fun r51 σ51 h => ?_)
      refine ax_if_eq (tgt := 60) K dX2_refusal_54 (by decide) (fun c54 => ?_) (fun c54 => ?_)
      · have h := ax_it h c54
        exact ax_sub [0, 1, 2, 3] rfl (km_refusal_j60 K E  v1 v2 v3 σ51 h)
      · have h := ax_ie h c54
        refine ax_bipush (v := (-4 : Int32)) K (by decide) dX2_refusal_57 ?_
        exact E _ _ _ _ dX2_refusal_59 rfl h
set_option maxHeartbeats 4000000 in
theorem mm_refusal {l : Launch} {G : AG} {L : Nat → Nat} {σ : St} {v1 : Int32} {v2 : Int32} {v3 : Int32} {P : Int32 → St → Prop} (h : wm_refusal σ v1 v2 v3 P) : CtW l G yX2_refusal cX2_refusal 4 (some .int) (rmH 3) [.ref (L 0), .int v1, .int v2, .int v3] (mW G L) σ (pI P) := by
  refine CtW.ofI (by decide) (Nat.le_of_ble_eq_true rfl) fun Z _ K E => ?_
  unfold wm_refusal at h
  show AX Z 0 0 0 [(0, .ref (L 0)), (1, .int v1), (2, .int v2), (3, .int v3)] [] (mW G L σ)
  refine ax_iload_n K 1 rfl dX2_refusal_0 ?_
  refine ax_iload_n K 3 rfl dX2_refusal_1 ?_
  refine rm_has K (by decide) dX2_refusal_2 (Nat.le_of_ble_eq_true rfl) h (fun r2 h => ?_)
  refine ax_if_eq (tgt := 11) K dX2_refusal_5 (by decide) (fun c5 => ?_) (fun c5 => ?_)
  · have h := ax_it h c5
    refine ax_iload_n K 2 rfl dX2_refusal_11 ?_
    refine ax_iconst (v := (-1 : Int32)) K (by decide) dX2_refusal_12 ?_
    refine ax_icmp_eq (tgt := 32) K dX2_refusal_13 (by decide) (fun c13 => ?_) (fun c13 => ?_)
    · have h := ax_it h c13
      exact ax_sub [0, 1, 2, 3] rfl (km_refusal_j32 K E  v1 v2 v3 σ h)
    · have h := ax_ie h c13
      refine ax_aload_n K 0 rfl dX2_refusal_16 ?_
      refine ax_iload_n K 2 rfl dX2_refusal_17 ?_
      refine ax_iload_n K 3 rfl dX2_refusal_18 ?_
      refine rm_shared K (by decide) dX2_refusal_19 (Nat.le_of_ble_eq_true rfl) h (fun r19 σ19 h => ?_)
      refine ax_aload_n K 0 rfl dX2_refusal_22 ?_
      refine mg_share K dX2_refusal_23 ?_
      refine ax_icmp_ge (tgt := 32) K dX2_refusal_26 (by decide) (fun c26 => ?_) (fun c26 => ?_)
      · have h := ax_it h c26
        exact ax_sub [0, 1, 2, 3] rfl (km_refusal_j32 K E  v1 v2 v3 σ19 h)
      · have h := ax_ie h c26
        refine ax_bipush (v := (-3 : Int32)) K (by decide) dX2_refusal_29 ?_
        exact E _ _ _ _ dX2_refusal_31 rfl h
  · have h := ax_ie h c5
    refine ax_bipush (v := (-2 : Int32)) K (by decide) dX2_refusal_8 ?_
    exact E _ _ _ _ dX2_refusal_10 rfl h
theorem rm_refusal {Z : AZ} {G : AG} {cc : ByteArray} {mL hh pc : Nat} {lv : List (Nat × Value)} {rest : List Value} {L : Nat → Nat} {σ : St} (K : AK Z G cc RX2 mL (rmH hh)) (hlt : 3 < hh) (d : decode cc pc = .ok (.invokevirtual 261, 3)) (hrest : (rest.map fun v => v.category).sum ≤ 8) {v1 : Int32} {v2 : Int32} {v3 : Int32} {P : Int32 → St → Prop} (h : sm_refusal σ v1 v2 v3 P) (kk : ∀ (r : Int32) (σ' : St), P r σ' → AX Z 0 0 (pc + 3) lv (.int r :: rest) (mW G L σ')) : AX Z 0 0 pc lv (.int v3 :: .int v2 :: .int v1 :: .ref (L 0) :: rest) (mW G L σ) :=
  ax_callV (N0 := 3) (As := [.int v1, .int v2, .int v3]) K (mm_refusal (sm_refusal_ok h)) q1320 q1322 qs81 q118 q1323 ⟨rfl, by decide, by decide, by decide⟩ rfl ⟨by show 3 + 1 + 1 ≤ hh + 1; omega, by show 8 + (4 + 11) + 60 * (3 + 1) ≤ 60 * (hh + 1); omega⟩ ⟨Nat.zero_le _, Nat.zero_le _⟩ rfl rfl rfl hrest d (fun r σ' hp => by obtain ⟨v, rfl, hp⟩ := hp; exact kk v σ' hp)
/-! m.swap -/
set_option maxHeartbeats 4000000 in
theorem mm_swap {l : Launch} {G : AG} {L : Nat → Nat} {σ : St} {v1 : Int32} {v2 : Int32} {v3 : Int32} {P : Int32 → St → Prop} (h : wm_swap σ v1 v2 v3 P) : CtW l G yX2_swap cX2_swap 5 (some .boolean) (rmH 3) [.ref (L 0), .int v1, .int v2, .int v3] (mW G L) σ (pI P) := by
  refine CtW.ofI (by decide) (Nat.le_of_ble_eq_true rfl) fun Z _ K E => ?_
  unfold wm_swap at h
  show AX Z 0 0 0 [(0, .ref (L 0)), (1, .int v1), (2, .int v2), (3, .int v3)] [] (mW G L σ)
  refine ax_aload_n K 0 rfl dX2_swap_0 ?_
  refine ax_iconst (v := (0 : Int32)) K (by decide) dX2_swap_1 ?_
  refine mp_thrown K dX2_swap_2 ?_
  refine ax_aload_n K 0 rfl dX2_swap_5 ?_
  refine ax_iload_n K 1 rfl dX2_swap_6 ?_
  refine rm_isMenu K (by decide) dX2_swap_7 (Nat.le_of_ble_eq_true rfl) h (fun r7 σ7 h => ?_)
  refine ax_if_eq (tgt := 50) K dX2_swap_10 (by decide) (fun c10 => ?_) (fun c10 => ?_)
  · have h := ax_it h c10
    refine ax_iconst (v := (0 : Int32)) K (by decide) dX2_swap_50 ?_
    exact E _ _ _ _ dX2_swap_51 rfl h
  · have h := ax_ie h c10
    refine ax_iload_n K 2 rfl dX2_swap_13 ?_
    refine ax_iconst (v := (0 : Int32)) K (by decide) dX2_swap_14 ?_
    refine ax_aload_n K 0 rfl dX2_swap_15 ?_
    refine mg_menuLong K dX2_swap_16 ?_
    refine ax_iload_n K 1 rfl dX2_swap_19 ?_
    refine ml_menuLong K h.1 dX2_swap_20 ?_
    replace h := h.2
    refine ax_iconst (v := (1 : Int32)) K (by decide) dX2_swap_21 ?_
    refine ax_isub K dX2_swap_22 ?_
    refine rm_in K (by decide) dX2_swap_23 (Nat.le_of_ble_eq_true rfl) h (fun r23 h => ?_)
    refine ax_if_eq (tgt := 50) K dX2_swap_26 (by decide) (fun c26 => ?_) (fun c26 => ?_)
    · have h := ax_it h c26
      refine ax_iconst (v := (0 : Int32)) K (by decide) dX2_swap_50 ?_
      exact E _ _ _ _ dX2_swap_51 rfl h
    · have h := ax_ie h c26
      refine ax_iload_n K 3 rfl dX2_swap_29 ?_
      refine ax_iconst (v := (0 : Int32)) K (by decide) dX2_swap_30 ?_
      refine ax_aload_n K 0 rfl dX2_swap_31 ?_
      refine mg_menuLong K dX2_swap_32 ?_
      refine ax_iload_n K 1 rfl dX2_swap_35 ?_
      refine ml_menuLong K h.1 dX2_swap_36 ?_
      replace h := h.2
      refine ax_iconst (v := (1 : Int32)) K (by decide) dX2_swap_37 ?_
      refine ax_isub K dX2_swap_38 ?_
      refine rm_in K (by decide) dX2_swap_39 (Nat.le_of_ble_eq_true rfl) h (fun r39 h => ?_)
      refine ax_if_eq (tgt := 50) K dX2_swap_42 (by decide) (fun c42 => ?_) (fun c42 => ?_)
      · have h := ax_it h c42
        refine ax_iconst (v := (0 : Int32)) K (by decide) dX2_swap_50 ?_
        exact E _ _ _ _ dX2_swap_51 rfl h
      · have h := ax_ie h c42
        refine ax_iload_n K 2 rfl dX2_swap_45 ?_
        refine ax_iload_n K 3 rfl dX2_swap_46 ?_
        refine ax_icmp_ne (tgt := 52) K dX2_swap_47 (by decide) (fun c47 => ?_) (fun c47 => ?_)
        · have h := ax_ie h c47
          refine ax_aload_n K 0 rfl dX2_swap_52 ?_
          refine mg_menus K dX2_swap_53 ?_
          refine ax_bipush (v := (10 : Int32)) K (by decide) dX2_swap_56 ?_
          refine ax_iload_n K 1 rfl dX2_swap_58 ?_
          refine ax_imul K dX2_swap_59 ?_
          refine ax_iload_n K 2 rfl dX2_swap_60 ?_
          refine ax_iadd K dX2_swap_61 ?_
          refine ml_menus K h.1 dX2_swap_62 ?_
          replace h := h.2
          refine ax_istore (lv' := [(4, .int (mA_menus σ7 ((((10 : Int32) * v1) + v2)).toNatClampNeg)), (0, .ref (L 0)), (1, .int v1), (2, .int v2), (3, .int v3)]) K dX2_swap_63 (by decide) rfl ?_
          refine ax_aload_n K 1 rfl dX2_swap_65 ?_
          refine mg_menus K dX2_swap_66 ?_
          refine ax_bipush (v := (10 : Int32)) K (by decide) dX2_swap_69 ?_
          refine ax_iload_n K 2 rfl dX2_swap_71 ?_
          refine ax_imul K dX2_swap_72 ?_
          refine ax_iload_n K 3 rfl dX2_swap_73 ?_
          refine ax_iadd K dX2_swap_74 ?_
          refine ax_aload_n K 1 rfl dX2_swap_75 ?_
          refine mg_menus K dX2_swap_76 ?_
          refine ax_bipush (v := (10 : Int32)) K (by decide) dX2_swap_79 ?_
          refine ax_iload_n K 2 rfl dX2_swap_81 ?_
          refine ax_imul K dX2_swap_82 ?_
          refine ax_iload_n K 4 rfl dX2_swap_83 ?_
          refine ax_iadd K dX2_swap_84 ?_
          refine ml_menus K h.1 dX2_swap_85 ?_
          replace h := h.2
          refine ms_menus K h.1 dX2_swap_86 ?_
          replace h := h.2
          refine ax_aload_n K 1 rfl dX2_swap_87 ?_
          refine mg_menus K dX2_swap_88 ?_
          refine ax_bipush (v := (10 : Int32)) K (by decide) dX2_swap_91 ?_
          refine ax_iload_n K 2 rfl dX2_swap_93 ?_
          refine ax_imul K dX2_swap_94 ?_
          refine ax_iload_n K 4 rfl dX2_swap_95 ?_
          refine ax_iadd K dX2_swap_96 ?_
          refine ax_iload K 0 rfl dX2_swap_97 ?_
          refine ms_menus K h.1 dX2_swap_99 ?_
          replace h := h.2
          refine ax_iconst (v := (1 : Int32)) K (by decide) dX2_swap_100 ?_
          exact E _ _ _ _ dX2_swap_101 rfl h
        · have h := ax_it h c47
          refine ax_iconst (v := (0 : Int32)) K (by decide) dX2_swap_50 ?_
          exact E _ _ _ _ dX2_swap_51 rfl h

/-! m.turn -/
set_option maxHeartbeats 4000000 in
theorem km_turn_l26 {Z : AZ} {G : AG} {L : Nat → Nat} {P : Int32 → St → Prop} (K : AK Z G cX2_turn RX2 5 (rmH 3)) (E : AEi Z cX2_turn .boolean (mW G L) 0 0 P) : ∀ (n : Nat) (v1 : Int32) (v2 : Int32) (v3 : Int32) (σ : St), wm_turn_l26 P  n v1 v2 v3 σ → AX Z 0 0 26 [(0, .ref (L 0)), (1, .int v1), (2, .int v2), (3, .int v3)] [] (mW G L σ) := by
  intro n
  induction n with
  | zero => intro v1 v2 v3 σ h; exact False.elim h
  | succ n ih =>
    intro v1 v2 v3 σ h
    rw [wm_turn_l26_s] at h
    refine ax_iload_n K 2 rfl dX2_turn_26 ?_
    refine ax_iload_n K 3 rfl dX2_turn_27 ?_
    refine ax_icmp_ge (tgt := 88) K dX2_turn_28 (by decide) (fun c28 => ?_) (fun c28 => ?_)
    · have h := ax_it h c28
      refine ax_iconst (v := (1 : Int32)) K (by decide) dX2_turn_88 ?_
      exact E _ _ _ _ dX2_turn_89 rfl h
    · have h := ax_ie h c28
      refine ax_aload_n K 0 rfl dX2_turn_31 ?_
      refine mg_menus K dX2_turn_32 ?_
      refine ax_bipush (v := (10 : Int32)) K (by decide) dX2_turn_35 ?_
      refine ax_iload_n K 1 rfl dX2_turn_37 ?_
      refine ax_imul K dX2_turn_38 ?_
      refine ax_iload_n K 2 rfl dX2_turn_39 ?_
      refine ax_iadd K dX2_turn_40 ?_
      refine ml_menus K h.1 dX2_turn_41 ?_
      replace h := h.2
      refine ax_istore (lv' := [(4, .int (mA_menus σ ((((10 : Int32) * v1) + v2)).toNatClampNeg)), (0, .ref (L 0)), (1, .int v1), (2, .int v2), (3, .int v3)]) K dX2_turn_42 (by decide) rfl ?_
      refine ax_aload_n K 1 rfl dX2_turn_44 ?_
      refine mg_menus K dX2_turn_45 ?_
      refine ax_bipush (v := (10 : Int32)) K (by decide) dX2_turn_48 ?_
      refine ax_iload_n K 2 rfl dX2_turn_50 ?_
      refine ax_imul K dX2_turn_51 ?_
      refine ax_iload_n K 3 rfl dX2_turn_52 ?_
      refine ax_iadd K dX2_turn_53 ?_
      refine ax_aload_n K 1 rfl dX2_turn_54 ?_
      refine mg_menus K dX2_turn_55 ?_
      refine ax_bipush (v := (10 : Int32)) K (by decide) dX2_turn_58 ?_
      refine ax_iload_n K 2 rfl dX2_turn_60 ?_
      refine ax_imul K dX2_turn_61 ?_
      refine ax_iload_n K 4 rfl dX2_turn_62 ?_
      refine ax_iadd K dX2_turn_63 ?_
      refine ml_menus K h.1 dX2_turn_64 ?_
      replace h := h.2
      refine ms_menus K h.1 dX2_turn_65 ?_
      replace h := h.2
      refine ax_aload_n K 1 rfl dX2_turn_66 ?_
      refine mg_menus K dX2_turn_67 ?_
      refine ax_bipush (v := (10 : Int32)) K (by decide) dX2_turn_70 ?_
      refine ax_iload_n K 2 rfl dX2_turn_72 ?_
      refine ax_imul K dX2_turn_73 ?_
      refine ax_iload_n K 4 rfl dX2_turn_74 ?_
      refine ax_iadd K dX2_turn_75 ?_
      refine ax_iload K 0 rfl dX2_turn_76 ?_
      refine ms_menus K h.1 dX2_turn_78 ?_
      replace h := h.2
      refine ax_iinc (lv' := [(2, .int (v2 + (1 : Int32))), (4, .int (mA_menus σ ((((10 : Int32) * v1) + v2)).toNatClampNeg)), (0, .ref (L 0)), (1, .int v1), (3, .int v3)]) (v := (v2 + (1 : Int32))) K 3 dX2_turn_79 rfl (by rfl) (by decide) rfl ?_
      refine ax_iinc (lv' := [(3, .int (v3 + (-1 : Int32))), (2, .int (v2 + (1 : Int32))), (4, .int (mA_menus σ ((((10 : Int32) * v1) + v2)).toNatClampNeg)), (0, .ref (L 0)), (1, .int v1)]) (v := (v3 + (-1 : Int32))) K 4 dX2_turn_82 rfl (by rfl) (by decide) rfl ?_
      refine ax_goto (tgt := 26) K dX2_turn_85 (by decide) ?_
      exact ax_sub [3, 4, 1, 0] rfl (ih v1 (v2 + (1 : Int32)) (v3 + (-1 : Int32)) (mU_menus (mU_menus σ (((10 : Int32) * v1) + v2) (mA_menus σ ((((10 : Int32) * v1) + v3)).toNatClampNeg)) (((10 : Int32) * v1) + v3) (mA_menus σ ((((10 : Int32) * v1) + v2)).toNatClampNeg)) h)
set_option maxHeartbeats 4000000 in
theorem mm_turn {l : Launch} {G : AG} {L : Nat → Nat} {σ : St} {v1 : Int32} {P : Int32 → St → Prop} (h : wm_turn σ v1 P) : CtW l G yX2_turn cX2_turn 5 (some .boolean) (rmH 3) [.ref (L 0), .int v1] (mW G L) σ (pI P) := by
  refine CtW.ofI (by decide) (Nat.le_of_ble_eq_true rfl) fun Z _ K E => ?_
  unfold wm_turn at h
  show AX Z 0 0 0 [(0, .ref (L 0)), (1, .int v1)] [] (mW G L σ)
  refine ax_aload_n K 0 rfl dX2_turn_0 ?_
  refine ax_iconst (v := (0 : Int32)) K (by decide) dX2_turn_1 ?_
  refine mp_thrown K dX2_turn_2 ?_
  refine ax_aload_n K 0 rfl dX2_turn_5 ?_
  refine ax_iload_n K 1 rfl dX2_turn_6 ?_
  refine rm_isMenu K (by decide) dX2_turn_7 (Nat.le_of_ble_eq_true rfl) h (fun r7 σ7 h => ?_)
  refine ax_if_ne (tgt := 15) K dX2_turn_10 (by decide) (fun c10 => ?_) (fun c10 => ?_)
  · have h := ax_ie h c10
    refine ax_iconst (v := (0 : Int32)) K (by decide) dX2_turn_15 ?_
    refine ax_istore_n (lv' := [(2, .int (0 : Int32)), (0, .ref (L 0)), (1, .int v1)]) K dX2_turn_16 (by decide) rfl ?_
    refine ax_aload_n K 1 rfl dX2_turn_17 ?_
    refine mg_menuLong K dX2_turn_18 ?_
    refine ax_iload_n K 2 rfl dX2_turn_21 ?_
    refine ml_menuLong K h.1 dX2_turn_22 ?_
    replace h := h.2
    refine ax_iconst (v := (1 : Int32)) K (by decide) dX2_turn_23 ?_
    refine ax_isub K dX2_turn_24 ?_
    refine ax_istore_n (lv' := [(3, .int ((mA_menuLong σ7 (v1).toNatClampNeg) - (1 : Int32))), (2, .int (0 : Int32)), (0, .ref (L 0)), (1, .int v1)]) K dX2_turn_25 (by decide) rfl ?_
    exact ax_sub [2, 3, 1, 0] rfl (h.elim fun n26 h => km_turn_l26 K E  n26 v1 (0 : Int32) ((mA_menuLong σ7 (v1).toNatClampNeg) - (1 : Int32)) σ7 h)
  · have h := ax_it h c10
    refine ax_iconst (v := (0 : Int32)) K (by decide) dX2_turn_13 ?_
    exact E _ _ _ _ dX2_turn_14 rfl h

/-! m.beside -/
set_option maxHeartbeats 4000000 in
theorem km_beside_j22 {Z : AZ} {G : AG} {L : Nat → Nat} {P : Int32 → St → Prop} (K : AK Z G cX2_beside RX2 2 (rmH 4)) (E : AEi Z cX2_beside .int (mW G L) 0 0 P) (s0 : Int32) (σ : St) (h : wm_beside_j22 P  s0 σ) : AX Z 0 0 22 [(0, .ref (L 0))] [.int s0] (mW G L σ) := by
  unfold wm_beside_j22 at h
  exact E _ _ _ _ dX2_beside_22 rfl h
set_option maxHeartbeats 4000000 in
theorem mm_beside {l : Launch} {G : AG} {L : Nat → Nat} {σ : St} {v1 : Int32} {P : Int32 → St → Prop} (h : wm_beside σ v1 P) : CtW l G yX2_beside cX2_beside 2 (some .int) (rmH 4) [.ref (L 0), .int v1] (mW G L) σ (pI P) := by
  refine CtW.ofI (by decide) (Nat.le_of_ble_eq_true rfl) fun Z _ K E => ?_
  unfold wm_beside at h
  show AX Z 0 0 0 [(0, .ref (L 0)), (1, .int v1)] [] (mW G L σ)
  refine ax_aload_n K 0 rfl dX2_beside_0 ?_
  refine ax_iconst (v := (0 : Int32)) K (by decide) dX2_beside_1 ?_
  refine mp_thrown K dX2_beside_2 ?_
  refine ax_aload_n K 0 rfl dX2_beside_5 ?_
  refine ax_iload_n K 1 rfl dX2_beside_6 ?_
  refine rm_isDish K (by decide) dX2_beside_7 (Nat.le_of_ble_eq_true rfl) h (fun r7 σ7 h => ?_)
  refine ax_if_eq (tgt := 21) K dX2_beside_10 (by decide) (fun c10 => ?_) (fun c10 => ?_)
  · have h := ax_it h c10
    refine ax_iconst (v := (-1 : Int32)) K (by decide) dX2_beside_21 ?_
    exact ax_sub [0] rfl (km_beside_j22 K E  (-1 : Int32) σ7 h)
  · have h := ax_ie h c10
    refine ax_aload_n K 0 rfl dX2_beside_13 ?_
    refine ax_iload_n K 1 rfl dX2_beside_14 ?_
    refine rm_besides K (by decide) dX2_beside_15 (Nat.le_of_ble_eq_true rfl) h (fun r15 σ15 h => ?_)
    refine ax_goto (tgt := 22) K dX2_beside_18 (by decide) ?_
    exact ax_sub [0] rfl (km_beside_j22 K E  r15 σ15 h)

/-! m.can -/
set_option maxHeartbeats 4000000 in
theorem km_can_j41 {Z : AZ} {G : AG} {L : Nat → Nat} {P : Int32 → St → Prop} (K : AK Z G cX2_can RX2 3 (rmH 4)) (E : AEi Z cX2_can .int (mW G L) 0 0 P) {K9 : Int32 → Int32 → St → Prop} (hK9 : ∀ (v1 : Int32) (v2 : Int32) (σ : St), K9 v1 v2 σ → AX Z 0 0 9 [(0, .ref (L 0)), (1, .int v1), (2, .int v2)] [] (mW G L σ)) (v2 : Int32) (s0 : Int32) (s1 : Int32) (σ : St) (h : wm_can_j41 P K9 v2 s0 s1 σ) : AX Z 0 0 41 [(0, .ref (L 0)), (2, .int v2)] [.int s1, .int s0] (mW G L σ) := by
  unfold wm_can_j41 at h
  refine ax_ior K dX2_can_41 ?_
  refine ax_istore_n (lv' := [(1, .int (s0 ||| s1)), (0, .ref (L 0)), (2, .int v2)]) K dX2_can_42 (by decide) rfl ?_
  refine ax_iinc (lv' := [(2, .int (v2 + (1 : Int32))), (1, .int (s0 ||| s1)), (0, .ref (L 0))]) (v := (v2 + (1 : Int32))) K 2 dX2_can_43 rfl (by rfl) (by decide) rfl ?_
  refine ax_goto (tgt := 9) K dX2_can_46 (by decide) ?_
  exact ax_sub [2, 1, 0] rfl (hK9 (s0 ||| s1) (v2 + (1 : Int32)) σ h)
set_option maxHeartbeats 4000000 in
theorem km_can_l9 {Z : AZ} {G : AG} {L : Nat → Nat} {P : Int32 → St → Prop} (K : AK Z G cX2_can RX2 3 (rmH 4)) (E : AEi Z cX2_can .int (mW G L) 0 0 P) : ∀ (n : Nat) (v1 : Int32) (v2 : Int32) (σ : St), wm_can_l9 P  n v1 v2 σ → AX Z 0 0 9 [(0, .ref (L 0)), (1, .int v1), (2, .int v2)] [] (mW G L σ) := by
  intro n
  induction n with
  | zero => intro v1 v2 σ h; exact False.elim h
  | succ n ih =>
    intro v1 v2 σ h
    rw [wm_can_l9_s] at h
    refine ax_iload_n K 2 rfl dX2_can_9 ?_
    refine ax_aload_n K 0 rfl dX2_can_10 ?_
    refine mg_dishes K dX2_can_11 ?_
    refine ax_icmp_ge (tgt := 49) K dX2_can_14 (by decide) (fun c14 => ?_) (fun c14 => ?_)
    · have h := ax_it h c14
      refine ax_iload_n K 1 rfl dX2_can_49 ?_
      exact E _ _ _ _ dX2_can_50 rfl h
    · have h := ax_ie h c14
      refine ax_iload_n K 1 rfl dX2_can_17 ?_
      refine ax_aload_n K 0 rfl dX2_can_18 ?_
      refine ax_aload_n K 0 rfl dX2_can_19 ?_
      refine rm_servedSet K (by decide) dX2_can_20 (Nat.le_of_ble_eq_true rfl) h (fun r20 σ20 h => ?_)
      refine ax_aload_n K 0 rfl dX2_can_23 ?_
      refine rm_servedLast K (by decide) dX2_can_24 (Nat.le_of_ble_eq_true rfl) h (fun r24 σ24 h => ?_)
      refine ax_iload_n K 2 rfl dX2_can_27 ?_
      refine rm_refusal K (by decide) dX2_can_28 (Nat.le_of_ble_eq_true rfl) h (fun r28 σ28 h => ?_)
      refine ax_if_ne (tgt := 40) K dX2_can_31 (by decide) (fun c31 => ?_) (fun c31 => ?_)
      · have h := ax_ie h c31
        refine ax_iconst (v := (0 : Int32)) K (by decide) dX2_can_40 ?_
        exact ax_sub [0, 2] rfl (km_can_j41 K E ih v2 v1 (0 : Int32) σ28 h)
      · have h := ax_it h c31
        refine ax_iconst (v := (1 : Int32)) K (by decide) dX2_can_34 ?_
        refine ax_iload_n K 2 rfl dX2_can_35 ?_
        refine ax_ishl K dX2_can_36 ?_
        refine ax_goto (tgt := 41) K dX2_can_37 (by decide) ?_
        exact ax_sub [0, 2] rfl (km_can_j41 K E ih v2 v1 ((1 : Int32) <<< (v2 &&& 31)) σ28 h)
set_option maxHeartbeats 4000000 in
theorem mm_can {l : Launch} {G : AG} {L : Nat → Nat} {σ : St} {P : Int32 → St → Prop} (h : wm_can σ P) : CtW l G yX2_can cX2_can 3 (some .int) (rmH 4) [.ref (L 0)] (mW G L) σ (pI P) := by
  refine CtW.ofI (by decide) (Nat.le_of_ble_eq_true rfl) fun Z _ K E => ?_
  unfold wm_can at h
  show AX Z 0 0 0 [(0, .ref (L 0))] [] (mW G L σ)
  refine ax_aload_n K 0 rfl dX2_can_0 ?_
  refine ax_iconst (v := (0 : Int32)) K (by decide) dX2_can_1 ?_
  refine mp_thrown K dX2_can_2 ?_
  refine ax_iconst (v := (0 : Int32)) K (by decide) dX2_can_5 ?_
  refine ax_istore_n (lv' := [(1, .int (0 : Int32)), (0, .ref (L 0))]) K dX2_can_6 (by decide) rfl ?_
  refine ax_iconst (v := (0 : Int32)) K (by decide) dX2_can_7 ?_
  refine ax_istore_n (lv' := [(2, .int (0 : Int32)), (1, .int (0 : Int32)), (0, .ref (L 0))]) K dX2_can_8 (by decide) rfl ?_
  exact ax_sub [2, 1, 0] rfl (h.elim fun n9 h => km_can_l9 K E  n9 (0 : Int32) (0 : Int32) (mS_thrown σ (0 : Int32)) h)

/-! m.hearths -/
set_option maxHeartbeats 4000000 in
theorem km_hearths_j86 {Z : AZ} {G : AG} {L : Nat → Nat} {P : Int32 → St → Prop} (K : AK Z G cX2_hearths RX2 6 (rmH 4)) (E : AEi Z cX2_hearths .int (mW G L) 0 0 P) {K32 : Int32 → Int32 → Int32 → Int32 → Int32 → St → Prop} (hK32 : ∀ (v1 : Int32) (v2 : Int32) (v3 : Int32) (v4 : Int32) (v5 : Int32) (σ : St), K32 v1 v2 v3 v4 v5 σ → AX Z 0 0 32 [(0, .ref (L 0)), (1, .int v1), (2, .int v2), (3, .int v3), (4, .int v4), (5, .int v5)] [] (mW G L σ)) (v1 : Int32) (v2 : Int32) (v3 : Int32) (v5 : Int32) (s0 : Int32) (s1 : Int32) (σ : St) (h : wm_hearths_j86 P K32 v1 v2 v3 v5 s0 s1 σ) : AX Z 0 0 86 [(0, .ref (L 0)), (1, .int v1), (2, .int v2), (3, .int v3), (5, .int v5)] [.int s1, .int s0] (mW G L σ) := by
  unfold wm_hearths_j86 at h
  refine ax_iadd K dX2_hearths_86 ?_
  refine ax_istore (lv' := [(4, .int (s0 + s1)), (0, .ref (L 0)), (1, .int v1), (2, .int v2), (3, .int v3), (5, .int v5)]) K dX2_hearths_87 (by decide) rfl ?_
  refine ax_iinc (lv' := [(5, .int (v5 + (1 : Int32))), (4, .int (s0 + s1)), (0, .ref (L 0)), (1, .int v1), (2, .int v2), (3, .int v3)]) (v := (v5 + (1 : Int32))) K 5 dX2_hearths_89 rfl (by rfl) (by decide) rfl ?_
  refine ax_goto (tgt := 32) K dX2_hearths_92 (by decide) ?_
  exact ax_sub [2, 3, 4, 5, 1, 0] rfl (hK32 v1 v2 v3 (s0 + s1) (v5 + (1 : Int32)) σ h)
set_option maxHeartbeats 4000000 in
theorem km_hearths_j85 {Z : AZ} {G : AG} {L : Nat → Nat} {P : Int32 → St → Prop} (K : AK Z G cX2_hearths RX2 6 (rmH 4)) (E : AEi Z cX2_hearths .int (mW G L) 0 0 P) {K32 : Int32 → Int32 → Int32 → Int32 → Int32 → St → Prop} (hK32 : ∀ (v1 : Int32) (v2 : Int32) (v3 : Int32) (v4 : Int32) (v5 : Int32) (σ : St), K32 v1 v2 v3 v4 v5 σ → AX Z 0 0 32 [(0, .ref (L 0)), (1, .int v1), (2, .int v2), (3, .int v3), (4, .int v4), (5, .int v5)] [] (mW G L σ)) (v1 : Int32) (v2 : Int32) (v3 : Int32) (v5 : Int32) (s0 : Int32) (σ : St) (h : wm_hearths_j85 P K32 v1 v2 v3 v5 s0 σ) : AX Z 0 0 85 [(0, .ref (L 0)), (1, .int v1), (2, .int v2), (3, .int v3), (5, .int v5)] [.int s0] (mW G L σ) := by
  unfold wm_hearths_j85 at h
  refine ax_iconst (v := (0 : Int32)) K (by decide) dX2_hearths_85 ?_
  exact ax_sub [0, 1, 2, 3, 4] rfl (km_hearths_j86 K E hK32 v1 v2 v3 v5 s0 (0 : Int32) σ h)
set_option maxHeartbeats 4000000 in
theorem km_hearths_l32 {Z : AZ} {G : AG} {L : Nat → Nat} {P : Int32 → St → Prop} (K : AK Z G cX2_hearths RX2 6 (rmH 4)) (E : AEi Z cX2_hearths .int (mW G L) 0 0 P) {K20 : Int32 → Int32 → Int32 → St → Prop} (hK20 : ∀ (v1 : Int32) (v2 : Int32) (v3 : Int32) (σ : St), K20 v1 v2 v3 σ → AX Z 0 0 20 [(0, .ref (L 0)), (1, .int v1), (2, .int v2), (3, .int v3)] [] (mW G L σ)) : ∀ (n : Nat) (v1 : Int32) (v2 : Int32) (v3 : Int32) (v4 : Int32) (v5 : Int32) (σ : St), wm_hearths_l32 P K20 n v1 v2 v3 v4 v5 σ → AX Z 0 0 32 [(0, .ref (L 0)), (1, .int v1), (2, .int v2), (3, .int v3), (4, .int v4), (5, .int v5)] [] (mW G L σ) := by
  intro n
  induction n with
  | zero => intro v1 v2 v3 v4 v5 σ h; exact False.elim h
  | succ n ih =>
    intro v1 v2 v3 v4 v5 σ h
    rw [wm_hearths_l32_s] at h
    refine ax_iload K 5 rfl dX2_hearths_32 ?_
    refine ax_aload_n K 0 rfl dX2_hearths_34 ?_
    refine mg_menuLong K dX2_hearths_35 ?_
    refine ax_iload_n K 1 rfl dX2_hearths_38 ?_
    refine ml_menuLong K h.1 dX2_hearths_39 ?_
    replace h := h.2
    refine ax_icmp_ge (tgt := 95) K dX2_hearths_40 (by decide) (fun c40 => ?_) (fun c40 => ?_)
    · have h := ax_it h c40
      refine ax_iload_n K 2 rfl dX2_hearths_95 ?_
      refine ax_iload K 4 rfl dX2_hearths_96 ?_
      refine rm_max K (by decide) (Nat.le_of_ble_eq_true rfl) dX2_hearths_98 ?_
      refine ax_istore_n (lv' := [(2, .int (jmax v2 v4)), (0, .ref (L 0)), (1, .int v1), (3, .int v3), (4, .int v4), (5, .int v5)]) K dX2_hearths_101 (by decide) rfl ?_
      refine ax_iinc (lv' := [(3, .int (v3 + (1 : Int32))), (2, .int (jmax v2 v4)), (0, .ref (L 0)), (1, .int v1), (4, .int v4), (5, .int v5)]) (v := (v3 + (1 : Int32))) K 3 dX2_hearths_102 rfl (by rfl) (by decide) rfl ?_
      refine ax_goto (tgt := 20) K dX2_hearths_105 (by decide) ?_
      exact ax_sub [2, 3, 1, 0] rfl (hK20 v1 (jmax v2 v4) (v3 + (1 : Int32)) σ h)
    · have h := ax_ie h c40
      refine ax_iload K 4 rfl dX2_hearths_43 ?_
      refine ax_iload_n K 3 rfl dX2_hearths_45 ?_
      refine ax_bipush (v := (10 : Int32)) K (by decide) dX2_hearths_46 ?_
      refine ax_iload K 5 rfl dX2_hearths_48 ?_
      refine ax_iadd K dX2_hearths_50 ?_
      refine ax_icmp_ge (tgt := 85) K dX2_hearths_51 (by decide) (fun c51 => ?_) (fun c51 => ?_)
      · have h := ax_it h c51
        exact ax_sub [0, 1, 2, 3, 5] rfl (km_hearths_j85 K E ih v1 v2 v3 v5 v4 σ h)
      · have h := ax_ie h c51
        refine ax_iload_n K 3 rfl dX2_hearths_54 ?_
        refine ax_bipush (v := (10 : Int32)) K (by decide) dX2_hearths_55 ?_
        refine ax_iload K 5 rfl dX2_hearths_57 ?_
        refine ax_iadd K dX2_hearths_59 ?_
        refine ax_aload_n K 0 rfl dX2_hearths_60 ?_
        refine mg_hours K dX2_hearths_61 ?_
        refine ax_aload_n K 0 rfl dX2_hearths_64 ?_
        refine mg_menus K dX2_hearths_65 ?_
        refine ax_bipush (v := (10 : Int32)) K (by decide) dX2_hearths_68 ?_
        refine ax_iload_n K 1 rfl dX2_hearths_70 ?_
        refine ax_imul K dX2_hearths_71 ?_
        refine ax_iload K 5 rfl dX2_hearths_72 ?_
        refine ax_iadd K dX2_hearths_74 ?_
        refine ml_menus K h.1 dX2_hearths_75 ?_
        replace h := h.2
        refine ml_hours K h.1 dX2_hearths_76 ?_
        replace h := h.2
        refine ax_isub K dX2_hearths_77 ?_
        refine ax_icmp_lt (tgt := 85) K dX2_hearths_78 (by decide) (fun c78 => ?_) (fun c78 => ?_)
        · have h := ax_it h c78
          exact ax_sub [0, 1, 2, 3, 5] rfl (km_hearths_j85 K E ih v1 v2 v3 v5 v4 σ h)
        · have h := ax_ie h c78
          refine ax_iconst (v := (1 : Int32)) K (by decide) dX2_hearths_81 ?_
          refine ax_goto (tgt := 86) K dX2_hearths_82 (by decide) ?_
          exact ax_sub [0, 1, 2, 3, 5] rfl (km_hearths_j86 K E ih v1 v2 v3 v5 v4 (1 : Int32) σ h)
set_option maxHeartbeats 4000000 in
theorem km_hearths_l20 {Z : AZ} {G : AG} {L : Nat → Nat} {P : Int32 → St → Prop} (K : AK Z G cX2_hearths RX2 6 (rmH 4)) (E : AEi Z cX2_hearths .int (mW G L) 0 0 P) {K115 : Int32 → Int32 → Int32 → St → Prop} (hK115 : ∀ (v1 : Int32) (v2 : Int32) (v3 : Int32) (σ : St), K115 v1 v2 v3 σ → AX Z 0 0 115 [(0, .ref (L 0)), (1, .int v1), (2, .int v2), (3, .int v3)] [] (mW G L σ)) : ∀ (n : Nat) (v1 : Int32) (v2 : Int32) (v3 : Int32) (σ : St), wm_hearths_l20 P K115 n v1 v2 v3 σ → AX Z 0 0 20 [(0, .ref (L 0)), (1, .int v1), (2, .int v2), (3, .int v3)] [] (mW G L σ) := by
  intro n
  induction n with
  | zero => intro v1 v2 v3 σ h; exact False.elim h
  | succ n ih =>
    intro v1 v2 v3 σ h
    rw [wm_hearths_l20_s] at h
    refine ax_iload_n K 3 rfl dX2_hearths_20 ?_
    refine ax_bipush (v := (20 : Int32)) K (by decide) dX2_hearths_21 ?_
    refine ax_icmp_ge (tgt := 108) K dX2_hearths_23 (by decide) (fun c23 => ?_) (fun c23 => ?_)
    · have h := ax_it h c23
      refine ax_aload_n K 0 rfl dX2_hearths_108 ?_
      refine ax_iconst (v := (0 : Int32)) K (by decide) dX2_hearths_109 ?_
      refine mp_rowMany K dX2_hearths_110 ?_
      refine ax_iconst (v := (0 : Int32)) K (by decide) dX2_hearths_113 ?_
      refine ax_istore_n (lv' := [(3, .int (0 : Int32)), (0, .ref (L 0)), (1, .int v1), (2, .int v2)]) K dX2_hearths_114 (by decide) rfl ?_
      exact ax_sub [1, 2, 3, 0] rfl (hK115 v1 v2 (0 : Int32) (mS_rowMany σ (0 : Int32)) h)
    · have h := ax_ie h c23
      refine ax_iconst (v := (0 : Int32)) K (by decide) dX2_hearths_26 ?_
      refine ax_istore (lv' := [(4, .int (0 : Int32)), (0, .ref (L 0)), (1, .int v1), (2, .int v2), (3, .int v3)]) K dX2_hearths_27 (by decide) rfl ?_
      refine ax_iconst (v := (0 : Int32)) K (by decide) dX2_hearths_29 ?_
      refine ax_istore (lv' := [(5, .int (0 : Int32)), (4, .int (0 : Int32)), (0, .ref (L 0)), (1, .int v1), (2, .int v2), (3, .int v3)]) K dX2_hearths_30 (by decide) rfl ?_
      exact ax_sub [2, 3, 4, 5, 1, 0] rfl (h.elim fun n32 h => km_hearths_l32 K E ih n32 v1 v2 v3 (0 : Int32) (0 : Int32) σ h)
set_option maxHeartbeats 4000000 in
theorem km_hearths_l115 {Z : AZ} {G : AG} {L : Nat → Nat} {P : Int32 → St → Prop} (K : AK Z G cX2_hearths RX2 6 (rmH 4)) (E : AEi Z cX2_hearths .int (mW G L) 0 0 P) : ∀ (n : Nat) (v1 : Int32) (v2 : Int32) (v3 : Int32) (σ : St), wm_hearths_l115 P  n v1 v2 v3 σ → AX Z 0 0 115 [(0, .ref (L 0)), (1, .int v1), (2, .int v2), (3, .int v3)] [] (mW G L σ) := by
  intro n
  induction n with
  | zero => intro v1 v2 v3 σ h; exact False.elim h
  | succ n ih =>
    intro v1 v2 v3 σ h
    rw [wm_hearths_l115_s] at h
    refine ax_iload_n K 3 rfl dX2_hearths_115 ?_
    refine ax_aload_n K 0 rfl dX2_hearths_116 ?_
    refine mg_menuLong K dX2_hearths_117 ?_
    refine ax_iload_n K 1 rfl dX2_hearths_120 ?_
    refine ml_menuLong K h.1 dX2_hearths_121 ?_
    replace h := h.2
    refine ax_icmp_ge (tgt := 156) K dX2_hearths_122 (by decide) (fun c122 => ?_) (fun c122 => ?_)
    · have h := ax_it h c122
      refine ax_iload_n K 2 rfl dX2_hearths_156 ?_
      exact E _ _ _ _ dX2_hearths_157 rfl h
    · have h := ax_ie h c122
      refine ax_aload_n K 0 rfl dX2_hearths_125 ?_
      refine ax_bipush (v := (10 : Int32)) K (by decide) dX2_hearths_126 ?_
      refine ax_iload_n K 3 rfl dX2_hearths_128 ?_
      refine ax_iadd K dX2_hearths_129 ?_
      refine ax_aload_n K 0 rfl dX2_hearths_130 ?_
      refine mg_hours K dX2_hearths_131 ?_
      refine ax_aload_n K 0 rfl dX2_hearths_134 ?_
      refine mg_menus K dX2_hearths_135 ?_
      refine ax_bipush (v := (10 : Int32)) K (by decide) dX2_hearths_138 ?_
      refine ax_iload_n K 1 rfl dX2_hearths_140 ?_
      refine ax_imul K dX2_hearths_141 ?_
      refine ax_iload_n K 3 rfl dX2_hearths_142 ?_
      refine ax_iadd K dX2_hearths_143 ?_
      refine ml_menus K h.1 dX2_hearths_144 ?_
      replace h := h.2
      refine ml_hours K h.1 dX2_hearths_145 ?_
      replace h := h.2
      refine ax_isub K dX2_hearths_146 ?_
      refine rm_tell K (by decide) dX2_hearths_147 (Nat.le_of_ble_eq_true rfl) h (fun σ147 h => ?_)
      refine ax_iinc (lv' := [(3, .int (v3 + (1 : Int32))), (0, .ref (L 0)), (1, .int v1), (2, .int v2)]) (v := (v3 + (1 : Int32))) K 3 dX2_hearths_150 rfl (by rfl) (by decide) rfl ?_
      refine ax_goto (tgt := 115) K dX2_hearths_153 (by decide) ?_
      exact ax_sub [1, 2, 3, 0] rfl (ih v1 v2 (v3 + (1 : Int32)) σ147 h)
set_option maxHeartbeats 4000000 in
theorem mm_hearths {l : Launch} {G : AG} {L : Nat → Nat} {σ : St} {v1 : Int32} {P : Int32 → St → Prop} (h : wm_hearths σ v1 P) : CtW l G yX2_hearths cX2_hearths 6 (some .int) (rmH 4) [.ref (L 0), .int v1] (mW G L) σ (pI P) := by
  refine CtW.ofI (by decide) (Nat.le_of_ble_eq_true rfl) fun Z _ K E => ?_
  unfold wm_hearths at h
  show AX Z 0 0 0 [(0, .ref (L 0)), (1, .int v1)] [] (mW G L σ)
  refine ax_aload_n K 0 rfl dX2_hearths_0 ?_
  refine ax_iconst (v := (0 : Int32)) K (by decide) dX2_hearths_1 ?_
  refine mp_thrown K dX2_hearths_2 ?_
  refine ax_aload_n K 0 rfl dX2_hearths_5 ?_
  refine ax_iload_n K 1 rfl dX2_hearths_6 ?_
  refine rm_isWhole K (by decide) dX2_hearths_7 (Nat.le_of_ble_eq_true rfl) h (fun r7 σ7 h => ?_)
  refine ax_if_ne (tgt := 16) K dX2_hearths_10 (by decide) (fun c10 => ?_) (fun c10 => ?_)
  · have h := ax_ie h c10
    refine ax_iconst (v := (0 : Int32)) K (by decide) dX2_hearths_16 ?_
    refine ax_istore_n (lv' := [(2, .int (0 : Int32)), (0, .ref (L 0)), (1, .int v1)]) K dX2_hearths_17 (by decide) rfl ?_
    refine ax_iconst (v := (0 : Int32)) K (by decide) dX2_hearths_18 ?_
    refine ax_istore_n (lv' := [(3, .int (0 : Int32)), (2, .int (0 : Int32)), (0, .ref (L 0)), (1, .int v1)]) K dX2_hearths_19 (by decide) rfl ?_
    exact ax_sub [2, 3, 1, 0] rfl (h.elim fun n20 h => km_hearths_l20 K E (fun v1 v2 v3 σ h => h.elim fun n115 h => km_hearths_l115 K E  n115 v1 v2 v3 σ h) n20 v1 (0 : Int32) (0 : Int32) σ7 h)
  · have h := ax_it h c10
    refine ax_bipush (v := (-3 : Int32)) K (by decide) dX2_hearths_13 ?_
    exact E _ _ _ _ dX2_hearths_15 rfl h

/-! m.late -/
set_option maxHeartbeats 4000000 in
theorem km_late_l30 {Z : AZ} {G : AG} {L : Nat → Nat} {P : Int32 → St → Prop} (K : AK Z G cX2_late RX2 7 (rmH 4)) (E : AEi Z cX2_late .int (mW G L) 0 0 P) {K58 : Int32 → Int32 → Int32 → Int32 → St → Prop} (hK58 : ∀ (v1 : Int32) (v2 : Int32) (v3 : Int32) (v4 : Int32) (σ : St), K58 v1 v2 v3 v4 σ → AX Z 0 0 58 [(0, .ref (L 0)), (1, .int v1), (2, .int v2), (3, .int v3), (4, .int v4)] [] (mW G L σ)) : ∀ (n : Nat) (v1 : Int32) (v2 : Int32) (v3 : Int32) (σ : St), wm_late_l30 P K58 n v1 v2 v3 σ → AX Z 0 0 30 [(0, .ref (L 0)), (1, .int v1), (2, .int v2), (3, .int v3)] [] (mW G L σ) := by
  intro n
  induction n with
  | zero => intro v1 v2 v3 σ h; exact False.elim h
  | succ n ih =>
    intro v1 v2 v3 σ h
    rw [wm_late_l30_s] at h
    refine ax_iload_n K 3 rfl dX2_late_30 ?_
    refine ax_iload_n K 2 rfl dX2_late_31 ?_
    refine ax_icmp_ge (tgt := 48) K dX2_late_32 (by decide) (fun c32 => ?_) (fun c32 => ?_)
    · have h := ax_it h c32
      refine ax_iconst (v := (0 : Int32)) K (by decide) dX2_late_48 ?_
      refine ax_istore_n (lv' := [(3, .int (0 : Int32)), (0, .ref (L 0)), (1, .int v1), (2, .int v2)]) K dX2_late_49 (by decide) rfl ?_
      refine ax_aload_n K 1 rfl dX2_late_50 ?_
      refine ax_iconst (v := (0 : Int32)) K (by decide) dX2_late_51 ?_
      refine mp_rowMany K dX2_late_52 ?_
      refine ax_iconst (v := (0 : Int32)) K (by decide) dX2_late_55 ?_
      refine ax_istore (lv' := [(4, .int (0 : Int32)), (3, .int (0 : Int32)), (0, .ref (L 0)), (1, .int v1), (2, .int v2)]) K dX2_late_56 (by decide) rfl ?_
      exact ax_sub [2, 3, 4, 1, 0] rfl (hK58 v1 v2 (0 : Int32) (0 : Int32) (mS_rowMany σ (0 : Int32)) h)
    · have h := ax_ie h c32
      refine ax_aload_n K 0 rfl dX2_late_35 ?_
      refine mg_freeAt K dX2_late_36 ?_
      refine ax_iload_n K 3 rfl dX2_late_39 ?_
      refine ax_iconst (v := (0 : Int32)) K (by decide) dX2_late_40 ?_
      refine ms_freeAt K h.1 dX2_late_41 ?_
      replace h := h.2
      refine ax_iinc (lv' := [(3, .int (v3 + (1 : Int32))), (0, .ref (L 0)), (1, .int v1), (2, .int v2)]) (v := (v3 + (1 : Int32))) K 3 dX2_late_42 rfl (by rfl) (by decide) rfl ?_
      refine ax_goto (tgt := 30) K dX2_late_45 (by decide) ?_
      exact ax_sub [1, 2, 3, 0] rfl (ih v1 v2 (v3 + (1 : Int32)) (mU_freeAt σ v3 (0 : Int32)) h)
set_option maxHeartbeats 4000000 in
theorem km_late_j102 {Z : AZ} {G : AG} {L : Nat → Nat} {P : Int32 → St → Prop} (K : AK Z G cX2_late RX2 7 (rmH 4)) (E : AEi Z cX2_late .int (mW G L) 0 0 P) {K75 : Int32 → Int32 → Int32 → Int32 → Int32 → Int32 → St → Prop} (hK75 : ∀ (v1 : Int32) (v2 : Int32) (v3 : Int32) (v4 : Int32) (v5 : Int32) (v6 : Int32) (σ : St), K75 v1 v2 v3 v4 v5 v6 σ → AX Z 0 0 75 [(0, .ref (L 0)), (1, .int v1), (2, .int v2), (3, .int v3), (4, .int v4), (5, .int v5), (6, .int v6)] [] (mW G L σ)) (v1 : Int32) (v2 : Int32) (v3 : Int32) (v4 : Int32) (v5 : Int32) (v6 : Int32) (σ : St) (h : wm_late_j102 P K75 v1 v2 v3 v4 v5 v6 σ) : AX Z 0 0 102 [(0, .ref (L 0)), (1, .int v1), (2, .int v2), (3, .int v3), (4, .int v4), (5, .int v5), (6, .int v6)] [] (mW G L σ) := by
  unfold wm_late_j102 at h
  refine ax_iinc (lv' := [(6, .int (v6 + (1 : Int32))), (0, .ref (L 0)), (1, .int v1), (2, .int v2), (3, .int v3), (4, .int v4), (5, .int v5)]) (v := (v6 + (1 : Int32))) K 6 dX2_late_102 rfl (by rfl) (by decide) rfl ?_
  refine ax_goto (tgt := 75) K dX2_late_105 (by decide) ?_
  exact ax_sub [1, 2, 3, 4, 5, 6, 0] rfl (hK75 v1 v2 v3 v4 v5 (v6 + (1 : Int32)) σ h)
set_option maxHeartbeats 4000000 in
theorem km_late_l75 {Z : AZ} {G : AG} {L : Nat → Nat} {P : Int32 → St → Prop} (K : AK Z G cX2_late RX2 7 (rmH 4)) (E : AEi Z cX2_late .int (mW G L) 0 0 P) {K58 : Int32 → Int32 → Int32 → Int32 → St → Prop} (hK58 : ∀ (v1 : Int32) (v2 : Int32) (v3 : Int32) (v4 : Int32) (σ : St), K58 v1 v2 v3 v4 σ → AX Z 0 0 58 [(0, .ref (L 0)), (1, .int v1), (2, .int v2), (3, .int v3), (4, .int v4)] [] (mW G L σ)) : ∀ (n : Nat) (v1 : Int32) (v2 : Int32) (v3 : Int32) (v4 : Int32) (v5 : Int32) (v6 : Int32) (σ : St), wm_late_l75 P K58 n v1 v2 v3 v4 v5 v6 σ → AX Z 0 0 75 [(0, .ref (L 0)), (1, .int v1), (2, .int v2), (3, .int v3), (4, .int v4), (5, .int v5), (6, .int v6)] [] (mW G L σ) := by
  intro n
  induction n with
  | zero => intro v1 v2 v3 v4 v5 v6 σ h; exact False.elim h
  | succ n ih =>
    intro v1 v2 v3 v4 v5 v6 σ h
    rw [wm_late_l75_s] at h
    refine ax_iload K 6 rfl dX2_late_75 ?_
    refine ax_iload_n K 2 rfl dX2_late_77 ?_
    refine ax_icmp_ge (tgt := 108) K dX2_late_78 (by decide) (fun c78 => ?_) (fun c78 => ?_)
    · have h := ax_it h c78
      refine ax_aload_n K 0 rfl dX2_late_108 ?_
      refine mg_freeAt K dX2_late_109 ?_
      refine ax_iload K 5 rfl dX2_late_112 ?_
      refine ax_dup2 K rfl rfl dX2_late_114 ?_
      refine ml_freeAt K h.1 dX2_late_115 ?_
      replace h := h.2
      refine ax_aload_n K 0 rfl dX2_late_116 ?_
      refine mg_hours K dX2_late_117 ?_
      refine ax_aload_n K 0 rfl dX2_late_120 ?_
      refine mg_menus K dX2_late_121 ?_
      refine ax_bipush (v := (10 : Int32)) K (by decide) dX2_late_124 ?_
      refine ax_iload_n K 1 rfl dX2_late_126 ?_
      refine ax_imul K dX2_late_127 ?_
      refine ax_iload K 4 rfl dX2_late_128 ?_
      refine ax_iadd K dX2_late_130 ?_
      refine ml_menus K h.1 dX2_late_131 ?_
      replace h := h.2
      refine ml_hours K h.1 dX2_late_132 ?_
      replace h := h.2
      refine ax_iadd K dX2_late_133 ?_
      refine ms_freeAt K h.1 dX2_late_134 ?_
      replace h := h.2
      refine ax_aload_n K 0 rfl dX2_late_135 ?_
      refine ax_aload_n K 0 rfl dX2_late_136 ?_
      refine mg_freeAt K dX2_late_137 ?_
      refine ax_iload K 5 rfl dX2_late_140 ?_
      refine ml_freeAt K h.1 dX2_late_142 ?_
      replace h := h.2
      refine rm_tell K (by decide) dX2_late_143 (Nat.le_of_ble_eq_true rfl) h (fun σ143 h => ?_)
      refine ax_iload_n K 3 rfl dX2_late_146 ?_
      refine ax_aload_n K 0 rfl dX2_late_147 ?_
      refine mg_freeAt K dX2_late_148 ?_
      refine ax_iload K 5 rfl dX2_late_151 ?_
      refine ml_freeAt K h.1 dX2_late_153 ?_
      replace h := h.2
      refine ax_bipush (v := (10 : Int32)) K (by decide) dX2_late_154 ?_
      refine ax_isub K dX2_late_156 ?_
      refine ax_iload K 4 rfl dX2_late_157 ?_
      refine ax_isub K dX2_late_159 ?_
      refine rm_max K (by decide) (Nat.le_of_ble_eq_true rfl) dX2_late_160 ?_
      refine ax_istore_n (lv' := [(3, .int (jmax v3 (((mA_freeAt σ143 (v5).toNatClampNeg) - (10 : Int32)) - v4))), (0, .ref (L 0)), (1, .int v1), (2, .int v2), (4, .int v4), (5, .int v5), (6, .int v6)]) K dX2_late_163 (by decide) rfl ?_
      refine ax_iinc (lv' := [(4, .int (v4 + (1 : Int32))), (3, .int (jmax v3 (((mA_freeAt σ143 (v5).toNatClampNeg) - (10 : Int32)) - v4))), (0, .ref (L 0)), (1, .int v1), (2, .int v2), (5, .int v5), (6, .int v6)]) (v := (v4 + (1 : Int32))) K 4 dX2_late_164 rfl (by rfl) (by decide) rfl ?_
      refine ax_goto (tgt := 58) K dX2_late_167 (by decide) ?_
      exact ax_sub [2, 3, 4, 1, 0] rfl (hK58 v1 v2 (jmax v3 (((mA_freeAt σ143 (v5).toNatClampNeg) - (10 : Int32)) - v4)) (v4 + (1 : Int32)) σ143 h)
    · have h := ax_ie h c78
      refine ax_aload_n K 0 rfl dX2_late_81 ?_
      refine mg_freeAt K dX2_late_82 ?_
      refine ax_iload K 6 rfl dX2_late_85 ?_
      refine ml_freeAt K h.1 dX2_late_87 ?_
      replace h := h.2
      refine ax_aload_n K 0 rfl dX2_late_88 ?_
      refine mg_freeAt K dX2_late_89 ?_
      refine ax_iload K 5 rfl dX2_late_92 ?_
      refine ml_freeAt K h.1 dX2_late_94 ?_
      replace h := h.2
      refine ax_icmp_ge (tgt := 102) K dX2_late_95 (by decide) (fun c95 => ?_) (fun c95 => ?_)
      · have h := ax_it h c95
        exact ax_sub [0, 1, 2, 3, 4, 5, 6] rfl (km_late_j102 K E ih v1 v2 v3 v4 v5 v6 σ h)
      · have h := ax_ie h c95
        refine ax_iload K 6 rfl dX2_late_98 ?_
        refine ax_istore (lv' := [(5, .int v6), (0, .ref (L 0)), (1, .int v1), (2, .int v2), (3, .int v3), (4, .int v4), (6, .int v6)]) K dX2_late_100 (by decide) rfl ?_
        exact ax_sub [1, 2, 3, 4, 5, 0, 6] rfl (km_late_j102 K E ih v1 v2 v3 v4 v6 v6 σ h)
set_option maxHeartbeats 4000000 in
theorem km_late_l58 {Z : AZ} {G : AG} {L : Nat → Nat} {P : Int32 → St → Prop} (K : AK Z G cX2_late RX2 7 (rmH 4)) (E : AEi Z cX2_late .int (mW G L) 0 0 P) : ∀ (n : Nat) (v1 : Int32) (v2 : Int32) (v3 : Int32) (v4 : Int32) (σ : St), wm_late_l58 P  n v1 v2 v3 v4 σ → AX Z 0 0 58 [(0, .ref (L 0)), (1, .int v1), (2, .int v2), (3, .int v3), (4, .int v4)] [] (mW G L σ) := by
  intro n
  induction n with
  | zero => intro v1 v2 v3 v4 σ h; exact False.elim h
  | succ n ih =>
    intro v1 v2 v3 v4 σ h
    rw [wm_late_l58_s] at h
    refine ax_iload K 4 rfl dX2_late_58 ?_
    refine ax_aload_n K 0 rfl dX2_late_60 ?_
    refine mg_menuLong K dX2_late_61 ?_
    refine ax_iload_n K 1 rfl dX2_late_64 ?_
    refine ml_menuLong K h.1 dX2_late_65 ?_
    replace h := h.2
    refine ax_icmp_ge (tgt := 170) K dX2_late_66 (by decide) (fun c66 => ?_) (fun c66 => ?_)
    · have h := ax_it h c66
      refine ax_iload_n K 3 rfl dX2_late_170 ?_
      exact E _ _ _ _ dX2_late_171 rfl h
    · have h := ax_ie h c66
      refine ax_iconst (v := (0 : Int32)) K (by decide) dX2_late_69 ?_
      refine ax_istore (lv' := [(5, .int (0 : Int32)), (0, .ref (L 0)), (1, .int v1), (2, .int v2), (3, .int v3), (4, .int v4)]) K dX2_late_70 (by decide) rfl ?_
      refine ax_iconst (v := (1 : Int32)) K (by decide) dX2_late_72 ?_
      refine ax_istore (lv' := [(6, .int (1 : Int32)), (5, .int (0 : Int32)), (0, .ref (L 0)), (1, .int v1), (2, .int v2), (3, .int v3), (4, .int v4)]) K dX2_late_73 (by decide) rfl ?_
      exact ax_sub [2, 3, 4, 5, 6, 1, 0] rfl (h.elim fun n75 h => km_late_l75 K E ih n75 v1 v2 v3 v4 (0 : Int32) (1 : Int32) σ h)
set_option maxHeartbeats 4000000 in
theorem mm_late {l : Launch} {G : AG} {L : Nat → Nat} {σ : St} {v1 : Int32} {v2 : Int32} {P : Int32 → St → Prop} (h : wm_late σ v1 v2 P) : CtW l G yX2_late cX2_late 7 (some .int) (rmH 4) [.ref (L 0), .int v1, .int v2] (mW G L) σ (pI P) := by
  refine CtW.ofI (by decide) (Nat.le_of_ble_eq_true rfl) fun Z _ K E => ?_
  unfold wm_late at h
  show AX Z 0 0 0 [(0, .ref (L 0)), (1, .int v1), (2, .int v2)] [] (mW G L σ)
  refine ax_aload_n K 0 rfl dX2_late_0 ?_
  refine ax_iconst (v := (0 : Int32)) K (by decide) dX2_late_1 ?_
  refine mp_thrown K dX2_late_2 ?_
  refine ax_iload_n K 2 rfl dX2_late_5 ?_
  refine ax_iconst (v := (1 : Int32)) K (by decide) dX2_late_6 ?_
  refine ax_bipush (v := (9 : Int32)) K (by decide) dX2_late_7 ?_
  refine rm_in K (by decide) dX2_late_9 (Nat.le_of_ble_eq_true rfl) h (fun r9 h => ?_)
  refine ax_if_ne (tgt := 17) K dX2_late_12 (by decide) (fun c12 => ?_) (fun c12 => ?_)
  · have h := ax_ie h c12
    refine ax_aload_n K 0 rfl dX2_late_17 ?_
    refine ax_iload_n K 1 rfl dX2_late_18 ?_
    refine rm_isWhole K (by decide) dX2_late_19 (Nat.le_of_ble_eq_true rfl) h (fun r19 σ19 h => ?_)
    refine ax_if_ne (tgt := 28) K dX2_late_22 (by decide) (fun c22 => ?_) (fun c22 => ?_)
    · have h := ax_ie h c22
      refine ax_iconst (v := (0 : Int32)) K (by decide) dX2_late_28 ?_
      refine ax_istore_n (lv' := [(3, .int (0 : Int32)), (0, .ref (L 0)), (1, .int v1), (2, .int v2)]) K dX2_late_29 (by decide) rfl ?_
      exact ax_sub [1, 2, 3, 0] rfl (h.elim fun n30 h => km_late_l30 K E (fun v1 v2 v3 v4 σ h => h.elim fun n58 h => km_late_l58 K E  n58 v1 v2 v3 v4 σ h) n30 v1 v2 (0 : Int32) σ19 h)
    · have h := ax_it h c22
      refine ax_bipush (v := (-3 : Int32)) K (by decide) dX2_late_25 ?_
      exact E _ _ _ _ dX2_late_27 rfl h
  · have h := ax_it h c12
    refine ax_iconst (v := (-1 : Int32)) K (by decide) dX2_late_15 ?_
    exact E _ _ _ _ dX2_late_16 rfl h

/-! m.lookOn -/
set_option maxHeartbeats 4000000 in
theorem km_lookOn_j127 {Z : AZ} {G : AG} {L : Nat → Nat} {P : Int32 → St → Prop} (K : AK Z G cX2_lookOn RX2 5 (rmH 4)) (E : AEi Z cX2_lookOn .int (mW G L) 0 0 P) {K95 : Int32 → Int32 → Int32 → Int32 → St → Prop} (hK95 : ∀ (v1 : Int32) (v2 : Int32) (v3 : Int32) (v4 : Int32) (σ : St), K95 v1 v2 v3 v4 σ → AX Z 0 0 95 [(0, .ref (L 0)), (1, .int v1), (2, .int v2), (3, .int v3), (4, .int v4)] [] (mW G L σ)) (v1 : Int32) (v2 : Int32) (v3 : Int32) (v4 : Int32) (s1 : Int32) (s2 : Int32) (σ : St) (h : wm_lookOn_j127 P K95 v1 v2 v3 v4 s1 s2 σ) : AX Z 0 0 127 [(0, .ref (L 0)), (1, .int v1), (2, .int v2), (3, .int v3), (4, .int v4)] [.int s2, .int s1, .ref (L 0)] (mW G L σ) := by
  unfold wm_lookOn_j127 at h
  refine ax_ior K dX2_lookOn_127 ?_
  refine mp_hungryTill K dX2_lookOn_128 ?_
  refine ax_iinc (lv' := [(4, .int (v4 + (1 : Int32))), (0, .ref (L 0)), (1, .int v1), (2, .int v2), (3, .int v3)]) (v := (v4 + (1 : Int32))) K 4 dX2_lookOn_131 rfl (by rfl) (by decide) rfl ?_
  refine ax_goto (tgt := 95) K dX2_lookOn_134 (by decide) ?_
  exact ax_sub [1, 2, 3, 4, 0] rfl (hK95 v1 v2 v3 (v4 + (1 : Int32)) (mS_hungryTill σ (s1 ||| s2)) h)
set_option maxHeartbeats 4000000 in
theorem km_lookOn_l95 {Z : AZ} {G : AG} {L : Nat → Nat} {P : Int32 → St → Prop} (K : AK Z G cX2_lookOn RX2 5 (rmH 4)) (E : AEi Z cX2_lookOn .int (mW G L) 0 0 P) {K2 : Int32 → Int32 → St → Prop} (hK2 : ∀ (v1 : Int32) (v2 : Int32) (σ : St), K2 v1 v2 σ → AX Z 0 0 2 [(0, .ref (L 0)), (1, .int v1), (2, .int v2)] [] (mW G L σ)) : ∀ (n : Nat) (v1 : Int32) (v2 : Int32) (v3 : Int32) (v4 : Int32) (σ : St), wm_lookOn_l95 P K2 n v1 v2 v3 v4 σ → AX Z 0 0 95 [(0, .ref (L 0)), (1, .int v1), (2, .int v2), (3, .int v3), (4, .int v4)] [] (mW G L σ) := by
  intro n
  induction n with
  | zero => intro v1 v2 v3 v4 σ h; exact False.elim h
  | succ n ih =>
    intro v1 v2 v3 v4 σ h
    rw [wm_lookOn_l95_s] at h
    refine ax_iload K 4 rfl dX2_lookOn_95 ?_
    refine ax_aload_n K 0 rfl dX2_lookOn_97 ?_
    refine mg_guests K dX2_lookOn_98 ?_
    refine ax_icmp_ge (tgt := 137) K dX2_lookOn_101 (by decide) (fun c101 => ?_) (fun c101 => ?_)
    · have h := ax_it h c101
      refine ax_iinc (lv' := [(2, .int (v2 + (1 : Int32))), (0, .ref (L 0)), (1, .int v1), (3, .int v3), (4, .int v4)]) (v := (v2 + (1 : Int32))) K 2 dX2_lookOn_137 rfl (by rfl) (by decide) rfl ?_
      refine ax_goto (tgt := 2) K dX2_lookOn_140 (by decide) ?_
      exact ax_sub [1, 2, 0] rfl (hK2 v1 (v2 + (1 : Int32)) σ h)
    · have h := ax_ie h c101
      refine ax_aload_n K 0 rfl dX2_lookOn_104 ?_
      refine ax_dup K rfl dX2_lookOn_105 ?_
      refine mg_hungryTill K dX2_lookOn_106 ?_
      refine ax_aload_n K 0 rfl dX2_lookOn_109 ?_
      refine ax_iload K 4 rfl dX2_lookOn_110 ?_
      refine ax_iload_n K 3 rfl dX2_lookOn_112 ?_
      refine rm_isHungry K (by decide) dX2_lookOn_113 (Nat.le_of_ble_eq_true rfl) h (fun r113 σ113 h => ?_)
      refine ax_if_eq (tgt := 126) K dX2_lookOn_116 (by decide) (fun c116 => ?_) (fun c116 => ?_)
      · have h := ax_it h c116
        refine ax_iconst (v := (0 : Int32)) K (by decide) dX2_lookOn_126 ?_
        exact ax_sub [0, 1, 2, 3, 4] rfl (km_lookOn_j127 K E ih v1 v2 v3 v4 (mI_hungryTill σ) (0 : Int32) σ113 h)
      · have h := ax_ie h c116
        refine ax_iconst (v := (1 : Int32)) K (by decide) dX2_lookOn_119 ?_
        refine ax_iload K 4 rfl dX2_lookOn_120 ?_
        refine ax_ishl K dX2_lookOn_122 ?_
        refine ax_goto (tgt := 127) K dX2_lookOn_123 (by decide) ?_
        exact ax_sub [0, 1, 2, 3, 4] rfl (km_lookOn_j127 K E ih v1 v2 v3 v4 (mI_hungryTill σ) ((1 : Int32) <<< (v4 &&& 31)) σ113 h)
set_option maxHeartbeats 4000000 in
theorem km_lookOn_j48 {Z : AZ} {G : AG} {L : Nat → Nat} {P : Int32 → St → Prop} (K : AK Z G cX2_lookOn RX2 5 (rmH 4)) (E : AEi Z cX2_lookOn .int (mW G L) 0 0 P) {K2 : Int32 → Int32 → St → Prop} (hK2 : ∀ (v1 : Int32) (v2 : Int32) (σ : St), K2 v1 v2 σ → AX Z 0 0 2 [(0, .ref (L 0)), (1, .int v1), (2, .int v2)] [] (mW G L σ)) (v1 : Int32) (v2 : Int32) (v3 : Int32) (s1 : Int32) (σ : St) (h : wm_lookOn_j48 P K2 v1 v2 v3 s1 σ) : AX Z 0 0 48 [(0, .ref (L 0)), (1, .int v1), (2, .int v2), (3, .int v3)] [.int s1, .ref (L 0)] (mW G L σ) := by
  unfold wm_lookOn_j48 at h
  refine mp_whyNot K dX2_lookOn_48 ?_
  refine ax_aload_n K 0 rfl dX2_lookOn_51 ?_
  refine mg_whyNot K dX2_lookOn_52 ?_
  refine ax_if_ge (tgt := 60) K dX2_lookOn_55 (by decide) (fun c55 => ?_) (fun c55 => ?_)
  · have h := ax_it h c55
    refine ax_aload_n K 0 rfl dX2_lookOn_60 ?_
    refine ax_dup K rfl dX2_lookOn_61 ?_
    refine mg_setTill K dX2_lookOn_62 ?_
    refine ax_iconst (v := (1 : Int32)) K (by decide) dX2_lookOn_65 ?_
    refine ax_iload_n K 3 rfl dX2_lookOn_66 ?_
    refine ax_ishl K dX2_lookOn_67 ?_
    refine ax_ior K dX2_lookOn_68 ?_
    refine mp_setTill K dX2_lookOn_69 ?_
    refine ax_aload_n K 0 rfl dX2_lookOn_72 ?_
    refine ax_iload_n K 3 rfl dX2_lookOn_73 ?_
    refine mp_lastTill K dX2_lookOn_74 ?_
    refine ax_aload_n K 0 rfl dX2_lookOn_77 ?_
    refine ax_dup K rfl dX2_lookOn_78 ?_
    refine mg_costTill K dX2_lookOn_79 ?_
    refine ax_aload_n K 0 rfl dX2_lookOn_82 ?_
    refine mg_cost K dX2_lookOn_83 ?_
    refine ax_iload_n K 3 rfl dX2_lookOn_86 ?_
    refine ml_cost K h.1 dX2_lookOn_87 ?_
    replace h := h.2
    refine ax_iadd K dX2_lookOn_88 ?_
    refine mp_costTill K dX2_lookOn_89 ?_
    refine ax_iconst (v := (0 : Int32)) K (by decide) dX2_lookOn_92 ?_
    refine ax_istore (lv' := [(4, .int (0 : Int32)), (0, .ref (L 0)), (1, .int v1), (2, .int v2), (3, .int v3)]) K dX2_lookOn_93 (by decide) rfl ?_
    exact ax_sub [1, 2, 3, 4, 0] rfl (h.elim fun n95 h => km_lookOn_l95 K E hK2 n95 v1 v2 v3 (0 : Int32) (mS_costTill (mS_lastTill (mS_setTill (mS_whyNot σ s1) ((mI_setTill (mS_whyNot σ s1)) ||| ((1 : Int32) <<< (v3 &&& 31)))) v3) ((mI_costTill (mS_lastTill (mS_setTill (mS_whyNot σ s1) ((mI_setTill (mS_whyNot σ s1)) ||| ((1 : Int32) <<< (v3 &&& 31)))) v3)) + (mA_cost (mS_lastTill (mS_setTill (mS_whyNot σ s1) ((mI_setTill (mS_whyNot σ s1)) ||| ((1 : Int32) <<< (v3 &&& 31)))) v3) (v3).toNatClampNeg))) h)
  · have h := ax_ie h c55
    refine ax_iload_n K 2 rfl dX2_lookOn_58 ?_
    exact E _ _ _ _ dX2_lookOn_59 rfl h
set_option maxHeartbeats 4000000 in
theorem km_lookOn_l2 {Z : AZ} {G : AG} {L : Nat → Nat} {P : Int32 → St → Prop} (K : AK Z G cX2_lookOn RX2 5 (rmH 4)) (E : AEi Z cX2_lookOn .int (mW G L) 0 0 P) : ∀ (n : Nat) (v1 : Int32) (v2 : Int32) (σ : St), wm_lookOn_l2 P  n v1 v2 σ → AX Z 0 0 2 [(0, .ref (L 0)), (1, .int v1), (2, .int v2)] [] (mW G L σ) := by
  intro n
  induction n with
  | zero => intro v1 v2 σ h; exact False.elim h
  | succ n ih =>
    intro v1 v2 σ h
    rw [wm_lookOn_l2_s] at h
    refine ax_iload_n K 2 rfl dX2_lookOn_2 ?_
    refine ax_aload_n K 0 rfl dX2_lookOn_3 ?_
    refine mg_menuLong K dX2_lookOn_4 ?_
    refine ax_iload_n K 1 rfl dX2_lookOn_7 ?_
    refine ml_menuLong K h.1 dX2_lookOn_8 ?_
    replace h := h.2
    refine ax_icmp_ge (tgt := 143) K dX2_lookOn_9 (by decide) (fun c9 => ?_) (fun c9 => ?_)
    · have h := ax_it h c9
      refine ax_aload_n K 0 rfl dX2_lookOn_143 ?_
      refine mg_menuLong K dX2_lookOn_144 ?_
      refine ax_iload_n K 1 rfl dX2_lookOn_147 ?_
      refine ml_menuLong K h.1 dX2_lookOn_148 ?_
      replace h := h.2
      exact E _ _ _ _ dX2_lookOn_149 rfl h
    · have h := ax_ie h c9
      refine ax_aload_n K 0 rfl dX2_lookOn_12 ?_
      refine mg_menus K dX2_lookOn_13 ?_
      refine ax_bipush (v := (10 : Int32)) K (by decide) dX2_lookOn_16 ?_
      refine ax_iload_n K 1 rfl dX2_lookOn_18 ?_
      refine ax_imul K dX2_lookOn_19 ?_
      refine ax_iload_n K 2 rfl dX2_lookOn_20 ?_
      refine ax_iadd K dX2_lookOn_21 ?_
      refine ml_menus K h.1 dX2_lookOn_22 ?_
      replace h := h.2
      refine ax_istore_n (lv' := [(3, .int (mA_menus σ ((((10 : Int32) * v1) + v2)).toNatClampNeg)), (0, .ref (L 0)), (1, .int v1), (2, .int v2)]) K dX2_lookOn_23 (by decide) rfl ?_
      refine ax_aload_n K 1 rfl dX2_lookOn_24 ?_
      refine ax_iload_n K 0 rfl dX2_lookOn_25 ?_
      refine ax_bipush (v := (99 : Int32)) K (by decide) dX2_lookOn_26 ?_
      refine ax_icmp_ne (tgt := 35) K dX2_lookOn_28 (by decide) (fun c28 => ?_) (fun c28 => ?_)
      · have h := ax_ie h c28
        refine ax_aload_n K 1 rfl dX2_lookOn_35 ?_
        refine ax_aload_n K 1 rfl dX2_lookOn_36 ?_
        refine mg_setTill K dX2_lookOn_37 ?_
        refine ax_aload_n K 1 rfl dX2_lookOn_40 ?_
        refine mg_lastTill K dX2_lookOn_41 ?_
        refine ax_iload_n K 0 rfl dX2_lookOn_44 ?_
        refine rm_refusal K (by decide) dX2_lookOn_45 (Nat.le_of_ble_eq_true rfl) h (fun r45 σ45 h => ?_)
        exact ax_sub [1, 2, 3, 0] rfl (km_lookOn_j48 K E ih v1 v2 (mA_menus σ ((((10 : Int32) * v1) + v2)).toNatClampNeg) r45 σ45 h)
      · have h := ax_it h c28
        refine ax_iconst (v := (-1 : Int32)) K (by decide) dX2_lookOn_31 ?_
        refine ax_goto (tgt := 48) K dX2_lookOn_32 (by decide) ?_
        exact ax_sub [1, 2, 3, 0] rfl (km_lookOn_j48 K E ih v1 v2 (mA_menus σ ((((10 : Int32) * v1) + v2)).toNatClampNeg) (-1 : Int32) σ h)
set_option maxHeartbeats 4000000 in
theorem mm_lookOn {l : Launch} {G : AG} {L : Nat → Nat} {σ : St} {v1 : Int32} {P : Int32 → St → Prop} (h : wm_lookOn σ v1 P) : CtW l G yX2_lookOn cX2_lookOn 5 (some .int) (rmH 4) [.ref (L 0), .int v1] (mW G L) σ (pI P) := by
  refine CtW.ofI (by decide) (Nat.le_of_ble_eq_true rfl) fun Z _ K E => ?_
  unfold wm_lookOn at h
  show AX Z 0 0 0 [(0, .ref (L 0)), (1, .int v1)] [] (mW G L σ)
  refine ax_iconst (v := (0 : Int32)) K (by decide) dX2_lookOn_0 ?_
  refine ax_istore_n (lv' := [(2, .int (0 : Int32)), (0, .ref (L 0)), (1, .int v1)]) K dX2_lookOn_1 (by decide) rfl ?_
  exact ax_sub [1, 2, 0] rfl (h.elim fun n2 h => km_lookOn_l2 K E  n2 v1 (0 : Int32) σ h)
theorem rm_lookOn {Z : AZ} {G : AG} {cc : ByteArray} {mL hh pc : Nat} {lv : List (Nat × Value)} {rest : List Value} {L : Nat → Nat} {σ : St} (K : AK Z G cc RX2 mL (rmH hh)) (hlt : 4 < hh) (d : decode cc pc = .ok (.invokevirtual 286, 3)) (hrest : (rest.map fun v => v.category).sum ≤ 8) {v1 : Int32} {P : Int32 → St → Prop} (h : sm_lookOn σ v1 P) (kk : ∀ (r : Int32) (σ' : St), P r σ' → AX Z 0 0 (pc + 3) lv (.int r :: rest) (mW G L σ')) : AX Z 0 0 pc lv (.int v1 :: .ref (L 0) :: rest) (mW G L σ) :=
  ax_callV (N0 := 1) (As := [.int v1]) K (mm_lookOn (sm_lookOn_ok h)) q1367 q1369 qs87 q118 q1370 ⟨rfl, by decide, by decide, by decide⟩ rfl ⟨by show 4 + 1 + 1 ≤ hh + 1; omega, by show 8 + (5 + 11) + 60 * (4 + 1) ≤ 60 * (hh + 1); omega⟩ ⟨Nat.zero_le _, Nat.zero_le _⟩ rfl rfl rfl hrest d (fun r σ' hp => by obtain ⟨v, rfl, hp⟩ := hp; exact kk v σ' hp)
/-! m.made -/
set_option maxHeartbeats 4000000 in
theorem km_made_j103 {Z : AZ} {G : AG} {L : Nat → Nat} {P : Int32 → St → Prop} (K : AK Z G cX2_made RX2 3 (rmH 4)) (E : AEi Z cX2_made .int (mW G L) 0 0 P) {K52 : Int32 → Int32 → St → Prop} (hK52 : ∀ (v1 : Int32) (v2 : Int32) (σ : St), K52 v1 v2 σ → AX Z 0 0 52 [(0, .ref (L 0)), (1, .int v1), (2, .int v2)] [] (mW G L σ)) (v1 : Int32) (v2 : Int32) (σ : St) (h : wm_made_j103 P K52 v1 v2 σ) : AX Z 0 0 103 [(0, .ref (L 0)), (1, .int v1), (2, .int v2)] [] (mW G L σ) := by
  unfold wm_made_j103 at h
  refine ax_iinc (lv' := [(2, .int (v2 + (1 : Int32))), (0, .ref (L 0)), (1, .int v1)]) (v := (v2 + (1 : Int32))) K 2 dX2_made_103 rfl (by rfl) (by decide) rfl ?_
  refine ax_goto (tgt := 52) K dX2_made_106 (by decide) ?_
  exact ax_sub [1, 2, 0] rfl (hK52 v1 (v2 + (1 : Int32)) σ h)
set_option maxHeartbeats 4000000 in
theorem km_made_j78 {Z : AZ} {G : AG} {L : Nat → Nat} {P : Int32 → St → Prop} (K : AK Z G cX2_made RX2 3 (rmH 4)) (E : AEi Z cX2_made .int (mW G L) 0 0 P) {K52 : Int32 → Int32 → St → Prop} (hK52 : ∀ (v1 : Int32) (v2 : Int32) (σ : St), K52 v1 v2 σ → AX Z 0 0 52 [(0, .ref (L 0)), (1, .int v1), (2, .int v2)] [] (mW G L σ)) (v1 : Int32) (v2 : Int32) (σ : St) (h : wm_made_j78 P K52 v1 v2 σ) : AX Z 0 0 78 [(0, .ref (L 0)), (1, .int v1), (2, .int v2)] [] (mW G L σ) := by
  unfold wm_made_j78 at h
  refine ax_aload_n K 0 rfl dX2_made_78 ?_
  refine mg_stuffs K dX2_made_79 ?_
  refine ax_aload_n K 0 rfl dX2_made_82 ?_
  refine mg_dishes K dX2_made_83 ?_
  refine ax_iload_n K 2 rfl dX2_made_86 ?_
  refine ms_stuffs K h.1 dX2_made_87 ?_
  replace h := h.2
  refine ax_aload_n K 0 rfl dX2_made_88 ?_
  refine ax_aload_n K 0 rfl dX2_made_89 ?_
  refine mg_dishes K dX2_made_90 ?_
  refine ax_iconst (v := (1 : Int32)) K (by decide) dX2_made_93 ?_
  refine ax_iadd K dX2_made_94 ?_
  refine rm_canAll K (by decide) dX2_made_95 (Nat.le_of_ble_eq_true rfl) h (fun r95 σ95 h => ?_)
  refine ax_if_eq (tgt := 103) K dX2_made_98 (by decide) (fun c98 => ?_) (fun c98 => ?_)
  · have h := ax_it h c98
    exact ax_sub [0, 1, 2] rfl (km_made_j103 K E hK52 v1 v2 σ95 h)
  · have h := ax_ie h c98
    refine ax_iload_n K 2 rfl dX2_made_101 ?_
    refine ax_istore_n (lv' := [(1, .int v2), (0, .ref (L 0)), (2, .int v2)]) K dX2_made_102 (by decide) rfl ?_
    exact ax_sub [1, 0, 2] rfl (km_made_j103 K E hK52 v2 v2 σ95 h)
set_option maxHeartbeats 4000000 in
theorem km_made_l52 {Z : AZ} {G : AG} {L : Nat → Nat} {P : Int32 → St → Prop} (K : AK Z G cX2_made RX2 3 (rmH 4)) (E : AEi Z cX2_made .int (mW G L) 0 0 P) : ∀ (n : Nat) (v1 : Int32) (v2 : Int32) (σ : St), wm_made_l52 P  n v1 v2 σ → AX Z 0 0 52 [(0, .ref (L 0)), (1, .int v1), (2, .int v2)] [] (mW G L σ) := by
  intro n
  induction n with
  | zero => intro v1 v2 σ h; exact False.elim h
  | succ n ih =>
    intro v1 v2 σ h
    rw [wm_made_l52_s] at h
    refine ax_iload_n K 2 rfl dX2_made_52 ?_
    refine ax_sipush (v := (256 : Int32)) K (by decide) dX2_made_53 ?_
    refine ax_icmp_ge (tgt := 109) K dX2_made_56 (by decide) (fun c56 => ?_) (fun c56 => ?_)
    · have h := ax_it h c56
      refine ax_iload_n K 1 rfl dX2_made_109 ?_
      refine ax_iconst (v := (-1 : Int32)) K (by decide) dX2_made_110 ?_
      refine ax_icmp_ne (tgt := 117) K dX2_made_111 (by decide) (fun c111 => ?_) (fun c111 => ?_)
      · have h := ax_ie h c111
        refine ax_aload_n K 0 rfl dX2_made_117 ?_
        refine ax_iconst (v := (0 : Int32)) K (by decide) dX2_made_118 ?_
        refine mp_rowMany K dX2_made_119 ?_
        refine ax_aload_n K 0 rfl dX2_made_122 ?_
        refine ax_iload_n K 1 rfl dX2_made_123 ?_
        refine rm_tell K (by decide) dX2_made_124 (Nat.le_of_ble_eq_true rfl) h (fun σ124 h => ?_)
        refine ax_iload_n K 1 rfl dX2_made_127 ?_
        refine rm_bitCount K (by decide) dX2_made_128 (Nat.le_of_ble_eq_true rfl) ?_
        exact E _ _ _ _ dX2_made_131 rfl h
      · have h := ax_it h c111
        refine ax_bipush (v := (-2 : Int32)) K (by decide) dX2_made_114 ?_
        exact E _ _ _ _ dX2_made_116 rfl h
    · have h := ax_ie h c56
      refine ax_iload_n K 1 rfl dX2_made_59 ?_
      refine ax_iconst (v := (-1 : Int32)) K (by decide) dX2_made_60 ?_
      refine ax_icmp_eq (tgt := 78) K dX2_made_61 (by decide) (fun c61 => ?_) (fun c61 => ?_)
      · have h := ax_it h c61
        exact ax_sub [0, 1, 2] rfl (km_made_j78 K E ih v1 v2 σ h)
      · have h := ax_ie h c61
        refine ax_iload_n K 2 rfl dX2_made_64 ?_
        refine rm_bitCount K (by decide) dX2_made_65 (Nat.le_of_ble_eq_true rfl) ?_
        refine ax_iload_n K 1 rfl dX2_made_68 ?_
        refine rm_bitCount K (by decide) dX2_made_69 (Nat.le_of_ble_eq_true rfl) ?_
        refine ax_icmp_lt (tgt := 78) K dX2_made_72 (by decide) (fun c72 => ?_) (fun c72 => ?_)
        · have h := ax_it h c72
          exact ax_sub [0, 1, 2] rfl (km_made_j78 K E ih v1 v2 σ h)
        · have h := ax_ie h c72
          refine ax_goto (tgt := 103) K dX2_made_75 (by decide) ?_
          exact ax_sub [0, 1, 2] rfl (km_made_j103 K E ih v1 v2 σ h)
set_option maxHeartbeats 4000000 in
theorem mm_made {l : Launch} {G : AG} {L : Nat → Nat} {σ : St} {P : Int32 → St → Prop} (h : wm_made σ P) : CtW l G yX2_made cX2_made 3 (some .int) (rmH 4) [.ref (L 0)] (mW G L) σ (pI P) := by
  refine CtW.ofI (by decide) (Nat.le_of_ble_eq_true rfl) fun Z _ K E => ?_
  unfold wm_made at h
  show AX Z 0 0 0 [(0, .ref (L 0))] [] (mW G L σ)
  refine ax_aload_n K 0 rfl dX2_made_0 ?_
  refine ax_iconst (v := (0 : Int32)) K (by decide) dX2_made_1 ?_
  refine mp_thrown K dX2_made_2 ?_
  refine ax_aload_n K 0 rfl dX2_made_5 ?_
  refine ax_aload_n K 0 rfl dX2_made_6 ?_
  refine mg_dishes K dX2_made_7 ?_
  refine rm_canAll K (by decide) dX2_made_10 (Nat.le_of_ble_eq_true rfl) h (fun r10 σ10 h => ?_)
  refine ax_if_eq (tgt := 28) K dX2_made_13 (by decide) (fun c13 => ?_) (fun c13 => ?_)
  · have h := ax_it h c13
    refine ax_aload_n K 0 rfl dX2_made_28 ?_
    refine mg_isHot K dX2_made_29 ?_
    refine ax_aload_n K 0 rfl dX2_made_32 ?_
    refine mg_dishes K dX2_made_33 ?_
    refine ax_iconst (v := (0 : Int32)) K (by decide) dX2_made_36 ?_
    refine ms_isHot K h.1 dX2_made_37 ?_
    replace h := h.2
    refine ax_aload_n K 0 rfl dX2_made_38 ?_
    refine mg_cost K dX2_made_39 ?_
    refine ax_aload_n K 0 rfl dX2_made_42 ?_
    refine mg_dishes K dX2_made_43 ?_
    refine ax_iconst (v := (0 : Int32)) K (by decide) dX2_made_46 ?_
    refine ms_cost K h.1 dX2_made_47 ?_
    replace h := h.2
    refine ax_iconst (v := (-1 : Int32)) K (by decide) dX2_made_48 ?_
    refine ax_istore_n (lv' := [(1, .int (-1 : Int32)), (0, .ref (L 0))]) K dX2_made_49 (by decide) rfl ?_
    refine ax_iconst (v := (1 : Int32)) K (by decide) dX2_made_50 ?_
    refine ax_istore_n (lv' := [(2, .int (1 : Int32)), (1, .int (-1 : Int32)), (0, .ref (L 0))]) K dX2_made_51 (by decide) rfl ?_
    exact ax_sub [2, 1, 0] rfl (h.elim fun n52 h => km_made_l52 K E  n52 (-1 : Int32) (1 : Int32) (mU_cost (mU_isHot σ10 (mI_dishes σ10) (vp_nar .boolean (0 : Int32))) (mI_dishes (mU_isHot σ10 (mI_dishes σ10) (vp_nar .boolean (0 : Int32)))) (0 : Int32)) h)
  · have h := ax_ie h c13
    refine ax_aload_n K 0 rfl dX2_made_16 ?_
    refine ax_iconst (v := (0 : Int32)) K (by decide) dX2_made_17 ?_
    refine mp_rowMany K dX2_made_18 ?_
    refine ax_aload_n K 0 rfl dX2_made_21 ?_
    refine ax_iconst (v := (0 : Int32)) K (by decide) dX2_made_22 ?_
    refine rm_tell K (by decide) dX2_made_23 (Nat.le_of_ble_eq_true rfl) h (fun σ23 h => ?_)
    refine ax_iconst (v := (0 : Int32)) K (by decide) dX2_made_26 ?_
    exact E _ _ _ _ dX2_made_27 rfl h

