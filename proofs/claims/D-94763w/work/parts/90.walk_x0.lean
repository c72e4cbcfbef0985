/-! x.back -/
set_option maxHeartbeats 4000000 in
theorem mx_back {l : Launch} {G : AG} {L : Nat → Nat} {σ : St} {P : Int32 → St → Prop} (h : wx_back σ P) : CtW l G yX1_back cX1_back 1 (some .int) (rmH 1) [.ref (L 0)] (xW G L) σ (pI P) := by
  refine CtW.ofI (by decide) (Nat.le_of_ble_eq_true rfl) fun Z _ K E => ?_
  unfold wx_back at h
  show AX Z 0 0 0 [(0, .ref (L 0))] [] (xW G L σ)
  refine ax_aload_n K 0 rfl dX1_back_0 ?_
  refine xg_servedMany K dX1_back_1 ?_
  refine ax_if_ne (tgt := 9) K dX1_back_4 (by decide) (fun c4 => ?_) (fun c4 => ?_)
  · have h := ax_ie h c4
    refine ax_aload_n K 0 rfl dX1_back_9 ?_
    refine ax_dup K rfl dX1_back_10 ?_
    refine xg_servedMany K dX1_back_11 ?_
    refine ax_iconst (v := (1 : Int32)) K (by decide) dX1_back_14 ?_
    refine ax_isub K dX1_back_15 ?_
    refine xp_servedMany K dX1_back_16 ?_
    refine ax_aload_n K 0 rfl dX1_back_19 ?_
    refine xg_served K dX1_back_20 ?_
    refine ax_aload_n K 0 rfl dX1_back_23 ?_
    refine xg_servedMany K dX1_back_24 ?_
    refine xl_served K h.1 dX1_back_27 ?_
    replace h := h.2
    exact E _ _ _ _ dX1_back_28 rfl h
  · have h := ax_it h c4
    refine ax_iconst (v := (-1 : Int32)) K (by decide) dX1_back_7 ?_
    exact E _ _ _ _ dX1_back_8 rfl h

/-! x.begins -/
set_option maxHeartbeats 4000000 in
theorem mx_begins {l : Launch} {G : AG} {L : Nat → Nat} {σ : St} {v1 : Int32} {P : Int32 → St → Prop} (h : wx_begins σ v1 P) : CtW l G yX1_begins cX1_begins 3 (some .int) (rmH 1) [.ref (L 0), .int v1] (xW G L) σ (pI P) := by
  refine CtW.ofI (by decide) (Nat.le_of_ble_eq_true rfl) fun Z _ K E => ?_
  unfold wx_begins at h
  show AX Z 0 0 0 [(0, .ref (L 0)), (1, .int v1)] [] (xW G L σ)
  refine ax_aload_n K 0 rfl dX1_begins_0 ?_
  refine xg_signMany K dX1_begins_1 ?_
  refine ax_istore_n (lv' := [(2, .int (xI_signMany σ)), (0, .ref (L 0)), (1, .int v1)]) K dX1_begins_4 (by decide) rfl ?_
  refine ax_aload_n K 1 rfl dX1_begins_5 ?_
  refine ax_iconst (v := (0 : Int32)) K (by decide) dX1_begins_6 ?_
  refine xp_signMany K dX1_begins_7 ?_
  refine ax_aload_n K 1 rfl dX1_begins_10 ?_
  refine ax_iconst (v := (0 : Int32)) K (by decide) dX1_begins_11 ?_
  refine xp_at K dX1_begins_12 ?_
  refine ax_aload_n K 1 rfl dX1_begins_15 ?_
  refine ax_iconst (v := (0 : Int32)) K (by decide) dX1_begins_16 ?_
  refine xp_nest K dX1_begins_17 ?_
  refine ax_aload_n K 1 rfl dX1_begins_20 ?_
  refine ax_iload_n K 0 rfl dX1_begins_21 ?_
  refine ax_iload_n K 2 rfl dX1_begins_22 ?_
  refine rx_min K (by decide) (Nat.le_of_ble_eq_true rfl) dX1_begins_23 ?_
  refine xp_end K dX1_begins_26 ?_
  refine ax_iload_n K 0 rfl dX1_begins_29 ?_
  exact E _ _ _ _ dX1_begins_30 rfl h
theorem rx_begins {Z : AZ} {G : AG} {cc : ByteArray} {mL hh pc : Nat} {lv : List (Nat × Value)} {rest : List Value} {L : Nat → Nat} {σ : St} (K : AK Z G cc RX1 mL (rmH hh)) (hlt : 1 < hh) (d : decode cc pc = .ok (.invokevirtual 175, 3)) (hrest : (rest.map fun v => v.category).sum ≤ 8) {v1 : Int32} {P : Int32 → St → Prop} (h : sx_begins σ v1 P) (kk : ∀ (r : Int32) (σ' : St), P r σ' → AX Z 0 0 (pc + 3) lv (.int r :: rest) (xW G L σ')) : AX Z 0 0 pc lv (.int v1 :: .ref (L 0) :: rest) (xW G L σ) :=
  ax_callV (N0 := 1) (As := [.int v1]) K (mx_begins (sx_begins_ok h)) q304 q306 qs0 q117 q307 ⟨rfl, by decide, by decide, by decide⟩ rfl ⟨by show 1 + 1 + 1 ≤ hh + 1; omega, by show 8 + (3 + 11) + 60 * (1 + 1) ≤ 60 * (hh + 1); omega⟩ ⟨Nat.zero_le _, Nat.zero_le _⟩ rfl rfl rfl hrest d (fun r σ' hp => by obtain ⟨v, rfl, hp⟩ := hp; exact kk v σ' hp)
/-! x.dishAt -/
set_option maxHeartbeats 4000000 in
theorem mx_dishAt {l : Launch} {G : AG} {L : Nat → Nat} {σ : St} {v1 : Int32} {v2 : Int32} {P : Int32 → St → Prop} (h : wx_dishAt σ v1 v2 P) : CtW l G yX1_dishAt cX1_dishAt 3 (some .int) (rmH 1) [.ref (L 0), .int v1, .int v2] (xW G L) σ (pI P) := by
  refine CtW.ofI (by decide) (Nat.le_of_ble_eq_true rfl) fun Z _ K E => ?_
  unfold wx_dishAt at h
  show AX Z 0 0 0 [(0, .ref (L 0)), (1, .int v1), (2, .int v2)] [] (xW G L σ)
  refine ax_aload_n K 0 rfl dX1_dishAt_0 ?_
  refine xg_menu K dX1_dishAt_1 ?_
  refine ax_bipush (v := (10 : Int32)) K (by decide) dX1_dishAt_4 ?_
  refine ax_iload_n K 1 rfl dX1_dishAt_6 ?_
  refine ax_imul K dX1_dishAt_7 ?_
  refine ax_iload_n K 2 rfl dX1_dishAt_8 ?_
  refine ax_iadd K dX1_dishAt_9 ?_
  refine xl_menu K h.1 dX1_dishAt_10 ?_
  replace h := h.2
  exact E _ _ _ _ dX1_dishAt_11 rfl h
theorem rx_dishAt {Z : AZ} {G : AG} {cc : ByteArray} {mL hh pc : Nat} {lv : List (Nat × Value)} {rest : List Value} {L : Nat → Nat} {σ : St} (K : AK Z G cc RX1 mL (rmH hh)) (hlt : 1 < hh) (d : decode cc pc = .ok (.invokevirtual 328, 3)) (hrest : (rest.map fun v => v.category).sum ≤ 8) {v1 : Int32} {v2 : Int32} {P : Int32 → St → Prop} (h : sx_dishAt σ v1 v2 P) (kk : ∀ (r : Int32) (σ' : St), P r σ' → AX Z 0 0 (pc + 3) lv (.int r :: rest) (xW G L σ')) : AX Z 0 0 pc lv (.int v2 :: .int v1 :: .ref (L 0) :: rest) (xW G L σ) :=
  ax_callV (N0 := 2) (As := [.int v1, .int v2]) K (mx_dishAt (sx_dishAt_ok h)) q631 q633 qs24 q117 q634 ⟨rfl, by decide, by decide, by decide⟩ rfl ⟨by show 1 + 1 + 1 ≤ hh + 1; omega, by show 8 + (3 + 11) + 60 * (1 + 1) ≤ 60 * (hh + 1); omega⟩ ⟨Nat.zero_le _, Nat.zero_le _⟩ rfl rfl rfl hrest d (fun r σ' hp => by obtain ⟨v, rfl, hp⟩ := hp; exact kk v σ' hp)
/-! x.faultOf -/
set_option maxHeartbeats 4000000 in
theorem kx_faultOf_j44 {Z : AZ} {G : AG} {L : Nat → Nat} {P : Int32 → St → Prop} (K : AK Z G cX1_faultOf RX1 4 (rmH 1)) (E : AEi Z cX1_faultOf .int (xW G L) 0 0 P) (σ : St) (h : wx_faultOf_j44 P  σ) : AX Z 0 0 44 [(0, .ref (L 0))] [] (xW G L σ) := by
  unfold wx_faultOf_j44 at h
  refine ax_iconst (v := (-1 : Int32)) K (by decide) dX1_faultOf_44 ?_
  refine ax_aload_n K 0 rfl dX1_faultOf_45 ?_
  refine xg_end K dX1_faultOf_46 ?_
  refine ax_isub K dX1_faultOf_49 ?_
  exact E _ _ _ _ dX1_faultOf_50 rfl h
set_option maxHeartbeats 4000000 in
theorem kx_faultOf_j65 {Z : AZ} {G : AG} {L : Nat → Nat} {P : Int32 → St → Prop} (K : AK Z G cX1_faultOf RX1 4 (rmH 1)) (E : AEi Z cX1_faultOf .int (xW G L) 0 0 P) (s0 : Int32) (σ : St) (h : wx_faultOf_j65 P  s0 σ) : AX Z 0 0 65 [(0, .ref (L 0))] [.int s0] (xW G L σ) := by
  unfold wx_faultOf_j65 at h
  exact E _ _ _ _ dX1_faultOf_65 rfl h
set_option maxHeartbeats 4000000 in
theorem kx_faultOf_j51 {Z : AZ} {G : AG} {L : Nat → Nat} {P : Int32 → St → Prop} (K : AK Z G cX1_faultOf RX1 4 (rmH 1)) (E : AEi Z cX1_faultOf .int (xW G L) 0 0 P) (v3 : Int32) (σ : St) (h : wx_faultOf_j51 P  v3 σ) : AX Z 0 0 51 [(0, .ref (L 0)), (3, .int v3)] [] (xW G L σ) := by
  unfold wx_faultOf_j51 at h
  refine ax_iload_n K 1 rfl dX1_faultOf_51 ?_
  refine ax_if_eq (tgt := 59) K dX1_faultOf_52 (by decide) (fun c52 => ?_) (fun c52 => ?_)
  · have h := ax_it h c52
    refine ax_iconst (v := (-1 : Int32)) K (by decide) dX1_faultOf_59 ?_
    refine ax_aload_n K 0 rfl dX1_faultOf_60 ?_
    refine xg_at K dX1_faultOf_61 ?_
    refine ax_isub K dX1_faultOf_64 ?_
    exact ax_sub [0] rfl (kx_faultOf_j65 K E  ((-1 : Int32) - (xI_at σ)) σ h)
  · have h := ax_ie h c52
    refine ax_iconst (v := (0 : Int32)) K (by decide) dX1_faultOf_55 ?_
    refine ax_goto (tgt := 65) K dX1_faultOf_56 (by decide) ?_
    exact ax_sub [0] rfl (kx_faultOf_j65 K E  (0 : Int32) σ h)
set_option maxHeartbeats 4000000 in
theorem kx_faultOf_j20 {Z : AZ} {G : AG} {L : Nat → Nat} {P : Int32 → St → Prop} (K : AK Z G cX1_faultOf RX1 4 (rmH 1)) (E : AEi Z cX1_faultOf .int (xW G L) 0 0 P) (v1 : Int32) (s0 : Int32) (σ : St) (h : wx_faultOf_j20 P  v1 s0 σ) : AX Z 0 0 20 [(0, .ref (L 0)), (1, .int v1)] [.int s0] (xW G L σ) := by
  unfold wx_faultOf_j20 at h
  refine ax_istore_n (lv' := [(3, .int s0), (0, .ref (L 0)), (1, .int v1)]) K dX1_faultOf_20 (by decide) rfl ?_
  refine ax_iload_n K 2 rfl dX1_faultOf_21 ?_
  refine ax_aload_n K 1 rfl dX1_faultOf_22 ?_
  refine xg_end K dX1_faultOf_23 ?_
  refine ax_icmp_le (tgt := 51) K dX1_faultOf_26 (by decide) (fun c26 => ?_) (fun c26 => ?_)
  · have h := ax_it h c26
    exact ax_sub [1, 0] rfl (kx_faultOf_j51 K E  s0 σ h)
  · have h := ax_ie h c26
    refine ax_iload_n K 0 rfl dX1_faultOf_29 ?_
    refine ax_if_ne (tgt := 44) K dX1_faultOf_30 (by decide) (fun c30 => ?_) (fun c30 => ?_)
    · have h := ax_ie h c30
      exact ax_sub [1] rfl (kx_faultOf_j44 K E  σ h)
    · have h := ax_it h c30
      refine ax_aload_n K 1 rfl dX1_faultOf_33 ?_
      refine xg_at K dX1_faultOf_34 ?_
      refine ax_aload_n K 1 rfl dX1_faultOf_37 ?_
      refine xg_end K dX1_faultOf_38 ?_
      refine ax_icmp_ne (tgt := 51) K dX1_faultOf_41 (by decide) (fun c41 => ?_) (fun c41 => ?_)
      · have h := ax_ie h c41
        exact ax_sub [1, 0] rfl (kx_faultOf_j51 K E  s0 σ h)
      · have h := ax_it h c41
        exact ax_sub [1] rfl (kx_faultOf_j44 K E  σ h)
set_option maxHeartbeats 4000000 in
theorem kx_faultOf_j19 {Z : AZ} {G : AG} {L : Nat → Nat} {P : Int32 → St → Prop} (K : AK Z G cX1_faultOf RX1 4 (rmH 1)) (E : AEi Z cX1_faultOf .int (xW G L) 0 0 P) (v1 : Int32) (σ : St) (h : wx_faultOf_j19 P  v1 σ) : AX Z 0 0 19 [(0, .ref (L 0)), (1, .int v1)] [] (xW G L σ) := by
  unfold wx_faultOf_j19 at h
  refine ax_iconst (v := (0 : Int32)) K (by decide) dX1_faultOf_19 ?_
  exact ax_sub [0, 1] rfl (kx_faultOf_j20 K E  v1 (0 : Int32) σ h)
set_option maxHeartbeats 4000000 in
theorem mx_faultOf {l : Launch} {G : AG} {L : Nat → Nat} {σ : St} {v1 : Int32} {v2 : Int32} {P : Int32 → St → Prop} (h : wx_faultOf σ v1 v2 P) : CtW l G yX1_faultOf cX1_faultOf 4 (some .int) (rmH 1) [.ref (L 0), .int v1, .int v2] (xW G L) σ (pI P) := by
  refine CtW.ofI (by decide) (Nat.le_of_ble_eq_true rfl) fun Z _ K E => ?_
  unfold wx_faultOf at h
  show AX Z 0 0 0 [(0, .ref (L 0)), (1, .int v1), (2, .int v2)] [] (xW G L σ)
  refine ax_iload_n K 2 rfl dX1_faultOf_0 ?_
  refine ax_if_eq (tgt := 19) K dX1_faultOf_1 (by decide) (fun c1 => ?_) (fun c1 => ?_)
  · have h := ax_it h c1
    exact ax_sub [0, 1] rfl (kx_faultOf_j19 K E  v1 σ h)
  · have h := ax_ie h c1
    refine ax_aload_n K 0 rfl dX1_faultOf_4 ?_
    refine xg_at K dX1_faultOf_5 ?_
    refine ax_aload_n K 0 rfl dX1_faultOf_8 ?_
    refine xg_end K dX1_faultOf_9 ?_
    refine ax_icmp_ne (tgt := 19) K dX1_faultOf_12 (by decide) (fun c12 => ?_) (fun c12 => ?_)
    · have h := ax_ie h c12
      exact ax_sub [0, 1] rfl (kx_faultOf_j19 K E  v1 σ h)
    · have h := ax_it h c12
      refine ax_iconst (v := (1 : Int32)) K (by decide) dX1_faultOf_15 ?_
      refine ax_goto (tgt := 20) K dX1_faultOf_16 (by decide) ?_
      exact ax_sub [0, 1] rfl (kx_faultOf_j20 K E  v1 (1 : Int32) σ h)
theorem rx_faultOf {Z : AZ} {G : AG} {cc : ByteArray} {mL hh pc : Nat} {lv : List (Nat × Value)} {rest : List Value} {L : Nat → Nat} {σ : St} (K : AK Z G cc RX1 mL (rmH hh)) (hlt : 1 < hh) (d : decode cc pc = .ok (.invokevirtual 187, 3)) (hrest : (rest.map fun v => v.category).sum ≤ 8) {v1 : Int32} {v2 : Int32} {P : Int32 → St → Prop} (h : sx_faultOf σ v1 v2 P) (kk : ∀ (r : Int32) (σ' : St), P r σ' → AX Z 0 0 (pc + 3) lv (.int r :: rest) (xW G L σ')) : AX Z 0 0 pc lv (.int v2 :: .int v1 :: .ref (L 0) :: rest) (xW G L σ) :=
  ax_callV (N0 := 2) (As := [.int v1, .int v2]) K (mx_faultOf (sx_faultOf_ok h)) q347 q349 qs9 q117 q350 ⟨rfl, by decide, by decide, by decide⟩ rfl ⟨by show 1 + 1 + 1 ≤ hh + 1; omega, by show 8 + (4 + 11) + 60 * (1 + 1) ≤ 60 * (hh + 1); omega⟩ ⟨Nat.zero_le _, Nat.zero_le _⟩ rfl rfl rfl hrest d (fun r σ' hp => by obtain ⟨v, rfl, hp⟩ := hp; exact kk v σ' hp)
/-! x.has -/
set_option maxHeartbeats 4000000 in
theorem kx_has_j14 {Z : AZ} {G : AG} {P : Int32 → Prop} (K : AK Z G cX1_has RX1 2 (rmH 1)) (E : AEi Z cX1_has .boolean w0 0 0 (fun v _ => P v)) (σ : St) (s0 : Int32) (h : wx_has_j14 P  s0) : AX Z 0 0 14 [] [.int s0] [] := by
  unfold wx_has_j14 at h
  exact E _ _ _ σ dX1_has_14 h.1 h.2
set_option maxHeartbeats 4000000 in
theorem mx_has {l : Launch} {G : AG} {σ : St} {v0 : Int32} {v1 : Int32} {P : Int32 → Prop} (h : wx_has v0 v1 P) : CtW l G yX1_has cX1_has 2 (some .boolean) (rmH 1) [.int v0, .int v1] w0 σ (pI (fun v _ => P v)) := by
  refine CtW.ofI (by decide) (Nat.le_of_ble_eq_true rfl) fun Z _ K E => ?_
  unfold wx_has at h
  show AX Z 0 0 0 [(0, .int v0), (1, .int v1)] [] []
  refine ax_iload_n K 0 rfl dX1_has_0 ?_
  refine ax_iload_n K 1 rfl dX1_has_1 ?_
  refine ax_ishr K dX1_has_2 ?_
  refine ax_iconst (v := (1 : Int32)) K (by decide) dX1_has_3 ?_
  refine ax_iand K dX1_has_4 ?_
  refine ax_iconst (v := (1 : Int32)) K (by decide) dX1_has_5 ?_
  refine ax_icmp_ne (tgt := 13) K dX1_has_6 (by decide) (fun c6 => ?_) (fun c6 => ?_)
  · have h := ax_ie h c6
    refine ax_iconst (v := (0 : Int32)) K (by decide) dX1_has_13 ?_
    exact ax_sub [] rfl (kx_has_j14 K E σ  (0 : Int32) h)
  · have h := ax_it h c6
    refine ax_iconst (v := (1 : Int32)) K (by decide) dX1_has_9 ?_
    refine ax_goto (tgt := 14) K dX1_has_10 (by decide) ?_
    exact ax_sub [] rfl (kx_has_j14 K E σ  (1 : Int32) h)
theorem rx_has {Z : AZ} {G : AG} {cc : ByteArray} {mL hh pc : Nat} {lv : List (Nat × Value)} {rest : List Value} {ws : va_W} (K : AK Z G cc RX1 mL (rmH hh)) (hlt : 1 < hh) (d : decode cc pc = .ok (.invokestatic 259, 3)) (hrest : (rest.map fun v => v.category).sum ≤ 8) {v0 : Int32} {v1 : Int32} {P : Int32 → Prop} (h : sx_has v0 v1 P) (kk : ∀ (r : Int32) , P r  → AX Z 0 0 (pc + 3) lv (.int r :: rest) ws) : AX Z 0 0 pc lv (.int v1 :: .int v0 :: rest) ws :=
  ax_callS (N0 := 2) (σ := σ00) (As := [.int v0, .int v1]) K (mx_has (sx_has_ok h)) q568 q569 q117 q570 ⟨by decide, by decide, by decide⟩ rfl ⟨by show 1 + 1 + 1 ≤ hh + 1; omega, by show 8 + (2 + 11) + 60 * (1 + 1) ≤ 60 * (hh + 1); omega⟩ ⟨Nat.zero_le _, Nat.zero_le _⟩ rfl hrest d (fun r σ' hp => by obtain ⟨v, rfl, hp⟩ := hp; exact kk v hp)
/-! x.hungryAt -/
set_option maxHeartbeats 4000000 in
theorem kx_hungryAt_j36 {Z : AZ} {G : AG} {L : Nat → Nat} {P : Int32 → St → Prop} (K : AK Z G cX1_hungryAt RX1 4 (rmH 1)) (E : AEi Z cX1_hungryAt .int (xW G L) 0 0 P) {K4 : Int32 → Int32 → Int32 → St → Prop} (hK4 : ∀ (v1 : Int32) (v2 : Int32) (v3 : Int32) (σ : St), K4 v1 v2 v3 σ → AX Z 0 0 4 [(0, .ref (L 0)), (1, .int v1), (2, .int v2), (3, .int v3)] [] (xW G L σ)) (v1 : Int32) (v3 : Int32) (s0 : Int32) (s1 : Int32) (σ : St) (h : wx_hungryAt_j36 P K4 v1 v3 s0 s1 σ) : AX Z 0 0 36 [(0, .ref (L 0)), (1, .int v1), (3, .int v3)] [.int s1, .int s0] (xW G L σ) := by
  unfold wx_hungryAt_j36 at h
  refine ax_ior K dX1_hungryAt_36 ?_
  refine ax_istore_n (lv' := [(2, .int (s0 ||| s1)), (0, .ref (L 0)), (1, .int v1), (3, .int v3)]) K dX1_hungryAt_37 (by decide) rfl ?_
  refine ax_iinc (lv' := [(3, .int (v3 + (1 : Int32))), (2, .int (s0 ||| s1)), (0, .ref (L 0)), (1, .int v1)]) (v := (v3 + (1 : Int32))) K 3 dX1_hungryAt_38 rfl (by rfl) (by decide) rfl ?_
  refine ax_goto (tgt := 4) K dX1_hungryAt_41 (by decide) ?_
  exact ax_sub [2, 3, 1, 0] rfl (hK4 v1 (s0 ||| s1) (v3 + (1 : Int32)) σ h)
set_option maxHeartbeats 4000000 in
theorem kx_hungryAt_l4 {Z : AZ} {G : AG} {L : Nat → Nat} {P : Int32 → St → Prop} (K : AK Z G cX1_hungryAt RX1 4 (rmH 1)) (E : AEi Z cX1_hungryAt .int (xW G L) 0 0 P) : ∀ (n : Nat) (v1 : Int32) (v2 : Int32) (v3 : Int32) (σ : St), wx_hungryAt_l4 P  n v1 v2 v3 σ → AX Z 0 0 4 [(0, .ref (L 0)), (1, .int v1), (2, .int v2), (3, .int v3)] [] (xW G L σ) := by
  intro n
  induction n with
  | zero => intro v1 v2 v3 σ h; exact False.elim h
  | succ n ih =>
    intro v1 v2 v3 σ h
    rw [wx_hungryAt_l4_s] at h
    refine ax_iload_n K 3 rfl dX1_hungryAt_4 ?_
    refine ax_aload_n K 0 rfl dX1_hungryAt_5 ?_
    refine xg_guests K dX1_hungryAt_6 ?_
    refine ax_icmp_ge (tgt := 44) K dX1_hungryAt_9 (by decide) (fun c9 => ?_) (fun c9 => ?_)
    · have h := ax_it h c9
      refine ax_iload_n K 2 rfl dX1_hungryAt_44 ?_
      exact E _ _ _ _ dX1_hungryAt_45 rfl h
    · have h := ax_ie h c9
      refine ax_iload_n K 2 rfl dX1_hungryAt_12 ?_
      refine ax_aload_n K 0 rfl dX1_hungryAt_13 ?_
      refine xg_bars K dX1_hungryAt_14 ?_
      refine ax_iload_n K 3 rfl dX1_hungryAt_17 ?_
      refine xl_bars K h.1 dX1_hungryAt_18 ?_
      replace h := h.2
      refine ax_aload_n K 0 rfl dX1_hungryAt_19 ?_
      refine xg_stuffs K dX1_hungryAt_20 ?_
      refine ax_iload_n K 1 rfl dX1_hungryAt_23 ?_
      refine xl_stuffs K h.1 dX1_hungryAt_24 ?_
      replace h := h.2
      refine ax_iand K dX1_hungryAt_25 ?_
      refine ax_if_eq (tgt := 35) K dX1_hungryAt_26 (by decide) (fun c26 => ?_) (fun c26 => ?_)
      · have h := ax_it h c26
        refine ax_iconst (v := (0 : Int32)) K (by decide) dX1_hungryAt_35 ?_
        exact ax_sub [0, 1, 3] rfl (kx_hungryAt_j36 K E ih v1 v3 v2 (0 : Int32) σ h)
      · have h := ax_ie h c26
        refine ax_iconst (v := (1 : Int32)) K (by decide) dX1_hungryAt_29 ?_
        refine ax_iload_n K 3 rfl dX1_hungryAt_30 ?_
        refine ax_ishl K dX1_hungryAt_31 ?_
        refine ax_goto (tgt := 36) K dX1_hungryAt_32 (by decide) ?_
        exact ax_sub [0, 1, 3] rfl (kx_hungryAt_j36 K E ih v1 v3 v2 ((1 : Int32) <<< (v3 &&& 31)) σ h)
set_option maxHeartbeats 4000000 in
theorem mx_hungryAt {l : Launch} {G : AG} {L : Nat → Nat} {σ : St} {v1 : Int32} {P : Int32 → St → Prop} (h : wx_hungryAt σ v1 P) : CtW l G yX1_hungryAt cX1_hungryAt 4 (some .int) (rmH 1) [.ref (L 0), .int v1] (xW G L) σ (pI P) := by
  refine CtW.ofI (by decide) (Nat.le_of_ble_eq_true rfl) fun Z _ K E => ?_
  unfold wx_hungryAt at h
  show AX Z 0 0 0 [(0, .ref (L 0)), (1, .int v1)] [] (xW G L σ)
  refine ax_iconst (v := (0 : Int32)) K (by decide) dX1_hungryAt_0 ?_
  refine ax_istore_n (lv' := [(2, .int (0 : Int32)), (0, .ref (L 0)), (1, .int v1)]) K dX1_hungryAt_1 (by decide) rfl ?_
  refine ax_iconst (v := (0 : Int32)) K (by decide) dX1_hungryAt_2 ?_
  refine ax_istore_n (lv' := [(3, .int (0 : Int32)), (2, .int (0 : Int32)), (0, .ref (L 0)), (1, .int v1)]) K dX1_hungryAt_3 (by decide) rfl ?_
  exact ax_sub [2, 3, 1, 0] rfl (h.elim fun n4 h => kx_hungryAt_l4 K E  n4 v1 (0 : Int32) (0 : Int32) σ h)
theorem rx_hungryAt {Z : AZ} {G : AG} {cc : ByteArray} {mL hh pc : Nat} {lv : List (Nat × Value)} {rest : List Value} {L : Nat → Nat} {σ : St} (K : AK Z G cc RX1 mL (rmH hh)) (hlt : 1 < hh) (d : decode cc pc = .ok (.invokevirtual 266, 3)) (hrest : (rest.map fun v => v.category).sum ≤ 8) {v1 : Int32} {P : Int32 → St → Prop} (h : sx_hungryAt σ v1 P) (kk : ∀ (r : Int32) (σ' : St), P r σ' → AX Z 0 0 (pc + 3) lv (.int r :: rest) (xW G L σ')) : AX Z 0 0 pc lv (.int v1 :: .ref (L 0) :: rest) (xW G L σ) :=
  ax_callV (N0 := 1) (As := [.int v1]) K (mx_hungryAt (sx_hungryAt_ok h)) q635 q637 qs25 q117 q638 ⟨rfl, by decide, by decide, by decide⟩ rfl ⟨by show 1 + 1 + 1 ≤ hh + 1; omega, by show 8 + (4 + 11) + 60 * (1 + 1) ≤ 60 * (hh + 1); omega⟩ ⟨Nat.zero_le _, Nat.zero_le _⟩ rfl rfl rfl hrest d (fun r σ' hp => by obtain ⟨v, rfl, hp⟩ := hp; exact kk v σ' hp)
/-! x.in -/
set_option maxHeartbeats 4000000 in
theorem kx_in_j18 {Z : AZ} {G : AG} {P : Int32 → Prop} (K : AK Z G cX1_in RX1 6 (rmH 1)) (E : AEi Z cX1_in .boolean w0 0 0 (fun v _ => P v)) (σ : St) (s0 : Int32) (h : wx_in_j18 P  s0) : AX Z 0 0 18 [] [.int s0] [] := by
  unfold wx_in_j18 at h
  exact E _ _ _ σ dX1_in_18 h.1 h.2
set_option maxHeartbeats 4000000 in
theorem kx_in_j17 {Z : AZ} {G : AG} {P : Int32 → Prop} (K : AK Z G cX1_in RX1 6 (rmH 1)) (E : AEi Z cX1_in .boolean w0 0 0 (fun v _ => P v)) (σ : St)  (h : wx_in_j17 P  ) : AX Z 0 0 17 [] [] [] := by
  unfold wx_in_j17 at h
  refine ax_iconst (v := (0 : Int32)) K (by decide) dX1_in_17 ?_
  exact ax_sub [] rfl (kx_in_j18 K E σ  (0 : Int32) h)
set_option maxHeartbeats 4000000 in
theorem mx_in {l : Launch} {G : AG} {σ : St} {v0 : Int64} {v2 : Int64} {v4 : Int64} {P : Int32 → Prop} (h : wx_in v0 v2 v4 P) : CtW l G yX1_in cX1_in 6 (some .boolean) (rmH 1) [.long v0, .long v2, .long v4] w0 σ (pI (fun v _ => P v)) := by
  refine CtW.ofI (by decide) (Nat.le_of_ble_eq_true rfl) fun Z _ K E => ?_
  unfold wx_in at h
  show AX Z 0 0 0 [(0, .long v0), (2, .long v2), (4, .long v4)] [] []
  refine ax_lload_n K 0 rfl dX1_in_0 ?_
  refine ax_lload_n K 1 rfl dX1_in_1 ?_
  refine ax_lcmp K dX1_in_2 ?_
  refine ax_if_lt (tgt := 17) K dX1_in_3 (by decide) (fun c3 => ?_) (fun c3 => ?_)
  · have h := ax_it h c3
    exact ax_sub [] rfl (kx_in_j17 K E σ   h)
  · have h := ax_ie h c3
    refine ax_lload_n K 0 rfl dX1_in_6 ?_
    refine ax_lload K 2 rfl dX1_in_7 ?_
    refine ax_lcmp K dX1_in_9 ?_
    refine ax_if_gt (tgt := 17) K dX1_in_10 (by decide) (fun c10 => ?_) (fun c10 => ?_)
    · have h := ax_it h c10
      exact ax_sub [] rfl (kx_in_j17 K E σ   h)
    · have h := ax_ie h c10
      refine ax_iconst (v := (1 : Int32)) K (by decide) dX1_in_13 ?_
      refine ax_goto (tgt := 18) K dX1_in_14 (by decide) ?_
      exact ax_sub [] rfl (kx_in_j18 K E σ  (1 : Int32) h)
theorem rx_in {Z : AZ} {G : AG} {cc : ByteArray} {mL hh pc : Nat} {lv : List (Nat × Value)} {rest : List Value} {ws : va_W} (K : AK Z G cc RX1 mL (rmH hh)) (hlt : 1 < hh) (d : decode cc pc = .ok (.invokestatic 106, 3)) (hrest : (rest.map fun v => v.category).sum ≤ 8) {v0 : Int64} {v2 : Int64} {v4 : Int64} {P : Int32 → Prop} (h : sx_in v0 v2 v4 P) (kk : ∀ (r : Int32) , P r  → AX Z 0 0 (pc + 3) lv (.int r :: rest) ws) : AX Z 0 0 pc lv (.long v4 :: .long v2 :: .long v0 :: rest) ws :=
  ax_callS (N0 := 3) (σ := σ00) (As := [.long v0, .long v2, .long v4]) K (mx_in (sx_in_ok h)) q297 q298 q117 q299 ⟨by decide, by decide, by decide⟩ rfl ⟨by show 1 + 1 + 1 ≤ hh + 1; omega, by show 8 + (6 + 11) + 60 * (1 + 1) ≤ 60 * (hh + 1); omega⟩ ⟨Nat.zero_le _, Nat.zero_le _⟩ rfl hrest d (fun r σ' hp => by obtain ⟨v, rfl, hp⟩ := hp; exact kk v hp)
/-! x.isAt -/
set_option maxHeartbeats 4000000 in
theorem kx_isAt_j29 {Z : AZ} {G : AG} {L : Nat → Nat} {P : Int32 → St → Prop} (K : AK Z G cX1_isAt RX1 2 (rmH 1)) (E : AEi Z cX1_isAt .boolean (xW G L) 0 0 P) (s0 : Int32) (σ : St) (h : wx_isAt_j29 P  s0 σ) : AX Z 0 0 29 [(0, .ref (L 0))] [.int s0] (xW G L σ) := by
  unfold wx_isAt_j29 at h
  exact E _ _ _ _ dX1_isAt_29 h.1 h.2
set_option maxHeartbeats 4000000 in
theorem kx_isAt_j28 {Z : AZ} {G : AG} {L : Nat → Nat} {P : Int32 → St → Prop} (K : AK Z G cX1_isAt RX1 2 (rmH 1)) (E : AEi Z cX1_isAt .boolean (xW G L) 0 0 P) (σ : St) (h : wx_isAt_j28 P  σ) : AX Z 0 0 28 [(0, .ref (L 0))] [] (xW G L σ) := by
  unfold wx_isAt_j28 at h
  refine ax_iconst (v := (0 : Int32)) K (by decide) dX1_isAt_28 ?_
  exact ax_sub [0] rfl (kx_isAt_j29 K E  (0 : Int32) σ h)
set_option maxHeartbeats 4000000 in
theorem mx_isAt {l : Launch} {G : AG} {L : Nat → Nat} {σ : St} {v1 : Int32} {P : Int32 → St → Prop} (h : wx_isAt σ v1 P) : CtW l G yX1_isAt cX1_isAt 2 (some .boolean) (rmH 1) [.ref (L 0), .int v1] (xW G L) σ (pI P) := by
  refine CtW.ofI (by decide) (Nat.le_of_ble_eq_true rfl) fun Z _ K E => ?_
  unfold wx_isAt at h
  show AX Z 0 0 0 [(0, .ref (L 0)), (1, .int v1)] [] (xW G L σ)
  refine ax_aload_n K 0 rfl dX1_isAt_0 ?_
  refine xg_at K dX1_isAt_1 ?_
  refine ax_aload_n K 0 rfl dX1_isAt_4 ?_
  refine xg_end K dX1_isAt_5 ?_
  refine ax_icmp_ge (tgt := 28) K dX1_isAt_8 (by decide) (fun c8 => ?_) (fun c8 => ?_)
  · have h := ax_it h c8
    exact ax_sub [0] rfl (kx_isAt_j28 K E  σ h)
  · have h := ax_ie h c8
    refine ax_aload_n K 0 rfl dX1_isAt_11 ?_
    refine xg_text K dX1_isAt_12 ?_
    refine ax_aload_n K 0 rfl dX1_isAt_15 ?_
    refine xg_at K dX1_isAt_16 ?_
    refine xl_text K h.1 dX1_isAt_19 ?_
    replace h := h.2
    refine ax_iload_n K 1 rfl dX1_isAt_20 ?_
    refine ax_icmp_ne (tgt := 28) K dX1_isAt_21 (by decide) (fun c21 => ?_) (fun c21 => ?_)
    · have h := ax_ie h c21
      exact ax_sub [0] rfl (kx_isAt_j28 K E  σ h)
    · have h := ax_it h c21
      refine ax_iconst (v := (1 : Int32)) K (by decide) dX1_isAt_24 ?_
      refine ax_goto (tgt := 29) K dX1_isAt_25 (by decide) ?_
      exact ax_sub [0] rfl (kx_isAt_j29 K E  (1 : Int32) σ h)
theorem rx_isAt {Z : AZ} {G : AG} {cc : ByteArray} {mL hh pc : Nat} {lv : List (Nat × Value)} {rest : List Value} {L : Nat → Nat} {σ : St} (K : AK Z G cc RX1 mL (rmH hh)) (hlt : 1 < hh) (d : decode cc pc = .ok (.invokevirtual 131, 3)) (hrest : (rest.map fun v => v.category).sum ≤ 8) {v1 : Int32} {P : Int32 → St → Prop} (h : sx_isAt σ v1 P) (kk : ∀ (r : Int32) (σ' : St), P r σ' → AX Z 0 0 (pc + 3) lv (.int r :: rest) (xW G L σ')) : AX Z 0 0 pc lv (.int v1 :: .ref (L 0) :: rest) (xW G L σ) :=
  ax_callV (N0 := 1) (As := [.int v1]) K (mx_isAt (sx_isAt_ok h)) q311 q313 qs1 q117 q314 ⟨rfl, by decide, by decide, by decide⟩ rfl ⟨by show 1 + 1 + 1 ≤ hh + 1; omega, by show 8 + (2 + 11) + 60 * (1 + 1) ≤ 60 * (hh + 1); omega⟩ ⟨Nat.zero_le _, Nat.zero_le _⟩ rfl rfl rfl hrest d (fun r σ' hp => by obtain ⟨v, rfl, hp⟩ := hp; exact kk v σ' hp)
/-! x.laid -/
set_option maxHeartbeats 4000000 in
theorem kx_laid_j26 {Z : AZ} {G : AG} {L : Nat → Nat} {P : Int32 → St → Prop} (K : AK Z G cX1_laid RX1 3 (rmH 1)) (E : AEi Z cX1_laid .int (xW G L) 0 0 P) {K4 : Int32 → Int32 → St → Prop} (hK4 : ∀ (v1 : Int32) (v2 : Int32) (σ : St), K4 v1 v2 σ → AX Z 0 0 4 [(0, .ref (L 0)), (1, .int v1), (2, .int v2)] [] (xW G L σ)) (v2 : Int32) (s0 : Int32) (s1 : Int32) (σ : St) (h : wx_laid_j26 P K4 v2 s0 s1 σ) : AX Z 0 0 26 [(0, .ref (L 0)), (2, .int v2)] [.int s1, .int s0] (xW G L σ) := by
  unfold wx_laid_j26 at h
  refine ax_ior K dX1_laid_26 ?_
  refine ax_istore_n (lv' := [(1, .int (s0 ||| s1)), (0, .ref (L 0)), (2, .int v2)]) K dX1_laid_27 (by decide) rfl ?_
  refine ax_iinc (lv' := [(2, .int (v2 + (1 : Int32))), (1, .int (s0 ||| s1)), (0, .ref (L 0))]) (v := (v2 + (1 : Int32))) K 2 dX1_laid_28 rfl (by rfl) (by decide) rfl ?_
  refine ax_goto (tgt := 4) K dX1_laid_31 (by decide) ?_
  exact ax_sub [2, 1, 0] rfl (hK4 (s0 ||| s1) (v2 + (1 : Int32)) σ h)
set_option maxHeartbeats 4000000 in
theorem kx_laid_l4 {Z : AZ} {G : AG} {L : Nat → Nat} {P : Int32 → St → Prop} (K : AK Z G cX1_laid RX1 3 (rmH 1)) (E : AEi Z cX1_laid .int (xW G L) 0 0 P) : ∀ (n : Nat) (v1 : Int32) (v2 : Int32) (σ : St), wx_laid_l4 P  n v1 v2 σ → AX Z 0 0 4 [(0, .ref (L 0)), (1, .int v1), (2, .int v2)] [] (xW G L σ) := by
  intro n
  induction n with
  | zero => intro v1 v2 σ h; exact False.elim h
  | succ n ih =>
    intro v1 v2 σ h
    rw [wx_laid_l4_s] at h
    refine ax_iload_n K 2 rfl dX1_laid_4 ?_
    refine ax_iconst (v := (3 : Int32)) K (by decide) dX1_laid_5 ?_
    refine ax_icmp_ge (tgt := 34) K dX1_laid_6 (by decide) (fun c6 => ?_) (fun c6 => ?_)
    · have h := ax_it h c6
      refine ax_iload_n K 1 rfl dX1_laid_34 ?_
      exact E _ _ _ _ dX1_laid_35 rfl h
    · have h := ax_ie h c6
      refine ax_iload_n K 1 rfl dX1_laid_9 ?_
      refine ax_aload_n K 0 rfl dX1_laid_10 ?_
      refine xg_menuMany K dX1_laid_11 ?_
      refine ax_iload_n K 2 rfl dX1_laid_14 ?_
      refine xl_menuMany K h.1 dX1_laid_15 ?_
      replace h := h.2
      refine ax_if_le (tgt := 25) K dX1_laid_16 (by decide) (fun c16 => ?_) (fun c16 => ?_)
      · have h := ax_it h c16
        refine ax_iconst (v := (0 : Int32)) K (by decide) dX1_laid_25 ?_
        exact ax_sub [0, 2] rfl (kx_laid_j26 K E ih v2 v1 (0 : Int32) σ h)
      · have h := ax_ie h c16
        refine ax_iconst (v := (1 : Int32)) K (by decide) dX1_laid_19 ?_
        refine ax_iload_n K 2 rfl dX1_laid_20 ?_
        refine ax_ishl K dX1_laid_21 ?_
        refine ax_goto (tgt := 26) K dX1_laid_22 (by decide) ?_
        exact ax_sub [0, 2] rfl (kx_laid_j26 K E ih v2 v1 ((1 : Int32) <<< (v2 &&& 31)) σ h)
set_option maxHeartbeats 4000000 in
theorem mx_laid {l : Launch} {G : AG} {L : Nat → Nat} {σ : St} {P : Int32 → St → Prop} (h : wx_laid σ P) : CtW l G yX1_laid cX1_laid 3 (some .int) (rmH 1) [.ref (L 0)] (xW G L) σ (pI P) := by
  refine CtW.ofI (by decide) (Nat.le_of_ble_eq_true rfl) fun Z _ K E => ?_
  unfold wx_laid at h
  show AX Z 0 0 0 [(0, .ref (L 0))] [] (xW G L σ)
  refine ax_iconst (v := (0 : Int32)) K (by decide) dX1_laid_0 ?_
  refine ax_istore_n (lv' := [(1, .int (0 : Int32)), (0, .ref (L 0))]) K dX1_laid_1 (by decide) rfl ?_
  refine ax_iconst (v := (0 : Int32)) K (by decide) dX1_laid_2 ?_
  refine ax_istore_n (lv' := [(2, .int (0 : Int32)), (1, .int (0 : Int32)), (0, .ref (L 0))]) K dX1_laid_3 (by decide) rfl ?_
  exact ax_sub [2, 1, 0] rfl (h.elim fun n4 h => kx_laid_l4 K E  n4 (0 : Int32) (0 : Int32) σ h)
theorem rx_laid {Z : AZ} {G : AG} {cc : ByteArray} {mL hh pc : Nat} {lv : List (Nat × Value)} {rest : List Value} {L : Nat → Nat} {σ : St} (K : AK Z G cc RX1 mL (rmH hh)) (hlt : 1 < hh) (d : decode cc pc = .ok (.invokevirtual 447, 3)) (hrest : (rest.map fun v => v.category).sum ≤ 8) {P : Int32 → St → Prop} (h : sx_laid σ  P) (kk : ∀ (r : Int32) (σ' : St), P r σ' → AX Z 0 0 (pc + 3) lv (.int r :: rest) (xW G L σ')) : AX Z 0 0 pc lv (.ref (L 0) :: rest) (xW G L σ) :=
  ax_callV (N0 := 0) (As := []) K (mx_laid (sx_laid_ok h)) q919 q921 qs58 q117 q922 ⟨rfl, by decide, by decide, by decide⟩ rfl ⟨by show 1 + 1 + 1 ≤ hh + 1; omega, by show 8 + (3 + 11) + 60 * (1 + 1) ≤ 60 * (hh + 1); omega⟩ ⟨Nat.zero_le _, Nat.zero_le _⟩ rfl rfl rfl hrest d (fun r σ' hp => by obtain ⟨v, rfl, hp⟩ := hp; exact kk v σ' hp)
/-! x.lastNow -/
set_option maxHeartbeats 4000000 in
theorem kx_lastNow_j22 {Z : AZ} {G : AG} {L : Nat → Nat} {P : Int32 → St → Prop} (K : AK Z G cX1_lastNow RX1 1 (rmH 1)) (E : AEi Z cX1_lastNow .int (xW G L) 0 0 P) (s0 : Int32) (σ : St) (h : wx_lastNow_j22 P  s0 σ) : AX Z 0 0 22 [(0, .ref (L 0))] [.int s0] (xW G L σ) := by
  unfold wx_lastNow_j22 at h
  exact E _ _ _ _ dX1_lastNow_22 rfl h
set_option maxHeartbeats 4000000 in
theorem mx_lastNow {l : Launch} {G : AG} {L : Nat → Nat} {σ : St} {P : Int32 → St → Prop} (h : wx_lastNow σ P) : CtW l G yX1_lastNow cX1_lastNow 1 (some .int) (rmH 1) [.ref (L 0)] (xW G L) σ (pI P) := by
  refine CtW.ofI (by decide) (Nat.le_of_ble_eq_true rfl) fun Z _ K E => ?_
  unfold wx_lastNow at h
  show AX Z 0 0 0 [(0, .ref (L 0))] [] (xW G L σ)
  refine ax_aload_n K 0 rfl dX1_lastNow_0 ?_
  refine xg_servedMany K dX1_lastNow_1 ?_
  refine ax_if_ne (tgt := 11) K dX1_lastNow_4 (by decide) (fun c4 => ?_) (fun c4 => ?_)
  · have h := ax_ie h c4
    refine ax_aload_n K 0 rfl dX1_lastNow_11 ?_
    refine xg_served K dX1_lastNow_12 ?_
    refine ax_aload_n K 0 rfl dX1_lastNow_15 ?_
    refine xg_servedMany K dX1_lastNow_16 ?_
    refine ax_iconst (v := (1 : Int32)) K (by decide) dX1_lastNow_19 ?_
    refine ax_isub K dX1_lastNow_20 ?_
    refine xl_served K h.1 dX1_lastNow_21 ?_
    replace h := h.2
    exact ax_sub [0] rfl (kx_lastNow_j22 K E  (xA_served σ (((xI_servedMany σ) - (1 : Int32))).toNatClampNeg) σ h)
  · have h := ax_it h c4
    refine ax_iconst (v := (-1 : Int32)) K (by decide) dX1_lastNow_7 ?_
    refine ax_goto (tgt := 22) K dX1_lastNow_8 (by decide) ?_
    exact ax_sub [0] rfl (kx_lastNow_j22 K E  (-1 : Int32) σ h)
theorem rx_lastNow {Z : AZ} {G : AG} {cc : ByteArray} {mL hh pc : Nat} {lv : List (Nat × Value)} {rest : List Value} {L : Nat → Nat} {σ : St} (K : AK Z G cc RX1 mL (rmH hh)) (hlt : 1 < hh) (d : decode cc pc = .ok (.invokevirtual 309, 3)) (hrest : (rest.map fun v => v.category).sum ≤ 8) {P : Int32 → St → Prop} (h : sx_lastNow σ  P) (kk : ∀ (r : Int32) (σ' : St), P r σ' → AX Z 0 0 (pc + 3) lv (.int r :: rest) (xW G L σ')) : AX Z 0 0 pc lv (.ref (L 0) :: rest) (xW G L σ) :=
  ax_callV (N0 := 0) (As := []) K (mx_lastNow (sx_lastNow_ok h)) q560 q562 qs15 q117 q563 ⟨rfl, by decide, by decide, by decide⟩ rfl ⟨by show 1 + 1 + 1 ≤ hh + 1; omega, by show 8 + (1 + 11) + 60 * (1 + 1) ≤ 60 * (hh + 1); omega⟩ ⟨Nat.zero_le _, Nat.zero_le _⟩ rfl rfl rfl hrest d (fun r σ' hp => by obtain ⟨v, rfl, hp⟩ := hp; exact kk v σ' hp)
/-! x.setNow -/
set_option maxHeartbeats 4000000 in
theorem kx_setNow_l4 {Z : AZ} {G : AG} {L : Nat → Nat} {P : Int32 → St → Prop} (K : AK Z G cX1_setNow RX1 3 (rmH 1)) (E : AEi Z cX1_setNow .int (xW G L) 0 0 P) : ∀ (n : Nat) (v1 : Int32) (v2 : Int32) (σ : St), wx_setNow_l4 P  n v1 v2 σ → AX Z 0 0 4 [(0, .ref (L 0)), (1, .int v1), (2, .int v2)] [] (xW G L σ) := by
  intro n
  induction n with
  | zero => intro v1 v2 σ h; exact False.elim h
  | succ n ih =>
    intro v1 v2 σ h
    rw [wx_setNow_l4_s] at h
    refine ax_iload_n K 2 rfl dX1_setNow_4 ?_
    refine ax_aload_n K 0 rfl dX1_setNow_5 ?_
    refine xg_servedMany K dX1_setNow_6 ?_
    refine ax_icmp_ge (tgt := 29) K dX1_setNow_9 (by decide) (fun c9 => ?_) (fun c9 => ?_)
    · have h := ax_it h c9
      refine ax_iload_n K 1 rfl dX1_setNow_29 ?_
      exact E _ _ _ _ dX1_setNow_30 rfl h
    · have h := ax_ie h c9
      refine ax_iload_n K 1 rfl dX1_setNow_12 ?_
      refine ax_iconst (v := (1 : Int32)) K (by decide) dX1_setNow_13 ?_
      refine ax_aload_n K 0 rfl dX1_setNow_14 ?_
      refine xg_served K dX1_setNow_15 ?_
      refine ax_iload_n K 2 rfl dX1_setNow_18 ?_
      refine xl_served K h.1 dX1_setNow_19 ?_
      replace h := h.2
      refine ax_ishl K dX1_setNow_20 ?_
      refine ax_ior K dX1_setNow_21 ?_
      refine ax_istore_n (lv' := [(1, .int (v1 ||| ((1 : Int32) <<< ((xA_served σ (v2).toNatClampNeg) &&& 31)))), (0, .ref (L 0)), (2, .int v2)]) K dX1_setNow_22 (by decide) rfl ?_
      refine ax_iinc (lv' := [(2, .int (v2 + (1 : Int32))), (1, .int (v1 ||| ((1 : Int32) <<< ((xA_served σ (v2).toNatClampNeg) &&& 31)))), (0, .ref (L 0))]) (v := (v2 + (1 : Int32))) K 2 dX1_setNow_23 rfl (by rfl) (by decide) rfl ?_
      refine ax_goto (tgt := 4) K dX1_setNow_26 (by decide) ?_
      exact ax_sub [2, 1, 0] rfl (ih (v1 ||| ((1 : Int32) <<< ((xA_served σ (v2).toNatClampNeg) &&& 31))) (v2 + (1 : Int32)) σ h)
set_option maxHeartbeats 4000000 in
theorem mx_setNow {l : Launch} {G : AG} {L : Nat → Nat} {σ : St} {P : Int32 → St → Prop} (h : wx_setNow σ P) : CtW l G yX1_setNow cX1_setNow 3 (some .int) (rmH 1) [.ref (L 0)] (xW G L) σ (pI P) := by
  refine CtW.ofI (by decide) (Nat.le_of_ble_eq_true rfl) fun Z _ K E => ?_
  unfold wx_setNow at h
  show AX Z 0 0 0 [(0, .ref (L 0))] [] (xW G L σ)
  refine ax_iconst (v := (0 : Int32)) K (by decide) dX1_setNow_0 ?_
  refine ax_istore_n (lv' := [(1, .int (0 : Int32)), (0, .ref (L 0))]) K dX1_setNow_1 (by decide) rfl ?_
  refine ax_iconst (v := (0 : Int32)) K (by decide) dX1_setNow_2 ?_
  refine ax_istore_n (lv' := [(2, .int (0 : Int32)), (1, .int (0 : Int32)), (0, .ref (L 0))]) K dX1_setNow_3 (by decide) rfl ?_
  exact ax_sub [2, 1, 0] rfl (h.elim fun n4 h => kx_setNow_l4 K E  n4 (0 : Int32) (0 : Int32) σ h)
theorem rx_setNow {Z : AZ} {G : AG} {cc : ByteArray} {mL hh pc : Nat} {lv : List (Nat × Value)} {rest : List Value} {L : Nat → Nat} {σ : St} (K : AK Z G cc RX1 mL (rmH hh)) (hlt : 1 < hh) (d : decode cc pc = .ok (.invokevirtual 306, 3)) (hrest : (rest.map fun v => v.category).sum ≤ 8) {P : Int32 → St → Prop} (h : sx_setNow σ  P) (kk : ∀ (r : Int32) (σ' : St), P r σ' → AX Z 0 0 (pc + 3) lv (.int r :: rest) (xW G L σ')) : AX Z 0 0 pc lv (.ref (L 0) :: rest) (xW G L σ) :=
  ax_callV (N0 := 0) (As := []) K (mx_setNow (sx_setNow_ok h)) q556 q558 qs14 q117 q559 ⟨rfl, by decide, by decide, by decide⟩ rfl ⟨by show 1 + 1 + 1 ≤ hh + 1; omega, by show 8 + (3 + 11) + 60 * (1 + 1) ≤ 60 * (hh + 1); omega⟩ ⟨Nat.zero_le _, Nat.zero_le _⟩ rfl rfl rfl hrest d (fun r σ' hp => by obtain ⟨v, rfl, hp⟩ := hp; exact kk v σ' hp)
/-! x.sign -/
set_option maxHeartbeats 4000000 in
theorem kx_sign_l13 {Z : AZ} {G : AG} {L : Nat → Nat} {P : Int32 → St → Prop} (K : AK Z G cX1_sign RX1 3 (rmH 1)) (E : AEi Z cX1_sign .int (xW G L) 0 0 P) : ∀ (n : Nat) (v1 : Int32) (v2 : Int32) (σ : St), wx_sign_l13 P  n v1 v2 σ → AX Z 0 0 13 [(0, .ref (L 0)), (1, .int v1), (2, .int v2)] [] (xW G L σ) := by
  intro n
  induction n with
  | zero => intro v1 v2 σ h; exact False.elim h
  | succ n ih =>
    intro v1 v2 σ h
    rw [wx_sign_l13_s] at h
    refine ax_iload_n K 2 rfl dX1_sign_13 ?_
    refine ax_iconst (v := (4 : Int32)) K (by decide) dX1_sign_14 ?_
    refine ax_icmp_ge (tgt := 48) K dX1_sign_15 (by decide) (fun c15 => ?_) (fun c15 => ?_)
    · have h := ax_it h c15
      refine ax_aload_n K 0 rfl dX1_sign_48 ?_
      refine ax_dup K rfl dX1_sign_49 ?_
      refine xg_signMany K dX1_sign_50 ?_
      refine ax_iconst (v := (4 : Int32)) K (by decide) dX1_sign_53 ?_
      refine ax_iadd K dX1_sign_54 ?_
      refine xp_signMany K dX1_sign_55 ?_
      refine ax_aload_n K 0 rfl dX1_sign_58 ?_
      refine xg_signMany K dX1_sign_59 ?_
      exact E _ _ _ _ dX1_sign_62 rfl h
    · have h := ax_ie h c15
      refine ax_aload_n K 0 rfl dX1_sign_18 ?_
      refine xg_text K dX1_sign_19 ?_
      refine ax_aload_n K 0 rfl dX1_sign_22 ?_
      refine xg_signMany K dX1_sign_23 ?_
      refine ax_iload_n K 2 rfl dX1_sign_26 ?_
      refine ax_iadd K dX1_sign_27 ?_
      refine ax_iload_n K 1 rfl dX1_sign_28 ?_
      refine ax_bipush (v := (24 : Int32)) K (by decide) dX1_sign_29 ?_
      refine ax_bipush (v := (8 : Int32)) K (by decide) dX1_sign_31 ?_
      refine ax_iload_n K 2 rfl dX1_sign_33 ?_
      refine ax_imul K dX1_sign_34 ?_
      refine ax_isub K dX1_sign_35 ?_
      refine ax_ishr K dX1_sign_36 ?_
      refine ax_sipush (v := (255 : Int32)) K (by decide) dX1_sign_37 ?_
      refine ax_iand K dX1_sign_40 ?_
      refine xs_text K h.1 dX1_sign_41 ?_
      replace h := h.2
      refine ax_iinc (lv' := [(2, .int (v2 + (1 : Int32))), (0, .ref (L 0)), (1, .int v1)]) (v := (v2 + (1 : Int32))) K 2 dX1_sign_42 rfl (by rfl) (by decide) rfl ?_
      refine ax_goto (tgt := 13) K dX1_sign_45 (by decide) ?_
      exact ax_sub [1, 2, 0] rfl (ih v1 (v2 + (1 : Int32)) (xU_text σ ((xI_signMany σ) + v2) ((v1 >>> (((24 : Int32) - ((8 : Int32) * v2)) &&& 31)) &&& (255 : Int32))) h)
set_option maxHeartbeats 4000000 in
theorem mx_sign {l : Launch} {G : AG} {L : Nat → Nat} {σ : St} {v1 : Int32} {P : Int32 → St → Prop} (h : wx_sign σ v1 P) : CtW l G yX1_sign cX1_sign 3 (some .int) (rmH 1) [.ref (L 0), .int v1] (xW G L) σ (pI P) := by
  refine CtW.ofI (by decide) (Nat.le_of_ble_eq_true rfl) fun Z _ K E => ?_
  unfold wx_sign at h
  show AX Z 0 0 0 [(0, .ref (L 0)), (1, .int v1)] [] (xW G L σ)
  refine ax_aload_n K 0 rfl dX1_sign_0 ?_
  refine xg_signMany K dX1_sign_1 ?_
  refine ax_bipush (v := (76 : Int32)) K (by decide) dX1_sign_4 ?_
  refine ax_icmp_le (tgt := 11) K dX1_sign_6 (by decide) (fun c6 => ?_) (fun c6 => ?_)
  · have h := ax_it h c6
    refine ax_iconst (v := (0 : Int32)) K (by decide) dX1_sign_11 ?_
    refine ax_istore_n (lv' := [(2, .int (0 : Int32)), (0, .ref (L 0)), (1, .int v1)]) K dX1_sign_12 (by decide) rfl ?_
    exact ax_sub [1, 2, 0] rfl (h.elim fun n13 h => kx_sign_l13 K E  n13 v1 (0 : Int32) σ h)
  · have h := ax_ie h c6
    refine ax_iconst (v := (-1 : Int32)) K (by decide) dX1_sign_9 ?_
    exact E _ _ _ _ dX1_sign_10 rfl h

/-! x.stateOf -/
set_option maxHeartbeats 4000000 in
theorem kx_stateOf_j14 {Z : AZ} {G : AG} {P : Int32 → Prop} (K : AK Z G cX1_stateOf RX1 2 (rmH 1)) (E : AEi Z cX1_stateOf .int w0 0 0 (fun v _ => P v)) (σ : St) (s0 : Int32) (s1 : Int32) (h : wx_stateOf_j14 P  s0 s1) : AX Z 0 0 14 [] [.int s1, .int s0] [] := by
  unfold wx_stateOf_j14 at h
  refine ax_iadd K dX1_stateOf_14 ?_
  exact E _ _ _ σ dX1_stateOf_15 rfl h
set_option maxHeartbeats 4000000 in
theorem mx_stateOf {l : Launch} {G : AG} {σ : St} {v0 : Int32} {v1 : Int32} {P : Int32 → Prop} (h : wx_stateOf v0 v1 P) : CtW l G yX1_stateOf cX1_stateOf 2 (some .int) (rmH 1) [.int v0, .int v1] w0 σ (pI (fun v _ => P v)) := by
  refine CtW.ofI (by decide) (Nat.le_of_ble_eq_true rfl) fun Z _ K E => ?_
  unfold wx_stateOf at h
  show AX Z 0 0 0 [(0, .int v0), (1, .int v1)] [] []
  refine ax_bipush (v := (11 : Int32)) K (by decide) dX1_stateOf_0 ?_
  refine ax_iload_n K 0 rfl dX1_stateOf_2 ?_
  refine ax_imul K dX1_stateOf_3 ?_
  refine ax_iload_n K 1 rfl dX1_stateOf_4 ?_
  refine ax_if_ge (tgt := 13) K dX1_stateOf_5 (by decide) (fun c5 => ?_) (fun c5 => ?_)
  · have h := ax_it h c5
    refine ax_iload_n K 1 rfl dX1_stateOf_13 ?_
    exact ax_sub [] rfl (kx_stateOf_j14 K E σ  ((11 : Int32) * v0) v1 h)
  · have h := ax_ie h c5
    refine ax_bipush (v := (10 : Int32)) K (by decide) dX1_stateOf_8 ?_
    refine ax_goto (tgt := 14) K dX1_stateOf_10 (by decide) ?_
    exact ax_sub [] rfl (kx_stateOf_j14 K E σ  ((11 : Int32) * v0) (10 : Int32) h)
theorem rx_stateOf {Z : AZ} {G : AG} {cc : ByteArray} {mL hh pc : Nat} {lv : List (Nat × Value)} {rest : List Value} {ws : va_W} (K : AK Z G cc RX1 mL (rmH hh)) (hlt : 1 < hh) (d : decode cc pc = .ok (.invokestatic 364, 3)) (hrest : (rest.map fun v => v.category).sum ≤ 8) {v0 : Int32} {v1 : Int32} {P : Int32 → Prop} (h : sx_stateOf v0 v1 P) (kk : ∀ (r : Int32) , P r  → AX Z 0 0 (pc + 3) lv (.int r :: rest) ws) : AX Z 0 0 pc lv (.int v1 :: .int v0 :: rest) ws :=
  ax_callS (N0 := 2) (σ := σ00) (As := [.int v0, .int v1]) K (mx_stateOf (sx_stateOf_ok h)) q692 q693 q117 q694 ⟨by decide, by decide, by decide⟩ rfl ⟨by show 1 + 1 + 1 ≤ hh + 1; omega, by show 8 + (2 + 11) + 60 * (1 + 1) ≤ 60 * (hh + 1); omega⟩ ⟨Nat.zero_le _, Nat.zero_le _⟩ rfl hrest d (fun r σ' hp => by obtain ⟨v, rfl, hp⟩ := hp; exact kk v hp)
/-! x.stuffsOf -/
set_option maxHeartbeats 4000000 in
theorem kx_stuffsOf_j18 {Z : AZ} {G : AG} {L : Nat → Nat} {P : Int32 → St → Prop} (K : AK Z G cX1_stuffsOf RX1 3 (rmH 1)) (E : AEi Z cX1_stuffsOf .int (xW G L) 0 0 P) (s0 : Int32) (σ : St) (h : wx_stuffsOf_j18 P  s0 σ) : AX Z 0 0 18 [(0, .ref (L 0))] [.int s0] (xW G L σ) := by
  unfold wx_stuffsOf_j18 at h
  exact E _ _ _ _ dX1_stuffsOf_18 rfl h
set_option maxHeartbeats 4000000 in
theorem mx_stuffsOf {l : Launch} {G : AG} {L : Nat → Nat} {σ : St} {v1 : Int32} {v2 : Int32} {P : Int32 → St → Prop} (h : wx_stuffsOf σ v1 v2 P) : CtW l G yX1_stuffsOf cX1_stuffsOf 3 (some .int) (rmH 1) [.ref (L 0), .int v1, .int v2] (xW G L) σ (pI P) := by
  refine CtW.ofI (by decide) (Nat.le_of_ble_eq_true rfl) fun Z _ K E => ?_
  unfold wx_stuffsOf at h
  show AX Z 0 0 0 [(0, .ref (L 0)), (1, .int v1), (2, .int v2)] [] (xW G L σ)
  refine ax_iload_n K 1 rfl dX1_stuffsOf_0 ?_
  refine ax_aload_n K 0 rfl dX1_stuffsOf_1 ?_
  refine xg_dishes K dX1_stuffsOf_2 ?_
  refine ax_icmp_ne (tgt := 12) K dX1_stuffsOf_5 (by decide) (fun c5 => ?_) (fun c5 => ?_)
  · have h := ax_ie h c5
    refine ax_aload_n K 0 rfl dX1_stuffsOf_12 ?_
    refine xg_stuffs K dX1_stuffsOf_13 ?_
    refine ax_iload_n K 1 rfl dX1_stuffsOf_16 ?_
    refine xl_stuffs K h.1 dX1_stuffsOf_17 ?_
    replace h := h.2
    exact ax_sub [0] rfl (kx_stuffsOf_j18 K E  (xA_stuffs σ (v1).toNatClampNeg) σ h)
  · have h := ax_it h c5
    refine ax_iload_n K 2 rfl dX1_stuffsOf_8 ?_
    refine ax_goto (tgt := 18) K dX1_stuffsOf_9 (by decide) ?_
    exact ax_sub [0] rfl (kx_stuffsOf_j18 K E  v2 σ h)
theorem rx_stuffsOf {Z : AZ} {G : AG} {cc : ByteArray} {mL hh pc : Nat} {lv : List (Nat × Value)} {rest : List Value} {L : Nat → Nat} {σ : St} (K : AK Z G cc RX1 mL (rmH hh)) (hlt : 1 < hh) (d : decode cc pc = .ok (.invokevirtual 434, 3)) (hrest : (rest.map fun v => v.category).sum ≤ 8) {v1 : Int32} {v2 : Int32} {P : Int32 → St → Prop} (h : sx_stuffsOf σ v1 v2 P) (kk : ∀ (r : Int32) (σ' : St), P r σ' → AX Z 0 0 (pc + 3) lv (.int r :: rest) (xW G L σ')) : AX Z 0 0 pc lv (.int v2 :: .int v1 :: .ref (L 0) :: rest) (xW G L σ) :=
  ax_callV (N0 := 2) (As := [.int v1, .int v2]) K (mx_stuffsOf (sx_stuffsOf_ok h)) q903 q905 qs57 q117 q906 ⟨rfl, by decide, by decide, by decide⟩ rfl ⟨by show 1 + 1 + 1 ≤ hh + 1; omega, by show 8 + (3 + 11) + 60 * (1 + 1) ≤ 60 * (hh + 1); omega⟩ ⟨Nat.zero_le _, Nat.zero_le _⟩ rfl rfl rfl hrest d (fun r σ' hp => by obtain ⟨v, rfl, hp⟩ := hp; exact kk v σ' hp)
/-! x.swaps -/
set_option maxHeartbeats 4000000 in
theorem mx_swaps {l : Launch} {G : AG} {L : Nat → Nat} {σ : St} {v1 : Int32} {v2 : Int32} {v3 : Int32} {P : St → Prop} (h : wx_swaps σ v1 v2 v3 P) : CtW l G yX1_swaps cX1_swaps 5 none (rmH 1) [.ref (L 0), .int v1, .int v2, .int v3] (xW G L) σ (pV P) := by
  refine CtW.ofV (by decide) (Nat.le_of_ble_eq_true rfl) fun Z _ K E => ?_
  unfold wx_swaps at h
  show AX Z 0 0 0 [(0, .ref (L 0)), (1, .int v1), (2, .int v2), (3, .int v3)] [] (xW G L σ)
  refine ax_aload_n K 0 rfl dX1_swaps_0 ?_
  refine xg_menu K dX1_swaps_1 ?_
  refine ax_bipush (v := (10 : Int32)) K (by decide) dX1_swaps_4 ?_
  refine ax_iload_n K 1 rfl dX1_swaps_6 ?_
  refine ax_imul K dX1_swaps_7 ?_
  refine ax_iload_n K 2 rfl dX1_swaps_8 ?_
  refine ax_iadd K dX1_swaps_9 ?_
  refine xl_menu K h.1 dX1_swaps_10 ?_
  replace h := h.2
  refine ax_istore (lv' := [(4, .int (xA_menu σ ((((10 : Int32) * v1) + v2)).toNatClampNeg)), (0, .ref (L 0)), (1, .int v1), (2, .int v2), (3, .int v3)]) K dX1_swaps_11 (by decide) rfl ?_
  refine ax_aload_n K 1 rfl dX1_swaps_13 ?_
  refine xg_menu K dX1_swaps_14 ?_
  refine ax_bipush (v := (10 : Int32)) K (by decide) dX1_swaps_17 ?_
  refine ax_iload_n K 2 rfl dX1_swaps_19 ?_
  refine ax_imul K dX1_swaps_20 ?_
  refine ax_iload_n K 3 rfl dX1_swaps_21 ?_
  refine ax_iadd K dX1_swaps_22 ?_
  refine ax_aload_n K 1 rfl dX1_swaps_23 ?_
  refine xg_menu K dX1_swaps_24 ?_
  refine ax_bipush (v := (10 : Int32)) K (by decide) dX1_swaps_27 ?_
  refine ax_iload_n K 2 rfl dX1_swaps_29 ?_
  refine ax_imul K dX1_swaps_30 ?_
  refine ax_iload_n K 4 rfl dX1_swaps_31 ?_
  refine ax_iadd K dX1_swaps_32 ?_
  refine xl_menu K h.1 dX1_swaps_33 ?_
  replace h := h.2
  refine xs_menu K h.1 dX1_swaps_34 ?_
  replace h := h.2
  refine ax_aload_n K 1 rfl dX1_swaps_35 ?_
  refine xg_menu K dX1_swaps_36 ?_
  refine ax_bipush (v := (10 : Int32)) K (by decide) dX1_swaps_39 ?_
  refine ax_iload_n K 2 rfl dX1_swaps_41 ?_
  refine ax_imul K dX1_swaps_42 ?_
  refine ax_iload_n K 4 rfl dX1_swaps_43 ?_
  refine ax_iadd K dX1_swaps_44 ?_
  refine ax_iload K 0 rfl dX1_swaps_45 ?_
  refine xs_menu K h.1 dX1_swaps_47 ?_
  replace h := h.2
  exact E _ _ _ dX1_swaps_48 h
theorem rx_swaps {Z : AZ} {G : AG} {cc : ByteArray} {mL hh pc : Nat} {lv : List (Nat × Value)} {rest : List Value} {L : Nat → Nat} {σ : St} (K : AK Z G cc RX1 mL (rmH hh)) (hlt : 1 < hh) (d : decode cc pc = .ok (.invokevirtual 347, 3)) (hrest : (rest.map fun v => v.category).sum ≤ 8) {v1 : Int32} {v2 : Int32} {v3 : Int32} {P : St → Prop} (h : sx_swaps σ v1 v2 v3 P) (kk : ∀ (σ' : St), P σ' → AX Z 0 0 (pc + 3) lv (rest) (xW G L σ')) : AX Z 0 0 pc lv (.int v3 :: .int v2 :: .int v1 :: .ref (L 0) :: rest) (xW G L σ) :=
  ax_callV (N0 := 3) (As := [.int v1, .int v2, .int v3]) K (mx_swaps (sx_swaps_ok h)) q651 q653 qs28 q117 q654 ⟨rfl, by decide, by decide, by decide⟩ rfl ⟨by show 1 + 1 + 1 ≤ hh + 1; omega, by show 8 + (5 + 11) + 60 * (1 + 1) ≤ 60 * (hh + 1); omega⟩ ⟨Nat.zero_le _, Nat.zero_le _⟩ rfl rfl rfl hrest d (fun r σ' hp => by obtain ⟨rfl, hp⟩ := hp; exact kk σ' hp)
/-! x.tells -/
set_option maxHeartbeats 4000000 in
theorem mx_tells {l : Launch} {G : AG} {L : Nat → Nat} {σ : St} {v1 : Int32} {P : St → Prop} (h : wx_tells σ v1 P) : CtW l G yX1_tells cX1_tells 2 none (rmH 1) [.ref (L 0), .int v1] (xW G L) σ (pV P) := by
  refine CtW.ofV (by decide) (Nat.le_of_ble_eq_true rfl) fun Z _ K E => ?_
  unfold wx_tells at h
  show AX Z 0 0 0 [(0, .ref (L 0)), (1, .int v1)] [] (xW G L σ)
  refine ax_aload_n K 0 rfl dX1_tells_0 ?_
  refine xg_row K dX1_tells_1 ?_
  refine ax_aload_n K 0 rfl dX1_tells_4 ?_
  refine xg_rowMany K dX1_tells_5 ?_
  refine ax_iload_n K 1 rfl dX1_tells_8 ?_
  refine xs_row K h.1 dX1_tells_9 ?_
  replace h := h.2
  refine ax_aload_n K 0 rfl dX1_tells_10 ?_
  refine ax_dup K rfl dX1_tells_11 ?_
  refine xg_rowMany K dX1_tells_12 ?_
  refine ax_iconst (v := (1 : Int32)) K (by decide) dX1_tells_15 ?_
  refine ax_iadd K dX1_tells_16 ?_
  refine xp_rowMany K dX1_tells_17 ?_
  exact E _ _ _ dX1_tells_20 h
theorem rx_tells {Z : AZ} {G : AG} {cc : ByteArray} {mL hh pc : Nat} {lv : List (Nat × Value)} {rest : List Value} {L : Nat → Nat} {σ : St} (K : AK Z G cc RX1 mL (rmH hh)) (hlt : 1 < hh) (d : decode cc pc = .ok (.invokevirtual 340, 3)) (hrest : (rest.map fun v => v.category).sum ≤ 8) {v1 : Int32} {P : St → Prop} (h : sx_tells σ v1 P) (kk : ∀ (σ' : St), P σ' → AX Z 0 0 (pc + 3) lv (rest) (xW G L σ')) : AX Z 0 0 pc lv (.int v1 :: .ref (L 0) :: rest) (xW G L σ) :=
  ax_callV (N0 := 1) (As := [.int v1]) K (mx_tells (sx_tells_ok h)) q639 q641 qs26 q117 q642 ⟨rfl, by decide, by decide, by decide⟩ rfl ⟨by show 1 + 1 + 1 ≤ hh + 1; omega, by show 8 + (2 + 11) + 60 * (1 + 1) ≤ 60 * (hh + 1); omega⟩ ⟨Nat.zero_le _, Nat.zero_le _⟩ rfl rfl rfl hrest d (fun r σ' hp => by obtain ⟨rfl, hp⟩ := hp; exact kk σ' hp)
/-! x.again -/
set_option maxHeartbeats 4000000 in
theorem mx_again {l : Launch} {G : AG} {L : Nat → Nat} {σ : St} {v1 : Int32} {P : Int32 → St → Prop} (h : wx_again σ v1 P) : CtW l G yX1_again cX1_again 3 (some .boolean) (rmH 2) [.ref (L 0), .int v1] (xW G L) σ (pI P) := by
  refine CtW.ofI (by decide) (Nat.le_of_ble_eq_true rfl) fun Z _ K E => ?_
  unfold wx_again at h
  show AX Z 0 0 0 [(0, .ref (L 0)), (1, .int v1)] [] (xW G L σ)
  refine ax_iload_n K 1 rfl dX1_again_0 ?_
  refine ax_i2l K dX1_again_1 ?_
  refine ax_lconst (v := (0 : Int64)) K (by decide) dX1_again_2 ?_
  refine ax_lconst (v := (1 : Int64)) K (by decide) dX1_again_3 ?_
  refine rx_in K (by decide) dX1_again_4 (Nat.le_of_ble_eq_true rfl) h (fun r4 h => ?_)
  refine ax_if_eq (tgt := 40) K dX1_again_7 (by decide) (fun c7 => ?_) (fun c7 => ?_)
  · have h := ax_it h c7
    refine ax_iconst (v := (0 : Int32)) K (by decide) dX1_again_40 ?_
    exact E _ _ _ _ dX1_again_41 rfl h
  · have h := ax_ie h c7
    refine ax_aload_n K 0 rfl dX1_again_10 ?_
    refine xg_isKept K dX1_again_11 ?_
    refine ax_iload_n K 1 rfl dX1_again_14 ?_
    refine xl_isKept K h.1 dX1_again_15 ?_
    replace h := h.2
    refine ax_if_eq (tgt := 40) K dX1_again_16 (by decide) (fun c16 => ?_) (fun c16 => ?_)
    · have h := ax_it h c16
      refine ax_iconst (v := (0 : Int32)) K (by decide) dX1_again_40 ?_
      exact E _ _ _ _ dX1_again_41 rfl h
    · have h := ax_ie h c16
      refine ax_aload_n K 0 rfl dX1_again_19 ?_
      refine xg_kept K dX1_again_20 ?_
      refine ax_bipush (v := (23 : Int32)) K (by decide) dX1_again_23 ?_
      refine ax_iload_n K 1 rfl dX1_again_25 ?_
      refine ax_imul K dX1_again_26 ?_
      refine ax_bipush (v := (23 : Int32)) K (by decide) dX1_again_27 ?_
      refine ax_iadd K dX1_again_29 ?_
      refine ax_iconst (v := (1 : Int32)) K (by decide) dX1_again_30 ?_
      refine ax_isub K dX1_again_31 ?_
      refine xl_kept K h.1 dX1_again_32 ?_
      replace h := h.2
      refine ax_aload_n K 0 rfl dX1_again_33 ?_
      refine xg_dishes K dX1_again_34 ?_
      refine ax_icmp_eq (tgt := 42) K dX1_again_37 (by decide) (fun c37 => ?_) (fun c37 => ?_)
      · have h := ax_it h c37
        refine ax_bipush (v := (23 : Int32)) K (by decide) dX1_again_42 ?_
        refine ax_iload_n K 1 rfl dX1_again_44 ?_
        refine ax_imul K dX1_again_45 ?_
        refine ax_istore_n (lv' := [(2, .int ((23 : Int32) * v1)), (0, .ref (L 0)), (1, .int v1)]) K dX1_again_46 (by decide) rfl ?_
        refine ax_aload_n K 1 rfl dX1_again_47 ?_
        refine xg_kept K dX1_again_48 ?_
        refine ax_iload_n K 0 rfl dX1_again_51 ?_
        refine ax_aload_n K 1 rfl dX1_again_52 ?_
        refine xg_stores K dX1_again_53 ?_
        refine ax_iconst (v := (0 : Int32)) K (by decide) dX1_again_56 ?_
        refine ax_bipush (v := (8 : Int32)) K (by decide) dX1_again_57 ?_
        refine xc_kept_stores K h.1 (Nat.le_of_ble_eq_true rfl) (Nat.le_of_ble_eq_true rfl) dX1_again_59 ?_
        replace h := h.2
        refine ax_aload_n K 1 rfl dX1_again_62 ?_
        refine xg_kept K dX1_again_63 ?_
        refine ax_iload_n K 0 rfl dX1_again_66 ?_
        refine ax_bipush (v := (8 : Int32)) K (by decide) dX1_again_67 ?_
        refine ax_iadd K dX1_again_69 ?_
        refine ax_aload_n K 1 rfl dX1_again_70 ?_
        refine xg_law K dX1_again_71 ?_
        refine ax_iconst (v := (0 : Int32)) K (by decide) dX1_again_74 ?_
        refine ax_iconst (v := (3 : Int32)) K (by decide) dX1_again_75 ?_
        refine xc_kept_law K h.1 (Nat.le_of_ble_eq_true rfl) (Nat.le_of_ble_eq_true rfl) dX1_again_76 ?_
        replace h := h.2
        refine ax_aload_n K 1 rfl dX1_again_79 ?_
        refine xg_kept K dX1_again_80 ?_
        refine ax_iload_n K 0 rfl dX1_again_83 ?_
        refine ax_bipush (v := (8 : Int32)) K (by decide) dX1_again_84 ?_
        refine ax_iadd K dX1_again_86 ?_
        refine ax_iconst (v := (3 : Int32)) K (by decide) dX1_again_87 ?_
        refine ax_iadd K dX1_again_88 ?_
        refine ax_aload_n K 1 rfl dX1_again_89 ?_
        refine xg_served K dX1_again_90 ?_
        refine ax_iconst (v := (0 : Int32)) K (by decide) dX1_again_93 ?_
        refine ax_bipush (v := (10 : Int32)) K (by decide) dX1_again_94 ?_
        refine xc_kept_served K h.1 (Nat.le_of_ble_eq_true rfl) (Nat.le_of_ble_eq_true rfl) dX1_again_96 ?_
        replace h := h.2
        refine ax_aload_n K 1 rfl dX1_again_99 ?_
        refine ax_aload_n K 1 rfl dX1_again_100 ?_
        refine xg_kept K dX1_again_101 ?_
        refine ax_iload_n K 0 rfl dX1_again_104 ?_
        refine ax_bipush (v := (23 : Int32)) K (by decide) dX1_again_105 ?_
        refine ax_iadd K dX1_again_107 ?_
        refine ax_iconst (v := (2 : Int32)) K (by decide) dX1_again_108 ?_
        refine ax_isub K dX1_again_109 ?_
        refine xl_kept K h.1 dX1_again_110 ?_
        replace h := h.2
        refine xp_servedMany K dX1_again_111 ?_
        refine ax_iconst (v := (1 : Int32)) K (by decide) dX1_again_114 ?_
        exact E _ _ _ _ dX1_again_115 rfl h
      · have h := ax_ie h c37
        refine ax_iconst (v := (0 : Int32)) K (by decide) dX1_again_40 ?_
        exact E _ _ _ _ dX1_again_41 rfl h

/-! x.arePair -/
set_option maxHeartbeats 4000000 in
theorem kx_arePair_j30 {Z : AZ} {G : AG} {L : Nat → Nat} {P : Int32 → St → Prop} (K : AK Z G cX1_arePair RX1 3 (rmH 2)) (E : AEi Z cX1_arePair .boolean (xW G L) 0 0 P) (s0 : Int32) (σ : St) (h : wx_arePair_j30 P  s0 σ) : AX Z 0 0 30 [(0, .ref (L 0))] [.int s0] (xW G L σ) := by
  unfold wx_arePair_j30 at h
  exact E _ _ _ _ dX1_arePair_30 h.1 h.2
set_option maxHeartbeats 4000000 in
theorem mx_arePair {l : Launch} {G : AG} {L : Nat → Nat} {σ : St} {v1 : Int32} {v2 : Int32} {P : Int32 → St → Prop} (h : wx_arePair σ v1 v2 P) : CtW l G yX1_arePair cX1_arePair 3 (some .boolean) (rmH 2) [.ref (L 0), .int v1, .int v2] (xW G L) σ (pI P) := by
  refine CtW.ofI (by decide) (Nat.le_of_ble_eq_true rfl) fun Z _ K E => ?_
  unfold wx_arePair at h
  show AX Z 0 0 0 [(0, .ref (L 0)), (1, .int v1), (2, .int v2)] [] (xW G L σ)
  refine ax_aload_n K 0 rfl dX1_arePair_0 ?_
  refine xg_stuffs K dX1_arePair_1 ?_
  refine ax_iload_n K 1 rfl dX1_arePair_4 ?_
  refine xl_stuffs K h.1 dX1_arePair_5 ?_
  replace h := h.2
  refine ax_aload_n K 0 rfl dX1_arePair_6 ?_
  refine xg_stuffs K dX1_arePair_7 ?_
  refine ax_iload_n K 2 rfl dX1_arePair_10 ?_
  refine xl_stuffs K h.1 dX1_arePair_11 ?_
  replace h := h.2
  refine ax_iand K dX1_arePair_12 ?_
  refine rx_bitCount K (by decide) dX1_arePair_13 (Nat.le_of_ble_eq_true rfl) ?_
  refine ax_aload_n K 0 rfl dX1_arePair_16 ?_
  refine xg_law K dX1_arePair_17 ?_
  refine ax_iconst (v := (0 : Int32)) K (by decide) dX1_arePair_20 ?_
  refine xl_law K h.1 dX1_arePair_21 ?_
  replace h := h.2
  refine ax_icmp_lt (tgt := 29) K dX1_arePair_22 (by decide) (fun c22 => ?_) (fun c22 => ?_)
  · have h := ax_it h c22
    refine ax_iconst (v := (0 : Int32)) K (by decide) dX1_arePair_29 ?_
    exact ax_sub [0] rfl (kx_arePair_j30 K E  (0 : Int32) σ h)
  · have h := ax_ie h c22
    refine ax_iconst (v := (1 : Int32)) K (by decide) dX1_arePair_25 ?_
    refine ax_goto (tgt := 30) K dX1_arePair_26 (by decide) ?_
    exact ax_sub [0] rfl (kx_arePair_j30 K E  (1 : Int32) σ h)
theorem rx_arePair {Z : AZ} {G : AG} {cc : ByteArray} {mL hh pc : Nat} {lv : List (Nat × Value)} {rest : List Value} {L : Nat → Nat} {σ : St} (K : AK Z G cc RX1 mL (rmH hh)) (hlt : 2 < hh) (d : decode cc pc = .ok (.invokevirtual 290, 3)) (hrest : (rest.map fun v => v.category).sum ≤ 8) {v1 : Int32} {v2 : Int32} {P : Int32 → St → Prop} (h : sx_arePair σ v1 v2 P) (kk : ∀ (r : Int32) (σ' : St), P r σ' → AX Z 0 0 (pc + 3) lv (.int r :: rest) (xW G L σ')) : AX Z 0 0 pc lv (.int v2 :: .int v1 :: .ref (L 0) :: rest) (xW G L σ) :=
  ax_callV (N0 := 2) (As := [.int v1, .int v2]) K (mx_arePair (sx_arePair_ok h)) q571 q573 qs17 q117 q574 ⟨rfl, by decide, by decide, by decide⟩ rfl ⟨by show 2 + 1 + 1 ≤ hh + 1; omega, by show 8 + (3 + 11) + 60 * (2 + 1) ≤ 60 * (hh + 1); omega⟩ ⟨Nat.zero_le _, Nat.zero_le _⟩ rfl rfl rfl hrest d (fun r σ' hp => by obtain ⟨v, rfl, hp⟩ := hp; exact kk v σ' hp)
/-! x.costOf -/
set_option maxHeartbeats 4000000 in
theorem kx_costOf_j31 {Z : AZ} {G : AG} {L : Nat → Nat} {P : Int32 → St → Prop} (K : AK Z G cX1_costOf RX1 4 (rmH 2)) (E : AEi Z cX1_costOf .int (xW G L) 0 0 P) {K4 : Int32 → Int32 → Int32 → St → Prop} (hK4 : ∀ (v1 : Int32) (v2 : Int32) (v3 : Int32) (σ : St), K4 v1 v2 v3 σ → AX Z 0 0 4 [(0, .ref (L 0)), (1, .int v1), (2, .int v2), (3, .int v3)] [] (xW G L σ)) (v1 : Int32) (v3 : Int32) (s0 : Int32) (s1 : Int32) (σ : St) (h : wx_costOf_j31 P K4 v1 v3 s0 s1 σ) : AX Z 0 0 31 [(0, .ref (L 0)), (1, .int v1), (3, .int v3)] [.int s1, .int s0] (xW G L σ) := by
  unfold wx_costOf_j31 at h
  refine ax_iadd K dX1_costOf_31 ?_
  refine ax_istore_n (lv' := [(2, .int (s0 + s1)), (0, .ref (L 0)), (1, .int v1), (3, .int v3)]) K dX1_costOf_32 (by decide) rfl ?_
  refine ax_iinc (lv' := [(3, .int (v3 + (1 : Int32))), (2, .int (s0 + s1)), (0, .ref (L 0)), (1, .int v1)]) (v := (v3 + (1 : Int32))) K 3 dX1_costOf_33 rfl (by rfl) (by decide) rfl ?_
  refine ax_goto (tgt := 4) K dX1_costOf_36 (by decide) ?_
  exact ax_sub [2, 3, 1, 0] rfl (hK4 v1 (s0 + s1) (v3 + (1 : Int32)) σ h)
set_option maxHeartbeats 4000000 in
theorem kx_costOf_l4 {Z : AZ} {G : AG} {L : Nat → Nat} {P : Int32 → St → Prop} (K : AK Z G cX1_costOf RX1 4 (rmH 2)) (E : AEi Z cX1_costOf .int (xW G L) 0 0 P) : ∀ (n : Nat) (v1 : Int32) (v2 : Int32) (v3 : Int32) (σ : St), wx_costOf_l4 P  n v1 v2 v3 σ → AX Z 0 0 4 [(0, .ref (L 0)), (1, .int v1), (2, .int v2), (3, .int v3)] [] (xW G L σ) := by
  intro n
  induction n with
  | zero => intro v1 v2 v3 σ h; exact False.elim h
  | succ n ih =>
    intro v1 v2 v3 σ h
    rw [wx_costOf_l4_s] at h
    refine ax_iload_n K 3 rfl dX1_costOf_4 ?_
    refine ax_aload_n K 0 rfl dX1_costOf_5 ?_
    refine xg_dishes K dX1_costOf_6 ?_
    refine ax_icmp_ge (tgt := 39) K dX1_costOf_9 (by decide) (fun c9 => ?_) (fun c9 => ?_)
    · have h := ax_it h c9
      refine ax_iload_n K 2 rfl dX1_costOf_39 ?_
      exact E _ _ _ _ dX1_costOf_40 rfl h
    · have h := ax_ie h c9
      refine ax_iload_n K 2 rfl dX1_costOf_12 ?_
      refine ax_iload_n K 1 rfl dX1_costOf_13 ?_
      refine ax_iload_n K 3 rfl dX1_costOf_14 ?_
      refine rx_has K (by decide) dX1_costOf_15 (Nat.le_of_ble_eq_true rfl) h (fun r15 h => ?_)
      refine ax_if_eq (tgt := 30) K dX1_costOf_18 (by decide) (fun c18 => ?_) (fun c18 => ?_)
      · have h := ax_it h c18
        refine ax_iconst (v := (0 : Int32)) K (by decide) dX1_costOf_30 ?_
        exact ax_sub [0, 1, 3] rfl (kx_costOf_j31 K E ih v1 v3 v2 (0 : Int32) σ h)
      · have h := ax_ie h c18
        refine ax_aload_n K 0 rfl dX1_costOf_21 ?_
        refine xg_cost K dX1_costOf_22 ?_
        refine ax_iload_n K 3 rfl dX1_costOf_25 ?_
        refine xl_cost K h.1 dX1_costOf_26 ?_
        replace h := h.2
        refine ax_goto (tgt := 31) K dX1_costOf_27 (by decide) ?_
        exact ax_sub [0, 1, 3] rfl (kx_costOf_j31 K E ih v1 v3 v2 (xA_cost σ (v3).toNatClampNeg) σ h)
set_option maxHeartbeats 4000000 in
theorem mx_costOf {l : Launch} {G : AG} {L : Nat → Nat} {σ : St} {v1 : Int32} {P : Int32 → St → Prop} (h : wx_costOf σ v1 P) : CtW l G yX1_costOf cX1_costOf 4 (some .int) (rmH 2) [.ref (L 0), .int v1] (xW G L) σ (pI P) := by
  refine CtW.ofI (by decide) (Nat.le_of_ble_eq_true rfl) fun Z _ K E => ?_
  unfold wx_costOf at h
  show AX Z 0 0 0 [(0, .ref (L 0)), (1, .int v1)] [] (xW G L σ)
  refine ax_iconst (v := (0 : Int32)) K (by decide) dX1_costOf_0 ?_
  refine ax_istore_n (lv' := [(2, .int (0 : Int32)), (0, .ref (L 0)), (1, .int v1)]) K dX1_costOf_1 (by decide) rfl ?_
  refine ax_iconst (v := (0 : Int32)) K (by decide) dX1_costOf_2 ?_
  refine ax_istore_n (lv' := [(3, .int (0 : Int32)), (2, .int (0 : Int32)), (0, .ref (L 0)), (1, .int v1)]) K dX1_costOf_3 (by decide) rfl ?_
  exact ax_sub [2, 3, 1, 0] rfl (h.elim fun n4 h => kx_costOf_l4 K E  n4 v1 (0 : Int32) (0 : Int32) σ h)
theorem rx_costOf {Z : AZ} {G : AG} {cc : ByteArray} {mL hh pc : Nat} {lv : List (Nat × Value)} {rest : List Value} {L : Nat → Nat} {σ : St} (K : AK Z G cc RX1 mL (rmH hh)) (hlt : 2 < hh) (d : decode cc pc = .ok (.invokevirtual 402, 3)) (hrest : (rest.map fun v => v.category).sum ≤ 8) {v1 : Int32} {P : Int32 → St → Prop} (h : sx_costOf σ v1 P) (kk : ∀ (r : Int32) (σ' : St), P r σ' → AX Z 0 0 (pc + 3) lv (.int r :: rest) (xW G L σ')) : AX Z 0 0 pc lv (.int v1 :: .ref (L 0) :: rest) (xW G L σ) :=
  ax_callV (N0 := 1) (As := [.int v1]) K (mx_costOf (sx_costOf_ok h)) q794 q796 qs43 q117 q797 ⟨rfl, by decide, by decide, by decide⟩ rfl ⟨by show 2 + 1 + 1 ≤ hh + 1; omega, by show 8 + (4 + 11) + 60 * (2 + 1) ≤ 60 * (hh + 1); omega⟩ ⟨Nat.zero_le _, Nat.zero_le _⟩ rfl rfl rfl hrest d (fun r σ' hp => by obtain ⟨v, rfl, hp⟩ := hp; exact kk v σ' hp)
/-! x.eatenBy -/
set_option maxHeartbeats 4000000 in
theorem kx_eatenBy_j51 {Z : AZ} {G : AG} {L : Nat → Nat} {P : Int32 → St → Prop} (K : AK Z G cX1_eatenBy RX1 5 (rmH 2)) (E : AEi Z cX1_eatenBy .int (xW G L) 0 0 P) {K5 : Int32 → Int32 → Int32 → Int32 → St → Prop} (hK5 : ∀ (v1 : Int32) (v2 : Int32) (v3 : Int32) (v4 : Int32) (σ : St), K5 v1 v2 v3 v4 σ → AX Z 0 0 5 [(0, .ref (L 0)), (1, .int v1), (2, .int v2), (3, .int v3), (4, .int v4)] [] (xW G L σ)) (v1 : Int32) (v2 : Int32) (v4 : Int32) (s0 : Int32) (s1 : Int32) (σ : St) (h : wx_eatenBy_j51 P K5 v1 v2 v4 s0 s1 σ) : AX Z 0 0 51 [(0, .ref (L 0)), (1, .int v1), (2, .int v2), (4, .int v4)] [.int s1, .int s0] (xW G L σ) := by
  unfold wx_eatenBy_j51 at h
  refine ax_ior K dX1_eatenBy_51 ?_
  refine ax_istore_n (lv' := [(3, .int (s0 ||| s1)), (0, .ref (L 0)), (1, .int v1), (2, .int v2), (4, .int v4)]) K dX1_eatenBy_52 (by decide) rfl ?_
  refine ax_iinc (lv' := [(4, .int (v4 + (1 : Int32))), (3, .int (s0 ||| s1)), (0, .ref (L 0)), (1, .int v1), (2, .int v2)]) (v := (v4 + (1 : Int32))) K 4 dX1_eatenBy_53 rfl (by rfl) (by decide) rfl ?_
  refine ax_goto (tgt := 5) K dX1_eatenBy_56 (by decide) ?_
  exact ax_sub [2, 3, 4, 1, 0] rfl (hK5 v1 v2 (s0 ||| s1) (v4 + (1 : Int32)) σ h)
set_option maxHeartbeats 4000000 in
theorem kx_eatenBy_l5 {Z : AZ} {G : AG} {L : Nat → Nat} {P : Int32 → St → Prop} (K : AK Z G cX1_eatenBy RX1 5 (rmH 2)) (E : AEi Z cX1_eatenBy .int (xW G L) 0 0 P) : ∀ (n : Nat) (v1 : Int32) (v2 : Int32) (v3 : Int32) (v4 : Int32) (σ : St), wx_eatenBy_l5 P  n v1 v2 v3 v4 σ → AX Z 0 0 5 [(0, .ref (L 0)), (1, .int v1), (2, .int v2), (3, .int v3), (4, .int v4)] [] (xW G L σ) := by
  intro n
  induction n with
  | zero => intro v1 v2 v3 v4 σ h; exact False.elim h
  | succ n ih =>
    intro v1 v2 v3 v4 σ h
    rw [wx_eatenBy_l5_s] at h
    refine ax_iload K 4 rfl dX1_eatenBy_5 ?_
    refine ax_aload_n K 0 rfl dX1_eatenBy_7 ?_
    refine xg_menuMany K dX1_eatenBy_8 ?_
    refine ax_iload_n K 1 rfl dX1_eatenBy_11 ?_
    refine xl_menuMany K h.1 dX1_eatenBy_12 ?_
    replace h := h.2
    refine ax_icmp_ge (tgt := 59) K dX1_eatenBy_13 (by decide) (fun c13 => ?_) (fun c13 => ?_)
    · have h := ax_it h c13
      refine ax_iload_n K 3 rfl dX1_eatenBy_59 ?_
      exact E _ _ _ _ dX1_eatenBy_60 rfl h
    · have h := ax_ie h c13
      refine ax_iload_n K 3 rfl dX1_eatenBy_16 ?_
      refine ax_aload_n K 0 rfl dX1_eatenBy_17 ?_
      refine ax_aload_n K 0 rfl dX1_eatenBy_18 ?_
      refine ax_iload_n K 1 rfl dX1_eatenBy_19 ?_
      refine ax_iload K 4 rfl dX1_eatenBy_20 ?_
      refine rx_dishAt K (by decide) dX1_eatenBy_22 (Nat.le_of_ble_eq_true rfl) h (fun r22 σ22 h => ?_)
      refine rx_hungryAt K (by decide) dX1_eatenBy_25 (Nat.le_of_ble_eq_true rfl) h (fun r25 σ25 h => ?_)
      refine ax_iload_n K 2 rfl dX1_eatenBy_28 ?_
      refine rx_has K (by decide) dX1_eatenBy_29 (Nat.le_of_ble_eq_true rfl) h (fun r29 h => ?_)
      refine ax_if_eq (tgt := 39) K dX1_eatenBy_32 (by decide) (fun c32 => ?_) (fun c32 => ?_)
      · have h := ax_it h c32
        refine ax_aload_n K 0 rfl dX1_eatenBy_39 ?_
        refine xg_stuffs K dX1_eatenBy_40 ?_
        refine ax_aload_n K 0 rfl dX1_eatenBy_43 ?_
        refine ax_iload_n K 1 rfl dX1_eatenBy_44 ?_
        refine ax_iload K 4 rfl dX1_eatenBy_45 ?_
        refine rx_dishAt K (by decide) dX1_eatenBy_47 (Nat.le_of_ble_eq_true rfl) h (fun r47 σ47 h => ?_)
        refine xl_stuffs K h.1 dX1_eatenBy_50 ?_
        replace h := h.2
        exact ax_sub [0, 1, 2, 4] rfl (kx_eatenBy_j51 K E ih v1 v2 v4 v3 (xA_stuffs σ47 (r47).toNatClampNeg) σ47 h)
      · have h := ax_ie h c32
        refine ax_iconst (v := (0 : Int32)) K (by decide) dX1_eatenBy_35 ?_
        refine ax_goto (tgt := 51) K dX1_eatenBy_36 (by decide) ?_
        exact ax_sub [0, 1, 2, 4] rfl (kx_eatenBy_j51 K E ih v1 v2 v4 v3 (0 : Int32) σ25 h)
set_option maxHeartbeats 4000000 in
theorem mx_eatenBy {l : Launch} {G : AG} {L : Nat → Nat} {σ : St} {v1 : Int32} {v2 : Int32} {P : Int32 → St → Prop} (h : wx_eatenBy σ v1 v2 P) : CtW l G yX1_eatenBy cX1_eatenBy 5 (some .int) (rmH 2) [.ref (L 0), .int v1, .int v2] (xW G L) σ (pI P) := by
  refine CtW.ofI (by decide) (Nat.le_of_ble_eq_true rfl) fun Z _ K E => ?_
  unfold wx_eatenBy at h
  show AX Z 0 0 0 [(0, .ref (L 0)), (1, .int v1), (2, .int v2)] [] (xW G L σ)
  refine ax_iconst (v := (0 : Int32)) K (by decide) dX1_eatenBy_0 ?_
  refine ax_istore_n (lv' := [(3, .int (0 : Int32)), (0, .ref (L 0)), (1, .int v1), (2, .int v2)]) K dX1_eatenBy_1 (by decide) rfl ?_
  refine ax_iconst (v := (0 : Int32)) K (by decide) dX1_eatenBy_2 ?_
  refine ax_istore (lv' := [(4, .int (0 : Int32)), (3, .int (0 : Int32)), (0, .ref (L 0)), (1, .int v1), (2, .int v2)]) K dX1_eatenBy_3 (by decide) rfl ?_
  exact ax_sub [2, 3, 4, 1, 0] rfl (h.elim fun n5 h => kx_eatenBy_l5 K E  n5 v1 v2 (0 : Int32) (0 : Int32) σ h)
theorem rx_eatenBy {Z : AZ} {G : AG} {cc : ByteArray} {mL hh pc : Nat} {lv : List (Nat × Value)} {rest : List Value} {L : Nat → Nat} {σ : St} (K : AK Z G cc RX1 mL (rmH hh)) (hlt : 2 < hh) (d : decode cc pc = .ok (.invokevirtual 431, 3)) (hrest : (rest.map fun v => v.category).sum ≤ 8) {v1 : Int32} {v2 : Int32} {P : Int32 → St → Prop} (h : sx_eatenBy σ v1 v2 P) (kk : ∀ (r : Int32) (σ' : St), P r σ' → AX Z 0 0 (pc + 3) lv (.int r :: rest) (xW G L σ')) : AX Z 0 0 pc lv (.int v2 :: .int v1 :: .ref (L 0) :: rest) (xW G L σ) :=
  ax_callV (N0 := 2) (As := [.int v1, .int v2]) K (mx_eatenBy (sx_eatenBy_ok h)) q879 q881 qs53 q117 q882 ⟨rfl, by decide, by decide, by decide⟩ rfl ⟨by show 2 + 1 + 1 ≤ hh + 1; omega, by show 8 + (5 + 11) + 60 * (2 + 1) ≤ 60 * (hh + 1); omega⟩ ⟨Nat.zero_le _, Nat.zero_le _⟩ rfl rfl rfl hrest d (fun r σ' hp => by obtain ⟨v, rfl, hp⟩ := hp; exact kk v σ' hp)
/-! x.end -/
set_option maxHeartbeats 4000000 in
theorem mx_end {l : Launch} {G : AG} {L : Nat → Nat} {σ : St} {v1 : Int32} {P : Int32 → St → Prop} (h : wx_end σ v1 P) : CtW l G yX1_end cX1_end 2 (some .boolean) (rmH 2) [.ref (L 0), .int v1] (xW G L) σ (pI P) := by
  refine CtW.ofI (by decide) (Nat.le_of_ble_eq_true rfl) fun Z _ K E => ?_
  unfold wx_end at h
  show AX Z 0 0 0 [(0, .ref (L 0)), (1, .int v1)] [] (xW G L σ)
  refine ax_iload_n K 1 rfl dX1_end_0 ?_
  refine ax_i2l K dX1_end_1 ?_
  refine ax_lconst (v := (0 : Int64)) K (by decide) dX1_end_2 ?_
  refine ax_aload_n K 0 rfl dX1_end_3 ?_
  refine xg_signMany K dX1_end_4 ?_
  refine ax_i2l K dX1_end_7 ?_
  refine rx_in K (by decide) dX1_end_8 (Nat.le_of_ble_eq_true rfl) h (fun r8 h => ?_)
  refine ax_if_ne (tgt := 16) K dX1_end_11 (by decide) (fun c11 => ?_) (fun c11 => ?_)
  · have h := ax_ie h c11
    refine ax_aload_n K 0 rfl dX1_end_16 ?_
    refine ax_iload_n K 1 rfl dX1_end_17 ?_
    refine xp_signMany K dX1_end_18 ?_
    refine ax_iconst (v := (1 : Int32)) K (by decide) dX1_end_21 ?_
    exact E _ _ _ _ dX1_end_22 rfl h
  · have h := ax_it h c11
    refine ax_iconst (v := (0 : Int32)) K (by decide) dX1_end_14 ?_
    exact E _ _ _ _ dX1_end_15 rfl h

/-! x.fits -/
set_option maxHeartbeats 4000000 in
theorem kx_fits_j26 {Z : AZ} {G : AG} {L : Nat → Nat} {P : Int32 → St → Prop} (K : AK Z G cX1_fits RX1 4 (rmH 2)) (E : AEi Z cX1_fits .boolean (xW G L) 0 0 P) (s0 : Int32) (σ : St) (h : wx_fits_j26 P  s0 σ) : AX Z 0 0 26 [(0, .ref (L 0))] [.int s0] (xW G L σ) := by
  unfold wx_fits_j26 at h
  exact E _ _ _ _ dX1_fits_26 h.1 h.2
set_option maxHeartbeats 4000000 in
theorem kx_fits_j21 {Z : AZ} {G : AG} {L : Nat → Nat} {P : Int32 → St → Prop} (K : AK Z G cX1_fits RX1 4 (rmH 2)) (E : AEi Z cX1_fits .boolean (xW G L) 0 0 P) (σ : St) (h : wx_fits_j21 P  σ) : AX Z 0 0 21 [(0, .ref (L 0))] [] (xW G L σ) := by
  unfold wx_fits_j21 at h
  refine ax_iconst (v := (1 : Int32)) K (by decide) dX1_fits_21 ?_
  refine ax_goto (tgt := 26) K dX1_fits_22 (by decide) ?_
  exact ax_sub [0] rfl (kx_fits_j26 K E  (1 : Int32) σ h)
set_option maxHeartbeats 4000000 in
theorem mx_fits {l : Launch} {G : AG} {L : Nat → Nat} {σ : St} {v1 : Int32} {v2 : Int32} {v3 : Int32} {P : Int32 → St → Prop} (h : wx_fits σ v1 v2 v3 P) : CtW l G yX1_fits cX1_fits 4 (some .boolean) (rmH 2) [.ref (L 0), .int v1, .int v2, .int v3] (xW G L) σ (pI P) := by
  refine CtW.ofI (by decide) (Nat.le_of_ble_eq_true rfl) fun Z _ K E => ?_
  unfold wx_fits at h
  show AX Z 0 0 0 [(0, .ref (L 0)), (1, .int v1), (2, .int v2), (3, .int v3)] [] (xW G L σ)
  refine ax_aload_n K 0 rfl dX1_fits_0 ?_
  refine ax_iload_n K 1 rfl dX1_fits_1 ?_
  refine ax_iload_n K 2 rfl dX1_fits_2 ?_
  refine rx_dishAt K (by decide) dX1_fits_3 (Nat.le_of_ble_eq_true rfl) h (fun r3 σ3 h => ?_)
  refine ax_bipush (v := (99 : Int32)) K (by decide) dX1_fits_6 ?_
  refine ax_icmp_eq (tgt := 21) K dX1_fits_8 (by decide) (fun c8 => ?_) (fun c8 => ?_)
  · have h := ax_it h c8
    exact ax_sub [0] rfl (kx_fits_j21 K E  σ3 h)
  · have h := ax_ie h c8
    refine ax_aload_n K 0 rfl dX1_fits_11 ?_
    refine ax_iload_n K 1 rfl dX1_fits_12 ?_
    refine ax_iload_n K 2 rfl dX1_fits_13 ?_
    refine rx_dishAt K (by decide) dX1_fits_14 (Nat.le_of_ble_eq_true rfl) h (fun r14 σ14 h => ?_)
    refine ax_iload_n K 3 rfl dX1_fits_17 ?_
    refine ax_icmp_ne (tgt := 25) K dX1_fits_18 (by decide) (fun c18 => ?_) (fun c18 => ?_)
    · have h := ax_ie h c18
      refine ax_iconst (v := (0 : Int32)) K (by decide) dX1_fits_25 ?_
      exact ax_sub [0] rfl (kx_fits_j26 K E  (0 : Int32) σ14 h)
    · have h := ax_it h c18
      exact ax_sub [0] rfl (kx_fits_j21 K E  σ14 h)
theorem rx_fits {Z : AZ} {G : AG} {cc : ByteArray} {mL hh pc : Nat} {lv : List (Nat × Value)} {rest : List Value} {L : Nat → Nat} {σ : St} (K : AK Z G cc RX1 mL (rmH hh)) (hlt : 2 < hh) (d : decode cc pc = .ok (.invokevirtual 420, 3)) (hrest : (rest.map fun v => v.category).sum ≤ 8) {v1 : Int32} {v2 : Int32} {v3 : Int32} {P : Int32 → St → Prop} (h : sx_fits σ v1 v2 v3 P) (kk : ∀ (r : Int32) (σ' : St), P r σ' → AX Z 0 0 (pc + 3) lv (.int r :: rest) (xW G L σ')) : AX Z 0 0 pc lv (.int v3 :: .int v2 :: .int v1 :: .ref (L 0) :: rest) (xW G L σ) :=
  ax_callV (N0 := 3) (As := [.int v1, .int v2, .int v3]) K (mx_fits (sx_fits_ok h)) q855 q857 qs51 q117 q858 ⟨rfl, by decide, by decide, by decide⟩ rfl ⟨by show 2 + 1 + 1 ≤ hh + 1; omega, by show 8 + (4 + 11) + 60 * (2 + 1) ≤ 60 * (hh + 1); omega⟩ ⟨Nat.zero_le _, Nat.zero_le _⟩ rfl rfl rfl hrest d (fun r σ' hp => by obtain ⟨v, rfl, hp⟩ := hp; exact kk v σ' hp)
/-! x.isDigit -/
set_option maxHeartbeats 4000000 in
theorem kx_isDigit_j38 {Z : AZ} {G : AG} {L : Nat → Nat} {P : Int32 → St → Prop} (K : AK Z G cX1_isDigit RX1 1 (rmH 2)) (E : AEi Z cX1_isDigit .boolean (xW G L) 0 0 P) (s0 : Int32) (σ : St) (h : wx_isDigit_j38 P  s0 σ) : AX Z 0 0 38 [(0, .ref (L 0))] [.int s0] (xW G L σ) := by
  unfold wx_isDigit_j38 at h
  exact E _ _ _ _ dX1_isDigit_38 h.1 h.2
set_option maxHeartbeats 4000000 in
theorem kx_isDigit_j37 {Z : AZ} {G : AG} {L : Nat → Nat} {P : Int32 → St → Prop} (K : AK Z G cX1_isDigit RX1 1 (rmH 2)) (E : AEi Z cX1_isDigit .boolean (xW G L) 0 0 P) (σ : St) (h : wx_isDigit_j37 P  σ) : AX Z 0 0 37 [(0, .ref (L 0))] [] (xW G L σ) := by
  unfold wx_isDigit_j37 at h
  refine ax_iconst (v := (0 : Int32)) K (by decide) dX1_isDigit_37 ?_
  exact ax_sub [0] rfl (kx_isDigit_j38 K E  (0 : Int32) σ h)
set_option maxHeartbeats 4000000 in
theorem mx_isDigit {l : Launch} {G : AG} {L : Nat → Nat} {σ : St} {P : Int32 → St → Prop} (h : wx_isDigit σ P) : CtW l G yX1_isDigit cX1_isDigit 1 (some .boolean) (rmH 2) [.ref (L 0)] (xW G L) σ (pI P) := by
  refine CtW.ofI (by decide) (Nat.le_of_ble_eq_true rfl) fun Z _ K E => ?_
  unfold wx_isDigit at h
  show AX Z 0 0 0 [(0, .ref (L 0))] [] (xW G L σ)
  refine ax_aload_n K 0 rfl dX1_isDigit_0 ?_
  refine xg_at K dX1_isDigit_1 ?_
  refine ax_aload_n K 0 rfl dX1_isDigit_4 ?_
  refine xg_end K dX1_isDigit_5 ?_
  refine ax_icmp_ge (tgt := 37) K dX1_isDigit_8 (by decide) (fun c8 => ?_) (fun c8 => ?_)
  · have h := ax_it h c8
    exact ax_sub [0] rfl (kx_isDigit_j37 K E  σ h)
  · have h := ax_ie h c8
    refine ax_aload_n K 0 rfl dX1_isDigit_11 ?_
    refine xg_text K dX1_isDigit_12 ?_
    refine ax_aload_n K 0 rfl dX1_isDigit_15 ?_
    refine xg_at K dX1_isDigit_16 ?_
    refine xl_text K h.1 dX1_isDigit_19 ?_
    replace h := h.2
    refine ax_i2l K dX1_isDigit_20 ?_
    refine ax_ldc2 (v := (48 : Int64)) K q345 dX1_isDigit_21 ?_
    refine ax_ldc2 (v := (57 : Int64)) K q346 dX1_isDigit_24 ?_
    refine rx_in K (by decide) dX1_isDigit_27 (Nat.le_of_ble_eq_true rfl) h (fun r27 h => ?_)
    refine ax_if_eq (tgt := 37) K dX1_isDigit_30 (by decide) (fun c30 => ?_) (fun c30 => ?_)
    · have h := ax_it h c30
      exact ax_sub [0] rfl (kx_isDigit_j37 K E  σ h)
    · have h := ax_ie h c30
      refine ax_iconst (v := (1 : Int32)) K (by decide) dX1_isDigit_33 ?_
      refine ax_goto (tgt := 38) K dX1_isDigit_34 (by decide) ?_
      exact ax_sub [0] rfl (kx_isDigit_j38 K E  (1 : Int32) σ h)
theorem rx_isDigit {Z : AZ} {G : AG} {cc : ByteArray} {mL hh pc : Nat} {lv : List (Nat × Value)} {rest : List Value} {L : Nat → Nat} {σ : St} (K : AK Z G cc RX1 mL (rmH hh)) (hlt : 2 < hh) (d : decode cc pc = .ok (.invokevirtual 145, 3)) (hrest : (rest.map fun v => v.category).sum ≤ 8) {P : Int32 → St → Prop} (h : sx_isDigit σ  P) (kk : ∀ (r : Int32) (σ' : St), P r σ' → AX Z 0 0 (pc + 3) lv (.int r :: rest) (xW G L σ')) : AX Z 0 0 pc lv (.ref (L 0) :: rest) (xW G L σ) :=
  ax_callV (N0 := 0) (As := []) K (mx_isDigit (sx_isDigit_ok h)) q341 q343 qs8 q117 q344 ⟨rfl, by decide, by decide, by decide⟩ rfl ⟨by show 2 + 1 + 1 ≤ hh + 1; omega, by show 8 + (1 + 11) + 60 * (2 + 1) ≤ 60 * (hh + 1); omega⟩ ⟨Nat.zero_le _, Nat.zero_le _⟩ rfl rfl rfl hrest d (fun r σ' hp => by obtain ⟨v, rfl, hp⟩ := hp; exact kk v σ' hp)
/-! x.isDish -/
set_option maxHeartbeats 4000000 in
theorem mx_isDish {l : Launch} {G : AG} {L : Nat → Nat} {σ : St} {v1 : Int32} {P : Int32 → St → Prop} (h : wx_isDish σ v1 P) : CtW l G yX1_isDish cX1_isDish 2 (some .boolean) (rmH 2) [.ref (L 0), .int v1] (xW G L) σ (pI P) := by
  refine CtW.ofI (by decide) (Nat.le_of_ble_eq_true rfl) fun Z _ K E => ?_
  unfold wx_isDish at h
  show AX Z 0 0 0 [(0, .ref (L 0)), (1, .int v1)] [] (xW G L σ)
  refine ax_iload_n K 1 rfl dX1_isDish_0 ?_
  refine ax_i2l K dX1_isDish_1 ?_
  refine ax_lconst (v := (0 : Int64)) K (by decide) dX1_isDish_2 ?_
  refine ax_aload_n K 0 rfl dX1_isDish_3 ?_
  refine xg_dishes K dX1_isDish_4 ?_
  refine ax_iconst (v := (1 : Int32)) K (by decide) dX1_isDish_7 ?_
  refine ax_isub K dX1_isDish_8 ?_
  refine ax_i2l K dX1_isDish_9 ?_
  refine rx_in K (by decide) dX1_isDish_10 (Nat.le_of_ble_eq_true rfl) h (fun r10 h => ?_)
  exact E _ _ _ _ dX1_isDish_13 h.1 h.2
theorem rx_isDish {Z : AZ} {G : AG} {cc : ByteArray} {mL hh pc : Nat} {lv : List (Nat × Value)} {rest : List Value} {L : Nat → Nat} {σ : St} (K : AK Z G cc RX1 mL (rmH hh)) (hlt : 2 < hh) (d : decode cc pc = .ok (.invokevirtual 252, 3)) (hrest : (rest.map fun v => v.category).sum ≤ 8) {v1 : Int32} {P : Int32 → St → Prop} (h : sx_isDish σ v1 P) (kk : ∀ (r : Int32) (σ' : St), P r σ' → AX Z 0 0 (pc + 3) lv (.int r :: rest) (xW G L σ')) : AX Z 0 0 pc lv (.int v1 :: .ref (L 0) :: rest) (xW G L σ) :=
  ax_callV (N0 := 1) (As := [.int v1]) K (mx_isDish (sx_isDish_ok h)) q552 q554 qs13 q117 q555 ⟨rfl, by decide, by decide, by decide⟩ rfl ⟨by show 2 + 1 + 1 ≤ hh + 1; omega, by show 8 + (2 + 11) + 60 * (2 + 1) ≤ 60 * (hh + 1); omega⟩ ⟨Nat.zero_le _, Nat.zero_le _⟩ rfl rfl rfl hrest d (fun r σ' hp => by obtain ⟨v, rfl, hp⟩ := hp; exact kk v σ' hp)
/-! x.isGuest -/
set_option maxHeartbeats 4000000 in
theorem mx_isGuest {l : Launch} {G : AG} {L : Nat → Nat} {σ : St} {v1 : Int32} {P : Int32 → St → Prop} (h : wx_isGuest σ v1 P) : CtW l G yX1_isGuest cX1_isGuest 2 (some .boolean) (rmH 2) [.ref (L 0), .int v1] (xW G L) σ (pI P) := by
  refine CtW.ofI (by decide) (Nat.le_of_ble_eq_true rfl) fun Z _ K E => ?_
  unfold wx_isGuest at h
  show AX Z 0 0 0 [(0, .ref (L 0)), (1, .int v1)] [] (xW G L σ)
  refine ax_iload_n K 1 rfl dX1_isGuest_0 ?_
  refine ax_i2l K dX1_isGuest_1 ?_
  refine ax_lconst (v := (0 : Int64)) K (by decide) dX1_isGuest_2 ?_
  refine ax_aload_n K 0 rfl dX1_isGuest_3 ?_
  refine xg_guests K dX1_isGuest_4 ?_
  refine ax_iconst (v := (1 : Int32)) K (by decide) dX1_isGuest_7 ?_
  refine ax_isub K dX1_isGuest_8 ?_
  refine ax_i2l K dX1_isGuest_9 ?_
  refine rx_in K (by decide) dX1_isGuest_10 (Nat.le_of_ble_eq_true rfl) h (fun r10 h => ?_)
  exact E _ _ _ _ dX1_isGuest_13 h.1 h.2
theorem rx_isGuest {Z : AZ} {G : AG} {cc : ByteArray} {mL hh pc : Nat} {lv : List (Nat × Value)} {rest : List Value} {L : Nat → Nat} {σ : St} (K : AK Z G cc RX1 mL (rmH hh)) (hlt : 2 < hh) (d : decode cc pc = .ok (.invokevirtual 269, 3)) (hrest : (rest.map fun v => v.category).sum ≤ 8) {v1 : Int32} {P : Int32 → St → Prop} (h : sx_isGuest σ v1 P) (kk : ∀ (r : Int32) (σ' : St), P r σ' → AX Z 0 0 (pc + 3) lv (.int r :: rest) (xW G L σ')) : AX Z 0 0 pc lv (.int v1 :: .ref (L 0) :: rest) (xW G L σ) :=
  ax_callV (N0 := 1) (As := [.int v1]) K (mx_isGuest (sx_isGuest_ok h)) q722 q724 qs36 q117 q725 ⟨rfl, by decide, by decide, by decide⟩ rfl ⟨by show 2 + 1 + 1 ≤ hh + 1; omega, by show 8 + (2 + 11) + 60 * (2 + 1) ≤ 60 * (hh + 1); omega⟩ ⟨Nat.zero_le _, Nat.zero_le _⟩ rfl rfl rfl hrest d (fun r σ' hp => by obtain ⟨v, rfl, hp⟩ := hp; exact kk v σ' hp)
/-! x.isLastOf -/
set_option maxHeartbeats 4000000 in
theorem kx_isLastOf_j21 {Z : AZ} {G : AG} {L : Nat → Nat} {P : Int32 → St → Prop} (K : AK Z G cX1_isLastOf RX1 3 (rmH 2)) (E : AEi Z cX1_isLastOf .boolean (xW G L) 0 0 P) (s0 : Int32) (σ : St) (h : wx_isLastOf_j21 P  s0 σ) : AX Z 0 0 21 [(0, .ref (L 0))] [.int s0] (xW G L σ) := by
  unfold wx_isLastOf_j21 at h
  exact E _ _ _ _ dX1_isLastOf_21 h.1 h.2
set_option maxHeartbeats 4000000 in
theorem mx_isLastOf {l : Launch} {G : AG} {L : Nat → Nat} {σ : St} {v1 : Int32} {v2 : Int32} {P : Int32 → St → Prop} (h : wx_isLastOf σ v1 v2 P) : CtW l G yX1_isLastOf cX1_isLastOf 3 (some .boolean) (rmH 2) [.ref (L 0), .int v1, .int v2] (xW G L) σ (pI P) := by
  refine CtW.ofI (by decide) (Nat.le_of_ble_eq_true rfl) fun Z _ K E => ?_
  unfold wx_isLastOf at h
  show AX Z 0 0 0 [(0, .ref (L 0)), (1, .int v1), (2, .int v2)] [] (xW G L σ)
  refine ax_iload_n K 2 rfl dX1_isLastOf_0 ?_
  refine ax_if_ge (tgt := 16) K dX1_isLastOf_1 (by decide) (fun c1 => ?_) (fun c1 => ?_)
  · have h := ax_it h c1
    refine ax_iload_n K 1 rfl dX1_isLastOf_16 ?_
    refine ax_iload_n K 2 rfl dX1_isLastOf_17 ?_
    refine rx_has K (by decide) dX1_isLastOf_18 (Nat.le_of_ble_eq_true rfl) h (fun r18 h => ?_)
    exact ax_sub [0] rfl (kx_isLastOf_j21 K E  r18 σ h)
  · have h := ax_ie h c1
    refine ax_iload_n K 1 rfl dX1_isLastOf_4 ?_
    refine ax_if_ne (tgt := 12) K dX1_isLastOf_5 (by decide) (fun c5 => ?_) (fun c5 => ?_)
    · have h := ax_ie h c5
      refine ax_iconst (v := (0 : Int32)) K (by decide) dX1_isLastOf_12 ?_
      refine ax_goto (tgt := 21) K dX1_isLastOf_13 (by decide) ?_
      exact ax_sub [0] rfl (kx_isLastOf_j21 K E  (0 : Int32) σ h)
    · have h := ax_it h c5
      refine ax_iconst (v := (1 : Int32)) K (by decide) dX1_isLastOf_8 ?_
      refine ax_goto (tgt := 21) K dX1_isLastOf_9 (by decide) ?_
      exact ax_sub [0] rfl (kx_isLastOf_j21 K E  (1 : Int32) σ h)
theorem rx_isLastOf {Z : AZ} {G : AG} {cc : ByteArray} {mL hh pc : Nat} {lv : List (Nat × Value)} {rest : List Value} {L : Nat → Nat} {σ : St} (K : AK Z G cc RX1 mL (rmH hh)) (hlt : 2 < hh) (d : decode cc pc = .ok (.invokevirtual 357, 3)) (hrest : (rest.map fun v => v.category).sum ≤ 8) {v1 : Int32} {v2 : Int32} {P : Int32 → St → Prop} (h : sx_isLastOf σ v1 v2 P) (kk : ∀ (r : Int32) (σ' : St), P r σ' → AX Z 0 0 (pc + 3) lv (.int r :: rest) (xW G L σ')) : AX Z 0 0 pc lv (.int v2 :: .int v1 :: .ref (L 0) :: rest) (xW G L σ) :=
  ax_callV (N0 := 2) (As := [.int v1, .int v2]) K (mx_isLastOf (sx_isLastOf_ok h)) q683 q685 qs32 q117 q686 ⟨rfl, by decide, by decide, by decide⟩ rfl ⟨by show 2 + 1 + 1 ≤ hh + 1; omega, by show 8 + (3 + 11) + 60 * (2 + 1) ≤ 60 * (hh + 1); omega⟩ ⟨Nat.zero_le _, Nat.zero_le _⟩ rfl rfl rfl hrest d (fun r σ' hp => by obtain ⟨v, rfl, hp⟩ := hp; exact kk v σ' hp)
/-! x.isLaw -/
set_option maxHeartbeats 4000000 in
theorem kx_isLaw_j55 {Z : AZ} {G : AG} {P : Int32 → Prop} (K : AK Z G cX1_isLaw RX1 2 (rmH 2)) (E : AEi Z cX1_isLaw .boolean w0 0 0 (fun v _ => P v)) (σ : St) (s0 : Int32) (h : wx_isLaw_j55 P  s0) : AX Z 0 0 55 [] [.int s0] [] := by
  unfold wx_isLaw_j55 at h
  exact E _ _ _ σ dX1_isLaw_55 h.1 h.2
set_option maxHeartbeats 4000000 in
theorem kx_isLaw_j54 {Z : AZ} {G : AG} {P : Int32 → Prop} (K : AK Z G cX1_isLaw RX1 2 (rmH 2)) (E : AEi Z cX1_isLaw .boolean w0 0 0 (fun v _ => P v)) (σ : St)  (h : wx_isLaw_j54 P  ) : AX Z 0 0 54 [] [] [] := by
  unfold wx_isLaw_j54 at h
  refine ax_iconst (v := (0 : Int32)) K (by decide) dX1_isLaw_54 ?_
  exact ax_sub [] rfl (kx_isLaw_j55 K E σ  (0 : Int32) h)
set_option maxHeartbeats 4000000 in
theorem mx_isLaw {l : Launch} {G : AG} {σ : St} {v0 : Int32} {v1 : Int32} {P : Int32 → Prop} (h : wx_isLaw v0 v1 P) : CtW l G yX1_isLaw cX1_isLaw 2 (some .boolean) (rmH 2) [.int v0, .int v1] w0 σ (pI (fun v _ => P v)) := by
  refine CtW.ofI (by decide) (Nat.le_of_ble_eq_true rfl) fun Z _ K E => ?_
  unfold wx_isLaw at h
  show AX Z 0 0 0 [(0, .int v0), (1, .int v1)] [] []
  refine ax_iload_n K 0 rfl dX1_isLaw_0 ?_
  refine ax_if_ne (tgt := 16) K dX1_isLaw_1 (by decide) (fun c1 => ?_) (fun c1 => ?_)
  · have h := ax_ie h c1
    refine ax_iload_n K 0 rfl dX1_isLaw_16 ?_
    refine ax_iconst (v := (1 : Int32)) K (by decide) dX1_isLaw_17 ?_
    refine ax_icmp_ne (tgt := 33) K dX1_isLaw_18 (by decide) (fun c18 => ?_) (fun c18 => ?_)
    · have h := ax_ie h c18
      refine ax_iload_n K 0 rfl dX1_isLaw_33 ?_
      refine ax_iconst (v := (2 : Int32)) K (by decide) dX1_isLaw_34 ?_
      refine ax_icmp_ne (tgt := 54) K dX1_isLaw_35 (by decide) (fun c35 => ?_) (fun c35 => ?_)
      · have h := ax_ie h c35
        exact ax_sub [] rfl (kx_isLaw_j54 K E σ   h)
      · have h := ax_it h c35
        refine ax_iload_n K 1 rfl dX1_isLaw_38 ?_
        refine ax_i2l K dX1_isLaw_39 ?_
        refine ax_lconst (v := (0 : Int64)) K (by decide) dX1_isLaw_40 ?_
        refine ax_ldc2 (v := (2 : Int64)) K q535 dX1_isLaw_41 ?_
        refine rx_in K (by decide) dX1_isLaw_44 (Nat.le_of_ble_eq_true rfl) h (fun r44 h => ?_)
        refine ax_if_eq (tgt := 54) K dX1_isLaw_47 (by decide) (fun c47 => ?_) (fun c47 => ?_)
        · have h := ax_it h c47
          exact ax_sub [] rfl (kx_isLaw_j54 K E σ   h)
        · have h := ax_ie h c47
          refine ax_iconst (v := (1 : Int32)) K (by decide) dX1_isLaw_50 ?_
          refine ax_goto (tgt := 55) K dX1_isLaw_51 (by decide) ?_
          exact ax_sub [] rfl (kx_isLaw_j55 K E σ  (1 : Int32) h)
    · have h := ax_it h c18
      refine ax_iload_n K 1 rfl dX1_isLaw_21 ?_
      refine ax_i2l K dX1_isLaw_22 ?_
      refine ax_lconst (v := (1 : Int64)) K (by decide) dX1_isLaw_23 ?_
      refine ax_ldc2 (v := (9 : Int64)) K q534 dX1_isLaw_24 ?_
      refine rx_in K (by decide) dX1_isLaw_27 (Nat.le_of_ble_eq_true rfl) h (fun r27 h => ?_)
      refine ax_goto (tgt := 55) K dX1_isLaw_30 (by decide) ?_
      exact ax_sub [] rfl (kx_isLaw_j55 K E σ  r27 h)
  · have h := ax_it h c1
    refine ax_iload_n K 1 rfl dX1_isLaw_4 ?_
    refine ax_i2l K dX1_isLaw_5 ?_
    refine ax_lconst (v := (1 : Int64)) K (by decide) dX1_isLaw_6 ?_
    refine ax_ldc2 (v := (8 : Int64)) K q533 dX1_isLaw_7 ?_
    refine rx_in K (by decide) dX1_isLaw_10 (Nat.le_of_ble_eq_true rfl) h (fun r10 h => ?_)
    refine ax_goto (tgt := 55) K dX1_isLaw_13 (by decide) ?_
    exact ax_sub [] rfl (kx_isLaw_j55 K E σ  r10 h)
theorem rx_isLaw {Z : AZ} {G : AG} {cc : ByteArray} {mL hh pc : Nat} {lv : List (Nat × Value)} {rest : List Value} {ws : va_W} (K : AK Z G cc RX1 mL (rmH hh)) (hlt : 2 < hh) (d : decode cc pc = .ok (.invokestatic 278, 3)) (hrest : (rest.map fun v => v.category).sum ≤ 8) {v0 : Int32} {v1 : Int32} {P : Int32 → Prop} (h : sx_isLaw v0 v1 P) (kk : ∀ (r : Int32) , P r  → AX Z 0 0 (pc + 3) lv (.int r :: rest) ws) : AX Z 0 0 pc lv (.int v1 :: .int v0 :: rest) ws :=
  ax_callS (N0 := 2) (σ := σ00) (As := [.int v0, .int v1]) K (mx_isLaw (sx_isLaw_ok h)) q530 q531 q117 q532 ⟨by decide, by decide, by decide⟩ rfl ⟨by show 2 + 1 + 1 ≤ hh + 1; omega, by show 8 + (2 + 11) + 60 * (2 + 1) ≤ 60 * (hh + 1); omega⟩ ⟨Nat.zero_le _, Nat.zero_le _⟩ rfl hrest d (fun r σ' hp => by obtain ⟨v, rfl, hp⟩ := hp; exact kk v hp)
/-! x.isMenu -/
set_option maxHeartbeats 4000000 in
theorem mx_isMenu {l : Launch} {G : AG} {σ : St} {v0 : Int32} {P : Int32 → Prop} (h : wx_isMenu v0 P) : CtW l G yX1_isMenu cX1_isMenu 1 (some .boolean) (rmH 2) [.int v0] w0 σ (pI (fun v _ => P v)) := by
  refine CtW.ofI (by decide) (Nat.le_of_ble_eq_true rfl) fun Z _ K E => ?_
  unfold wx_isMenu at h
  show AX Z 0 0 0 [(0, .int v0)] [] []
  refine ax_iload_n K 0 rfl dX1_isMenu_0 ?_
  refine ax_i2l K dX1_isMenu_1 ?_
  refine ax_lconst (v := (0 : Int64)) K (by decide) dX1_isMenu_2 ?_
  refine ax_ldc2 (v := (2 : Int64)) K q535 dX1_isMenu_3 ?_
  refine rx_in K (by decide) dX1_isMenu_6 (Nat.le_of_ble_eq_true rfl) h (fun r6 h => ?_)
  exact E _ _ _ σ dX1_isMenu_9 h.1 h.2
theorem rx_isMenu {Z : AZ} {G : AG} {cc : ByteArray} {mL hh pc : Nat} {lv : List (Nat × Value)} {rest : List Value} {ws : va_W} (K : AK Z G cc RX1 mL (rmH hh)) (hlt : 2 < hh) (d : decode cc pc = .ok (.invokestatic 316, 3)) (hrest : (rest.map fun v => v.category).sum ≤ 8) {v0 : Int32} {P : Int32 → Prop} (h : sx_isMenu v0 P) (kk : ∀ (r : Int32) , P r  → AX Z 0 0 (pc + 3) lv (.int r :: rest) ws) : AX Z 0 0 pc lv (.int v0 :: rest) ws :=
  ax_callS (N0 := 1) (σ := σ00) (As := [.int v0]) K (mx_isMenu (sx_isMenu_ok h)) q613 q614 q117 q615 ⟨by decide, by decide, by decide⟩ rfl ⟨by show 2 + 1 + 1 ≤ hh + 1; omega, by show 8 + (1 + 11) + 60 * (2 + 1) ≤ 60 * (hh + 1); omega⟩ ⟨Nat.zero_le _, Nat.zero_le _⟩ rfl hrest d (fun r σ' hp => by obtain ⟨v, rfl, hp⟩ := hp; exact kk v hp)
/-! x.isPlace -/
set_option maxHeartbeats 4000000 in
theorem mx_isPlace {l : Launch} {G : AG} {L : Nat → Nat} {σ : St} {v1 : Int32} {v2 : Int32} {P : Int32 → St → Prop} (h : wx_isPlace σ v1 v2 P) : CtW l G yX1_isPlace cX1_isPlace 3 (some .boolean) (rmH 2) [.ref (L 0), .int v1, .int v2] (xW G L) σ (pI P) := by
  refine CtW.ofI (by decide) (Nat.le_of_ble_eq_true rfl) fun Z _ K E => ?_
  unfold wx_isPlace at h
  show AX Z 0 0 0 [(0, .ref (L 0)), (1, .int v1), (2, .int v2)] [] (xW G L σ)
  refine ax_iload_n K 2 rfl dX1_isPlace_0 ?_
  refine ax_i2l K dX1_isPlace_1 ?_
  refine ax_lconst (v := (0 : Int64)) K (by decide) dX1_isPlace_2 ?_
  refine ax_aload_n K 0 rfl dX1_isPlace_3 ?_
  refine xg_menuMany K dX1_isPlace_4 ?_
  refine ax_iload_n K 1 rfl dX1_isPlace_7 ?_
  refine xl_menuMany K h.1 dX1_isPlace_8 ?_
  replace h := h.2
  refine ax_iconst (v := (1 : Int32)) K (by decide) dX1_isPlace_9 ?_
  refine ax_isub K dX1_isPlace_10 ?_
  refine ax_i2l K dX1_isPlace_11 ?_
  refine rx_in K (by decide) dX1_isPlace_12 (Nat.le_of_ble_eq_true rfl) h (fun r12 h => ?_)
  exact E _ _ _ _ dX1_isPlace_15 h.1 h.2
theorem rx_isPlace {Z : AZ} {G : AG} {cc : ByteArray} {mL hh pc : Nat} {lv : List (Nat × Value)} {rest : List Value} {L : Nat → Nat} {σ : St} (K : AK Z G cc RX1 mL (rmH hh)) (hlt : 2 < hh) (d : decode cc pc = .ok (.invokevirtual 344, 3)) (hrest : (rest.map fun v => v.category).sum ≤ 8) {v1 : Int32} {v2 : Int32} {P : Int32 → St → Prop} (h : sx_isPlace σ v1 v2 P) (kk : ∀ (r : Int32) (σ' : St), P r σ' → AX Z 0 0 (pc + 3) lv (.int r :: rest) (xW G L σ')) : AX Z 0 0 pc lv (.int v2 :: .int v1 :: .ref (L 0) :: rest) (xW G L σ) :=
  ax_callV (N0 := 2) (As := [.int v1, .int v2]) K (mx_isPlace (sx_isPlace_ok h)) q647 q649 qs27 q117 q650 ⟨rfl, by decide, by decide, by decide⟩ rfl ⟨by show 2 + 1 + 1 ≤ hh + 1; omega, by show 8 + (3 + 11) + 60 * (2 + 1) ≤ 60 * (hh + 1); omega⟩ ⟨Nat.zero_le _, Nat.zero_le _⟩ rfl rfl rfl hrest d (fun r σ' hp => by obtain ⟨v, rfl, hp⟩ := hp; exact kk v σ' hp)
/-! x.isPurse -/
set_option maxHeartbeats 4000000 in
theorem kx_isPurse_j29 {Z : AZ} {G : AG} {L : Nat → Nat} {P : Int32 → St → Prop} (K : AK Z G cX1_isPurse RX1 3 (rmH 2)) (E : AEi Z cX1_isPurse .boolean (xW G L) 0 0 P) (s0 : Int32) (σ : St) (h : wx_isPurse_j29 P  s0 σ) : AX Z 0 0 29 [(0, .ref (L 0))] [.int s0] (xW G L σ) := by
  unfold wx_isPurse_j29 at h
  exact E _ _ _ _ dX1_isPurse_29 h.1 h.2
set_option maxHeartbeats 4000000 in
theorem kx_isPurse_j28 {Z : AZ} {G : AG} {L : Nat → Nat} {P : Int32 → St → Prop} (K : AK Z G cX1_isPurse RX1 3 (rmH 2)) (E : AEi Z cX1_isPurse .boolean (xW G L) 0 0 P) (σ : St) (h : wx_isPurse_j28 P  σ) : AX Z 0 0 28 [(0, .ref (L 0))] [] (xW G L σ) := by
  unfold wx_isPurse_j28 at h
  refine ax_iconst (v := (0 : Int32)) K (by decide) dX1_isPurse_28 ?_
  exact ax_sub [0] rfl (kx_isPurse_j29 K E  (0 : Int32) σ h)
set_option maxHeartbeats 4000000 in
theorem mx_isPurse {l : Launch} {G : AG} {L : Nat → Nat} {σ : St} {v1 : Int32} {v2 : Int32} {P : Int32 → St → Prop} (h : wx_isPurse σ v1 v2 P) : CtW l G yX1_isPurse cX1_isPurse 3 (some .boolean) (rmH 2) [.ref (L 0), .int v1, .int v2] (xW G L) σ (pI P) := by
  refine CtW.ofI (by decide) (Nat.le_of_ble_eq_true rfl) fun Z _ K E => ?_
  unfold wx_isPurse at h
  show AX Z 0 0 0 [(0, .ref (L 0)), (1, .int v1), (2, .int v2)] [] (xW G L σ)
  refine ax_iload_n K 1 rfl dX1_isPurse_0 ?_
  refine ax_i2l K dX1_isPurse_1 ?_
  refine ax_lconst (v := (0 : Int64)) K (by decide) dX1_isPurse_2 ?_
  refine ax_ldc2 (v := (10 : Int64)) K q703 dX1_isPurse_3 ?_
  refine rx_in K (by decide) dX1_isPurse_6 (Nat.le_of_ble_eq_true rfl) h (fun r6 h => ?_)
  refine ax_if_eq (tgt := 28) K dX1_isPurse_9 (by decide) (fun c9 => ?_) (fun c9 => ?_)
  · have h := ax_it h c9
    exact ax_sub [0] rfl (kx_isPurse_j28 K E  σ h)
  · have h := ax_ie h c9
    refine ax_iload_n K 2 rfl dX1_isPurse_12 ?_
    refine ax_i2l K dX1_isPurse_13 ?_
    refine ax_lconst (v := (0 : Int64)) K (by decide) dX1_isPurse_14 ?_
    refine ax_ldc2 (v := (999 : Int64)) K q766 dX1_isPurse_15 ?_
    refine rx_in K (by decide) dX1_isPurse_18 (Nat.le_of_ble_eq_true rfl) h (fun r18 h => ?_)
    refine ax_if_eq (tgt := 28) K dX1_isPurse_21 (by decide) (fun c21 => ?_) (fun c21 => ?_)
    · have h := ax_it h c21
      exact ax_sub [0] rfl (kx_isPurse_j28 K E  σ h)
    · have h := ax_ie h c21
      refine ax_iconst (v := (1 : Int32)) K (by decide) dX1_isPurse_24 ?_
      refine ax_goto (tgt := 29) K dX1_isPurse_25 (by decide) ?_
      exact ax_sub [0] rfl (kx_isPurse_j29 K E  (1 : Int32) σ h)
theorem rx_isPurse {Z : AZ} {G : AG} {cc : ByteArray} {mL hh pc : Nat} {lv : List (Nat × Value)} {rest : List Value} {L : Nat → Nat} {σ : St} (K : AK Z G cc RX1 mL (rmH hh)) (hlt : 2 < hh) (d : decode cc pc = .ok (.invokevirtual 396, 3)) (hrest : (rest.map fun v => v.category).sum ≤ 8) {v1 : Int32} {v2 : Int32} {P : Int32 → St → Prop} (h : sx_isPurse σ v1 v2 P) (kk : ∀ (r : Int32) (σ' : St), P r σ' → AX Z 0 0 (pc + 3) lv (.int r :: rest) (xW G L σ')) : AX Z 0 0 pc lv (.int v2 :: .int v1 :: .ref (L 0) :: rest) (xW G L σ) :=
  ax_callV (N0 := 2) (As := [.int v1, .int v2]) K (mx_isPurse (sx_isPurse_ok h)) q762 q764 qs40 q117 q765 ⟨rfl, by decide, by decide, by decide⟩ rfl ⟨by show 2 + 1 + 1 ≤ hh + 1; omega, by show 8 + (3 + 11) + 60 * (2 + 1) ≤ 60 * (hh + 1); omega⟩ ⟨Nat.zero_le _, Nat.zero_le _⟩ rfl rfl rfl hrest d (fun r σ' hp => by obtain ⟨v, rfl, hp⟩ := hp; exact kk v σ' hp)
/-! x.isStuff -/
set_option maxHeartbeats 4000000 in
theorem kx_isStuff_j38 {Z : AZ} {G : AG} {L : Nat → Nat} {P : Int32 → St → Prop} (K : AK Z G cX1_isStuff RX1 1 (rmH 2)) (E : AEi Z cX1_isStuff .boolean (xW G L) 0 0 P) (s0 : Int32) (σ : St) (h : wx_isStuff_j38 P  s0 σ) : AX Z 0 0 38 [(0, .ref (L 0))] [.int s0] (xW G L σ) := by
  unfold wx_isStuff_j38 at h
  exact E _ _ _ _ dX1_isStuff_38 h.1 h.2
set_option maxHeartbeats 4000000 in
theorem kx_isStuff_j37 {Z : AZ} {G : AG} {L : Nat → Nat} {P : Int32 → St → Prop} (K : AK Z G cX1_isStuff RX1 1 (rmH 2)) (E : AEi Z cX1_isStuff .boolean (xW G L) 0 0 P) (σ : St) (h : wx_isStuff_j37 P  σ) : AX Z 0 0 37 [(0, .ref (L 0))] [] (xW G L σ) := by
  unfold wx_isStuff_j37 at h
  refine ax_iconst (v := (0 : Int32)) K (by decide) dX1_isStuff_37 ?_
  exact ax_sub [0] rfl (kx_isStuff_j38 K E  (0 : Int32) σ h)
set_option maxHeartbeats 4000000 in
theorem mx_isStuff {l : Launch} {G : AG} {L : Nat → Nat} {σ : St} {P : Int32 → St → Prop} (h : wx_isStuff σ P) : CtW l G yX1_isStuff cX1_isStuff 1 (some .boolean) (rmH 2) [.ref (L 0)] (xW G L) σ (pI P) := by
  refine CtW.ofI (by decide) (Nat.le_of_ble_eq_true rfl) fun Z _ K E => ?_
  unfold wx_isStuff at h
  show AX Z 0 0 0 [(0, .ref (L 0))] [] (xW G L σ)
  refine ax_aload_n K 0 rfl dX1_isStuff_0 ?_
  refine xg_at K dX1_isStuff_1 ?_
  refine ax_aload_n K 0 rfl dX1_isStuff_4 ?_
  refine xg_end K dX1_isStuff_5 ?_
  refine ax_icmp_ge (tgt := 37) K dX1_isStuff_8 (by decide) (fun c8 => ?_) (fun c8 => ?_)
  · have h := ax_it h c8
    exact ax_sub [0] rfl (kx_isStuff_j37 K E  σ h)
  · have h := ax_ie h c8
    refine ax_aload_n K 0 rfl dX1_isStuff_11 ?_
    refine xg_text K dX1_isStuff_12 ?_
    refine ax_aload_n K 0 rfl dX1_isStuff_15 ?_
    refine xg_at K dX1_isStuff_16 ?_
    refine xl_text K h.1 dX1_isStuff_19 ?_
    replace h := h.2
    refine ax_i2l K dX1_isStuff_20 ?_
    refine ax_ldc2 (v := (97 : Int64)) K q327 dX1_isStuff_21 ?_
    refine ax_ldc2 (v := (104 : Int64)) K q328 dX1_isStuff_24 ?_
    refine rx_in K (by decide) dX1_isStuff_27 (Nat.le_of_ble_eq_true rfl) h (fun r27 h => ?_)
    refine ax_if_eq (tgt := 37) K dX1_isStuff_30 (by decide) (fun c30 => ?_) (fun c30 => ?_)
    · have h := ax_it h c30
      exact ax_sub [0] rfl (kx_isStuff_j37 K E  σ h)
    · have h := ax_ie h c30
      refine ax_iconst (v := (1 : Int32)) K (by decide) dX1_isStuff_33 ?_
      refine ax_goto (tgt := 38) K dX1_isStuff_34 (by decide) ?_
      exact ax_sub [0] rfl (kx_isStuff_j38 K E  (1 : Int32) σ h)
theorem rx_isStuff {Z : AZ} {G : AG} {cc : ByteArray} {mL hh pc : Nat} {lv : List (Nat × Value)} {rest : List Value} {L : Nat → Nat} {σ : St} (K : AK Z G cc RX1 mL (rmH hh)) (hlt : 2 < hh) (d : decode cc pc = .ok (.invokevirtual 153, 3)) (hrest : (rest.map fun v => v.category).sum ≤ 8) {P : Int32 → St → Prop} (h : sx_isStuff σ  P) (kk : ∀ (r : Int32) (σ' : St), P r σ' → AX Z 0 0 (pc + 3) lv (.int r :: rest) (xW G L σ')) : AX Z 0 0 pc lv (.ref (L 0) :: rest) (xW G L σ) :=
  ax_callV (N0 := 0) (As := []) K (mx_isStuff (sx_isStuff_ok h)) q323 q325 qs4 q117 q326 ⟨rfl, by decide, by decide, by decide⟩ rfl ⟨by show 2 + 1 + 1 ≤ hh + 1; omega, by show 8 + (1 + 11) + 60 * (2 + 1) ≤ 60 * (hh + 1); omega⟩ ⟨Nat.zero_le _, Nat.zero_le _⟩ rfl rfl rfl hrest d (fun r σ' hp => by obtain ⟨v, rfl, hp⟩ := hp; exact kk v σ' hp)
/-! x.isWarm -/
set_option maxHeartbeats 4000000 in
theorem kx_isWarm_j35 {Z : AZ} {G : AG} {L : Nat → Nat} {P : Int32 → St → Prop} (K : AK Z G cX1_isWarm RX1 4 (rmH 2)) (E : AEi Z cX1_isWarm .boolean (xW G L) 0 0 P) (s0 : Int32) (σ : St) (h : wx_isWarm_j35 P  s0 σ) : AX Z 0 0 35 [(0, .ref (L 0))] [.int s0] (xW G L σ) := by
  unfold wx_isWarm_j35 at h
  exact E _ _ _ _ dX1_isWarm_35 h.1 h.2
set_option maxHeartbeats 4000000 in
theorem kx_isWarm_j30 {Z : AZ} {G : AG} {L : Nat → Nat} {P : Int32 → St → Prop} (K : AK Z G cX1_isWarm RX1 4 (rmH 2)) (E : AEi Z cX1_isWarm .boolean (xW G L) 0 0 P) (σ : St) (h : wx_isWarm_j30 P  σ) : AX Z 0 0 30 [(0, .ref (L 0))] [] (xW G L σ) := by
  unfold wx_isWarm_j30 at h
  refine ax_iconst (v := (1 : Int32)) K (by decide) dX1_isWarm_30 ?_
  refine ax_goto (tgt := 35) K dX1_isWarm_31 (by decide) ?_
  exact ax_sub [0] rfl (kx_isWarm_j35 K E  (1 : Int32) σ h)
set_option maxHeartbeats 4000000 in
theorem kx_isWarm_j69 {Z : AZ} {G : AG} {L : Nat → Nat} {P : Int32 → St → Prop} (K : AK Z G cX1_isWarm RX1 4 (rmH 2)) (E : AEi Z cX1_isWarm .boolean (xW G L) 0 0 P) (s0 : Int32) (σ : St) (h : wx_isWarm_j69 P  s0 σ) : AX Z 0 0 69 [(0, .ref (L 0))] [.int s0] (xW G L σ) := by
  unfold wx_isWarm_j69 at h
  exact E _ _ _ _ dX1_isWarm_69 h.1 h.2
set_option maxHeartbeats 4000000 in
theorem kx_isWarm_j64 {Z : AZ} {G : AG} {L : Nat → Nat} {P : Int32 → St → Prop} (K : AK Z G cX1_isWarm RX1 4 (rmH 2)) (E : AEi Z cX1_isWarm .boolean (xW G L) 0 0 P) (σ : St) (h : wx_isWarm_j64 P  σ) : AX Z 0 0 64 [(0, .ref (L 0))] [] (xW G L σ) := by
  unfold wx_isWarm_j64 at h
  refine ax_iconst (v := (1 : Int32)) K (by decide) dX1_isWarm_64 ?_
  refine ax_goto (tgt := 69) K dX1_isWarm_65 (by decide) ?_
  exact ax_sub [0] rfl (kx_isWarm_j69 K E  (1 : Int32) σ h)
set_option maxHeartbeats 4000000 in
theorem mx_isWarm {l : Launch} {G : AG} {L : Nat → Nat} {σ : St} {v1 : Int32} {v2 : Int32} {v3 : Int32} {P : Int32 → St → Prop} (h : wx_isWarm σ v1 v2 v3 P) : CtW l G yX1_isWarm cX1_isWarm 4 (some .boolean) (rmH 2) [.ref (L 0), .int v1, .int v2, .int v3] (xW G L) σ (pI P) := by
  refine CtW.ofI (by decide) (Nat.le_of_ble_eq_true rfl) fun Z _ K E => ?_
  unfold wx_isWarm at h
  show AX Z 0 0 0 [(0, .ref (L 0)), (1, .int v1), (2, .int v2), (3, .int v3)] [] (xW G L σ)
  refine ax_aload_n K 0 rfl dX1_isWarm_0 ?_
  refine xg_law K dX1_isWarm_1 ?_
  refine ax_iconst (v := (2 : Int32)) K (by decide) dX1_isWarm_4 ?_
  refine xl_law K h.1 dX1_isWarm_5 ?_
  replace h := h.2
  refine ax_iconst (v := (1 : Int32)) K (by decide) dX1_isWarm_6 ?_
  refine ax_icmp_ne (tgt := 36) K dX1_isWarm_7 (by decide) (fun c7 => ?_) (fun c7 => ?_)
  · have h := ax_ie h c7
    refine ax_aload_n K 0 rfl dX1_isWarm_36 ?_
    refine xg_law K dX1_isWarm_37 ?_
    refine ax_iconst (v := (2 : Int32)) K (by decide) dX1_isWarm_40 ?_
    refine xl_law K h.1 dX1_isWarm_41 ?_
    replace h := h.2
    refine ax_if_eq (tgt := 64) K dX1_isWarm_42 (by decide) (fun c42 => ?_) (fun c42 => ?_)
    · have h := ax_it h c42
      exact ax_sub [0] rfl (kx_isWarm_j64 K E  σ h)
    · have h := ax_ie h c42
      refine ax_aload_n K 0 rfl dX1_isWarm_45 ?_
      refine xg_hot K dX1_isWarm_46 ?_
      refine ax_iload_n K 2 rfl dX1_isWarm_49 ?_
      refine rx_has K (by decide) dX1_isWarm_50 (Nat.le_of_ble_eq_true rfl) h (fun r50 h => ?_)
      refine ax_aload_n K 0 rfl dX1_isWarm_53 ?_
      refine xg_hot K dX1_isWarm_54 ?_
      refine ax_iload_n K 3 rfl dX1_isWarm_57 ?_
      refine rx_has K (by decide) dX1_isWarm_58 (Nat.le_of_ble_eq_true rfl) h (fun r58 h => ?_)
      refine ax_icmp_eq (tgt := 68) K dX1_isWarm_61 (by decide) (fun c61 => ?_) (fun c61 => ?_)
      · have h := ax_it h c61
        refine ax_iconst (v := (0 : Int32)) K (by decide) dX1_isWarm_68 ?_
        exact ax_sub [0] rfl (kx_isWarm_j69 K E  (0 : Int32) σ h)
      · have h := ax_ie h c61
        exact ax_sub [0] rfl (kx_isWarm_j64 K E  σ h)
  · have h := ax_it h c7
    refine ax_aload_n K 0 rfl dX1_isWarm_10 ?_
    refine xg_hot K dX1_isWarm_11 ?_
    refine ax_iload_n K 3 rfl dX1_isWarm_14 ?_
    refine rx_has K (by decide) dX1_isWarm_15 (Nat.le_of_ble_eq_true rfl) h (fun r15 h => ?_)
    refine ax_if_ne (tgt := 30) K dX1_isWarm_18 (by decide) (fun c18 => ?_) (fun c18 => ?_)
    · have h := ax_ie h c18
      exact ax_sub [0] rfl (kx_isWarm_j30 K E  σ h)
    · have h := ax_it h c18
      refine ax_iload_n K 1 rfl dX1_isWarm_21 ?_
      refine ax_aload_n K 0 rfl dX1_isWarm_22 ?_
      refine xg_hot K dX1_isWarm_23 ?_
      refine ax_iand K dX1_isWarm_26 ?_
      refine ax_if_ne (tgt := 34) K dX1_isWarm_27 (by decide) (fun c27 => ?_) (fun c27 => ?_)
      · have h := ax_ie h c27
        refine ax_iconst (v := (0 : Int32)) K (by decide) dX1_isWarm_34 ?_
        exact ax_sub [0] rfl (kx_isWarm_j35 K E  (0 : Int32) σ h)
      · have h := ax_it h c27
        exact ax_sub [0] rfl (kx_isWarm_j30 K E  σ h)
theorem rx_isWarm {Z : AZ} {G : AG} {cc : ByteArray} {mL hh pc : Nat} {lv : List (Nat × Value)} {rest : List Value} {L : Nat → Nat} {σ : St} (K : AK Z G cc RX1 mL (rmH hh)) (hlt : 2 < hh) (d : decode cc pc = .ok (.invokevirtual 293, 3)) (hrest : (rest.map fun v => v.category).sum ≤ 8) {v1 : Int32} {v2 : Int32} {v3 : Int32} {P : Int32 → St → Prop} (h : sx_isWarm σ v1 v2 v3 P) (kk : ∀ (r : Int32) (σ' : St), P r σ' → AX Z 0 0 (pc + 3) lv (.int r :: rest) (xW G L σ')) : AX Z 0 0 pc lv (.int v3 :: .int v2 :: .int v1 :: .ref (L 0) :: rest) (xW G L σ) :=
  ax_callV (N0 := 3) (As := [.int v1, .int v2, .int v3]) K (mx_isWarm (sx_isWarm_ok h)) q581 q583 qs18 q117 q584 ⟨rfl, by decide, by decide, by decide⟩ rfl ⟨by show 2 + 1 + 1 ≤ hh + 1; omega, by show 8 + (4 + 11) + 60 * (2 + 1) ≤ 60 * (hh + 1); omega⟩ ⟨Nat.zero_le _, Nat.zero_le _⟩ rfl rfl rfl hrest d (fun r σ' hp => by obtain ⟨v, rfl, hp⟩ := hp; exact kk v σ' hp)
/-! x.keep -/
set_option maxHeartbeats 4000000 in
theorem mx_keep {l : Launch} {G : AG} {L : Nat → Nat} {σ : St} {v1 : Int32} {P : Int32 → St → Prop} (h : wx_keep σ v1 P) : CtW l G yX1_keep cX1_keep 3 (some .boolean) (rmH 2) [.ref (L 0), .int v1] (xW G L) σ (pI P) := by
  refine CtW.ofI (by decide) (Nat.le_of_ble_eq_true rfl) fun Z _ K E => ?_
  unfold wx_keep at h
  show AX Z 0 0 0 [(0, .ref (L 0)), (1, .int v1)] [] (xW G L σ)
  refine ax_iload_n K 1 rfl dX1_keep_0 ?_
  refine ax_i2l K dX1_keep_1 ?_
  refine ax_lconst (v := (0 : Int64)) K (by decide) dX1_keep_2 ?_
  refine ax_lconst (v := (1 : Int64)) K (by decide) dX1_keep_3 ?_
  refine rx_in K (by decide) dX1_keep_4 (Nat.le_of_ble_eq_true rfl) h (fun r4 h => ?_)
  refine ax_if_ne (tgt := 12) K dX1_keep_7 (by decide) (fun c7 => ?_) (fun c7 => ?_)
  · have h := ax_ie h c7
    refine ax_bipush (v := (23 : Int32)) K (by decide) dX1_keep_12 ?_
    refine ax_iload_n K 1 rfl dX1_keep_14 ?_
    refine ax_imul K dX1_keep_15 ?_
    refine ax_istore_n (lv' := [(2, .int ((23 : Int32) * v1)), (0, .ref (L 0)), (1, .int v1)]) K dX1_keep_16 (by decide) rfl ?_
    refine ax_aload_n K 1 rfl dX1_keep_17 ?_
    refine xg_stores K dX1_keep_18 ?_
    refine ax_iconst (v := (0 : Int32)) K (by decide) dX1_keep_21 ?_
    refine ax_aload_n K 1 rfl dX1_keep_22 ?_
    refine xg_kept K dX1_keep_23 ?_
    refine ax_iload_n K 0 rfl dX1_keep_26 ?_
    refine ax_bipush (v := (8 : Int32)) K (by decide) dX1_keep_27 ?_
    refine xc_stores_kept K h.1 (Nat.le_of_ble_eq_true rfl) (Nat.le_of_ble_eq_true rfl) dX1_keep_29 ?_
    replace h := h.2
    refine ax_aload_n K 1 rfl dX1_keep_32 ?_
    refine xg_law K dX1_keep_33 ?_
    refine ax_iconst (v := (0 : Int32)) K (by decide) dX1_keep_36 ?_
    refine ax_aload_n K 1 rfl dX1_keep_37 ?_
    refine xg_kept K dX1_keep_38 ?_
    refine ax_iload_n K 0 rfl dX1_keep_41 ?_
    refine ax_bipush (v := (8 : Int32)) K (by decide) dX1_keep_42 ?_
    refine ax_iadd K dX1_keep_44 ?_
    refine ax_iconst (v := (3 : Int32)) K (by decide) dX1_keep_45 ?_
    refine xc_law_kept K h.1 (Nat.le_of_ble_eq_true rfl) (Nat.le_of_ble_eq_true rfl) dX1_keep_46 ?_
    replace h := h.2
    refine ax_aload_n K 1 rfl dX1_keep_49 ?_
    refine xg_served K dX1_keep_50 ?_
    refine ax_iconst (v := (0 : Int32)) K (by decide) dX1_keep_53 ?_
    refine ax_aload_n K 1 rfl dX1_keep_54 ?_
    refine xg_kept K dX1_keep_55 ?_
    refine ax_iload_n K 0 rfl dX1_keep_58 ?_
    refine ax_bipush (v := (8 : Int32)) K (by decide) dX1_keep_59 ?_
    refine ax_iadd K dX1_keep_61 ?_
    refine ax_iconst (v := (3 : Int32)) K (by decide) dX1_keep_62 ?_
    refine ax_iadd K dX1_keep_63 ?_
    refine ax_bipush (v := (10 : Int32)) K (by decide) dX1_keep_64 ?_
    refine xc_served_kept K h.1 (Nat.le_of_ble_eq_true rfl) (Nat.le_of_ble_eq_true rfl) dX1_keep_66 ?_
    replace h := h.2
    refine ax_aload_n K 1 rfl dX1_keep_69 ?_
    refine xg_kept K dX1_keep_70 ?_
    refine ax_iload_n K 0 rfl dX1_keep_73 ?_
    refine ax_bipush (v := (23 : Int32)) K (by decide) dX1_keep_74 ?_
    refine ax_iadd K dX1_keep_76 ?_
    refine ax_iconst (v := (2 : Int32)) K (by decide) dX1_keep_77 ?_
    refine ax_isub K dX1_keep_78 ?_
    refine ax_aload_n K 1 rfl dX1_keep_79 ?_
    refine xg_servedMany K dX1_keep_80 ?_
    refine xs_kept K h.1 dX1_keep_83 ?_
    replace h := h.2
    refine ax_aload_n K 1 rfl dX1_keep_84 ?_
    refine xg_kept K dX1_keep_85 ?_
    refine ax_iload_n K 0 rfl dX1_keep_88 ?_
    refine ax_bipush (v := (23 : Int32)) K (by decide) dX1_keep_89 ?_
    refine ax_iadd K dX1_keep_91 ?_
    refine ax_iconst (v := (1 : Int32)) K (by decide) dX1_keep_92 ?_
    refine ax_isub K dX1_keep_93 ?_
    refine ax_aload_n K 1 rfl dX1_keep_94 ?_
    refine xg_dishes K dX1_keep_95 ?_
    refine xs_kept K h.1 dX1_keep_98 ?_
    replace h := h.2
    refine ax_aload_n K 1 rfl dX1_keep_99 ?_
    refine xg_isKept K dX1_keep_100 ?_
    refine ax_iload_n K 2 rfl dX1_keep_103 ?_
    refine ax_iconst (v := (1 : Int32)) K (by decide) dX1_keep_104 ?_
    refine xs_isKept K h.1 dX1_keep_105 ?_
    replace h := h.2
    refine ax_iconst (v := (1 : Int32)) K (by decide) dX1_keep_106 ?_
    exact E _ _ _ _ dX1_keep_107 rfl h
  · have h := ax_it h c7
    refine ax_iconst (v := (0 : Int32)) K (by decide) dX1_keep_10 ?_
    exact E _ _ _ _ dX1_keep_11 rfl h

/-! x.manyOf -/
set_option maxHeartbeats 4000000 in
theorem kx_manyOf_j43 {Z : AZ} {G : AG} {L : Nat → Nat} {P : Int32 → St → Prop} (K : AK Z G cX1_manyOf RX1 5 (rmH 2)) (E : AEi Z cX1_manyOf .int (xW G L) 0 0 P) {K5 : Int32 → Int32 → Int32 → Int32 → St → Prop} (hK5 : ∀ (v1 : Int32) (v2 : Int32) (v3 : Int32) (v4 : Int32) (σ : St), K5 v1 v2 v3 v4 σ → AX Z 0 0 5 [(0, .ref (L 0)), (1, .int v1), (2, .int v2), (3, .int v3), (4, .int v4)] [] (xW G L σ)) (v1 : Int32) (v2 : Int32) (v4 : Int32) (s0 : Int32) (s1 : Int32) (σ : St) (h : wx_manyOf_j43 P K5 v1 v2 v4 s0 s1 σ) : AX Z 0 0 43 [(0, .ref (L 0)), (1, .int v1), (2, .int v2), (4, .int v4)] [.int s1, .int s0] (xW G L σ) := by
  unfold wx_manyOf_j43 at h
  refine ax_iadd K dX1_manyOf_43 ?_
  refine ax_istore_n (lv' := [(3, .int (s0 + s1)), (0, .ref (L 0)), (1, .int v1), (2, .int v2), (4, .int v4)]) K dX1_manyOf_44 (by decide) rfl ?_
  refine ax_iinc (lv' := [(4, .int (v4 + (1 : Int32))), (3, .int (s0 + s1)), (0, .ref (L 0)), (1, .int v1), (2, .int v2)]) (v := (v4 + (1 : Int32))) K 4 dX1_manyOf_45 rfl (by rfl) (by decide) rfl ?_
  refine ax_goto (tgt := 5) K dX1_manyOf_48 (by decide) ?_
  exact ax_sub [2, 3, 4, 1, 0] rfl (hK5 v1 v2 (s0 + s1) (v4 + (1 : Int32)) σ h)
set_option maxHeartbeats 4000000 in
theorem kx_manyOf_j42 {Z : AZ} {G : AG} {L : Nat → Nat} {P : Int32 → St → Prop} (K : AK Z G cX1_manyOf RX1 5 (rmH 2)) (E : AEi Z cX1_manyOf .int (xW G L) 0 0 P) {K5 : Int32 → Int32 → Int32 → Int32 → St → Prop} (hK5 : ∀ (v1 : Int32) (v2 : Int32) (v3 : Int32) (v4 : Int32) (σ : St), K5 v1 v2 v3 v4 σ → AX Z 0 0 5 [(0, .ref (L 0)), (1, .int v1), (2, .int v2), (3, .int v3), (4, .int v4)] [] (xW G L σ)) (v1 : Int32) (v2 : Int32) (v4 : Int32) (s0 : Int32) (σ : St) (h : wx_manyOf_j42 P K5 v1 v2 v4 s0 σ) : AX Z 0 0 42 [(0, .ref (L 0)), (1, .int v1), (2, .int v2), (4, .int v4)] [.int s0] (xW G L σ) := by
  unfold wx_manyOf_j42 at h
  refine ax_iconst (v := (0 : Int32)) K (by decide) dX1_manyOf_42 ?_
  exact ax_sub [0, 1, 2, 3] rfl (kx_manyOf_j43 K E hK5 v1 v2 v4 s0 (0 : Int32) σ h)
set_option maxHeartbeats 4000000 in
theorem kx_manyOf_l5 {Z : AZ} {G : AG} {L : Nat → Nat} {P : Int32 → St → Prop} (K : AK Z G cX1_manyOf RX1 5 (rmH 2)) (E : AEi Z cX1_manyOf .int (xW G L) 0 0 P) : ∀ (n : Nat) (v1 : Int32) (v2 : Int32) (v3 : Int32) (v4 : Int32) (σ : St), wx_manyOf_l5 P  n v1 v2 v3 v4 σ → AX Z 0 0 5 [(0, .ref (L 0)), (1, .int v1), (2, .int v2), (3, .int v3), (4, .int v4)] [] (xW G L σ) := by
  intro n
  induction n with
  | zero => intro v1 v2 v3 v4 σ h; exact False.elim h
  | succ n ih =>
    intro v1 v2 v3 v4 σ h
    rw [wx_manyOf_l5_s] at h
    refine ax_iload K 4 rfl dX1_manyOf_5 ?_
    refine ax_aload_n K 0 rfl dX1_manyOf_7 ?_
    refine xg_dishes K dX1_manyOf_8 ?_
    refine ax_icmp_ge (tgt := 51) K dX1_manyOf_11 (by decide) (fun c11 => ?_) (fun c11 => ?_)
    · have h := ax_it h c11
      refine ax_iload_n K 3 rfl dX1_manyOf_51 ?_
      exact E _ _ _ _ dX1_manyOf_52 rfl h
    · have h := ax_ie h c11
      refine ax_iload_n K 3 rfl dX1_manyOf_14 ?_
      refine ax_iload_n K 1 rfl dX1_manyOf_15 ?_
      refine ax_iload K 4 rfl dX1_manyOf_16 ?_
      refine rx_has K (by decide) dX1_manyOf_18 (Nat.le_of_ble_eq_true rfl) h (fun r18 h => ?_)
      refine ax_if_eq (tgt := 42) K dX1_manyOf_21 (by decide) (fun c21 => ?_) (fun c21 => ?_)
      · have h := ax_it h c21
        exact ax_sub [0, 1, 2, 4] rfl (kx_manyOf_j42 K E ih v1 v2 v4 v3 σ h)
      · have h := ax_ie h c21
        refine ax_aload_n K 0 rfl dX1_manyOf_24 ?_
        refine xg_stuffs K dX1_manyOf_25 ?_
        refine ax_iload K 4 rfl dX1_manyOf_28 ?_
        refine xl_stuffs K h.1 dX1_manyOf_30 ?_
        replace h := h.2
        refine ax_iload_n K 2 rfl dX1_manyOf_31 ?_
        refine rx_has K (by decide) dX1_manyOf_32 (Nat.le_of_ble_eq_true rfl) h (fun r32 h => ?_)
        refine ax_if_eq (tgt := 42) K dX1_manyOf_35 (by decide) (fun c35 => ?_) (fun c35 => ?_)
        · have h := ax_it h c35
          exact ax_sub [0, 1, 2, 4] rfl (kx_manyOf_j42 K E ih v1 v2 v4 v3 σ h)
        · have h := ax_ie h c35
          refine ax_iconst (v := (1 : Int32)) K (by decide) dX1_manyOf_38 ?_
          refine ax_goto (tgt := 43) K dX1_manyOf_39 (by decide) ?_
          exact ax_sub [0, 1, 2, 4] rfl (kx_manyOf_j43 K E ih v1 v2 v4 v3 (1 : Int32) σ h)
set_option maxHeartbeats 4000000 in
theorem mx_manyOf {l : Launch} {G : AG} {L : Nat → Nat} {σ : St} {v1 : Int32} {v2 : Int32} {P : Int32 → St → Prop} (h : wx_manyOf σ v1 v2 P) : CtW l G yX1_manyOf cX1_manyOf 5 (some .int) (rmH 2) [.ref (L 0), .int v1, .int v2] (xW G L) σ (pI P) := by
  refine CtW.ofI (by decide) (Nat.le_of_ble_eq_true rfl) fun Z _ K E => ?_
  unfold wx_manyOf at h
  show AX Z 0 0 0 [(0, .ref (L 0)), (1, .int v1), (2, .int v2)] [] (xW G L σ)
  refine ax_iconst (v := (0 : Int32)) K (by decide) dX1_manyOf_0 ?_
  refine ax_istore_n (lv' := [(3, .int (0 : Int32)), (0, .ref (L 0)), (1, .int v1), (2, .int v2)]) K dX1_manyOf_1 (by decide) rfl ?_
  refine ax_iconst (v := (0 : Int32)) K (by decide) dX1_manyOf_2 ?_
  refine ax_istore (lv' := [(4, .int (0 : Int32)), (3, .int (0 : Int32)), (0, .ref (L 0)), (1, .int v1), (2, .int v2)]) K dX1_manyOf_3 (by decide) rfl ?_
  exact ax_sub [2, 3, 4, 1, 0] rfl (h.elim fun n5 h => kx_manyOf_l5 K E  n5 v1 v2 (0 : Int32) (0 : Int32) σ h)
theorem rx_manyOf {Z : AZ} {G : AG} {cc : ByteArray} {mL hh pc : Nat} {lv : List (Nat × Value)} {rest : List Value} {L : Nat → Nat} {σ : St} (K : AK Z G cc RX1 mL (rmH hh)) (hlt : 2 < hh) (d : decode cc pc = .ok (.invokevirtual 287, 3)) (hrest : (rest.map fun v => v.category).sum ≤ 8) {v1 : Int32} {v2 : Int32} {P : Int32 → St → Prop} (h : sx_manyOf σ v1 v2 P) (kk : ∀ (r : Int32) (σ' : St), P r σ' → AX Z 0 0 (pc + 3) lv (.int r :: rest) (xW G L σ')) : AX Z 0 0 pc lv (.int v2 :: .int v1 :: .ref (L 0) :: rest) (xW G L σ) :=
  ax_callV (N0 := 2) (As := [.int v1, .int v2]) K (mx_manyOf (sx_manyOf_ok h)) q589 q591 qs20 q117 q592 ⟨rfl, by decide, by decide, by decide⟩ rfl ⟨by show 2 + 1 + 1 ≤ hh + 1; omega, by show 8 + (5 + 11) + 60 * (2 + 1) ≤ 60 * (hh + 1); omega⟩ ⟨Nat.zero_le _, Nat.zero_le _⟩ rfl rfl rfl hrest d (fun r σ' hp => by obtain ⟨v, rfl, hp⟩ := hp; exact kk v σ' hp)
/-! x.mendBy -/
set_option maxHeartbeats 4000000 in
theorem kx_mendBy_j21 {Z : AZ} {G : AG} {L : Nat → Nat} {P : Int32 → St → Prop} (K : AK Z G cX1_mendBy RX1 4 (rmH 2)) (E : AEi Z cX1_mendBy .int (xW G L) 0 0 P) (v2 : Int32) (v3 : Int32) (s0 : Int32) (s1 : Int32) (σ : St) (h : wx_mendBy_j21 P  v2 v3 s0 s1 σ) : AX Z 0 0 21 [(0, .ref (L 0)), (2, .int v2), (3, .int v3)] [.int s1, .int s0] (xW G L σ) := by
  unfold wx_mendBy_j21 at h
  refine ax_aload_n K 0 rfl dX1_mendBy_21 ?_
  refine xg_value K dX1_mendBy_22 ?_
  refine ax_iload_n K 1 rfl dX1_mendBy_25 ?_
  refine ax_iconst (v := (1 : Int32)) K (by decide) dX1_mendBy_26 ?_
  refine ax_iload_n K 2 rfl dX1_mendBy_27 ?_
  refine ax_ishl K dX1_mendBy_28 ?_
  refine ax_ior K dX1_mendBy_29 ?_
  refine ax_iload_n K 2 rfl dX1_mendBy_30 ?_
  refine rx_stateOf K (by decide) dX1_mendBy_31 (Nat.le_of_ble_eq_true rfl) h (fun r31 h => ?_)
  refine xl_value K h.1 dX1_mendBy_34 ?_
  replace h := h.2
  refine ax_iadd K dX1_mendBy_35 ?_
  refine rx_min K (by decide) (Nat.le_of_ble_eq_true rfl) dX1_mendBy_36 ?_
  exact E _ _ _ _ dX1_mendBy_39 rfl h
set_option maxHeartbeats 4000000 in
theorem mx_mendBy {l : Launch} {G : AG} {L : Nat → Nat} {σ : St} {v1 : Int32} {v2 : Int32} {v3 : Int32} {P : Int32 → St → Prop} (h : wx_mendBy σ v1 v2 v3 P) : CtW l G yX1_mendBy cX1_mendBy 4 (some .int) (rmH 2) [.ref (L 0), .int v1, .int v2, .int v3] (xW G L) σ (pI P) := by
  refine CtW.ofI (by decide) (Nat.le_of_ble_eq_true rfl) fun Z _ K E => ?_
  unfold wx_mendBy at h
  show AX Z 0 0 0 [(0, .ref (L 0)), (1, .int v1), (2, .int v2), (3, .int v3)] [] (xW G L σ)
  refine ax_ldcw (v := (1000000 : Int32)) K q717 dX1_mendBy_0 ?_
  refine ax_aload_n K 0 rfl dX1_mendBy_3 ?_
  refine ax_iload_n K 1 rfl dX1_mendBy_4 ?_
  refine ax_iload_n K 2 rfl dX1_mendBy_5 ?_
  refine rx_bitCount K (by decide) dX1_mendBy_6 (Nat.le_of_ble_eq_true rfl) ?_
  refine rx_dishAt K (by decide) dX1_mendBy_9 (Nat.le_of_ble_eq_true rfl) h (fun r9 σ9 h => ?_)
  refine ax_iload_n K 3 rfl dX1_mendBy_12 ?_
  refine ax_icmp_ne (tgt := 20) K dX1_mendBy_13 (by decide) (fun c13 => ?_) (fun c13 => ?_)
  · have h := ax_ie h c13
    refine ax_iconst (v := (1 : Int32)) K (by decide) dX1_mendBy_20 ?_
    exact ax_sub [0, 2, 3] rfl (kx_mendBy_j21 K E  v2 v3 (1000000 : Int32) (1 : Int32) σ9 h)
  · have h := ax_it h c13
    refine ax_iconst (v := (0 : Int32)) K (by decide) dX1_mendBy_16 ?_
    refine ax_goto (tgt := 21) K dX1_mendBy_17 (by decide) ?_
    exact ax_sub [0, 2, 3] rfl (kx_mendBy_j21 K E  v2 v3 (1000000 : Int32) (0 : Int32) σ9 h)
theorem rx_mendBy {Z : AZ} {G : AG} {cc : ByteArray} {mL hh pc : Nat} {lv : List (Nat × Value)} {rest : List Value} {L : Nat → Nat} {σ : St} (K : AK Z G cc RX1 mL (rmH hh)) (hlt : 2 < hh) (d : decode cc pc = .ok (.invokevirtual 417, 3)) (hrest : (rest.map fun v => v.category).sum ≤ 8) {v1 : Int32} {v2 : Int32} {v3 : Int32} {P : Int32 → St → Prop} (h : sx_mendBy σ v1 v2 v3 P) (kk : ∀ (r : Int32) (σ' : St), P r σ' → AX Z 0 0 (pc + 3) lv (.int r :: rest) (xW G L σ')) : AX Z 0 0 pc lv (.int v3 :: .int v2 :: .int v1 :: .ref (L 0) :: rest) (xW G L σ) :=
  ax_callV (N0 := 3) (As := [.int v1, .int v2, .int v3]) K (mx_mendBy (sx_mendBy_ok h)) q842 q844 qs49 q117 q845 ⟨rfl, by decide, by decide, by decide⟩ rfl ⟨by show 2 + 1 + 1 ≤ hh + 1; omega, by show 8 + (4 + 11) + 60 * (2 + 1) ≤ 60 * (hh + 1); omega⟩ ⟨Nat.zero_le _, Nat.zero_le _⟩ rfl rfl rfl hrest d (fun r σ' hp => by obtain ⟨v, rfl, hp⟩ := hp; exact kk v σ' hp)
/-! x.rare -/
set_option maxHeartbeats 4000000 in
theorem kx_rare_j52 {Z : AZ} {G : AG} {L : Nat → Nat} {P : Int32 → St → Prop} (K : AK Z G cX1_rare RX1 6 (rmH 2)) (E : AEi Z cX1_rare .int (xW G L) 0 0 P) {K19 : Int32 → Int32 → Int32 → Int32 → Int32 → St → Prop} (hK19 : ∀ (v1 : Int32) (v2 : Int32) (v3 : Int32) (v4 : Int32) (v5 : Int32) (σ : St), K19 v1 v2 v3 v4 v5 σ → AX Z 0 0 19 [(0, .ref (L 0)), (1, .int v1), (2, .int v2), (3, .int v3), (4, .int v4), (5, .int v5)] [] (xW G L σ)) (v1 : Int32) (v2 : Int32) (v3 : Int32) (v5 : Int32) (s0 : Int32) (s1 : Int32) (σ : St) (h : wx_rare_j52 P K19 v1 v2 v3 v5 s0 s1 σ) : AX Z 0 0 52 [(0, .ref (L 0)), (1, .int v1), (2, .int v2), (3, .int v3), (5, .int v5)] [.int s1, .int s0] (xW G L σ) := by
  unfold wx_rare_j52 at h
  refine ax_ior K dX1_rare_52 ?_
  refine ax_istore (lv' := [(4, .int (s0 ||| s1)), (0, .ref (L 0)), (1, .int v1), (2, .int v2), (3, .int v3), (5, .int v5)]) K dX1_rare_53 (by decide) rfl ?_
  refine ax_iinc (lv' := [(5, .int (v5 + (1 : Int32))), (4, .int (s0 ||| s1)), (0, .ref (L 0)), (1, .int v1), (2, .int v2), (3, .int v3)]) (v := (v5 + (1 : Int32))) K 5 dX1_rare_55 rfl (by rfl) (by decide) rfl ?_
  refine ax_goto (tgt := 19) K dX1_rare_58 (by decide) ?_
  exact ax_sub [2, 3, 4, 5, 1, 0] rfl (hK19 v1 v2 v3 (s0 ||| s1) (v5 + (1 : Int32)) σ h)
set_option maxHeartbeats 4000000 in
theorem kx_rare_l19 {Z : AZ} {G : AG} {L : Nat → Nat} {P : Int32 → St → Prop} (K : AK Z G cX1_rare RX1 6 (rmH 2)) (E : AEi Z cX1_rare .int (xW G L) 0 0 P) {K85 : Int32 → Int32 → St → Prop} (hK85 : ∀ (v3 : Int32) (v4 : Int32) (σ : St), K85 v3 v4 σ → AX Z 0 0 85 [(0, .ref (L 0)), (3, .int v3), (4, .int v4)] [] (xW G L σ)) {K90 : Int32 → Int32 → Int32 → St → Prop} (hK90 : ∀ (v1 : Int32) (v2 : Int32) (v3 : Int32) (σ : St), K90 v1 v2 v3 σ → AX Z 0 0 90 [(0, .ref (L 0)), (1, .int v1), (2, .int v2), (3, .int v3)] [] (xW G L σ)) : ∀ (n : Nat) (v1 : Int32) (v2 : Int32) (v3 : Int32) (v4 : Int32) (v5 : Int32) (σ : St), wx_rare_l19 P K85 K90 n v1 v2 v3 v4 v5 σ → AX Z 0 0 19 [(0, .ref (L 0)), (1, .int v1), (2, .int v2), (3, .int v3), (4, .int v4), (5, .int v5)] [] (xW G L σ) := by
  intro n
  induction n with
  | zero => intro v1 v2 v3 v4 v5 σ h; exact False.elim h
  | succ n ih =>
    intro v1 v2 v3 v4 v5 σ h
    rw [wx_rare_l19_s] at h
    refine ax_iload K 5 rfl dX1_rare_19 ?_
    refine ax_aload_n K 0 rfl dX1_rare_21 ?_
    refine xg_dishes K dX1_rare_22 ?_
    refine ax_icmp_ge (tgt := 61) K dX1_rare_25 (by decide) (fun c25 => ?_) (fun c25 => ?_)
    · have h := ax_it h c25
      refine ax_iload K 4 rfl dX1_rare_61 ?_
      refine ax_if_eq (tgt := 90) K dX1_rare_63 (by decide) (fun c63 => ?_) (fun c63 => ?_)
      · have h := ax_it h c63
        exact ax_sub [0, 1, 2, 3] rfl (hK90 v1 v2 v3 σ h)
      · have h := ax_ie h c63
        refine ax_iload_n K 1 rfl dX1_rare_66 ?_
        refine ax_if_lt (tgt := 85) K dX1_rare_67 (by decide) (fun c67 => ?_) (fun c67 => ?_)
        · have h := ax_it h c67
          exact ax_sub [0, 3, 4] rfl (hK85 v3 v4 σ h)
        · have h := ax_ie h c67
          refine ax_iload K 4 rfl dX1_rare_70 ?_
          refine rx_bitCount K (by decide) dX1_rare_72 (Nat.le_of_ble_eq_true rfl) ?_
          refine ax_iload_n K 2 rfl dX1_rare_75 ?_
          refine rx_bitCount K (by decide) dX1_rare_76 (Nat.le_of_ble_eq_true rfl) ?_
          refine ax_icmp_lt (tgt := 85) K dX1_rare_79 (by decide) (fun c79 => ?_) (fun c79 => ?_)
          · have h := ax_it h c79
            exact ax_sub [0, 3, 4] rfl (hK85 v3 v4 σ h)
          · have h := ax_ie h c79
            refine ax_goto (tgt := 90) K dX1_rare_82 (by decide) ?_
            exact ax_sub [0, 1, 2, 3] rfl (hK90 v1 v2 v3 σ h)
    · have h := ax_ie h c25
      refine ax_iload K 4 rfl dX1_rare_28 ?_
      refine ax_aload_n K 0 rfl dX1_rare_30 ?_
      refine xg_stuffs K dX1_rare_31 ?_
      refine ax_iload K 5 rfl dX1_rare_34 ?_
      refine xl_stuffs K h.1 dX1_rare_36 ?_
      replace h := h.2
      refine ax_iload_n K 3 rfl dX1_rare_37 ?_
      refine rx_has K (by decide) dX1_rare_38 (Nat.le_of_ble_eq_true rfl) h (fun r38 h => ?_)
      refine ax_if_eq (tgt := 51) K dX1_rare_41 (by decide) (fun c41 => ?_) (fun c41 => ?_)
      · have h := ax_it h c41
        refine ax_iconst (v := (0 : Int32)) K (by decide) dX1_rare_51 ?_
        exact ax_sub [0, 1, 2, 3, 5] rfl (kx_rare_j52 K E ih v1 v2 v3 v5 v4 (0 : Int32) σ h)
      · have h := ax_ie h c41
        refine ax_iconst (v := (1 : Int32)) K (by decide) dX1_rare_44 ?_
        refine ax_iload K 5 rfl dX1_rare_45 ?_
        refine ax_ishl K dX1_rare_47 ?_
        refine ax_goto (tgt := 52) K dX1_rare_48 (by decide) ?_
        exact ax_sub [0, 1, 2, 3, 5] rfl (kx_rare_j52 K E ih v1 v2 v3 v5 v4 ((1 : Int32) <<< (v5 &&& 31)) σ h)
set_option maxHeartbeats 4000000 in
theorem kx_rare_j90 {Z : AZ} {G : AG} {L : Nat → Nat} {P : Int32 → St → Prop} (K : AK Z G cX1_rare RX1 6 (rmH 2)) (E : AEi Z cX1_rare .int (xW G L) 0 0 P) {K7 : Int32 → Int32 → Int32 → St → Prop} (hK7 : ∀ (v1 : Int32) (v2 : Int32) (v3 : Int32) (σ : St), K7 v1 v2 v3 σ → AX Z 0 0 7 [(0, .ref (L 0)), (1, .int v1), (2, .int v2), (3, .int v3)] [] (xW G L σ)) (v1 : Int32) (v2 : Int32) (v3 : Int32) (σ : St) (h : wx_rare_j90 P K7 v1 v2 v3 σ) : AX Z 0 0 90 [(0, .ref (L 0)), (1, .int v1), (2, .int v2), (3, .int v3)] [] (xW G L σ) := by
  unfold wx_rare_j90 at h
  refine ax_iinc (lv' := [(3, .int (v3 + (1 : Int32))), (0, .ref (L 0)), (1, .int v1), (2, .int v2)]) (v := (v3 + (1 : Int32))) K 3 dX1_rare_90 rfl (by rfl) (by decide) rfl ?_
  refine ax_goto (tgt := 7) K dX1_rare_93 (by decide) ?_
  exact ax_sub [1, 2, 3, 0] rfl (hK7 v1 v2 (v3 + (1 : Int32)) σ h)
set_option maxHeartbeats 4000000 in
theorem kx_rare_j85 {Z : AZ} {G : AG} {L : Nat → Nat} {P : Int32 → St → Prop} (K : AK Z G cX1_rare RX1 6 (rmH 2)) (E : AEi Z cX1_rare .int (xW G L) 0 0 P) {K7 : Int32 → Int32 → Int32 → St → Prop} (hK7 : ∀ (v1 : Int32) (v2 : Int32) (v3 : Int32) (σ : St), K7 v1 v2 v3 σ → AX Z 0 0 7 [(0, .ref (L 0)), (1, .int v1), (2, .int v2), (3, .int v3)] [] (xW G L σ)) (v3 : Int32) (v4 : Int32) (σ : St) (h : wx_rare_j85 P K7 v3 v4 σ) : AX Z 0 0 85 [(0, .ref (L 0)), (3, .int v3), (4, .int v4)] [] (xW G L σ) := by
  unfold wx_rare_j85 at h
  refine ax_iload_n K 1 rfl dX1_rare_85 ?_
  refine ax_istore_n (lv' := [(1, .int v3), (0, .ref (L 0)), (3, .int v3), (4, .int v4)]) K dX1_rare_86 (by decide) rfl ?_
  refine ax_iload K 3 rfl dX1_rare_87 ?_
  refine ax_istore_n (lv' := [(2, .int v4), (1, .int v3), (0, .ref (L 0)), (3, .int v3), (4, .int v4)]) K dX1_rare_89 (by decide) rfl ?_
  exact ax_sub [2, 1, 0, 3] rfl (kx_rare_j90 K E hK7 v3 v4 v3 σ h)
set_option maxHeartbeats 4000000 in
theorem kx_rare_l7 {Z : AZ} {G : AG} {L : Nat → Nat} {P : Int32 → St → Prop} (K : AK Z G cX1_rare RX1 6 (rmH 2)) (E : AEi Z cX1_rare .int (xW G L) 0 0 P) : ∀ (n : Nat) (v1 : Int32) (v2 : Int32) (v3 : Int32) (σ : St), wx_rare_l7 P  n v1 v2 v3 σ → AX Z 0 0 7 [(0, .ref (L 0)), (1, .int v1), (2, .int v2), (3, .int v3)] [] (xW G L σ) := by
  intro n
  induction n with
  | zero => intro v1 v2 v3 σ h; exact False.elim h
  | succ n ih =>
    intro v1 v2 v3 σ h
    rw [wx_rare_l7_s] at h
    refine ax_iload_n K 3 rfl dX1_rare_7 ?_
    refine ax_bipush (v := (8 : Int32)) K (by decide) dX1_rare_8 ?_
    refine ax_icmp_ge (tgt := 96) K dX1_rare_10 (by decide) (fun c10 => ?_) (fun c10 => ?_)
    · have h := ax_it h c10
      refine ax_iload_n K 1 rfl dX1_rare_96 ?_
      refine ax_if_ge (tgt := 103) K dX1_rare_97 (by decide) (fun c97 => ?_) (fun c97 => ?_)
      · have h := ax_it h c97
        refine ax_aload_n K 0 rfl dX1_rare_103 ?_
        refine ax_iconst (v := (0 : Int32)) K (by decide) dX1_rare_104 ?_
        refine xp_rowMany K dX1_rare_105 ?_
        refine ax_aload_n K 0 rfl dX1_rare_108 ?_
        refine ax_iload_n K 2 rfl dX1_rare_109 ?_
        refine rx_tells K (by decide) dX1_rare_110 (Nat.le_of_ble_eq_true rfl) h (fun σ110 h => ?_)
        refine ax_iload_n K 1 rfl dX1_rare_113 ?_
        exact E _ _ _ _ dX1_rare_114 rfl h
      · have h := ax_ie h c97
        refine ax_bipush (v := (-2 : Int32)) K (by decide) dX1_rare_100 ?_
        exact E _ _ _ _ dX1_rare_102 rfl h
    · have h := ax_ie h c10
      refine ax_iconst (v := (0 : Int32)) K (by decide) dX1_rare_13 ?_
      refine ax_istore (lv' := [(4, .int (0 : Int32)), (0, .ref (L 0)), (1, .int v1), (2, .int v2), (3, .int v3)]) K dX1_rare_14 (by decide) rfl ?_
      refine ax_iconst (v := (0 : Int32)) K (by decide) dX1_rare_16 ?_
      refine ax_istore (lv' := [(5, .int (0 : Int32)), (4, .int (0 : Int32)), (0, .ref (L 0)), (1, .int v1), (2, .int v2), (3, .int v3)]) K dX1_rare_17 (by decide) rfl ?_
      exact ax_sub [2, 3, 4, 5, 1, 0] rfl (h.elim fun n19 h => kx_rare_l19 K E (kx_rare_j85 K E ih) (kx_rare_j90 K E ih) n19 v1 v2 v3 (0 : Int32) (0 : Int32) σ h)
set_option maxHeartbeats 4000000 in
theorem mx_rare {l : Launch} {G : AG} {L : Nat → Nat} {σ : St} {P : Int32 → St → Prop} (h : wx_rare σ P) : CtW l G yX1_rare cX1_rare 6 (some .int) (rmH 2) [.ref (L 0)] (xW G L) σ (pI P) := by
  refine CtW.ofI (by decide) (Nat.le_of_ble_eq_true rfl) fun Z _ K E => ?_
  unfold wx_rare at h
  show AX Z 0 0 0 [(0, .ref (L 0))] [] (xW G L σ)
  refine ax_bipush (v := (-2 : Int32)) K (by decide) dX1_rare_0 ?_
  refine ax_istore_n (lv' := [(1, .int (-2 : Int32)), (0, .ref (L 0))]) K dX1_rare_2 (by decide) rfl ?_
  refine ax_iconst (v := (0 : Int32)) K (by decide) dX1_rare_3 ?_
  refine ax_istore_n (lv' := [(2, .int (0 : Int32)), (1, .int (-2 : Int32)), (0, .ref (L 0))]) K dX1_rare_4 (by decide) rfl ?_
  refine ax_iconst (v := (0 : Int32)) K (by decide) dX1_rare_5 ?_
  refine ax_istore_n (lv' := [(3, .int (0 : Int32)), (2, .int (0 : Int32)), (1, .int (-2 : Int32)), (0, .ref (L 0))]) K dX1_rare_6 (by decide) rfl ?_
  exact ax_sub [3, 2, 1, 0] rfl (h.elim fun n7 h => kx_rare_l7 K E  n7 (-2 : Int32) (0 : Int32) (0 : Int32) σ h)

/-! x.sheet -/
set_option maxHeartbeats 4000000 in
theorem kx_sheet_j107 {Z : AZ} {G : AG} {L : Nat → Nat} {P : Int32 → St → Prop} (K : AK Z G cX1_sheet RX1 9 (rmH 2)) (E : AEi Z cX1_sheet .int (xW G L) 0 0 P) {K41 : Int32 → Int32 → Int32 → Int32 → Int32 → Int32 → St → Prop} (hK41 : ∀ (v1 : Int32) (v2 : Int32) (v4 : Int32) (v5 : Int32) (v6 : Int32) (v7 : Int32) (σ : St), K41 v1 v2 v4 v5 v6 v7 σ → AX Z 0 0 41 [(0, .ref (L 0)), (1, .int v1), (2, .int v2), (4, .int v4), (5, .int v5), (6, .int v6), (7, .int v7)] [] (xW G L σ)) (v1 : Int32) (v2 : Int32) (v4 : Int32) (v5 : Int32) (v6 : Int32) (v7 : Int32) (s1 : Int32) (s2 : Int32) (σ : St) (h : wx_sheet_j107 P K41 v1 v2 v4 v5 v6 v7 s1 s2 σ) : AX Z 0 0 107 [(0, .ref (L 0)), (1, .int v1), (2, .int v2), (4, .int v4), (5, .int v5), (6, .int v6), (7, .int v7)] [.int s2, .int s1, .ref (L 2)] (xW G L σ) := by
  unfold wx_sheet_j107 at h
  refine xs_cost K h.1 dX1_sheet_107 ?_
  replace h := h.2
  refine ax_iload K 4 rfl dX1_sheet_108 ?_
  refine ax_aload_n K 0 rfl dX1_sheet_110 ?_
  refine xg_cost K dX1_sheet_111 ?_
  refine ax_iload K 6 rfl dX1_sheet_114 ?_
  refine xl_cost K h.1 dX1_sheet_116 ?_
  replace h := h.2
  refine ax_iadd K dX1_sheet_117 ?_
  refine ax_istore (lv' := [(5, .int (v5 + (xA_cost (xU_cost σ s1 s2) (v7).toNatClampNeg))), (0, .ref (L 0)), (1, .int v1), (2, .int v2), (4, .int v4), (6, .int v6), (7, .int v7)]) K dX1_sheet_118 (by decide) rfl ?_
  refine ax_iload K 5 rfl dX1_sheet_120 ?_
  refine ax_iload K 4 rfl dX1_sheet_122 ?_
  refine ax_iadd K dX1_sheet_124 ?_
  refine ax_istore (lv' := [(6, .int (v6 + v4)), (5, .int (v5 + (xA_cost (xU_cost σ s1 s2) (v7).toNatClampNeg))), (0, .ref (L 0)), (1, .int v1), (2, .int v2), (4, .int v4), (7, .int v7)]) K dX1_sheet_125 (by decide) rfl ?_
  refine ax_iinc (lv' := [(7, .int (v7 + (1 : Int32))), (6, .int (v6 + v4)), (5, .int (v5 + (xA_cost (xU_cost σ s1 s2) (v7).toNatClampNeg))), (0, .ref (L 0)), (1, .int v1), (2, .int v2), (4, .int v4)]) (v := (v7 + (1 : Int32))) K 6 dX1_sheet_127 rfl (by rfl) (by decide) rfl ?_
  refine ax_goto (tgt := 41) K dX1_sheet_130 (by decide) ?_
  exact ax_sub [3, 4, 5, 6, 2, 1, 0] rfl (hK41 v1 v2 v4 (v5 + (xA_cost (xU_cost σ s1 s2) (v7).toNatClampNeg)) (v6 + v4) (v7 + (1 : Int32)) (xU_cost σ s1 s2) h)
set_option maxHeartbeats 4000000 in
theorem kx_sheet_j92 {Z : AZ} {G : AG} {L : Nat → Nat} {P : Int32 → St → Prop} (K : AK Z G cX1_sheet RX1 9 (rmH 2)) (E : AEi Z cX1_sheet .int (xW G L) 0 0 P) {K41 : Int32 → Int32 → Int32 → Int32 → Int32 → Int32 → St → Prop} (hK41 : ∀ (v1 : Int32) (v2 : Int32) (v4 : Int32) (v5 : Int32) (v6 : Int32) (v7 : Int32) (σ : St), K41 v1 v2 v4 v5 v6 v7 σ → AX Z 0 0 41 [(0, .ref (L 0)), (1, .int v1), (2, .int v2), (4, .int v4), (5, .int v5), (6, .int v6), (7, .int v7)] [] (xW G L σ)) (v1 : Int32) (v2 : Int32) (v4 : Int32) (v5 : Int32) (v6 : Int32) (v7 : Int32) (s1 : Int32) (σ : St) (h : wx_sheet_j92 P K41 v1 v2 v4 v5 v6 v7 s1 σ) : AX Z 0 0 92 [(0, .ref (L 0)), (1, .int v1), (2, .int v2), (4, .int v4), (5, .int v5), (6, .int v6), (7, .int v7)] [.int s1, .ref (L 2)] (xW G L σ) := by
  unfold wx_sheet_j92 at h
  refine ax_iconst (v := (0 : Int32)) K (by decide) dX1_sheet_92 ?_
  refine ax_goto (tgt := 107) K dX1_sheet_93 (by decide) ?_
  exact ax_sub [0, 1, 2, 3, 4, 5, 6] rfl (kx_sheet_j107 K E hK41 v1 v2 v4 v5 v6 v7 s1 (0 : Int32) σ h)
set_option maxHeartbeats 4000000 in
theorem kx_sheet_j73 {Z : AZ} {G : AG} {L : Nat → Nat} {P : Int32 → St → Prop} (K : AK Z G cX1_sheet RX1 9 (rmH 2)) (E : AEi Z cX1_sheet .int (xW G L) 0 0 P) {K41 : Int32 → Int32 → Int32 → Int32 → Int32 → Int32 → St → Prop} (hK41 : ∀ (v1 : Int32) (v2 : Int32) (v4 : Int32) (v5 : Int32) (v6 : Int32) (v7 : Int32) (σ : St), K41 v1 v2 v4 v5 v6 v7 σ → AX Z 0 0 41 [(0, .ref (L 0)), (1, .int v1), (2, .int v2), (4, .int v4), (5, .int v5), (6, .int v6), (7, .int v7)] [] (xW G L σ)) (v1 : Int32) (v2 : Int32) (v4 : Int32) (v5 : Int32) (v6 : Int32) (v7 : Int32) (s0 : Int32) (σ : St) (h : wx_sheet_j73 P K41 v1 v2 v4 v5 v6 v7 s0 σ) : AX Z 0 0 73 [(0, .ref (L 0)), (1, .int v1), (2, .int v2), (4, .int v4), (5, .int v5), (6, .int v6), (7, .int v7)] [.int s0] (xW G L σ) := by
  unfold wx_sheet_j73 at h
  refine ax_istore (lv' := [(8, .int s0), (0, .ref (L 0)), (1, .int v1), (2, .int v2), (4, .int v4), (5, .int v5), (6, .int v6), (7, .int v7)]) K dX1_sheet_73 (by decide) rfl ?_
  refine ax_aload_n K 1 rfl dX1_sheet_75 ?_
  refine xg_cost K dX1_sheet_76 ?_
  refine ax_iload K 7 rfl dX1_sheet_79 ?_
  refine ax_iload_n K 2 rfl dX1_sheet_81 ?_
  refine ax_iconst (v := (3 : Int32)) K (by decide) dX1_sheet_82 ?_
  refine ax_icmp_eq (tgt := 92) K dX1_sheet_83 (by decide) (fun c83 => ?_) (fun c83 => ?_)
  · have h := ax_it h c83
    exact ax_sub [1, 2, 3, 4, 5, 6, 7] rfl (kx_sheet_j92 K E hK41 v1 v2 v4 v5 v6 v7 v7 σ h)
  · have h := ax_ie h c83
    refine ax_iload K 7 rfl dX1_sheet_86 ?_
    refine ax_iload_n K 3 rfl dX1_sheet_88 ?_
    refine ax_icmp_lt (tgt := 96) K dX1_sheet_89 (by decide) (fun c89 => ?_) (fun c89 => ?_)
    · have h := ax_it h c89
      refine ax_iconst (v := (0 : Int32)) K (by decide) dX1_sheet_96 ?_
      refine ax_bipush (v := (99 : Int32)) K (by decide) dX1_sheet_97 ?_
      refine ax_iload K 0 rfl dX1_sheet_99 ?_
      refine rx_min K (by decide) (Nat.le_of_ble_eq_true rfl) dX1_sheet_101 ?_
      refine rx_max K (by decide) (Nat.le_of_ble_eq_true rfl) dX1_sheet_104 ?_
      exact ax_sub [1, 2, 3, 4, 5, 6, 7] rfl (kx_sheet_j107 K E hK41 v1 v2 v4 v5 v6 v7 v7 (jmax (0 : Int32) (jmin (99 : Int32) s0)) σ h)
    · have h := ax_ie h c89
      exact ax_sub [1, 2, 3, 4, 5, 6, 7] rfl (kx_sheet_j92 K E hK41 v1 v2 v4 v5 v6 v7 v7 σ h)
set_option maxHeartbeats 4000000 in
theorem kx_sheet_l41 {Z : AZ} {G : AG} {L : Nat → Nat} {P : Int32 → St → Prop} (K : AK Z G cX1_sheet RX1 9 (rmH 2)) (E : AEi Z cX1_sheet .int (xW G L) 0 0 P) {K145 : Int32 → St → Prop} (hK145 : ∀ (s0 : Int32) (σ : St), K145 s0 σ → AX Z 0 0 145 [(0, .ref (L 0))] [.int s0] (xW G L σ)) : ∀ (n : Nat) (v1 : Int32) (v2 : Int32) (v4 : Int32) (v5 : Int32) (v6 : Int32) (v7 : Int32) (σ : St), wx_sheet_l41 P K145 n v1 v2 v4 v5 v6 v7 σ → AX Z 0 0 41 [(0, .ref (L 0)), (1, .int v1), (2, .int v2), (4, .int v4), (5, .int v5), (6, .int v6), (7, .int v7)] [] (xW G L σ) := by
  intro n
  induction n with
  | zero => intro v1 v2 v4 v5 v6 v7 σ h; exact False.elim h
  | succ n ih =>
    intro v1 v2 v4 v5 v6 v7 σ h
    rw [wx_sheet_l41_s] at h
    refine ax_iload K 6 rfl dX1_sheet_41 ?_
    refine ax_aload_n K 0 rfl dX1_sheet_43 ?_
    refine xg_dishes K dX1_sheet_44 ?_
    refine ax_icmp_ge (tgt := 133) K dX1_sheet_47 (by decide) (fun c47 => ?_) (fun c47 => ?_)
    · have h := ax_it h c47
      refine ax_iload_n K 1 rfl dX1_sheet_133 ?_
      refine ax_iconst (v := (3 : Int32)) K (by decide) dX1_sheet_134 ?_
      refine ax_icmp_ne (tgt := 143) K dX1_sheet_135 (by decide) (fun c135 => ?_) (fun c135 => ?_)
      · have h := ax_ie h c135
        refine ax_iload K 4 rfl dX1_sheet_143 ?_
        exact ax_sub [0] rfl (hK145 v5 σ h)
      · have h := ax_it h c135
        refine ax_bipush (v := (-3 : Int32)) K (by decide) dX1_sheet_138 ?_
        refine ax_goto (tgt := 145) K dX1_sheet_140 (by decide) ?_
        exact ax_sub [0] rfl (hK145 (-3 : Int32) σ h)
    · have h := ax_ie h c47
      refine ax_iload_n K 1 rfl dX1_sheet_50 ?_
      refine ax_if_ne (tgt := 60) K dX1_sheet_51 (by decide) (fun c51 => ?_) (fun c51 => ?_)
      · have h := ax_ie h c51
        refine ax_iload_n K 1 rfl dX1_sheet_60 ?_
        refine ax_iconst (v := (1 : Int32)) K (by decide) dX1_sheet_61 ?_
        refine ax_icmp_ne (tgt := 71) K dX1_sheet_62 (by decide) (fun c62 => ?_) (fun c62 => ?_)
        · have h := ax_ie h c62
          refine ax_iload K 5 rfl dX1_sheet_71 ?_
          exact ax_sub [0, 1, 2, 3, 4, 5, 6] rfl (kx_sheet_j73 K E ih v1 v2 v4 v5 v6 v7 v6 σ h)
        · have h := ax_it h c62
          refine ax_iload K 5 rfl dX1_sheet_65 ?_
          refine ax_i2s K dX1_sheet_67 ?_
          refine ax_goto (tgt := 73) K dX1_sheet_68 (by decide) ?_
          exact ax_sub [0, 1, 2, 3, 4, 5, 6] rfl (kx_sheet_j73 K E ih v1 v2 v4 v5 v6 v7 ((v6).toInt16.toInt32) σ h)
      · have h := ax_it h c51
        refine ax_iload K 5 rfl dX1_sheet_54 ?_
        refine ax_i2b K dX1_sheet_56 ?_
        refine ax_goto (tgt := 73) K dX1_sheet_57 (by decide) ?_
        exact ax_sub [0, 1, 2, 3, 4, 5, 6] rfl (kx_sheet_j73 K E ih v1 v2 v4 v5 v6 v7 ((v6).toInt8.toInt32) σ h)
set_option maxHeartbeats 4000000 in
theorem kx_sheet_j145 {Z : AZ} {G : AG} {L : Nat → Nat} {P : Int32 → St → Prop} (K : AK Z G cX1_sheet RX1 9 (rmH 2)) (E : AEi Z cX1_sheet .int (xW G L) 0 0 P) (s0 : Int32) (σ : St) (h : wx_sheet_j145 P  s0 σ) : AX Z 0 0 145 [(0, .ref (L 0))] [.int s0] (xW G L σ) := by
  unfold wx_sheet_j145 at h
  exact E _ _ _ _ dX1_sheet_145 rfl h
set_option maxHeartbeats 4000000 in
theorem kx_sheet_j32 {Z : AZ} {G : AG} {L : Nat → Nat} {P : Int32 → St → Prop} (K : AK Z G cX1_sheet RX1 9 (rmH 2)) (E : AEi Z cX1_sheet .int (xW G L) 0 0 P) (v1 : Int32) (v2 : Int32) (v3 : Int32) (v4 : Int32) (σ : St) (h : wx_sheet_j32 P  v1 v2 v3 v4 σ) : AX Z 0 0 32 [(0, .ref (L 0)), (1, .int v1), (2, .int v2), (3, .int v3), (4, .int v4)] [] (xW G L σ) := by
  unfold wx_sheet_j32 at h
  refine ax_iconst (v := (0 : Int32)) K (by decide) dX1_sheet_32 ?_
  refine ax_istore (lv' := [(5, .int (0 : Int32)), (0, .ref (L 0)), (1, .int v1), (2, .int v2), (3, .int v3), (4, .int v4)]) K dX1_sheet_33 (by decide) rfl ?_
  refine ax_iload_n K 4 rfl dX1_sheet_35 ?_
  refine ax_istore (lv' := [(6, .int v3), (5, .int (0 : Int32)), (0, .ref (L 0)), (1, .int v1), (2, .int v2), (3, .int v3), (4, .int v4)]) K dX1_sheet_36 (by decide) rfl ?_
  refine ax_iconst (v := (0 : Int32)) K (by decide) dX1_sheet_38 ?_
  refine ax_istore (lv' := [(7, .int (0 : Int32)), (6, .int v3), (5, .int (0 : Int32)), (0, .ref (L 0)), (1, .int v1), (2, .int v2), (3, .int v3), (4, .int v4)]) K dX1_sheet_39 (by decide) rfl ?_
  exact ax_sub [3, 4, 5, 7, 2, 1, 0] rfl (h.elim fun n41 h => kx_sheet_l41 K E (kx_sheet_j145 K E) n41 v1 v2 v4 (0 : Int32) v3 (0 : Int32) σ h)
set_option maxHeartbeats 4000000 in
theorem mx_sheet {l : Launch} {G : AG} {L : Nat → Nat} {σ : St} {v1 : Int32} {v2 : Int32} {v3 : Int32} {v4 : Int32} {P : Int32 → St → Prop} (h : wx_sheet σ v1 v2 v3 v4 P) : CtW l G yX1_sheet cX1_sheet 9 (some .int) (rmH 2) [.ref (L 0), .int v1, .int v2, .int v3, .int v4] (xW G L) σ (pI P) := by
  refine CtW.ofI (by decide) (Nat.le_of_ble_eq_true rfl) fun Z _ K E => ?_
  unfold wx_sheet at h
  show AX Z 0 0 0 [(0, .ref (L 0)), (1, .int v1), (2, .int v2), (3, .int v3), (4, .int v4)] [] (xW G L σ)
  refine ax_iload_n K 1 rfl dX1_sheet_0 ?_
  refine ax_i2l K dX1_sheet_1 ?_
  refine ax_lconst (v := (0 : Int64)) K (by decide) dX1_sheet_2 ?_
  refine ax_ldc2 (v := (3 : Int64)) K q546 dX1_sheet_3 ?_
  refine rx_in K (by decide) dX1_sheet_6 (Nat.le_of_ble_eq_true rfl) h (fun r6 h => ?_)
  refine ax_if_eq (tgt := 18) K dX1_sheet_9 (by decide) (fun c9 => ?_) (fun c9 => ?_)
  · have h := ax_it h c9
    refine ax_iconst (v := (-1 : Int32)) K (by decide) dX1_sheet_18 ?_
    exact E _ _ _ _ dX1_sheet_19 rfl h
  · have h := ax_ie h c9
    refine ax_iload_n K 2 rfl dX1_sheet_12 ?_
    refine ax_bipush (v := (10 : Int32)) K (by decide) dX1_sheet_13 ?_
    refine ax_icmp_le (tgt := 20) K dX1_sheet_15 (by decide) (fun c15 => ?_) (fun c15 => ?_)
    · have h := ax_it h c15
      refine ax_iload_n K 1 rfl dX1_sheet_20 ?_
      refine ax_iconst (v := (3 : Int32)) K (by decide) dX1_sheet_21 ?_
      refine ax_icmp_eq (tgt := 32) K dX1_sheet_22 (by decide) (fun c22 => ?_) (fun c22 => ?_)
      · have h := ax_it h c22
        exact ax_sub [0, 1, 2, 3, 4] rfl (kx_sheet_j32 K E  v1 v2 v3 v4 σ h)
      · have h := ax_ie h c22
        refine ax_iload_n K 2 rfl dX1_sheet_25 ?_
        refine ax_if_ge (tgt := 32) K dX1_sheet_26 (by decide) (fun c26 => ?_) (fun c26 => ?_)
        · have h := ax_it h c26
          exact ax_sub [0, 1, 2, 3, 4] rfl (kx_sheet_j32 K E  v1 v2 v3 v4 σ h)
        · have h := ax_ie h c26
          refine ax_bipush (v := (-2 : Int32)) K (by decide) dX1_sheet_29 ?_
          exact E _ _ _ _ dX1_sheet_31 rfl h
    · have h := ax_ie h c15
      refine ax_iconst (v := (-1 : Int32)) K (by decide) dX1_sheet_18 ?_
      exact E _ _ _ _ dX1_sheet_19 rfl h

/-! x.store -/
set_option maxHeartbeats 4000000 in
theorem mx_store {l : Launch} {G : AG} {L : Nat → Nat} {σ : St} {v1 : Int32} {v2 : Int32} {P : Int32 → St → Prop} (h : wx_store σ v1 v2 P) : CtW l G yX1_store cX1_store 4 (some .int) (rmH 2) [.ref (L 0), .int v1, .int v2] (xW G L) σ (pI P) := by
  refine CtW.ofI (by decide) (Nat.le_of_ble_eq_true rfl) fun Z _ K E => ?_
  unfold wx_store at h
  show AX Z 0 0 0 [(0, .ref (L 0)), (1, .int v1), (2, .int v2)] [] (xW G L σ)
  refine ax_iload_n K 1 rfl dX1_store_0 ?_
  refine ax_i2l K dX1_store_1 ?_
  refine ax_lconst (v := (0 : Int64)) K (by decide) dX1_store_2 ?_
  refine ax_ldc2 (v := (7 : Int64)) K q540 dX1_store_3 ?_
  refine rx_in K (by decide) dX1_store_6 (Nat.le_of_ble_eq_true rfl) h (fun r6 h => ?_)
  refine ax_if_eq (tgt := 24) K dX1_store_9 (by decide) (fun c9 => ?_) (fun c9 => ?_)
  · have h := ax_it h c9
    refine ax_iconst (v := (-1 : Int32)) K (by decide) dX1_store_24 ?_
    exact E _ _ _ _ dX1_store_25 rfl h
  · have h := ax_ie h c9
    refine ax_iload_n K 2 rfl dX1_store_12 ?_
    refine ax_i2l K dX1_store_13 ?_
    refine ax_lconst (v := (0 : Int64)) K (by decide) dX1_store_14 ?_
    refine ax_ldc2 (v := (99 : Int64)) K q541 dX1_store_15 ?_
    refine rx_in K (by decide) dX1_store_18 (Nat.le_of_ble_eq_true rfl) h (fun r18 h => ?_)
    refine ax_if_ne (tgt := 26) K dX1_store_21 (by decide) (fun c21 => ?_) (fun c21 => ?_)
    · have h := ax_ie h c21
      refine ax_aload_n K 0 rfl dX1_store_26 ?_
      refine xg_stores K dX1_store_27 ?_
      refine ax_iload_n K 1 rfl dX1_store_30 ?_
      refine xl_stores K h.1 dX1_store_31 ?_
      replace h := h.2
      refine ax_istore_n (lv' := [(3, .int (xA_stores σ (v1).toNatClampNeg)), (0, .ref (L 0)), (1, .int v1), (2, .int v2)]) K dX1_store_32 (by decide) rfl ?_
      refine ax_aload_n K 1 rfl dX1_store_33 ?_
      refine xg_stores K dX1_store_34 ?_
      refine ax_iload_n K 2 rfl dX1_store_37 ?_
      refine ax_iload_n K 3 rfl dX1_store_38 ?_
      refine xs_stores K h.1 dX1_store_39 ?_
      replace h := h.2
      refine ax_iload_n K 0 rfl dX1_store_40 ?_
      exact E _ _ _ _ dX1_store_41 rfl h
    · have h := ax_it h c21
      refine ax_iconst (v := (-1 : Int32)) K (by decide) dX1_store_24 ?_
      exact E _ _ _ _ dX1_store_25 rfl h

/-! x.takes -/
set_option maxHeartbeats 4000000 in
theorem kx_takes_j20 {Z : AZ} {G : AG} {L : Nat → Nat} {P : Int32 → St → Prop} (K : AK Z G cX1_takes RX1 3 (rmH 2)) (E : AEi Z cX1_takes .boolean (xW G L) 0 0 P) (v2 : Int32) (s1 : Int32) (s2 : Int32) (σ : St) (h : wx_takes_j20 P  v2 s1 s2 σ) : AX Z 0 0 20 [(0, .ref (L 0)), (2, .int v2)] [.int s2, .int s1, .ref (L 0)] (xW G L σ) := by
  unfold wx_takes_j20 at h
  refine ax_iadd K dX1_takes_20 ?_
  refine xp_at K dX1_takes_21 ?_
  refine ax_iload_n K 1 rfl dX1_takes_24 ?_
  exact E _ _ _ _ dX1_takes_25 h.1 h.2
set_option maxHeartbeats 4000000 in
theorem mx_takes {l : Launch} {G : AG} {L : Nat → Nat} {σ : St} {v1 : Int32} {P : Int32 → St → Prop} (h : wx_takes σ v1 P) : CtW l G yX1_takes cX1_takes 3 (some .boolean) (rmH 2) [.ref (L 0), .int v1] (xW G L) σ (pI P) := by
  refine CtW.ofI (by decide) (Nat.le_of_ble_eq_true rfl) fun Z _ K E => ?_
  unfold wx_takes at h
  show AX Z 0 0 0 [(0, .ref (L 0)), (1, .int v1)] [] (xW G L σ)
  refine ax_aload_n K 0 rfl dX1_takes_0 ?_
  refine ax_iload_n K 1 rfl dX1_takes_1 ?_
  refine rx_isAt K (by decide) dX1_takes_2 (Nat.le_of_ble_eq_true rfl) h (fun r2 σ2 h => ?_)
  refine ax_istore_n (lv' := [(2, .int r2), (0, .ref (L 0)), (1, .int v1)]) K dX1_takes_5 (by decide) rfl ?_
  refine ax_aload_n K 1 rfl dX1_takes_6 ?_
  refine ax_dup K rfl dX1_takes_7 ?_
  refine xg_at K dX1_takes_8 ?_
  refine ax_iload_n K 0 rfl dX1_takes_11 ?_
  refine ax_if_eq (tgt := 19) K dX1_takes_12 (by decide) (fun c12 => ?_) (fun c12 => ?_)
  · have h := ax_it h c12
    refine ax_iconst (v := (0 : Int32)) K (by decide) dX1_takes_19 ?_
    exact ax_sub [1, 0] rfl (kx_takes_j20 K E  r2 (xI_at σ2) (0 : Int32) σ2 h)
  · have h := ax_ie h c12
    refine ax_iconst (v := (1 : Int32)) K (by decide) dX1_takes_15 ?_
    refine ax_goto (tgt := 20) K dX1_takes_16 (by decide) ?_
    exact ax_sub [1, 0] rfl (kx_takes_j20 K E  r2 (xI_at σ2) (1 : Int32) σ2 h)
theorem rx_takes {Z : AZ} {G : AG} {cc : ByteArray} {mL hh pc : Nat} {lv : List (Nat × Value)} {rest : List Value} {L : Nat → Nat} {σ : St} (K : AK Z G cc RX1 mL (rmH hh)) (hlt : 2 < hh) (d : decode cc pc = .ok (.invokevirtual 169, 3)) (hrest : (rest.map fun v => v.category).sum ≤ 8) {v1 : Int32} {P : Int32 → St → Prop} (h : sx_takes σ v1 P) (kk : ∀ (r : Int32) (σ' : St), P r σ' → AX Z 0 0 (pc + 3) lv (.int r :: rest) (xW G L σ')) : AX Z 0 0 pc lv (.int v1 :: .ref (L 0) :: rest) (xW G L σ) :=
  ax_callV (N0 := 1) (As := [.int v1]) K (mx_takes (sx_takes_ok h)) q329 q331 qs5 q117 q332 ⟨rfl, by decide, by decide, by decide⟩ rfl ⟨by show 2 + 1 + 1 ≤ hh + 1; omega, by show 8 + (3 + 11) + 60 * (2 + 1) ≤ 60 * (hh + 1); omega⟩ ⟨Nat.zero_le _, Nat.zero_le _⟩ rfl rfl rfl hrest d (fun r σ' hp => by obtain ⟨v, rfl, hp⟩ := hp; exact kk v σ' hp)
/-! x.count -/
set_option maxHeartbeats 4000000 in
theorem mx_count {l : Launch} {G : AG} {L : Nat → Nat} {σ : St} {v1 : Int32} {P : Int32 → St → Prop} (h : wx_count σ v1 P) : CtW l G yX1_count cX1_count 2 (some .int) (rmH 3) [.ref (L 0), .int v1] (xW G L) σ (pI P) := by
  refine CtW.ofI (by decide) (Nat.le_of_ble_eq_true rfl) fun Z _ K E => ?_
  unfold wx_count at h
  show AX Z 0 0 0 [(0, .ref (L 0)), (1, .int v1)] [] (xW G L σ)
  refine ax_iload_n K 1 rfl dX1_count_0 ?_
  by_cases c1_0 : v1 = (0 : Int32)
  · have h := ax_it h c1_0
    refine ax_tableIn (tgt := 48) K dX1_count_1 (by rw [c1_0]; decide) (by rw [c1_0]; decide) (by rw [c1_0]; rfl) (by decide) ?_
    refine ax_aload_n K 0 rfl dX1_count_48 ?_
    refine xg_dishes K dX1_count_49 ?_
    exact E _ _ _ _ dX1_count_52 rfl h
  · have h := ax_ie h c1_0
    by_cases c1_1 : v1 = (1 : Int32)
    · have h := ax_it h c1_1
      refine ax_tableIn (tgt := 53) K dX1_count_1 (by rw [c1_1]; decide) (by rw [c1_1]; decide) (by rw [c1_1]; rfl) (by decide) ?_
      refine ax_aload_n K 0 rfl dX1_count_53 ?_
      refine xg_guests K dX1_count_54 ?_
      exact E _ _ _ _ dX1_count_57 rfl h
    · have h := ax_ie h c1_1
      by_cases c1_2 : v1 = (2 : Int32)
      · have h := ax_it h c1_2
        refine ax_tableIn (tgt := 58) K dX1_count_1 (by rw [c1_2]; decide) (by rw [c1_2]; decide) (by rw [c1_2]; rfl) (by decide) ?_
        refine ax_aload_n K 0 rfl dX1_count_58 ?_
        refine xg_servedMany K dX1_count_59 ?_
        exact E _ _ _ _ dX1_count_62 rfl h
      · have h := ax_ie h c1_2
        by_cases c1_3 : v1 = (3 : Int32)
        · have h := ax_it h c1_3
          refine ax_tableIn (tgt := 63) K dX1_count_1 (by rw [c1_3]; decide) (by rw [c1_3]; decide) (by rw [c1_3]; rfl) (by decide) ?_
          refine ax_aload_n K 0 rfl dX1_count_63 ?_
          refine rx_lastNow K (by decide) dX1_count_64 (Nat.le_of_ble_eq_true rfl) h (fun r64 σ64 h => ?_)
          exact E _ _ _ _ dX1_count_67 rfl h
        · have h := ax_ie h c1_3
          by_cases c1_4 : v1 = (4 : Int32)
          · have h := ax_it h c1_4
            refine ax_tableIn (tgt := 68) K dX1_count_1 (by rw [c1_4]; decide) (by rw [c1_4]; decide) (by rw [c1_4]; rfl) (by decide) ?_
            refine ax_aload_n K 0 rfl dX1_count_68 ?_
            refine ax_aload_n K 0 rfl dX1_count_69 ?_
            refine rx_setNow K (by decide) dX1_count_70 (Nat.le_of_ble_eq_true rfl) h (fun r70 σ70 h => ?_)
            refine rx_costOf K (by decide) dX1_count_73 (Nat.le_of_ble_eq_true rfl) h (fun r73 σ73 h => ?_)
            exact E _ _ _ _ dX1_count_76 rfl h
          · have h := ax_ie h c1_4
            by_cases c1_5 : v1 = (5 : Int32)
            · have h := ax_it h c1_5
              refine ax_tableIn (tgt := 77) K dX1_count_1 (by rw [c1_5]; decide) (by rw [c1_5]; decide) (by rw [c1_5]; rfl) (by decide) ?_
              refine ax_aload_n K 0 rfl dX1_count_77 ?_
              refine xg_rowMany K dX1_count_78 ?_
              exact E _ _ _ _ dX1_count_81 rfl h
            · have h := ax_ie h c1_5
              by_cases c1_6 : v1 = (6 : Int32)
              · have h := ax_it h c1_6
                refine ax_tableIn (tgt := 82) K dX1_count_1 (by rw [c1_6]; decide) (by rw [c1_6]; decide) (by rw [c1_6]; rfl) (by decide) ?_
                refine ax_aload_n K 0 rfl dX1_count_82 ?_
                refine xg_signMany K dX1_count_83 ?_
                exact E _ _ _ _ dX1_count_86 rfl h
              · have h := ax_ie h c1_6
                by_cases c1_7 : v1 = (7 : Int32)
                · have h := ax_it h c1_7
                  refine ax_tableIn (tgt := 87) K dX1_count_1 (by rw [c1_7]; decide) (by rw [c1_7]; decide) (by rw [c1_7]; rfl) (by decide) ?_
                  refine ax_aload_n K 0 rfl dX1_count_87 ?_
                  refine rx_laid K (by decide) dX1_count_88 (Nat.le_of_ble_eq_true rfl) h (fun r88 σ88 h => ?_)
                  exact E _ _ _ _ dX1_count_91 rfl h
                · have h := ax_ie h c1_7
                  refine ax_tableOut (tgt := 92) K dX1_count_1 (by have q0 := lv_neT c1_0 (by decide : (0 : Int32).toInt = 0); have q1 := lv_neT c1_1 (by decide : (1 : Int32).toInt = 1); have q2 := lv_neT c1_2 (by decide : (2 : Int32).toInt = 2); have q3 := lv_neT c1_3 (by decide : (3 : Int32).toInt = 3); have q4 := lv_neT c1_4 (by decide : (4 : Int32).toInt = 4); have q5 := lv_neT c1_5 (by decide : (5 : Int32).toInt = 5); have q6 := lv_neT c1_6 (by decide : (6 : Int32).toInt = 6); have q7 := lv_neT c1_7 (by decide : (7 : Int32).toInt = 7); omega) (by decide) ?_
                  refine ax_iconst (v := (-1 : Int32)) K (by decide) dX1_count_92 ?_
                  exact E _ _ _ _ dX1_count_93 rfl h

/-! x.goesOn -/
set_option maxHeartbeats 4000000 in
theorem kx_goesOn_j62 {Z : AZ} {G : AG} {L : Nat → Nat} {P : Int32 → St → Prop} (K : AK Z G cX1_goesOn RX1 4 (rmH 3)) (E : AEi Z cX1_goesOn .boolean (xW G L) 0 0 P) (s0 : Int32) (σ : St) (h : wx_goesOn_j62 P  s0 σ) : AX Z 0 0 62 [(0, .ref (L 0))] [.int s0] (xW G L σ) := by
  unfold wx_goesOn_j62 at h
  exact E _ _ _ _ dX1_goesOn_62 h.1 h.2
set_option maxHeartbeats 4000000 in
theorem kx_goesOn_j57 {Z : AZ} {G : AG} {L : Nat → Nat} {P : Int32 → St → Prop} (K : AK Z G cX1_goesOn RX1 4 (rmH 3)) (E : AEi Z cX1_goesOn .boolean (xW G L) 0 0 P) (σ : St) (h : wx_goesOn_j57 P  σ) : AX Z 0 0 57 [(0, .ref (L 0))] [] (xW G L σ) := by
  unfold wx_goesOn_j57 at h
  refine ax_iconst (v := (1 : Int32)) K (by decide) dX1_goesOn_57 ?_
  refine ax_goto (tgt := 62) K dX1_goesOn_58 (by decide) ?_
  exact ax_sub [0] rfl (kx_goesOn_j62 K E  (1 : Int32) σ h)
set_option maxHeartbeats 4000000 in
theorem kx_goesOn_j61 {Z : AZ} {G : AG} {L : Nat → Nat} {P : Int32 → St → Prop} (K : AK Z G cX1_goesOn RX1 4 (rmH 3)) (E : AEi Z cX1_goesOn .boolean (xW G L) 0 0 P) (σ : St) (h : wx_goesOn_j61 P  σ) : AX Z 0 0 61 [(0, .ref (L 0))] [] (xW G L σ) := by
  unfold wx_goesOn_j61 at h
  refine ax_iconst (v := (0 : Int32)) K (by decide) dX1_goesOn_61 ?_
  exact ax_sub [0] rfl (kx_goesOn_j62 K E  (0 : Int32) σ h)
set_option maxHeartbeats 4000000 in
theorem mx_goesOn {l : Launch} {G : AG} {L : Nat → Nat} {σ : St} {v1 : Int32} {v2 : Int32} {v3 : Int32} {P : Int32 → St → Prop} (h : wx_goesOn σ v1 v2 v3 P) : CtW l G yX1_goesOn cX1_goesOn 4 (some .boolean) (rmH 3) [.ref (L 0), .int v1, .int v2, .int v3] (xW G L) σ (pI P) := by
  refine CtW.ofI (by decide) (Nat.le_of_ble_eq_true rfl) fun Z _ K E => ?_
  unfold wx_goesOn at h
  show AX Z 0 0 0 [(0, .ref (L 0)), (1, .int v1), (2, .int v2), (3, .int v3)] [] (xW G L σ)
  refine ax_iload_n K 1 rfl dX1_goesOn_0 ?_
  refine ax_iload_n K 3 rfl dX1_goesOn_1 ?_
  refine rx_has K (by decide) dX1_goesOn_2 (Nat.le_of_ble_eq_true rfl) h (fun r2 h => ?_)
  refine ax_if_ne (tgt := 32) K dX1_goesOn_5 (by decide) (fun c5 => ?_) (fun c5 => ?_)
  · have h := ax_ie h c5
    refine ax_iconst (v := (0 : Int32)) K (by decide) dX1_goesOn_32 ?_
    exact E _ _ _ _ dX1_goesOn_33 rfl h
  · have h := ax_it h c5
    refine ax_aload_n K 0 rfl dX1_goesOn_8 ?_
    refine xg_allowed K dX1_goesOn_9 ?_
    refine ax_iload_n K 3 rfl dX1_goesOn_12 ?_
    refine rx_has K (by decide) dX1_goesOn_13 (Nat.le_of_ble_eq_true rfl) h (fun r13 h => ?_)
    refine ax_if_eq (tgt := 32) K dX1_goesOn_16 (by decide) (fun c16 => ?_) (fun c16 => ?_)
    · have h := ax_it h c16
      refine ax_iconst (v := (0 : Int32)) K (by decide) dX1_goesOn_32 ?_
      exact E _ _ _ _ dX1_goesOn_33 rfl h
    · have h := ax_ie h c16
      refine ax_aload_n K 0 rfl dX1_goesOn_19 ?_
      refine xg_fine K dX1_goesOn_20 ?_
      refine ax_iload_n K 1 rfl dX1_goesOn_23 ?_
      refine ax_iconst (v := (1 : Int32)) K (by decide) dX1_goesOn_24 ?_
      refine ax_iload_n K 3 rfl dX1_goesOn_25 ?_
      refine ax_ishl K dX1_goesOn_26 ?_
      refine ax_ior K dX1_goesOn_27 ?_
      refine xl_fine K h.1 dX1_goesOn_28 ?_
      replace h := h.2
      refine ax_if_ne (tgt := 34) K dX1_goesOn_29 (by decide) (fun c29 => ?_) (fun c29 => ?_)
      · have h := ax_ie h c29
        refine ax_iload_n K 2 rfl dX1_goesOn_34 ?_
        refine ax_if_lt (tgt := 57) K dX1_goesOn_35 (by decide) (fun c35 => ?_) (fun c35 => ?_)
        · have h := ax_it h c35
          exact ax_sub [0] rfl (kx_goesOn_j57 K E  σ h)
        · have h := ax_ie h c35
          refine ax_aload_n K 0 rfl dX1_goesOn_38 ?_
          refine ax_iload_n K 2 rfl dX1_goesOn_39 ?_
          refine ax_iload_n K 3 rfl dX1_goesOn_40 ?_
          refine rx_arePair K (by decide) dX1_goesOn_41 (Nat.le_of_ble_eq_true rfl) h (fun r41 σ41 h => ?_)
          refine ax_if_eq (tgt := 61) K dX1_goesOn_44 (by decide) (fun c44 => ?_) (fun c44 => ?_)
          · have h := ax_it h c44
            exact ax_sub [0] rfl (kx_goesOn_j61 K E  σ41 h)
          · have h := ax_ie h c44
            refine ax_aload_n K 0 rfl dX1_goesOn_47 ?_
            refine ax_iload_n K 1 rfl dX1_goesOn_48 ?_
            refine ax_iload_n K 2 rfl dX1_goesOn_49 ?_
            refine ax_iload_n K 3 rfl dX1_goesOn_50 ?_
            refine rx_isWarm K (by decide) dX1_goesOn_51 (Nat.le_of_ble_eq_true rfl) h (fun r51 σ51 h => ?_)
            refine ax_if_eq (tgt := 61) K dX1_goesOn_54 (by decide) (fun c54 => ?_) (fun c54 => ?_)
            · have h := ax_it h c54
              exact ax_sub [0] rfl (kx_goesOn_j61 K E  σ51 h)
            · have h := ax_ie h c54
              exact ax_sub [0] rfl (kx_goesOn_j57 K E  σ51 h)
      · have h := ax_it h c29
        refine ax_iconst (v := (0 : Int32)) K (by decide) dX1_goesOn_32 ?_
        exact E _ _ _ _ dX1_goesOn_33 rfl h
theorem rx_goesOn {Z : AZ} {G : AG} {cc : ByteArray} {mL hh pc : Nat} {lv : List (Nat × Value)} {rest : List Value} {L : Nat → Nat} {σ : St} (K : AK Z G cc RX1 mL (rmH hh)) (hlt : 3 < hh) (d : decode cc pc = .ok (.invokevirtual 361, 3)) (hrest : (rest.map fun v => v.category).sum ≤ 8) {v1 : Int32} {v2 : Int32} {v3 : Int32} {P : Int32 → St → Prop} (h : sx_goesOn σ v1 v2 v3 P) (kk : ∀ (r : Int32) (σ' : St), P r σ' → AX Z 0 0 (pc + 3) lv (.int r :: rest) (xW G L σ')) : AX Z 0 0 pc lv (.int v3 :: .int v2 :: .int v1 :: .ref (L 0) :: rest) (xW G L σ) :=
  ax_callV (N0 := 3) (As := [.int v1, .int v2, .int v3]) K (mx_goesOn (sx_goesOn_ok h)) q688 q690 qs33 q117 q691 ⟨rfl, by decide, by decide, by decide⟩ rfl ⟨by show 3 + 1 + 1 ≤ hh + 1; omega, by show 8 + (4 + 11) + 60 * (3 + 1) ≤ 60 * (hh + 1); omega⟩ ⟨Nat.zero_le _, Nat.zero_le _⟩ rfl rfl rfl hrest d (fun r σ' hp => by obtain ⟨v, rfl, hp⟩ := hp; exact kk v σ' hp)
/-! x.goesWith -/
set_option maxHeartbeats 4000000 in
theorem mx_goesWith {l : Launch} {G : AG} {L : Nat → Nat} {σ : St} {v1 : Int32} {v2 : Int32} {v3 : Int32} {v4 : Int32} {P : Int32 → St → Prop} (h : wx_goesWith σ v1 v2 v3 v4 P) : CtW l G yX1_goesWith cX1_goesWith 5 (some .boolean) (rmH 3) [.ref (L 0), .int v1, .int v2, .int v3, .int v4] (xW G L) σ (pI P) := by
  refine CtW.ofI (by decide) (Nat.le_of_ble_eq_true rfl) fun Z _ K E => ?_
  unfold wx_goesWith at h
  show AX Z 0 0 0 [(0, .ref (L 0)), (1, .int v1), (2, .int v2), (3, .int v3), (4, .int v4)] [] (xW G L σ)
  refine ax_aload_n K 0 rfl dX1_goesWith_0 ?_
  refine ax_iload_n K 2 rfl dX1_goesWith_1 ?_
  refine ax_iload K 4 rfl dX1_goesWith_2 ?_
  refine rx_stuffsOf K (by decide) dX1_goesWith_4 (Nat.le_of_ble_eq_true rfl) h (fun r4 σ4 h => ?_)
  refine ax_aload_n K 0 rfl dX1_goesWith_7 ?_
  refine ax_iload_n K 3 rfl dX1_goesWith_8 ?_
  refine ax_iload K 4 rfl dX1_goesWith_9 ?_
  refine rx_stuffsOf K (by decide) dX1_goesWith_11 (Nat.le_of_ble_eq_true rfl) h (fun r11 σ11 h => ?_)
  refine ax_iand K dX1_goesWith_14 ?_
  refine rx_bitCount K (by decide) dX1_goesWith_15 (Nat.le_of_ble_eq_true rfl) ?_
  refine ax_aload_n K 0 rfl dX1_goesWith_18 ?_
  refine xg_law K dX1_goesWith_19 ?_
  refine ax_iconst (v := (0 : Int32)) K (by decide) dX1_goesWith_22 ?_
  refine xl_law K h.1 dX1_goesWith_23 ?_
  replace h := h.2
  refine ax_icmp_ge (tgt := 29) K dX1_goesWith_24 (by decide) (fun c24 => ?_) (fun c24 => ?_)
  · have h := ax_it h c24
    refine ax_aload_n K 0 rfl dX1_goesWith_29 ?_
    refine ax_iload_n K 1 rfl dX1_goesWith_30 ?_
    refine ax_iload_n K 2 rfl dX1_goesWith_31 ?_
    refine ax_iload_n K 3 rfl dX1_goesWith_32 ?_
    refine rx_isWarm K (by decide) dX1_goesWith_33 (Nat.le_of_ble_eq_true rfl) h (fun r33 σ33 h => ?_)
    exact E _ _ _ _ dX1_goesWith_36 h.1 h.2
  · have h := ax_ie h c24
    refine ax_iconst (v := (0 : Int32)) K (by decide) dX1_goesWith_27 ?_
    exact E _ _ _ _ dX1_goesWith_28 rfl h
theorem rx_goesWith {Z : AZ} {G : AG} {cc : ByteArray} {mL hh pc : Nat} {lv : List (Nat × Value)} {rest : List Value} {L : Nat → Nat} {σ : St} (K : AK Z G cc RX1 mL (rmH hh)) (hlt : 3 < hh) (d : decode cc pc = .ok (.invokevirtual 440, 3)) (hrest : (rest.map fun v => v.category).sum ≤ 8) {v1 : Int32} {v2 : Int32} {v3 : Int32} {v4 : Int32} {P : Int32 → St → Prop} (h : sx_goesWith σ v1 v2 v3 v4 P) (kk : ∀ (r : Int32) (σ' : St), P r σ' → AX Z 0 0 (pc + 3) lv (.int r :: rest) (xW G L σ')) : AX Z 0 0 pc lv (.int v4 :: .int v3 :: .int v2 :: .int v1 :: .ref (L 0) :: rest) (xW G L σ) :=
  ax_callV (N0 := 4) (As := [.int v1, .int v2, .int v3, .int v4]) K (mx_goesWith (sx_goesWith_ok h)) q899 q901 qs56 q117 q902 ⟨rfl, by decide, by decide, by decide⟩ rfl ⟨by show 3 + 1 + 1 ≤ hh + 1; omega, by show 8 + (5 + 11) + 60 * (3 + 1) ≤ 60 * (hh + 1); omega⟩ ⟨Nat.zero_le _, Nat.zero_le _⟩ rfl rfl rfl hrest d (fun r σ' hp => by obtain ⟨v, rfl, hp⟩ := hp; exact kk v σ' hp)
/-! x.isFineWith -/
set_option maxHeartbeats 4000000 in
theorem kx_isFineWith_j38 {Z : AZ} {G : AG} {L : Nat → Nat} {P : Int32 → St → Prop} (K : AK Z G cX1_isFineWith RX1 5 (rmH 3)) (E : AEi Z cX1_isFineWith .boolean (xW G L) 0 0 P) {K2 : Int32 → Int32 → Int32 → St → Prop} (hK2 : ∀ (v1 : Int32) (v2 : Int32) (v3 : Int32) (σ : St), K2 v1 v2 v3 σ → AX Z 0 0 2 [(0, .ref (L 0)), (1, .int v1), (2, .int v2), (3, .int v3)] [] (xW G L σ)) (v1 : Int32) (v2 : Int32) (v3 : Int32) (s0 : Int32) (s1 : Int32) (σ : St) (h : wx_isFineWith_j38 P K2 v1 v2 v3 s0 s1 σ) : AX Z 0 0 38 [(0, .ref (L 0)), (1, .int v1), (2, .int v2), (3, .int v3)] [.int s1, .int s0] (xW G L σ) := by
  unfold wx_isFineWith_j38 at h
  refine ax_iadd K dX1_isFineWith_38 ?_
  refine ax_istore (lv' := [(4, .int (s0 + s1)), (0, .ref (L 0)), (1, .int v1), (2, .int v2), (3, .int v3)]) K dX1_isFineWith_39 (by decide) rfl ?_
  refine ax_iload K 0 rfl dX1_isFineWith_41 ?_
  refine ax_aload_n K 1 rfl dX1_isFineWith_43 ?_
  refine xg_law K dX1_isFineWith_44 ?_
  refine ax_iconst (v := (1 : Int32)) K (by decide) dX1_isFineWith_47 ?_
  refine xl_law K h.1 dX1_isFineWith_48 ?_
  replace h := h.2
  refine ax_icmp_gt (tgt := 63) K dX1_isFineWith_49 (by decide) (fun c49 => ?_) (fun c49 => ?_)
  · have h := ax_it h c49
    refine ax_iconst (v := (0 : Int32)) K (by decide) dX1_isFineWith_63 ?_
    exact E _ _ _ _ dX1_isFineWith_64 rfl h
  · have h := ax_ie h c49
    refine ax_iload K 0 rfl dX1_isFineWith_52 ?_
    refine ax_aload_n K 1 rfl dX1_isFineWith_54 ?_
    refine xg_stores K dX1_isFineWith_55 ?_
    refine ax_iload_n K 4 rfl dX1_isFineWith_58 ?_
    refine xl_stores K h.1 dX1_isFineWith_59 ?_
    replace h := h.2
    refine ax_icmp_le (tgt := 65) K dX1_isFineWith_60 (by decide) (fun c60 => ?_) (fun c60 => ?_)
    · have h := ax_it h c60
      refine ax_iinc (lv' := [(3, .int (v3 + (1 : Int32))), (4, .int (s0 + s1)), (0, .ref (L 0)), (1, .int v1), (2, .int v2)]) (v := (v3 + (1 : Int32))) K 4 dX1_isFineWith_65 rfl (by rfl) (by decide) rfl ?_
      refine ax_goto (tgt := 2) K dX1_isFineWith_68 (by decide) ?_
      exact ax_sub [2, 3, 4, 0] rfl (hK2 v1 v2 (v3 + (1 : Int32)) σ h)
    · have h := ax_ie h c60
      refine ax_iconst (v := (0 : Int32)) K (by decide) dX1_isFineWith_63 ?_
      exact E _ _ _ _ dX1_isFineWith_64 rfl h
set_option maxHeartbeats 4000000 in
theorem kx_isFineWith_j37 {Z : AZ} {G : AG} {L : Nat → Nat} {P : Int32 → St → Prop} (K : AK Z G cX1_isFineWith RX1 5 (rmH 3)) (E : AEi Z cX1_isFineWith .boolean (xW G L) 0 0 P) {K2 : Int32 → Int32 → Int32 → St → Prop} (hK2 : ∀ (v1 : Int32) (v2 : Int32) (v3 : Int32) (σ : St), K2 v1 v2 v3 σ → AX Z 0 0 2 [(0, .ref (L 0)), (1, .int v1), (2, .int v2), (3, .int v3)] [] (xW G L σ)) (v1 : Int32) (v2 : Int32) (v3 : Int32) (s0 : Int32) (σ : St) (h : wx_isFineWith_j37 P K2 v1 v2 v3 s0 σ) : AX Z 0 0 37 [(0, .ref (L 0)), (1, .int v1), (2, .int v2), (3, .int v3)] [.int s0] (xW G L σ) := by
  unfold wx_isFineWith_j37 at h
  refine ax_iconst (v := (0 : Int32)) K (by decide) dX1_isFineWith_37 ?_
  exact ax_sub [0, 1, 2, 3] rfl (kx_isFineWith_j38 K E hK2 v1 v2 v3 s0 (0 : Int32) σ h)
set_option maxHeartbeats 4000000 in
theorem kx_isFineWith_l2 {Z : AZ} {G : AG} {L : Nat → Nat} {P : Int32 → St → Prop} (K : AK Z G cX1_isFineWith RX1 5 (rmH 3)) (E : AEi Z cX1_isFineWith .boolean (xW G L) 0 0 P) : ∀ (n : Nat) (v1 : Int32) (v2 : Int32) (v3 : Int32) (σ : St), wx_isFineWith_l2 P  n v1 v2 v3 σ → AX Z 0 0 2 [(0, .ref (L 0)), (1, .int v1), (2, .int v2), (3, .int v3)] [] (xW G L σ) := by
  intro n
  induction n with
  | zero => intro v1 v2 v3 σ h; exact False.elim h
  | succ n ih =>
    intro v1 v2 v3 σ h
    rw [wx_isFineWith_l2_s] at h
    refine ax_iload_n K 3 rfl dX1_isFineWith_2 ?_
    refine ax_bipush (v := (8 : Int32)) K (by decide) dX1_isFineWith_3 ?_
    refine ax_icmp_ge (tgt := 71) K dX1_isFineWith_5 (by decide) (fun c5 => ?_) (fun c5 => ?_)
    · have h := ax_it h c5
      refine ax_iconst (v := (1 : Int32)) K (by decide) dX1_isFineWith_71 ?_
      exact E _ _ _ _ dX1_isFineWith_72 rfl h
    · have h := ax_ie h c5
      refine ax_aload_n K 0 rfl dX1_isFineWith_8 ?_
      refine ax_iload_n K 1 rfl dX1_isFineWith_9 ?_
      refine ax_iload_n K 3 rfl dX1_isFineWith_10 ?_
      refine rx_manyOf K (by decide) dX1_isFineWith_11 (Nat.le_of_ble_eq_true rfl) h (fun r11 σ11 h => ?_)
      refine ax_iload_n K 1 rfl dX1_isFineWith_14 ?_
      refine ax_aload_n K 0 rfl dX1_isFineWith_15 ?_
      refine xg_dishes K dX1_isFineWith_16 ?_
      refine rx_has K (by decide) dX1_isFineWith_19 (Nat.le_of_ble_eq_true rfl) h (fun r19 h => ?_)
      refine ax_if_eq (tgt := 37) K dX1_isFineWith_22 (by decide) (fun c22 => ?_) (fun c22 => ?_)
      · have h := ax_it h c22
        exact ax_sub [0, 1, 2, 3] rfl (kx_isFineWith_j37 K E ih v1 v2 v3 r11 σ11 h)
      · have h := ax_ie h c22
        refine ax_iload_n K 2 rfl dX1_isFineWith_25 ?_
        refine ax_iload_n K 3 rfl dX1_isFineWith_26 ?_
        refine rx_has K (by decide) dX1_isFineWith_27 (Nat.le_of_ble_eq_true rfl) h (fun r27 h => ?_)
        refine ax_if_eq (tgt := 37) K dX1_isFineWith_30 (by decide) (fun c30 => ?_) (fun c30 => ?_)
        · have h := ax_it h c30
          exact ax_sub [0, 1, 2, 3] rfl (kx_isFineWith_j37 K E ih v1 v2 v3 r11 σ11 h)
        · have h := ax_ie h c30
          refine ax_iconst (v := (1 : Int32)) K (by decide) dX1_isFineWith_33 ?_
          refine ax_goto (tgt := 38) K dX1_isFineWith_34 (by decide) ?_
          exact ax_sub [0, 1, 2, 3] rfl (kx_isFineWith_j38 K E ih v1 v2 v3 r11 (1 : Int32) σ11 h)
set_option maxHeartbeats 4000000 in
theorem mx_isFineWith {l : Launch} {G : AG} {L : Nat → Nat} {σ : St} {v1 : Int32} {v2 : Int32} {P : Int32 → St → Prop} (h : wx_isFineWith σ v1 v2 P) : CtW l G yX1_isFineWith cX1_isFineWith 5 (some .boolean) (rmH 3) [.ref (L 0), .int v1, .int v2] (xW G L) σ (pI P) := by
  refine CtW.ofI (by decide) (Nat.le_of_ble_eq_true rfl) fun Z _ K E => ?_
  unfold wx_isFineWith at h
  show AX Z 0 0 0 [(0, .ref (L 0)), (1, .int v1), (2, .int v2)] [] (xW G L σ)
  refine ax_iconst (v := (0 : Int32)) K (by decide) dX1_isFineWith_0 ?_
  refine ax_istore_n (lv' := [(3, .int (0 : Int32)), (0, .ref (L 0)), (1, .int v1), (2, .int v2)]) K dX1_isFineWith_1 (by decide) rfl ?_
  exact ax_sub [1, 2, 3, 0] rfl (h.elim fun n2 h => kx_isFineWith_l2 K E  n2 v1 v2 (0 : Int32) σ h)
theorem rx_isFineWith {Z : AZ} {G : AG} {cc : ByteArray} {mL hh pc : Nat} {lv : List (Nat × Value)} {rest : List Value} {L : Nat → Nat} {σ : St} (K : AK Z G cc RX1 mL (rmH hh)) (hlt : 3 < hh) (d : decode cc pc = .ok (.invokevirtual 437, 3)) (hrest : (rest.map fun v => v.category).sum ≤ 8) {v1 : Int32} {v2 : Int32} {P : Int32 → St → Prop} (h : sx_isFineWith σ v1 v2 P) (kk : ∀ (r : Int32) (σ' : St), P r σ' → AX Z 0 0 (pc + 3) lv (.int r :: rest) (xW G L σ')) : AX Z 0 0 pc lv (.int v2 :: .int v1 :: .ref (L 0) :: rest) (xW G L σ) :=
  ax_callV (N0 := 2) (As := [.int v1, .int v2]) K (mx_isFineWith (sx_isFineWith_ok h)) q895 q897 qs55 q117 q898 ⟨rfl, by decide, by decide, by decide⟩ rfl ⟨by show 3 + 1 + 1 ≤ hh + 1; omega, by show 8 + (5 + 11) + 60 * (3 + 1) ≤ 60 * (hh + 1); omega⟩ ⟨Nat.zero_le _, Nat.zero_le _⟩ rfl rfl rfl hrest d (fun r σ' hp => by obtain ⟨v, rfl, hp⟩ := hp; exact kk v σ' hp)
/-! x.isLaid -/
set_option maxHeartbeats 4000000 in
theorem kx_isLaid_j21 {Z : AZ} {G : AG} {L : Nat → Nat} {P : Int32 → St → Prop} (K : AK Z G cX1_isLaid RX1 2 (rmH 3)) (E : AEi Z cX1_isLaid .boolean (xW G L) 0 0 P) (s0 : Int32) (σ : St) (h : wx_isLaid_j21 P  s0 σ) : AX Z 0 0 21 [(0, .ref (L 0))] [.int s0] (xW G L σ) := by
  unfold wx_isLaid_j21 at h
  exact E _ _ _ _ dX1_isLaid_21 h.1 h.2
set_option maxHeartbeats 4000000 in
theorem kx_isLaid_j20 {Z : AZ} {G : AG} {L : Nat → Nat} {P : Int32 → St → Prop} (K : AK Z G cX1_isLaid RX1 2 (rmH 3)) (E : AEi Z cX1_isLaid .boolean (xW G L) 0 0 P) (σ : St) (h : wx_isLaid_j20 P  σ) : AX Z 0 0 20 [(0, .ref (L 0))] [] (xW G L σ) := by
  unfold wx_isLaid_j20 at h
  refine ax_iconst (v := (0 : Int32)) K (by decide) dX1_isLaid_20 ?_
  exact ax_sub [0] rfl (kx_isLaid_j21 K E  (0 : Int32) σ h)
set_option maxHeartbeats 4000000 in
theorem mx_isLaid {l : Launch} {G : AG} {L : Nat → Nat} {σ : St} {v1 : Int32} {P : Int32 → St → Prop} (h : wx_isLaid σ v1 P) : CtW l G yX1_isLaid cX1_isLaid 2 (some .boolean) (rmH 3) [.ref (L 0), .int v1] (xW G L) σ (pI P) := by
  refine CtW.ofI (by decide) (Nat.le_of_ble_eq_true rfl) fun Z _ K E => ?_
  unfold wx_isLaid at h
  show AX Z 0 0 0 [(0, .ref (L 0)), (1, .int v1)] [] (xW G L σ)
  refine ax_iload_n K 1 rfl dX1_isLaid_0 ?_
  refine rx_isMenu K (by decide) dX1_isLaid_1 (Nat.le_of_ble_eq_true rfl) h (fun r1 h => ?_)
  refine ax_if_eq (tgt := 20) K dX1_isLaid_4 (by decide) (fun c4 => ?_) (fun c4 => ?_)
  · have h := ax_it h c4
    exact ax_sub [0] rfl (kx_isLaid_j20 K E  σ h)
  · have h := ax_ie h c4
    refine ax_aload_n K 0 rfl dX1_isLaid_7 ?_
    refine xg_menuMany K dX1_isLaid_8 ?_
    refine ax_iload_n K 1 rfl dX1_isLaid_11 ?_
    refine xl_menuMany K h.1 dX1_isLaid_12 ?_
    replace h := h.2
    refine ax_if_le (tgt := 20) K dX1_isLaid_13 (by decide) (fun c13 => ?_) (fun c13 => ?_)
    · have h := ax_it h c13
      exact ax_sub [0] rfl (kx_isLaid_j20 K E  σ h)
    · have h := ax_ie h c13
      refine ax_iconst (v := (1 : Int32)) K (by decide) dX1_isLaid_16 ?_
      refine ax_goto (tgt := 21) K dX1_isLaid_17 (by decide) ?_
      exact ax_sub [0] rfl (kx_isLaid_j21 K E  (1 : Int32) σ h)
theorem rx_isLaid {Z : AZ} {G : AG} {cc : ByteArray} {mL hh pc : Nat} {lv : List (Nat × Value)} {rest : List Value} {L : Nat → Nat} {σ : St} (K : AK Z G cc RX1 mL (rmH hh)) (hlt : 3 < hh) (d : decode cc pc = .ok (.invokevirtual 325, 3)) (hrest : (rest.map fun v => v.category).sum ≤ 8) {v1 : Int32} {P : Int32 → St → Prop} (h : sx_isLaid σ v1 P) (kk : ∀ (r : Int32) (σ' : St), P r σ' → AX Z 0 0 (pc + 3) lv (.int r :: rest) (xW G L σ')) : AX Z 0 0 pc lv (.int v1 :: .ref (L 0) :: rest) (xW G L σ) :=
  ax_callV (N0 := 1) (As := [.int v1]) K (mx_isLaid (sx_isLaid_ok h)) q623 q625 qs22 q117 q626 ⟨rfl, by decide, by decide, by decide⟩ rfl ⟨by show 3 + 1 + 1 ≤ hh + 1; omega, by show 8 + (2 + 11) + 60 * (3 + 1) ≤ 60 * (hh + 1); omega⟩ ⟨Nat.zero_le _, Nat.zero_le _⟩ rfl rfl rfl hrest d (fun r σ' hp => by obtain ⟨v, rfl, hp⟩ := hp; exact kk v σ' hp)
/-! x.isStored -/
set_option maxHeartbeats 4000000 in
theorem kx_isStored_l2 {Z : AZ} {G : AG} {L : Nat → Nat} {P : Int32 → St → Prop} (K : AK Z G cX1_isStored RX1 3 (rmH 3)) (E : AEi Z cX1_isStored .boolean (xW G L) 0 0 P) : ∀ (n : Nat) (v1 : Int32) (v2 : Int32) (σ : St), wx_isStored_l2 P  n v1 v2 σ → AX Z 0 0 2 [(0, .ref (L 0)), (1, .int v1), (2, .int v2)] [] (xW G L σ) := by
  intro n
  induction n with
  | zero => intro v1 v2 σ h; exact False.elim h
  | succ n ih =>
    intro v1 v2 σ h
    rw [wx_isStored_l2_s] at h
    refine ax_iload_n K 2 rfl dX1_isStored_2 ?_
    refine ax_bipush (v := (8 : Int32)) K (by decide) dX1_isStored_3 ?_
    refine ax_icmp_ge (tgt := 31) K dX1_isStored_5 (by decide) (fun c5 => ?_) (fun c5 => ?_)
    · have h := ax_it h c5
      refine ax_iconst (v := (1 : Int32)) K (by decide) dX1_isStored_31 ?_
      exact E _ _ _ _ dX1_isStored_32 rfl h
    · have h := ax_ie h c5
      refine ax_aload_n K 0 rfl dX1_isStored_8 ?_
      refine ax_iload_n K 1 rfl dX1_isStored_9 ?_
      refine ax_iload_n K 2 rfl dX1_isStored_10 ?_
      refine rx_manyOf K (by decide) dX1_isStored_11 (Nat.le_of_ble_eq_true rfl) h (fun r11 σ11 h => ?_)
      refine ax_aload_n K 0 rfl dX1_isStored_14 ?_
      refine xg_stores K dX1_isStored_15 ?_
      refine ax_iload_n K 2 rfl dX1_isStored_18 ?_
      refine xl_stores K h.1 dX1_isStored_19 ?_
      replace h := h.2
      refine ax_icmp_le (tgt := 25) K dX1_isStored_20 (by decide) (fun c20 => ?_) (fun c20 => ?_)
      · have h := ax_it h c20
        refine ax_iinc (lv' := [(2, .int (v2 + (1 : Int32))), (0, .ref (L 0)), (1, .int v1)]) (v := (v2 + (1 : Int32))) K 2 dX1_isStored_25 rfl (by rfl) (by decide) rfl ?_
        refine ax_goto (tgt := 2) K dX1_isStored_28 (by decide) ?_
        exact ax_sub [1, 2, 0] rfl (ih v1 (v2 + (1 : Int32)) σ11 h)
      · have h := ax_ie h c20
        refine ax_iconst (v := (0 : Int32)) K (by decide) dX1_isStored_23 ?_
        exact E _ _ _ _ dX1_isStored_24 rfl h
set_option maxHeartbeats 4000000 in
theorem mx_isStored {l : Launch} {G : AG} {L : Nat → Nat} {σ : St} {v1 : Int32} {P : Int32 → St → Prop} (h : wx_isStored σ v1 P) : CtW l G yX1_isStored cX1_isStored 3 (some .boolean) (rmH 3) [.ref (L 0), .int v1] (xW G L) σ (pI P) := by
  refine CtW.ofI (by decide) (Nat.le_of_ble_eq_true rfl) fun Z _ K E => ?_
  unfold wx_isStored at h
  show AX Z 0 0 0 [(0, .ref (L 0)), (1, .int v1)] [] (xW G L σ)
  refine ax_iconst (v := (0 : Int32)) K (by decide) dX1_isStored_0 ?_
  refine ax_istore_n (lv' := [(2, .int (0 : Int32)), (0, .ref (L 0)), (1, .int v1)]) K dX1_isStored_1 (by decide) rfl ?_
  exact ax_sub [1, 2, 0] rfl (h.elim fun n2 h => kx_isStored_l2 K E  n2 v1 (0 : Int32) σ h)
theorem rx_isStored {Z : AZ} {G : AG} {cc : ByteArray} {mL hh pc : Nat} {lv : List (Nat × Value)} {rest : List Value} {L : Nat → Nat} {σ : St} (K : AK Z G cc RX1 mL (rmH hh)) (hlt : 3 < hh) (d : decode cc pc = .ok (.invokevirtual 300, 3)) (hrest : (rest.map fun v => v.category).sum ≤ 8) {v1 : Int32} {P : Int32 → St → Prop} (h : sx_isStored σ v1 P) (kk : ∀ (r : Int32) (σ' : St), P r σ' → AX Z 0 0 (pc + 3) lv (.int r :: rest) (xW G L σ')) : AX Z 0 0 pc lv (.int v1 :: .ref (L 0) :: rest) (xW G L σ) :=
  ax_callV (N0 := 1) (As := [.int v1]) K (mx_isStored (sx_isStored_ok h)) q593 q595 qs21 q117 q596 ⟨rfl, by decide, by decide, by decide⟩ rfl ⟨by show 3 + 1 + 1 ≤ hh + 1; omega, by show 8 + (3 + 11) + 60 * (3 + 1) ≤ 60 * (hh + 1); omega⟩ ⟨Nat.zero_le _, Nat.zero_le _⟩ rfl rfl rfl hrest d (fun r σ' hp => by obtain ⟨v, rfl, hp⟩ := hp; exact kk v σ' hp)
/-! x.law -/
set_option maxHeartbeats 4000000 in
theorem mx_law {l : Launch} {G : AG} {L : Nat → Nat} {σ : St} {v1 : Int32} {v2 : Int32} {P : Int32 → St → Prop} (h : wx_law σ v1 v2 P) : CtW l G yX1_law cX1_law 4 (some .int) (rmH 3) [.ref (L 0), .int v1, .int v2] (xW G L) σ (pI P) := by
  refine CtW.ofI (by decide) (Nat.le_of_ble_eq_true rfl) fun Z _ K E => ?_
  unfold wx_law at h
  show AX Z 0 0 0 [(0, .ref (L 0)), (1, .int v1), (2, .int v2)] [] (xW G L σ)
  refine ax_iload_n K 1 rfl dX1_law_0 ?_
  refine ax_iload_n K 2 rfl dX1_law_1 ?_
  refine rx_isLaw K (by decide) dX1_law_2 (Nat.le_of_ble_eq_true rfl) h (fun r2 h => ?_)
  refine ax_if_ne (tgt := 10) K dX1_law_5 (by decide) (fun c5 => ?_) (fun c5 => ?_)
  · have h := ax_ie h c5
    refine ax_aload_n K 0 rfl dX1_law_10 ?_
    refine xg_law K dX1_law_11 ?_
    refine ax_iload_n K 1 rfl dX1_law_14 ?_
    refine xl_law K h.1 dX1_law_15 ?_
    replace h := h.2
    refine ax_istore_n (lv' := [(3, .int (xA_law σ (v1).toNatClampNeg)), (0, .ref (L 0)), (1, .int v1), (2, .int v2)]) K dX1_law_16 (by decide) rfl ?_
    refine ax_aload_n K 1 rfl dX1_law_17 ?_
    refine xg_law K dX1_law_18 ?_
    refine ax_iload_n K 2 rfl dX1_law_21 ?_
    refine ax_iload_n K 3 rfl dX1_law_22 ?_
    refine xs_law K h.1 dX1_law_23 ?_
    replace h := h.2
    refine ax_iload_n K 0 rfl dX1_law_24 ?_
    exact E _ _ _ _ dX1_law_25 rfl h
  · have h := ax_it h c5
    refine ax_iconst (v := (-1 : Int32)) K (by decide) dX1_law_8 ?_
    exact E _ _ _ _ dX1_law_9 rfl h

/-! x.letters -/
set_option maxHeartbeats 4000000 in
theorem kx_letters_l4 {Z : AZ} {G : AG} {L : Nat → Nat} {P : Int32 → St → Prop} (K : AK Z G cX1_letters RX1 3 (rmH 3)) (E : AEi Z cX1_letters .int (xW G L) 0 0 P) {K59 : Int32 → St → Prop} (hK59 : ∀ (v1 : Int32) (σ : St), K59 v1 σ → AX Z 0 0 59 [(0, .ref (L 0)), (1, .int v1)] [] (xW G L σ)) : ∀ (n : Nat) (v1 : Int32) (v2 : Int32) (σ : St), wx_letters_l4 P K59 n v1 v2 σ → AX Z 0 0 4 [(0, .ref (L 0)), (1, .int v1), (2, .int v2)] [] (xW G L σ) := by
  intro n
  induction n with
  | zero => intro v1 v2 σ h; exact False.elim h
  | succ n ih =>
    intro v1 v2 σ h
    rw [wx_letters_l4_s] at h
    refine ax_aload_n K 0 rfl dX1_letters_4 ?_
    refine rx_isStuff K (by decide) dX1_letters_5 (Nat.le_of_ble_eq_true rfl) h (fun r5 σ5 h => ?_)
    refine ax_if_eq (tgt := 59) K dX1_letters_8 (by decide) (fun c8 => ?_) (fun c8 => ?_)
    · have h := ax_it h c8
      exact ax_sub [0, 1] rfl (hK59 v1 σ5 h)
    · have h := ax_ie h c8
      refine ax_aload_n K 0 rfl dX1_letters_11 ?_
      refine xg_text K dX1_letters_12 ?_
      refine ax_aload_n K 0 rfl dX1_letters_15 ?_
      refine xg_at K dX1_letters_16 ?_
      refine xl_text K h.1 dX1_letters_19 ?_
      replace h := h.2
      refine ax_bipush (v := (97 : Int32)) K (by decide) dX1_letters_20 ?_
      refine ax_isub K dX1_letters_22 ?_
      refine ax_iload_n K 2 rfl dX1_letters_23 ?_
      refine ax_icmp_le (tgt := 59) K dX1_letters_24 (by decide) (fun c24 => ?_) (fun c24 => ?_)
      · have h := ax_it h c24
        exact ax_sub [0, 1] rfl (hK59 v1 σ5 h)
      · have h := ax_ie h c24
        refine ax_aload_n K 0 rfl dX1_letters_27 ?_
        refine xg_text K dX1_letters_28 ?_
        refine ax_aload_n K 0 rfl dX1_letters_31 ?_
        refine xg_at K dX1_letters_32 ?_
        refine xl_text K h.1 dX1_letters_35 ?_
        replace h := h.2
        refine ax_bipush (v := (97 : Int32)) K (by decide) dX1_letters_36 ?_
        refine ax_isub K dX1_letters_38 ?_
        refine ax_istore_n (lv' := [(2, .int ((xA_text σ5 ((xI_at σ5)).toNatClampNeg) - (97 : Int32))), (0, .ref (L 0)), (1, .int v1)]) K dX1_letters_39 (by decide) rfl ?_
        refine ax_iload_n K 2 rfl dX1_letters_40 ?_
        refine ax_iconst (v := (1 : Int32)) K (by decide) dX1_letters_41 ?_
        refine ax_iload_n K 0 rfl dX1_letters_42 ?_
        refine ax_ishl K dX1_letters_43 ?_
        refine ax_ior K dX1_letters_44 ?_
        refine ax_istore_n (lv' := [(1, .int (v1 ||| ((1 : Int32) <<< (((xA_text σ5 ((xI_at σ5)).toNatClampNeg) - (97 : Int32)) &&& 31)))), (2, .int ((xA_text σ5 ((xI_at σ5)).toNatClampNeg) - (97 : Int32))), (0, .ref (L 0))]) K dX1_letters_45 (by decide) rfl ?_
        refine ax_aload_n K 2 rfl dX1_letters_46 ?_
        refine ax_dup K rfl dX1_letters_47 ?_
        refine xg_at K dX1_letters_48 ?_
        refine ax_iconst (v := (1 : Int32)) K (by decide) dX1_letters_51 ?_
        refine ax_iadd K dX1_letters_52 ?_
        refine xp_at K dX1_letters_53 ?_
        refine ax_goto (tgt := 4) K dX1_letters_56 (by decide) ?_
        exact ax_sub [2, 0, 1] rfl (ih (v1 ||| ((1 : Int32) <<< (((xA_text σ5 ((xI_at σ5)).toNatClampNeg) - (97 : Int32)) &&& 31))) ((xA_text σ5 ((xI_at σ5)).toNatClampNeg) - (97 : Int32)) (xS_at σ5 ((xI_at σ5) + (1 : Int32))) h)
set_option maxHeartbeats 4000000 in
theorem kx_letters_j59 {Z : AZ} {G : AG} {L : Nat → Nat} {P : Int32 → St → Prop} (K : AK Z G cX1_letters RX1 3 (rmH 3)) (E : AEi Z cX1_letters .int (xW G L) 0 0 P) (v1 : Int32) (σ : St) (h : wx_letters_j59 P  v1 σ) : AX Z 0 0 59 [(0, .ref (L 0)), (1, .int v1)] [] (xW G L σ) := by
  unfold wx_letters_j59 at h
  refine ax_iload_n K 1 rfl dX1_letters_59 ?_
  exact E _ _ _ _ dX1_letters_60 rfl h
set_option maxHeartbeats 4000000 in
theorem mx_letters {l : Launch} {G : AG} {L : Nat → Nat} {σ : St} {P : Int32 → St → Prop} (h : wx_letters σ P) : CtW l G yX1_letters cX1_letters 3 (some .int) (rmH 3) [.ref (L 0)] (xW G L) σ (pI P) := by
  refine CtW.ofI (by decide) (Nat.le_of_ble_eq_true rfl) fun Z _ K E => ?_
  unfold wx_letters at h
  show AX Z 0 0 0 [(0, .ref (L 0))] [] (xW G L σ)
  refine ax_iconst (v := (0 : Int32)) K (by decide) dX1_letters_0 ?_
  refine ax_istore_n (lv' := [(1, .int (0 : Int32)), (0, .ref (L 0))]) K dX1_letters_1 (by decide) rfl ?_
  refine ax_iconst (v := (-1 : Int32)) K (by decide) dX1_letters_2 ?_
  refine ax_istore_n (lv' := [(2, .int (-1 : Int32)), (1, .int (0 : Int32)), (0, .ref (L 0))]) K dX1_letters_3 (by decide) rfl ?_
  exact ax_sub [2, 1, 0] rfl (h.elim fun n4 h => kx_letters_l4 K E (kx_letters_j59 K E) n4 (0 : Int32) (-1 : Int32) σ h)
theorem rx_letters {Z : AZ} {G : AG} {cc : ByteArray} {mL hh pc : Nat} {lv : List (Nat × Value)} {rest : List Value} {L : Nat → Nat} {σ : St} (K : AK Z G cc RX1 mL (rmH hh)) (hlt : 3 < hh) (d : decode cc pc = .ok (.invokevirtual 159, 3)) (hrest : (rest.map fun v => v.category).sum ≤ 8) {P : Int32 → St → Prop} (h : sx_letters σ  P) (kk : ∀ (r : Int32) (σ' : St), P r σ' → AX Z 0 0 (pc + 3) lv (.int r :: rest) (xW G L σ')) : AX Z 0 0 pc lv (.ref (L 0) :: rest) (xW G L σ) :=
  ax_callV (N0 := 0) (As := []) K (mx_letters (sx_letters_ok h)) q319 q321 qs3 q117 q322 ⟨rfl, by decide, by decide, by decide⟩ rfl ⟨by show 3 + 1 + 1 ≤ hh + 1; omega, by show 8 + (3 + 11) + 60 * (3 + 1) ≤ 60 * (hh + 1); omega⟩ ⟨Nat.zero_le _, Nat.zero_le _⟩ rfl rfl rfl hrest d (fun r σ' hp => by obtain ⟨v, rfl, hp⟩ := hp; exact kk v σ' hp)
/-! x.menu -/
set_option maxHeartbeats 4000000 in
theorem kx_menu_j99 {Z : AZ} {G : AG} {L : Nat → Nat} {P : Int32 → St → Prop} (K : AK Z G cX1_menu RX1 5 (rmH 3)) (E : AEi Z cX1_menu .int (xW G L) 0 0 P) {K19 : Int32 → Int32 → Int32 → St → Prop} (hK19 : ∀ (v1 : Int32) (v2 : Int32) (v3 : Int32) (σ : St), K19 v1 v2 v3 σ → AX Z 0 0 19 [(0, .ref (L 0)), (1, .int v1), (2, .int v2), (3, .int v3)] [] (xW G L σ)) (v1 : Int32) (v2 : Int32) (v3 : Int32) (s1 : Int32) (s2 : Int32) (σ : St) (h : wx_menu_j99 P K19 v1 v2 v3 s1 s2 σ) : AX Z 0 0 99 [(0, .ref (L 0)), (1, .int v1), (2, .int v2), (3, .int v3)] [.int s2, .int s1, .ref (L 17)] (xW G L σ) := by
  unfold wx_menu_j99 at h
  refine xs_readMenu K h.1 dX1_menu_99 ?_
  replace h := h.2
  refine ax_iinc (lv' := [(3, .int (v3 + (1 : Int32))), (0, .ref (L 0)), (1, .int v1), (2, .int v2)]) (v := (v3 + (1 : Int32))) K 3 dX1_menu_100 rfl (by rfl) (by decide) rfl ?_
  refine ax_aload_n K 1 rfl dX1_menu_103 ?_
  refine ax_dup K rfl dX1_menu_104 ?_
  refine xg_at K dX1_menu_105 ?_
  refine ax_iconst (v := (1 : Int32)) K (by decide) dX1_menu_108 ?_
  refine ax_iadd K dX1_menu_109 ?_
  refine xp_at K dX1_menu_110 ?_
  refine ax_goto (tgt := 19) K dX1_menu_113 (by decide) ?_
  exact ax_sub [1, 2, 3, 0] rfl (hK19 v1 v2 (v3 + (1 : Int32)) (xS_at (xU_readMenu σ s1 s2) ((xI_at (xU_readMenu σ s1 s2)) + (1 : Int32))) h)
set_option maxHeartbeats 4000000 in
theorem kx_menu_j63 {Z : AZ} {G : AG} {L : Nat → Nat} {P : Int32 → St → Prop} (K : AK Z G cX1_menu RX1 5 (rmH 3)) (E : AEi Z cX1_menu .int (xW G L) 0 0 P) {K19 : Int32 → Int32 → Int32 → St → Prop} (hK19 : ∀ (v1 : Int32) (v2 : Int32) (v3 : Int32) (σ : St), K19 v1 v2 v3 σ → AX Z 0 0 19 [(0, .ref (L 0)), (1, .int v1), (2, .int v2), (3, .int v3)] [] (xW G L σ)) (v1 : Int32) (v2 : Int32) (v3 : Int32) (σ : St) (h : wx_menu_j63 P K19 v1 v2 v3 σ) : AX Z 0 0 63 [(0, .ref (L 0)), (1, .int v1), (2, .int v2), (3, .int v3)] [] (xW G L σ) := by
  unfold wx_menu_j63 at h
  refine ax_aload_n K 0 rfl dX1_menu_63 ?_
  refine xg_readMenu K dX1_menu_64 ?_
  refine ax_iload_n K 3 rfl dX1_menu_67 ?_
  refine ax_aload_n K 0 rfl dX1_menu_68 ?_
  refine xg_text K dX1_menu_69 ?_
  refine ax_aload_n K 0 rfl dX1_menu_72 ?_
  refine xg_at K dX1_menu_73 ?_
  refine xl_text K h.1 dX1_menu_76 ?_
  replace h := h.2
  refine ax_bipush (v := (63 : Int32)) K (by decide) dX1_menu_77 ?_
  refine ax_icmp_ne (tgt := 87) K dX1_menu_79 (by decide) (fun c79 => ?_) (fun c79 => ?_)
  · have h := ax_ie h c79
    refine ax_aload_n K 0 rfl dX1_menu_87 ?_
    refine xg_text K dX1_menu_88 ?_
    refine ax_aload_n K 0 rfl dX1_menu_91 ?_
    refine xg_at K dX1_menu_92 ?_
    refine xl_text K h.1 dX1_menu_95 ?_
    replace h := h.2
    refine ax_bipush (v := (65 : Int32)) K (by decide) dX1_menu_96 ?_
    refine ax_isub K dX1_menu_98 ?_
    exact ax_sub [0, 1, 2, 3] rfl (kx_menu_j99 K E hK19 v1 v2 v3 v3 ((xA_text σ ((xI_at σ)).toNatClampNeg) - (65 : Int32)) σ h)
  · have h := ax_it h c79
    refine ax_bipush (v := (99 : Int32)) K (by decide) dX1_menu_82 ?_
    refine ax_goto (tgt := 99) K dX1_menu_84 (by decide) ?_
    exact ax_sub [0, 1, 2, 3] rfl (kx_menu_j99 K E hK19 v1 v2 v3 v3 (99 : Int32) σ h)
set_option maxHeartbeats 4000000 in
theorem kx_menu_l19 {Z : AZ} {G : AG} {L : Nat → Nat} {P : Int32 → St → Prop} (K : AK Z G cX1_menu RX1 5 (rmH 3)) (E : AEi Z cX1_menu .int (xW G L) 0 0 P) {K116 : Int32 → Int32 → Int32 → St → Prop} (hK116 : ∀ (v1 : Int32) (v2 : Int32) (v3 : Int32) (σ : St), K116 v1 v2 v3 σ → AX Z 0 0 116 [(0, .ref (L 0)), (1, .int v1), (2, .int v2), (3, .int v3)] [] (xW G L σ)) : ∀ (n : Nat) (v1 : Int32) (v2 : Int32) (v3 : Int32) (σ : St), wx_menu_l19 P K116 n v1 v2 v3 σ → AX Z 0 0 19 [(0, .ref (L 0)), (1, .int v1), (2, .int v2), (3, .int v3)] [] (xW G L σ) := by
  intro n
  induction n with
  | zero => intro v1 v2 v3 σ h; exact False.elim h
  | succ n ih =>
    intro v1 v2 v3 σ h
    rw [wx_menu_l19_s] at h
    refine ax_aload_n K 0 rfl dX1_menu_19 ?_
    refine xg_at K dX1_menu_20 ?_
    refine ax_aload_n K 0 rfl dX1_menu_23 ?_
    refine xg_end K dX1_menu_24 ?_
    refine ax_icmp_ge (tgt := 116) K dX1_menu_27 (by decide) (fun c27 => ?_) (fun c27 => ?_)
    · have h := ax_it h c27
      exact ax_sub [0, 1, 2, 3] rfl (hK116 v1 v2 v3 σ h)
    · have h := ax_ie h c27
      refine ax_aload_n K 0 rfl dX1_menu_30 ?_
      refine xg_text K dX1_menu_31 ?_
      refine ax_aload_n K 0 rfl dX1_menu_34 ?_
      refine xg_at K dX1_menu_35 ?_
      refine xl_text K h.1 dX1_menu_38 ?_
      replace h := h.2
      refine ax_bipush (v := (63 : Int32)) K (by decide) dX1_menu_39 ?_
      refine ax_icmp_eq (tgt := 63) K dX1_menu_41 (by decide) (fun c41 => ?_) (fun c41 => ?_)
      · have h := ax_it h c41
        exact ax_sub [0, 1, 2, 3] rfl (kx_menu_j63 K E ih v1 v2 v3 σ h)
      · have h := ax_ie h c41
        refine ax_aload_n K 0 rfl dX1_menu_44 ?_
        refine ax_aload_n K 0 rfl dX1_menu_45 ?_
        refine xg_text K dX1_menu_46 ?_
        refine ax_aload_n K 0 rfl dX1_menu_49 ?_
        refine xg_at K dX1_menu_50 ?_
        refine xl_text K h.1 dX1_menu_53 ?_
        replace h := h.2
        refine ax_bipush (v := (65 : Int32)) K (by decide) dX1_menu_54 ?_
        refine ax_isub K dX1_menu_56 ?_
        refine rx_isDish K (by decide) dX1_menu_57 (Nat.le_of_ble_eq_true rfl) h (fun r57 σ57 h => ?_)
        refine ax_if_eq (tgt := 116) K dX1_menu_60 (by decide) (fun c60 => ?_) (fun c60 => ?_)
        · have h := ax_it h c60
          exact ax_sub [0, 1, 2, 3] rfl (hK116 v1 v2 v3 σ57 h)
        · have h := ax_ie h c60
          exact ax_sub [0, 1, 2, 3] rfl (kx_menu_j63 K E ih v1 v2 v3 σ57 h)
set_option maxHeartbeats 4000000 in
theorem kx_menu_j116 {Z : AZ} {G : AG} {L : Nat → Nat} {P : Int32 → St → Prop} (K : AK Z G cX1_menu RX1 5 (rmH 3)) (E : AEi Z cX1_menu .int (xW G L) 0 0 P) (v1 : Int32) (v2 : Int32) (v3 : Int32) (σ : St) (h : wx_menu_j116 P  v1 v2 v3 σ) : AX Z 0 0 116 [(0, .ref (L 0)), (1, .int v1), (2, .int v2), (3, .int v3)] [] (xW G L σ) := by
  unfold wx_menu_j116 at h
  refine ax_aload_n K 0 rfl dX1_menu_116 ?_
  refine ax_iload_n K 2 rfl dX1_menu_117 ?_
  refine ax_iconst (v := (1 : Int32)) K (by decide) dX1_menu_118 ?_
  refine rx_faultOf K (by decide) dX1_menu_119 (Nat.le_of_ble_eq_true rfl) h (fun r119 σ119 h => ?_)
  refine ax_istore (lv' := [(4, .int r119), (0, .ref (L 0)), (1, .int v1), (2, .int v2), (3, .int v3)]) K dX1_menu_122 (by decide) rfl ?_
  refine ax_iload K 0 rfl dX1_menu_124 ?_
  refine ax_if_ge (tgt := 132) K dX1_menu_126 (by decide) (fun c126 => ?_) (fun c126 => ?_)
  · have h := ax_it h c126
    refine ax_aload_n K 1 rfl dX1_menu_132 ?_
    refine xg_readMenu K dX1_menu_133 ?_
    refine ax_iconst (v := (0 : Int32)) K (by decide) dX1_menu_136 ?_
    refine ax_aload_n K 1 rfl dX1_menu_137 ?_
    refine xg_menu K dX1_menu_138 ?_
    refine ax_bipush (v := (10 : Int32)) K (by decide) dX1_menu_141 ?_
    refine ax_iload_n K 2 rfl dX1_menu_143 ?_
    refine ax_imul K dX1_menu_144 ?_
    refine ax_bipush (v := (10 : Int32)) K (by decide) dX1_menu_145 ?_
    refine xc_readMenu_menu K h.1 (Nat.le_of_ble_eq_true rfl) (Nat.le_of_ble_eq_true rfl) dX1_menu_147 ?_
    replace h := h.2
    refine ax_aload_n K 1 rfl dX1_menu_150 ?_
    refine xg_menuMany K dX1_menu_151 ?_
    refine ax_iload_n K 2 rfl dX1_menu_154 ?_
    refine ax_iload_n K 4 rfl dX1_menu_155 ?_
    refine xs_menuMany K h.1 dX1_menu_156 ?_
    replace h := h.2
    refine ax_iload_n K 4 rfl dX1_menu_157 ?_
    exact E _ _ _ _ dX1_menu_158 rfl h
  · have h := ax_ie h c126
    refine ax_iload K 0 rfl dX1_menu_129 ?_
    exact E _ _ _ _ dX1_menu_131 rfl h
set_option maxHeartbeats 4000000 in
theorem mx_menu {l : Launch} {G : AG} {L : Nat → Nat} {σ : St} {v1 : Int32} {P : Int32 → St → Prop} (h : wx_menu σ v1 P) : CtW l G yX1_menu cX1_menu 5 (some .int) (rmH 3) [.ref (L 0), .int v1] (xW G L) σ (pI P) := by
  refine CtW.ofI (by decide) (Nat.le_of_ble_eq_true rfl) fun Z _ K E => ?_
  unfold wx_menu at h
  show AX Z 0 0 0 [(0, .ref (L 0)), (1, .int v1)] [] (xW G L σ)
  refine ax_aload_n K 0 rfl dX1_menu_0 ?_
  refine ax_bipush (v := (10 : Int32)) K (by decide) dX1_menu_1 ?_
  refine rx_begins K (by decide) dX1_menu_3 (Nat.le_of_ble_eq_true rfl) h (fun r3 σ3 h => ?_)
  refine ax_istore_n (lv' := [(2, .int r3), (0, .ref (L 0)), (1, .int v1)]) K dX1_menu_6 (by decide) rfl ?_
  refine ax_iload_n K 2 rfl dX1_menu_7 ?_
  refine rx_isMenu K (by decide) dX1_menu_8 (Nat.le_of_ble_eq_true rfl) h (fun r8 h => ?_)
  refine ax_if_ne (tgt := 17) K dX1_menu_11 (by decide) (fun c11 => ?_) (fun c11 => ?_)
  · have h := ax_ie h c11
    refine ax_iconst (v := (0 : Int32)) K (by decide) dX1_menu_17 ?_
    refine ax_istore_n (lv' := [(3, .int (0 : Int32)), (2, .int r3), (0, .ref (L 0)), (1, .int v1)]) K dX1_menu_18 (by decide) rfl ?_
    exact ax_sub [2, 3, 1, 0] rfl (h.elim fun n19 h => kx_menu_l19 K E (kx_menu_j116 K E) n19 v1 r3 (0 : Int32) σ3 h)
  · have h := ax_it h c11
    refine ax_bipush (v := (-100 : Int32)) K (by decide) dX1_menu_14 ?_
    exact E _ _ _ _ dX1_menu_16 rfl h

/-! x.mostOf -/
set_option maxHeartbeats 4000000 in
theorem kx_mostOf_l4 {Z : AZ} {G : AG} {L : Nat → Nat} {P : Int32 → St → Prop} (K : AK Z G cX1_mostOf RX1 4 (rmH 3)) (E : AEi Z cX1_mostOf .int (xW G L) 0 0 P) : ∀ (n : Nat) (v1 : Int32) (v2 : Int32) (v3 : Int32) (σ : St), wx_mostOf_l4 P  n v1 v2 v3 σ → AX Z 0 0 4 [(0, .ref (L 0)), (1, .int v1), (2, .int v2), (3, .int v3)] [] (xW G L σ) := by
  intro n
  induction n with
  | zero => intro v1 v2 v3 σ h; exact False.elim h
  | succ n ih =>
    intro v1 v2 v3 σ h
    rw [wx_mostOf_l4_s] at h
    refine ax_iload_n K 3 rfl dX1_mostOf_4 ?_
    refine ax_bipush (v := (8 : Int32)) K (by decide) dX1_mostOf_5 ?_
    refine ax_icmp_ge (tgt := 27) K dX1_mostOf_7 (by decide) (fun c7 => ?_) (fun c7 => ?_)
    · have h := ax_it h c7
      refine ax_iload_n K 2 rfl dX1_mostOf_27 ?_
      exact E _ _ _ _ dX1_mostOf_28 rfl h
    · have h := ax_ie h c7
      refine ax_iload_n K 2 rfl dX1_mostOf_10 ?_
      refine ax_aload_n K 0 rfl dX1_mostOf_11 ?_
      refine ax_iload_n K 1 rfl dX1_mostOf_12 ?_
      refine ax_iload_n K 3 rfl dX1_mostOf_13 ?_
      refine rx_manyOf K (by decide) dX1_mostOf_14 (Nat.le_of_ble_eq_true rfl) h (fun r14 σ14 h => ?_)
      refine rx_max K (by decide) (Nat.le_of_ble_eq_true rfl) dX1_mostOf_17 ?_
      refine ax_istore_n (lv' := [(2, .int (jmax v2 r14)), (0, .ref (L 0)), (1, .int v1), (3, .int v3)]) K dX1_mostOf_20 (by decide) rfl ?_
      refine ax_iinc (lv' := [(3, .int (v3 + (1 : Int32))), (2, .int (jmax v2 r14)), (0, .ref (L 0)), (1, .int v1)]) (v := (v3 + (1 : Int32))) K 3 dX1_mostOf_21 rfl (by rfl) (by decide) rfl ?_
      refine ax_goto (tgt := 4) K dX1_mostOf_24 (by decide) ?_
      exact ax_sub [2, 3, 1, 0] rfl (ih v1 (jmax v2 r14) (v3 + (1 : Int32)) σ14 h)
set_option maxHeartbeats 4000000 in
theorem mx_mostOf {l : Launch} {G : AG} {L : Nat → Nat} {σ : St} {v1 : Int32} {P : Int32 → St → Prop} (h : wx_mostOf σ v1 P) : CtW l G yX1_mostOf cX1_mostOf 4 (some .int) (rmH 3) [.ref (L 0), .int v1] (xW G L) σ (pI P) := by
  refine CtW.ofI (by decide) (Nat.le_of_ble_eq_true rfl) fun Z _ K E => ?_
  unfold wx_mostOf at h
  show AX Z 0 0 0 [(0, .ref (L 0)), (1, .int v1)] [] (xW G L σ)
  refine ax_iconst (v := (0 : Int32)) K (by decide) dX1_mostOf_0 ?_
  refine ax_istore_n (lv' := [(2, .int (0 : Int32)), (0, .ref (L 0)), (1, .int v1)]) K dX1_mostOf_1 (by decide) rfl ?_
  refine ax_iconst (v := (0 : Int32)) K (by decide) dX1_mostOf_2 ?_
  refine ax_istore_n (lv' := [(3, .int (0 : Int32)), (2, .int (0 : Int32)), (0, .ref (L 0)), (1, .int v1)]) K dX1_mostOf_3 (by decide) rfl ?_
  exact ax_sub [2, 3, 1, 0] rfl (h.elim fun n4 h => kx_mostOf_l4 K E  n4 v1 (0 : Int32) (0 : Int32) σ h)
theorem rx_mostOf {Z : AZ} {G : AG} {cc : ByteArray} {mL hh pc : Nat} {lv : List (Nat × Value)} {rest : List Value} {L : Nat → Nat} {σ : St} (K : AK Z G cc RX1 mL (rmH hh)) (hlt : 3 < hh) (d : decode cc pc = .ok (.invokevirtual 297, 3)) (hrest : (rest.map fun v => v.category).sum ≤ 8) {v1 : Int32} {P : Int32 → St → Prop} (h : sx_mostOf σ v1 P) (kk : ∀ (r : Int32) (σ' : St), P r σ' → AX Z 0 0 (pc + 3) lv (.int r :: rest) (xW G L σ')) : AX Z 0 0 pc lv (.int v1 :: .ref (L 0) :: rest) (xW G L σ) :=
  ax_callV (N0 := 1) (As := [.int v1]) K (mx_mostOf (sx_mostOf_ok h)) q585 q587 qs19 q117 q588 ⟨rfl, by decide, by decide, by decide⟩ rfl ⟨by show 3 + 1 + 1 ≤ hh + 1; omega, by show 8 + (4 + 11) + 60 * (3 + 1) ≤ 60 * (hh + 1); omega⟩ ⟨Nat.zero_le _, Nat.zero_le _⟩ rfl rfl rfl hrest d (fun r σ' hp => by obtain ⟨v, rfl, hp⟩ := hp; exact kk v σ' hp)
/-! x.number -/
set_option maxHeartbeats 4000000 in
theorem kx_number_l13 {Z : AZ} {G : AG} {L : Nat → Nat} {P : Int32 → St → Prop} (K : AK Z G cX1_number RX1 4 (rmH 3)) (E : AEi Z cX1_number .int (xW G L) 0 0 P) {K59 : Int32 → St → Prop} (hK59 : ∀ (v2 : Int32) (σ : St), K59 v2 σ → AX Z 0 0 59 [(0, .ref (L 0)), (2, .int v2)] [] (xW G L σ)) : ∀ (n : Nat) (v1 : Int32) (v2 : Int32) (v3 : Int32) (σ : St), wx_number_l13 P K59 n v1 v2 v3 σ → AX Z 0 0 13 [(0, .ref (L 0)), (1, .int v1), (2, .int v2), (3, .int v3)] [] (xW G L σ) := by
  intro n
  induction n with
  | zero => intro v1 v2 v3 σ h; exact False.elim h
  | succ n ih =>
    intro v1 v2 v3 σ h
    rw [wx_number_l13_s] at h
    refine ax_iload_n K 3 rfl dX1_number_13 ?_
    refine ax_iload_n K 1 rfl dX1_number_14 ?_
    refine ax_icmp_ge (tgt := 59) K dX1_number_15 (by decide) (fun c15 => ?_) (fun c15 => ?_)
    · have h := ax_it h c15
      exact ax_sub [0, 2] rfl (hK59 v2 σ h)
    · have h := ax_ie h c15
      refine ax_aload_n K 0 rfl dX1_number_18 ?_
      refine rx_isDigit K (by decide) dX1_number_19 (Nat.le_of_ble_eq_true rfl) h (fun r19 σ19 h => ?_)
      refine ax_if_eq (tgt := 59) K dX1_number_22 (by decide) (fun c22 => ?_) (fun c22 => ?_)
      · have h := ax_it h c22
        exact ax_sub [0, 2] rfl (hK59 v2 σ19 h)
      · have h := ax_ie h c22
        refine ax_bipush (v := (10 : Int32)) K (by decide) dX1_number_25 ?_
        refine ax_iload_n K 2 rfl dX1_number_27 ?_
        refine ax_imul K dX1_number_28 ?_
        refine ax_aload_n K 0 rfl dX1_number_29 ?_
        refine xg_text K dX1_number_30 ?_
        refine ax_aload_n K 0 rfl dX1_number_33 ?_
        refine xg_at K dX1_number_34 ?_
        refine xl_text K h.1 dX1_number_37 ?_
        replace h := h.2
        refine ax_iadd K dX1_number_38 ?_
        refine ax_bipush (v := (48 : Int32)) K (by decide) dX1_number_39 ?_
        refine ax_isub K dX1_number_41 ?_
        refine ax_istore_n (lv' := [(2, .int ((((10 : Int32) * v2) + (xA_text σ19 ((xI_at σ19)).toNatClampNeg)) - (48 : Int32))), (0, .ref (L 0)), (1, .int v1), (3, .int v3)]) K dX1_number_42 (by decide) rfl ?_
        refine ax_aload_n K 1 rfl dX1_number_43 ?_
        refine ax_dup K rfl dX1_number_44 ?_
        refine xg_at K dX1_number_45 ?_
        refine ax_iconst (v := (1 : Int32)) K (by decide) dX1_number_48 ?_
        refine ax_iadd K dX1_number_49 ?_
        refine xp_at K dX1_number_50 ?_
        refine ax_iinc (lv' := [(3, .int (v3 + (1 : Int32))), (2, .int ((((10 : Int32) * v2) + (xA_text σ19 ((xI_at σ19)).toNatClampNeg)) - (48 : Int32))), (0, .ref (L 0)), (1, .int v1)]) (v := (v3 + (1 : Int32))) K 3 dX1_number_53 rfl (by rfl) (by decide) rfl ?_
        refine ax_goto (tgt := 13) K dX1_number_56 (by decide) ?_
        exact ax_sub [2, 3, 1, 0] rfl (ih v1 ((((10 : Int32) * v2) + (xA_text σ19 ((xI_at σ19)).toNatClampNeg)) - (48 : Int32)) (v3 + (1 : Int32)) (xS_at σ19 ((xI_at σ19) + (1 : Int32))) h)
set_option maxHeartbeats 4000000 in
theorem kx_number_j59 {Z : AZ} {G : AG} {L : Nat → Nat} {P : Int32 → St → Prop} (K : AK Z G cX1_number RX1 4 (rmH 3)) (E : AEi Z cX1_number .int (xW G L) 0 0 P) (v2 : Int32) (σ : St) (h : wx_number_j59 P  v2 σ) : AX Z 0 0 59 [(0, .ref (L 0)), (2, .int v2)] [] (xW G L σ) := by
  unfold wx_number_j59 at h
  refine ax_iload_n K 1 rfl dX1_number_59 ?_
  exact E _ _ _ _ dX1_number_60 rfl h
set_option maxHeartbeats 4000000 in
theorem mx_number {l : Launch} {G : AG} {L : Nat → Nat} {σ : St} {v1 : Int32} {P : Int32 → St → Prop} (h : wx_number σ v1 P) : CtW l G yX1_number cX1_number 4 (some .int) (rmH 3) [.ref (L 0), .int v1] (xW G L) σ (pI P) := by
  refine CtW.ofI (by decide) (Nat.le_of_ble_eq_true rfl) fun Z _ K E => ?_
  unfold wx_number at h
  show AX Z 0 0 0 [(0, .ref (L 0)), (1, .int v1)] [] (xW G L σ)
  refine ax_aload_n K 0 rfl dX1_number_0 ?_
  refine rx_isDigit K (by decide) dX1_number_1 (Nat.le_of_ble_eq_true rfl) h (fun r1 σ1 h => ?_)
  refine ax_if_ne (tgt := 9) K dX1_number_4 (by decide) (fun c4 => ?_) (fun c4 => ?_)
  · have h := ax_ie h c4
    refine ax_iconst (v := (0 : Int32)) K (by decide) dX1_number_9 ?_
    refine ax_istore_n (lv' := [(2, .int (0 : Int32)), (0, .ref (L 0)), (1, .int v1)]) K dX1_number_10 (by decide) rfl ?_
    refine ax_iconst (v := (0 : Int32)) K (by decide) dX1_number_11 ?_
    refine ax_istore_n (lv' := [(3, .int (0 : Int32)), (2, .int (0 : Int32)), (0, .ref (L 0)), (1, .int v1)]) K dX1_number_12 (by decide) rfl ?_
    exact ax_sub [2, 3, 1, 0] rfl (h.elim fun n13 h => kx_number_l13 K E (kx_number_j59 K E) n13 v1 (0 : Int32) (0 : Int32) σ1 h)
  · have h := ax_it h c4
    refine ax_iconst (v := (-1 : Int32)) K (by decide) dX1_number_7 ?_
    exact E _ _ _ _ dX1_number_8 rfl h
theorem rx_number {Z : AZ} {G : AG} {cc : ByteArray} {mL hh pc : Nat} {lv : List (Nat × Value)} {rest : List Value} {L : Nat → Nat} {σ : St} (K : AK Z G cc RX1 mL (rmH hh)) (hlt : 3 < hh) (d : decode cc pc = .ok (.invokevirtual 163, 3)) (hrest : (rest.map fun v => v.category).sum ≤ 8) {v1 : Int32} {P : Int32 → St → Prop} (h : sx_number σ v1 P) (kk : ∀ (r : Int32) (σ' : St), P r σ' → AX Z 0 0 (pc + 3) lv (.int r :: rest) (xW G L σ')) : AX Z 0 0 pc lv (.int v1 :: .ref (L 0) :: rest) (xW G L σ) :=
  ax_callV (N0 := 1) (As := [.int v1]) K (mx_number (sx_number_ok h)) q337 q339 qs7 q117 q340 ⟨rfl, by decide, by decide, by decide⟩ rfl ⟨by show 3 + 1 + 1 ≤ hh + 1; omega, by show 8 + (4 + 11) + 60 * (3 + 1) ≤ 60 * (hh + 1); omega⟩ ⟨Nat.zero_le _, Nat.zero_le _⟩ rfl rfl rfl hrest d (fun r σ' hp => by obtain ⟨v, rfl, hp⟩ := hp; exact kk v σ' hp)
/-! x.over -/
set_option maxHeartbeats 4000000 in
theorem kx_over_l7 {Z : AZ} {G : AG} {L : Nat → Nat} {P : Int32 → St → Prop} (K : AK Z G cX1_over RX1 3 (rmH 3)) (E : AEi Z cX1_over .int (xW G L) 0 0 P) : ∀ (n : Nat) (v1 : Int32) (v2 : Int32) (σ : St), wx_over_l7 P  n v1 v2 σ → AX Z 0 0 7 [(0, .ref (L 0)), (1, .int v1), (2, .int v2)] [] (xW G L σ) := by
  intro n
  induction n with
  | zero => intro v1 v2 σ h; exact False.elim h
  | succ n ih =>
    intro v1 v2 σ h
    rw [wx_over_l7_s] at h
    refine ax_iload_n K 2 rfl dX1_over_7 ?_
    refine ax_bipush (v := (8 : Int32)) K (by decide) dX1_over_8 ?_
    refine ax_icmp_ge (tgt := 45) K dX1_over_10 (by decide) (fun c10 => ?_) (fun c10 => ?_)
    · have h := ax_it h c10
      refine ax_aload_n K 0 rfl dX1_over_45 ?_
      refine ax_iconst (v := (0 : Int32)) K (by decide) dX1_over_46 ?_
      refine xp_servedMany K dX1_over_47 ?_
      refine ax_iload_n K 1 rfl dX1_over_50 ?_
      exact E _ _ _ _ dX1_over_51 rfl h
    · have h := ax_ie h c10
      refine ax_aload_n K 0 rfl dX1_over_13 ?_
      refine xg_stores K dX1_over_14 ?_
      refine ax_iload_n K 2 rfl dX1_over_17 ?_
      refine ax_iconst (v := (0 : Int32)) K (by decide) dX1_over_18 ?_
      refine ax_aload_n K 0 rfl dX1_over_19 ?_
      refine xg_stores K dX1_over_20 ?_
      refine ax_iload_n K 2 rfl dX1_over_23 ?_
      refine xl_stores K h.1 dX1_over_24 ?_
      replace h := h.2
      refine ax_aload_n K 0 rfl dX1_over_25 ?_
      refine ax_aload_n K 0 rfl dX1_over_26 ?_
      refine rx_setNow K (by decide) dX1_over_27 (Nat.le_of_ble_eq_true rfl) h (fun r27 σ27 h => ?_)
      refine ax_iload_n K 2 rfl dX1_over_30 ?_
      refine rx_manyOf K (by decide) dX1_over_31 (Nat.le_of_ble_eq_true rfl) h (fun r31 σ31 h => ?_)
      refine ax_isub K dX1_over_34 ?_
      refine rx_max K (by decide) (Nat.le_of_ble_eq_true rfl) dX1_over_35 ?_
      refine xs_stores K h.1 dX1_over_38 ?_
      replace h := h.2
      refine ax_iinc (lv' := [(2, .int (v2 + (1 : Int32))), (0, .ref (L 0)), (1, .int v1)]) (v := (v2 + (1 : Int32))) K 2 dX1_over_39 rfl (by rfl) (by decide) rfl ?_
      refine ax_goto (tgt := 7) K dX1_over_42 (by decide) ?_
      exact ax_sub [1, 2, 0] rfl (ih v1 (v2 + (1 : Int32)) (xU_stores σ31 v2 (jmax (0 : Int32) ((xA_stores σ (v2).toNatClampNeg) - r31))) h)
set_option maxHeartbeats 4000000 in
theorem mx_over {l : Launch} {G : AG} {L : Nat → Nat} {σ : St} {P : Int32 → St → Prop} (h : wx_over σ P) : CtW l G yX1_over cX1_over 3 (some .int) (rmH 3) [.ref (L 0)] (xW G L) σ (pI P) := by
  refine CtW.ofI (by decide) (Nat.le_of_ble_eq_true rfl) fun Z _ K E => ?_
  unfold wx_over at h
  show AX Z 0 0 0 [(0, .ref (L 0))] [] (xW G L σ)
  refine ax_aload_n K 0 rfl dX1_over_0 ?_
  refine xg_servedMany K dX1_over_1 ?_
  refine ax_istore_n (lv' := [(1, .int (xI_servedMany σ)), (0, .ref (L 0))]) K dX1_over_4 (by decide) rfl ?_
  refine ax_iconst (v := (0 : Int32)) K (by decide) dX1_over_5 ?_
  refine ax_istore_n (lv' := [(2, .int (0 : Int32)), (1, .int (xI_servedMany σ)), (0, .ref (L 0))]) K dX1_over_6 (by decide) rfl ?_
  exact ax_sub [2, 1, 0] rfl (h.elim fun n7 h => kx_over_l7 K E  n7 (xI_servedMany σ) (0 : Int32) σ h)

/-! x.pairsOf -/
set_option maxHeartbeats 4000000 in
theorem kx_pairsOf_j34 {Z : AZ} {G : AG} {L : Nat → Nat} {P : Int32 → St → Prop} (K : AK Z G cX1_pairsOf RX1 4 (rmH 3)) (E : AEi Z cX1_pairsOf .int (xW G L) 0 0 P) {K4 : Int32 → Int32 → Int32 → St → Prop} (hK4 : ∀ (v1 : Int32) (v2 : Int32) (v3 : Int32) (σ : St), K4 v1 v2 v3 σ → AX Z 0 0 4 [(0, .ref (L 0)), (1, .int v1), (2, .int v2), (3, .int v3)] [] (xW G L σ)) (v1 : Int32) (v3 : Int32) (s0 : Int32) (s1 : Int32) (σ : St) (h : wx_pairsOf_j34 P K4 v1 v3 s0 s1 σ) : AX Z 0 0 34 [(0, .ref (L 0)), (1, .int v1), (3, .int v3)] [.int s1, .int s0] (xW G L σ) := by
  unfold wx_pairsOf_j34 at h
  refine ax_ior K dX1_pairsOf_34 ?_
  refine ax_istore_n (lv' := [(2, .int (s0 ||| s1)), (0, .ref (L 0)), (1, .int v1), (3, .int v3)]) K dX1_pairsOf_35 (by decide) rfl ?_
  refine ax_iinc (lv' := [(3, .int (v3 + (1 : Int32))), (2, .int (s0 ||| s1)), (0, .ref (L 0)), (1, .int v1)]) (v := (v3 + (1 : Int32))) K 3 dX1_pairsOf_36 rfl (by rfl) (by decide) rfl ?_
  refine ax_goto (tgt := 4) K dX1_pairsOf_39 (by decide) ?_
  exact ax_sub [2, 3, 1, 0] rfl (hK4 v1 (s0 ||| s1) (v3 + (1 : Int32)) σ h)
set_option maxHeartbeats 4000000 in
theorem kx_pairsOf_j33 {Z : AZ} {G : AG} {L : Nat → Nat} {P : Int32 → St → Prop} (K : AK Z G cX1_pairsOf RX1 4 (rmH 3)) (E : AEi Z cX1_pairsOf .int (xW G L) 0 0 P) {K4 : Int32 → Int32 → Int32 → St → Prop} (hK4 : ∀ (v1 : Int32) (v2 : Int32) (v3 : Int32) (σ : St), K4 v1 v2 v3 σ → AX Z 0 0 4 [(0, .ref (L 0)), (1, .int v1), (2, .int v2), (3, .int v3)] [] (xW G L σ)) (v1 : Int32) (v3 : Int32) (s0 : Int32) (σ : St) (h : wx_pairsOf_j33 P K4 v1 v3 s0 σ) : AX Z 0 0 33 [(0, .ref (L 0)), (1, .int v1), (3, .int v3)] [.int s0] (xW G L σ) := by
  unfold wx_pairsOf_j33 at h
  refine ax_iconst (v := (0 : Int32)) K (by decide) dX1_pairsOf_33 ?_
  exact ax_sub [0, 1, 2] rfl (kx_pairsOf_j34 K E hK4 v1 v3 s0 (0 : Int32) σ h)
set_option maxHeartbeats 4000000 in
theorem kx_pairsOf_l4 {Z : AZ} {G : AG} {L : Nat → Nat} {P : Int32 → St → Prop} (K : AK Z G cX1_pairsOf RX1 4 (rmH 3)) (E : AEi Z cX1_pairsOf .int (xW G L) 0 0 P) : ∀ (n : Nat) (v1 : Int32) (v2 : Int32) (v3 : Int32) (σ : St), wx_pairsOf_l4 P  n v1 v2 v3 σ → AX Z 0 0 4 [(0, .ref (L 0)), (1, .int v1), (2, .int v2), (3, .int v3)] [] (xW G L σ) := by
  intro n
  induction n with
  | zero => intro v1 v2 v3 σ h; exact False.elim h
  | succ n ih =>
    intro v1 v2 v3 σ h
    rw [wx_pairsOf_l4_s] at h
    refine ax_iload_n K 3 rfl dX1_pairsOf_4 ?_
    refine ax_aload_n K 0 rfl dX1_pairsOf_5 ?_
    refine xg_dishes K dX1_pairsOf_6 ?_
    refine ax_icmp_ge (tgt := 42) K dX1_pairsOf_9 (by decide) (fun c9 => ?_) (fun c9 => ?_)
    · have h := ax_it h c9
      refine ax_iload_n K 2 rfl dX1_pairsOf_42 ?_
      exact E _ _ _ _ dX1_pairsOf_43 rfl h
    · have h := ax_ie h c9
      refine ax_iload_n K 2 rfl dX1_pairsOf_12 ?_
      refine ax_iload_n K 3 rfl dX1_pairsOf_13 ?_
      refine ax_iload_n K 1 rfl dX1_pairsOf_14 ?_
      refine ax_icmp_eq (tgt := 33) K dX1_pairsOf_15 (by decide) (fun c15 => ?_) (fun c15 => ?_)
      · have h := ax_it h c15
        exact ax_sub [0, 1, 3] rfl (kx_pairsOf_j33 K E ih v1 v3 v2 σ h)
      · have h := ax_ie h c15
        refine ax_aload_n K 0 rfl dX1_pairsOf_18 ?_
        refine ax_iload_n K 1 rfl dX1_pairsOf_19 ?_
        refine ax_iload_n K 3 rfl dX1_pairsOf_20 ?_
        refine rx_arePair K (by decide) dX1_pairsOf_21 (Nat.le_of_ble_eq_true rfl) h (fun r21 σ21 h => ?_)
        refine ax_if_eq (tgt := 33) K dX1_pairsOf_24 (by decide) (fun c24 => ?_) (fun c24 => ?_)
        · have h := ax_it h c24
          exact ax_sub [0, 1, 3] rfl (kx_pairsOf_j33 K E ih v1 v3 v2 σ21 h)
        · have h := ax_ie h c24
          refine ax_iconst (v := (1 : Int32)) K (by decide) dX1_pairsOf_27 ?_
          refine ax_iload_n K 3 rfl dX1_pairsOf_28 ?_
          refine ax_ishl K dX1_pairsOf_29 ?_
          refine ax_goto (tgt := 34) K dX1_pairsOf_30 (by decide) ?_
          exact ax_sub [0, 1, 3] rfl (kx_pairsOf_j34 K E ih v1 v3 v2 ((1 : Int32) <<< (v3 &&& 31)) σ21 h)
set_option maxHeartbeats 4000000 in
theorem mx_pairsOf {l : Launch} {G : AG} {L : Nat → Nat} {σ : St} {v1 : Int32} {P : Int32 → St → Prop} (h : wx_pairsOf σ v1 P) : CtW l G yX1_pairsOf cX1_pairsOf 4 (some .int) (rmH 3) [.ref (L 0), .int v1] (xW G L) σ (pI P) := by
  refine CtW.ofI (by decide) (Nat.le_of_ble_eq_true rfl) fun Z _ K E => ?_
  unfold wx_pairsOf at h
  show AX Z 0 0 0 [(0, .ref (L 0)), (1, .int v1)] [] (xW G L σ)
  refine ax_iconst (v := (0 : Int32)) K (by decide) dX1_pairsOf_0 ?_
  refine ax_istore_n (lv' := [(2, .int (0 : Int32)), (0, .ref (L 0)), (1, .int v1)]) K dX1_pairsOf_1 (by decide) rfl ?_
  refine ax_iconst (v := (0 : Int32)) K (by decide) dX1_pairsOf_2 ?_
  refine ax_istore_n (lv' := [(3, .int (0 : Int32)), (2, .int (0 : Int32)), (0, .ref (L 0)), (1, .int v1)]) K dX1_pairsOf_3 (by decide) rfl ?_
  exact ax_sub [2, 3, 1, 0] rfl (h.elim fun n4 h => kx_pairsOf_l4 K E  n4 v1 (0 : Int32) (0 : Int32) σ h)
theorem rx_pairsOf {Z : AZ} {G : AG} {cc : ByteArray} {mL hh pc : Nat} {lv : List (Nat × Value)} {rest : List Value} {L : Nat → Nat} {σ : St} (K : AK Z G cc RX1 mL (rmH hh)) (hlt : 3 < hh) (d : decode cc pc = .ok (.invokevirtual 385, 3)) (hrest : (rest.map fun v => v.category).sum ≤ 8) {v1 : Int32} {P : Int32 → St → Prop} (h : sx_pairsOf σ v1 P) (kk : ∀ (r : Int32) (σ' : St), P r σ' → AX Z 0 0 (pc + 3) lv (.int r :: rest) (xW G L σ')) : AX Z 0 0 pc lv (.int v1 :: .ref (L 0) :: rest) (xW G L σ) :=
  ax_callV (N0 := 1) (As := [.int v1]) K (mx_pairsOf (sx_pairsOf_ok h)) q730 q732 qs37 q117 q733 ⟨rfl, by decide, by decide, by decide⟩ rfl ⟨by show 3 + 1 + 1 ≤ hh + 1; omega, by show 8 + (4 + 11) + 60 * (3 + 1) ≤ 60 * (hh + 1); omega⟩ ⟨Nat.zero_le _, Nat.zero_le _⟩ rfl rfl rfl hrest d (fun r σ' hp => by obtain ⟨v, rfl, hp⟩ := hp; exact kk v σ' hp)
/-! x.swap -/
set_option maxHeartbeats 4000000 in
theorem mx_swap {l : Launch} {G : AG} {L : Nat → Nat} {σ : St} {v1 : Int32} {v2 : Int32} {v3 : Int32} {P : Int32 → St → Prop} (h : wx_swap σ v1 v2 v3 P) : CtW l G yX1_swap cX1_swap 4 (some .boolean) (rmH 3) [.ref (L 0), .int v1, .int v2, .int v3] (xW G L) σ (pI P) := by
  refine CtW.ofI (by decide) (Nat.le_of_ble_eq_true rfl) fun Z _ K E => ?_
  unfold wx_swap at h
  show AX Z 0 0 0 [(0, .ref (L 0)), (1, .int v1), (2, .int v2), (3, .int v3)] [] (xW G L σ)
  refine ax_iload_n K 1 rfl dX1_swap_0 ?_
  refine rx_isMenu K (by decide) dX1_swap_1 (Nat.le_of_ble_eq_true rfl) h (fun r1 h => ?_)
  refine ax_if_eq (tgt := 30) K dX1_swap_4 (by decide) (fun c4 => ?_) (fun c4 => ?_)
  · have h := ax_it h c4
    refine ax_iconst (v := (0 : Int32)) K (by decide) dX1_swap_30 ?_
    exact E _ _ _ _ dX1_swap_31 rfl h
  · have h := ax_ie h c4
    refine ax_aload_n K 0 rfl dX1_swap_7 ?_
    refine ax_iload_n K 1 rfl dX1_swap_8 ?_
    refine ax_iload_n K 2 rfl dX1_swap_9 ?_
    refine rx_isPlace K (by decide) dX1_swap_10 (Nat.le_of_ble_eq_true rfl) h (fun r10 σ10 h => ?_)
    refine ax_if_eq (tgt := 30) K dX1_swap_13 (by decide) (fun c13 => ?_) (fun c13 => ?_)
    · have h := ax_it h c13
      refine ax_iconst (v := (0 : Int32)) K (by decide) dX1_swap_30 ?_
      exact E _ _ _ _ dX1_swap_31 rfl h
    · have h := ax_ie h c13
      refine ax_aload_n K 0 rfl dX1_swap_16 ?_
      refine ax_iload_n K 1 rfl dX1_swap_17 ?_
      refine ax_iload_n K 3 rfl dX1_swap_18 ?_
      refine rx_isPlace K (by decide) dX1_swap_19 (Nat.le_of_ble_eq_true rfl) h (fun r19 σ19 h => ?_)
      refine ax_if_eq (tgt := 30) K dX1_swap_22 (by decide) (fun c22 => ?_) (fun c22 => ?_)
      · have h := ax_it h c22
        refine ax_iconst (v := (0 : Int32)) K (by decide) dX1_swap_30 ?_
        exact E _ _ _ _ dX1_swap_31 rfl h
      · have h := ax_ie h c22
        refine ax_iload_n K 2 rfl dX1_swap_25 ?_
        refine ax_iload_n K 3 rfl dX1_swap_26 ?_
        refine ax_icmp_ne (tgt := 32) K dX1_swap_27 (by decide) (fun c27 => ?_) (fun c27 => ?_)
        · have h := ax_ie h c27
          refine ax_aload_n K 0 rfl dX1_swap_32 ?_
          refine ax_iload_n K 1 rfl dX1_swap_33 ?_
          refine ax_iload_n K 2 rfl dX1_swap_34 ?_
          refine ax_iload_n K 3 rfl dX1_swap_35 ?_
          refine rx_swaps K (by decide) dX1_swap_36 (Nat.le_of_ble_eq_true rfl) h (fun σ36 h => ?_)
          refine ax_iconst (v := (1 : Int32)) K (by decide) dX1_swap_39 ?_
          exact E _ _ _ _ dX1_swap_40 rfl h
        · have h := ax_it h c27
          refine ax_iconst (v := (0 : Int32)) K (by decide) dX1_swap_30 ?_
          exact E _ _ _ _ dX1_swap_31 rfl h

/-! x.beside -/
set_option maxHeartbeats 4000000 in
theorem kx_beside_j17 {Z : AZ} {G : AG} {L : Nat → Nat} {P : Int32 → St → Prop} (K : AK Z G cX1_beside RX1 2 (rmH 4)) (E : AEi Z cX1_beside .int (xW G L) 0 0 P) (s0 : Int32) (σ : St) (h : wx_beside_j17 P  s0 σ) : AX Z 0 0 17 [(0, .ref (L 0))] [.int s0] (xW G L σ) := by
  unfold wx_beside_j17 at h
  exact E _ _ _ _ dX1_beside_17 rfl h
set_option maxHeartbeats 4000000 in
theorem mx_beside {l : Launch} {G : AG} {L : Nat → Nat} {σ : St} {v1 : Int32} {P : Int32 → St → Prop} (h : wx_beside σ v1 P) : CtW l G yX1_beside cX1_beside 2 (some .int) (rmH 4) [.ref (L 0), .int v1] (xW G L) σ (pI P) := by
  refine CtW.ofI (by decide) (Nat.le_of_ble_eq_true rfl) fun Z _ K E => ?_
  unfold wx_beside at h
  show AX Z 0 0 0 [(0, .ref (L 0)), (1, .int v1)] [] (xW G L σ)
  refine ax_aload_n K 0 rfl dX1_beside_0 ?_
  refine ax_iload_n K 1 rfl dX1_beside_1 ?_
  refine rx_isDish K (by decide) dX1_beside_2 (Nat.le_of_ble_eq_true rfl) h (fun r2 σ2 h => ?_)
  refine ax_if_eq (tgt := 16) K dX1_beside_5 (by decide) (fun c5 => ?_) (fun c5 => ?_)
  · have h := ax_it h c5
    refine ax_iconst (v := (-1 : Int32)) K (by decide) dX1_beside_16 ?_
    exact ax_sub [0] rfl (kx_beside_j17 K E  (-1 : Int32) σ2 h)
  · have h := ax_ie h c5
    refine ax_aload_n K 0 rfl dX1_beside_8 ?_
    refine ax_iload_n K 1 rfl dX1_beside_9 ?_
    refine rx_pairsOf K (by decide) dX1_beside_10 (Nat.le_of_ble_eq_true rfl) h (fun r10 σ10 h => ?_)
    refine ax_goto (tgt := 17) K dX1_beside_13 (by decide) ?_
    exact ax_sub [0] rfl (kx_beside_j17 K E  r10 σ10 h)

/-! x.isWhole -/
set_option maxHeartbeats 4000000 in
theorem kx_isWhole_l12 {Z : AZ} {G : AG} {L : Nat → Nat} {P : Int32 → St → Prop} (K : AK Z G cX1_isWhole RX1 3 (rmH 4)) (E : AEi Z cX1_isWhole .boolean (xW G L) 0 0 P) : ∀ (n : Nat) (v1 : Int32) (v2 : Int32) (σ : St), wx_isWhole_l12 P  n v1 v2 σ → AX Z 0 0 12 [(0, .ref (L 0)), (1, .int v1), (2, .int v2)] [] (xW G L σ) := by
  intro n
  induction n with
  | zero => intro v1 v2 σ h; exact False.elim h
  | succ n ih =>
    intro v1 v2 σ h
    rw [wx_isWhole_l12_s] at h
    refine ax_iload_n K 2 rfl dX1_isWhole_12 ?_
    refine ax_aload_n K 0 rfl dX1_isWhole_13 ?_
    refine xg_menuMany K dX1_isWhole_14 ?_
    refine ax_iload_n K 1 rfl dX1_isWhole_17 ?_
    refine xl_menuMany K h.1 dX1_isWhole_18 ?_
    replace h := h.2
    refine ax_icmp_ge (tgt := 41) K dX1_isWhole_19 (by decide) (fun c19 => ?_) (fun c19 => ?_)
    · have h := ax_it h c19
      refine ax_iconst (v := (1 : Int32)) K (by decide) dX1_isWhole_41 ?_
      exact E _ _ _ _ dX1_isWhole_42 rfl h
    · have h := ax_ie h c19
      refine ax_aload_n K 0 rfl dX1_isWhole_22 ?_
      refine ax_iload_n K 1 rfl dX1_isWhole_23 ?_
      refine ax_iload_n K 2 rfl dX1_isWhole_24 ?_
      refine rx_dishAt K (by decide) dX1_isWhole_25 (Nat.le_of_ble_eq_true rfl) h (fun r25 σ25 h => ?_)
      refine ax_bipush (v := (99 : Int32)) K (by decide) dX1_isWhole_28 ?_
      refine ax_icmp_ne (tgt := 35) K dX1_isWhole_30 (by decide) (fun c30 => ?_) (fun c30 => ?_)
      · have h := ax_ie h c30
        refine ax_iinc (lv' := [(2, .int (v2 + (1 : Int32))), (0, .ref (L 0)), (1, .int v1)]) (v := (v2 + (1 : Int32))) K 2 dX1_isWhole_35 rfl (by rfl) (by decide) rfl ?_
        refine ax_goto (tgt := 12) K dX1_isWhole_38 (by decide) ?_
        exact ax_sub [1, 2, 0] rfl (ih v1 (v2 + (1 : Int32)) σ25 h)
      · have h := ax_it h c30
        refine ax_iconst (v := (0 : Int32)) K (by decide) dX1_isWhole_33 ?_
        exact E _ _ _ _ dX1_isWhole_34 rfl h
set_option maxHeartbeats 4000000 in
theorem mx_isWhole {l : Launch} {G : AG} {L : Nat → Nat} {σ : St} {v1 : Int32} {P : Int32 → St → Prop} (h : wx_isWhole σ v1 P) : CtW l G yX1_isWhole cX1_isWhole 3 (some .boolean) (rmH 4) [.ref (L 0), .int v1] (xW G L) σ (pI P) := by
  refine CtW.ofI (by decide) (Nat.le_of_ble_eq_true rfl) fun Z _ K E => ?_
  unfold wx_isWhole at h
  show AX Z 0 0 0 [(0, .ref (L 0)), (1, .int v1)] [] (xW G L σ)
  refine ax_aload_n K 0 rfl dX1_isWhole_0 ?_
  refine ax_iload_n K 1 rfl dX1_isWhole_1 ?_
  refine rx_isLaid K (by decide) dX1_isWhole_2 (Nat.le_of_ble_eq_true rfl) h (fun r2 σ2 h => ?_)
  refine ax_if_ne (tgt := 10) K dX1_isWhole_5 (by decide) (fun c5 => ?_) (fun c5 => ?_)
  · have h := ax_ie h c5
    refine ax_iconst (v := (0 : Int32)) K (by decide) dX1_isWhole_10 ?_
    refine ax_istore_n (lv' := [(2, .int (0 : Int32)), (0, .ref (L 0)), (1, .int v1)]) K dX1_isWhole_11 (by decide) rfl ?_
    exact ax_sub [1, 2, 0] rfl (h.elim fun n12 h => kx_isWhole_l12 K E  n12 v1 (0 : Int32) σ2 h)
  · have h := ax_it h c5
    refine ax_iconst (v := (0 : Int32)) K (by decide) dX1_isWhole_8 ?_
    exact E _ _ _ _ dX1_isWhole_9 rfl h
theorem rx_isWhole {Z : AZ} {G : AG} {cc : ByteArray} {mL hh pc : Nat} {lv : List (Nat × Value)} {rest : List Value} {L : Nat → Nat} {σ : St} (K : AK Z G cc RX1 mL (rmH hh)) (hlt : 4 < hh) (d : decode cc pc = .ok (.invokevirtual 351, 3)) (hrest : (rest.map fun v => v.category).sum ≤ 8) {v1 : Int32} {P : Int32 → St → Prop} (h : sx_isWhole σ v1 P) (kk : ∀ (r : Int32) (σ' : St), P r σ' → AX Z 0 0 (pc + 3) lv (.int r :: rest) (xW G L σ')) : AX Z 0 0 pc lv (.int v1 :: .ref (L 0) :: rest) (xW G L σ) :=
  ax_callV (N0 := 1) (As := [.int v1]) K (mx_isWhole (sx_isWhole_ok h)) q663 q665 qs29 q117 q666 ⟨rfl, by decide, by decide, by decide⟩ rfl ⟨by show 4 + 1 + 1 ≤ hh + 1; omega, by show 8 + (3 + 11) + 60 * (4 + 1) ≤ 60 * (hh + 1); omega⟩ ⟨Nat.zero_le _, Nat.zero_le _⟩ rfl rfl rfl hrest d (fun r σ' hp => by obtain ⟨v, rfl, hp⟩ := hp; exact kk v σ' hp)
/-! x.joins -/
set_option maxHeartbeats 4000000 in
theorem kx_joins_j62 {Z : AZ} {G : AG} {L : Nat → Nat} {P : Int32 → St → Prop} (K : AK Z G cX1_joins RX1 7 (rmH 4)) (E : AEi Z cX1_joins .boolean (xW G L) 0 0 P) {K35 : Int32 → Int32 → Int32 → Int32 → St → Prop} (hK35 : ∀ (v1 : Int32) (v2 : Int32) (v3 : Int32) (v4 : Int32) (σ : St), K35 v1 v2 v3 v4 σ → AX Z 0 0 35 [(0, .ref (L 0)), (1, .int v1), (2, .int v2), (3, .int v3), (4, .int v4)] [] (xW G L σ)) (v1 : Int32) (v2 : Int32) (v3 : Int32) (v4 : Int32) (s1 : Int32) (s2 : Int32) (σ : St) (h : wx_joins_j62 P K35 v1 v2 v3 v4 s1 s2 σ) : AX Z 0 0 62 [(0, .ref (L 0)), (1, .int v1), (2, .int v2), (3, .int v3), (4, .int v4)] [.int s2, .int s1, .ref (L 27)] (xW G L σ) := by
  unfold wx_joins_j62 at h
  refine xs_wideLasts K h.1 dX1_joins_62 ?_
  replace h := h.2
  refine ax_iinc (lv' := [(4, .int (v4 + (1 : Int32))), (0, .ref (L 0)), (1, .int v1), (2, .int v2), (3, .int v3)]) (v := (v4 + (1 : Int32))) K 4 dX1_joins_63 rfl (by rfl) (by decide) rfl ?_
  refine ax_goto (tgt := 35) K dX1_joins_66 (by decide) ?_
  exact ax_sub [1, 2, 3, 4, 0] rfl (hK35 v1 v2 v3 (v4 + (1 : Int32)) (xU_wideLasts σ s1 s2) h)
set_option maxHeartbeats 4000000 in
theorem kx_joins_l35 {Z : AZ} {G : AG} {L : Nat → Nat} {P : Int32 → St → Prop} (K : AK Z G cX1_joins RX1 7 (rmH 4)) (E : AEi Z cX1_joins .boolean (xW G L) 0 0 P) {K72 : Int32 → Int32 → Int32 → Int32 → St → Prop} (hK72 : ∀ (v1 : Int32) (v2 : Int32) (v3 : Int32) (v4 : Int32) (σ : St), K72 v1 v2 v3 v4 σ → AX Z 0 0 72 [(0, .ref (L 0)), (1, .int v1), (2, .int v2), (3, .int v3), (4, .int v4)] [] (xW G L σ)) : ∀ (n : Nat) (v1 : Int32) (v2 : Int32) (v3 : Int32) (v4 : Int32) (σ : St), wx_joins_l35 P K72 n v1 v2 v3 v4 σ → AX Z 0 0 35 [(0, .ref (L 0)), (1, .int v1), (2, .int v2), (3, .int v3), (4, .int v4)] [] (xW G L σ) := by
  intro n
  induction n with
  | zero => intro v1 v2 v3 v4 σ h; exact False.elim h
  | succ n ih =>
    intro v1 v2 v3 v4 σ h
    rw [wx_joins_l35_s] at h
    refine ax_iload K 4 rfl dX1_joins_35 ?_
    refine ax_iload_n K 3 rfl dX1_joins_37 ?_
    refine ax_icmp_gt (tgt := 69) K dX1_joins_38 (by decide) (fun c38 => ?_) (fun c38 => ?_)
    · have h := ax_it h c38
      refine ax_iconst (v := (1 : Int32)) K (by decide) dX1_joins_69 ?_
      refine ax_istore (lv' := [(4, .int (1 : Int32)), (0, .ref (L 0)), (1, .int v1), (2, .int v2), (3, .int v3)]) K dX1_joins_70 (by decide) rfl ?_
      exact ax_sub [1, 2, 3, 4, 0] rfl (hK72 v1 v2 v3 (1 : Int32) σ h)
    · have h := ax_ie h c38
      refine ax_aload_n K 0 rfl dX1_joins_41 ?_
      refine xg_wideLasts K dX1_joins_42 ?_
      refine ax_iload K 4 rfl dX1_joins_45 ?_
      refine ax_iload K 4 rfl dX1_joins_47 ?_
      refine rx_bitCount K (by decide) dX1_joins_49 (Nat.le_of_ble_eq_true rfl) ?_
      refine ax_iconst (v := (1 : Int32)) K (by decide) dX1_joins_52 ?_
      refine ax_icmp_ne (tgt := 61) K dX1_joins_53 (by decide) (fun c53 => ?_) (fun c53 => ?_)
      · have h := ax_ie h c53
        refine ax_iconst (v := (0 : Int32)) K (by decide) dX1_joins_61 ?_
        exact ax_sub [0, 1, 2, 3, 4] rfl (kx_joins_j62 K E ih v1 v2 v3 v4 v4 (0 : Int32) σ h)
      · have h := ax_it h c53
        refine ax_iload K 4 rfl dX1_joins_56 ?_
        refine ax_goto (tgt := 62) K dX1_joins_58 (by decide) ?_
        exact ax_sub [0, 1, 2, 3, 4] rfl (kx_joins_j62 K E ih v1 v2 v3 v4 v4 v4 σ h)
set_option maxHeartbeats 4000000 in
theorem kx_joins_j157 {Z : AZ} {G : AG} {L : Nat → Nat} {P : Int32 → St → Prop} (K : AK Z G cX1_joins RX1 7 (rmH 4)) (E : AEi Z cX1_joins .boolean (xW G L) 0 0 P) {K108 : Int32 → Int32 → Int32 → Int32 → Int32 → Int32 → St → Prop} (hK108 : ∀ (v1 : Int32) (v2 : Int32) (v3 : Int32) (v4 : Int32) (v5 : Int32) (v6 : Int32) (σ : St), K108 v1 v2 v3 v4 v5 v6 σ → AX Z 0 0 108 [(0, .ref (L 0)), (1, .int v1), (2, .int v2), (3, .int v3), (4, .int v4), (5, .int v5), (6, .int v6)] [] (xW G L σ)) (v1 : Int32) (v2 : Int32) (v3 : Int32) (v4 : Int32) (v5 : Int32) (v6 : Int32) (σ : St) (h : wx_joins_j157 P K108 v1 v2 v3 v4 v5 v6 σ) : AX Z 0 0 157 [(0, .ref (L 0)), (1, .int v1), (2, .int v2), (3, .int v3), (4, .int v4), (5, .int v5), (6, .int v6)] [] (xW G L σ) := by
  unfold wx_joins_j157 at h
  refine ax_iinc (lv' := [(6, .int (v6 + (1 : Int32))), (0, .ref (L 0)), (1, .int v1), (2, .int v2), (3, .int v3), (4, .int v4), (5, .int v5)]) (v := (v6 + (1 : Int32))) K 6 dX1_joins_157 rfl (by rfl) (by decide) rfl ?_
  refine ax_goto (tgt := 108) K dX1_joins_160 (by decide) ?_
  exact ax_sub [1, 2, 3, 4, 5, 6, 0] rfl (hK108 v1 v2 v3 v4 v5 (v6 + (1 : Int32)) σ h)
set_option maxHeartbeats 4000000 in
theorem kx_joins_l108 {Z : AZ} {G : AG} {L : Nat → Nat} {P : Int32 → St → Prop} (K : AK Z G cX1_joins RX1 7 (rmH 4)) (E : AEi Z cX1_joins .boolean (xW G L) 0 0 P) {K163 : Int32 → Int32 → Int32 → Int32 → Int32 → St → Prop} (hK163 : ∀ (v1 : Int32) (v2 : Int32) (v3 : Int32) (v4 : Int32) (v5 : Int32) (σ : St), K163 v1 v2 v3 v4 v5 σ → AX Z 0 0 163 [(0, .ref (L 0)), (1, .int v1), (2, .int v2), (3, .int v3), (4, .int v4), (5, .int v5)] [] (xW G L σ)) : ∀ (n : Nat) (v1 : Int32) (v2 : Int32) (v3 : Int32) (v4 : Int32) (v5 : Int32) (v6 : Int32) (σ : St), wx_joins_l108 P K163 n v1 v2 v3 v4 v5 v6 σ → AX Z 0 0 108 [(0, .ref (L 0)), (1, .int v1), (2, .int v2), (3, .int v3), (4, .int v4), (5, .int v5), (6, .int v6)] [] (xW G L σ) := by
  intro n
  induction n with
  | zero => intro v1 v2 v3 v4 v5 v6 σ h; exact False.elim h
  | succ n ih =>
    intro v1 v2 v3 v4 v5 v6 σ h
    rw [wx_joins_l108_s] at h
    refine ax_iload K 6 rfl dX1_joins_108 ?_
    refine ax_iload_n K 2 rfl dX1_joins_110 ?_
    refine ax_icmp_ge (tgt := 163) K dX1_joins_111 (by decide) (fun c111 => ?_) (fun c111 => ?_)
    · have h := ax_it h c111
      exact ax_sub [0, 1, 2, 3, 4, 5] rfl (hK163 v1 v2 v3 v4 v5 σ h)
    · have h := ax_ie h c111
      refine ax_iload K 4 rfl dX1_joins_114 ?_
      refine ax_iload K 6 rfl dX1_joins_116 ?_
      refine rx_has K (by decide) dX1_joins_118 (Nat.le_of_ble_eq_true rfl) h (fun r118 h => ?_)
      refine ax_if_ne (tgt := 157) K dX1_joins_121 (by decide) (fun c121 => ?_) (fun c121 => ?_)
      · have h := ax_ie h c121
        exact ax_sub [0, 1, 2, 3, 4, 5, 6] rfl (kx_joins_j157 K E ih v1 v2 v3 v4 v5 v6 σ h)
      · have h := ax_it h c121
        refine ax_aload_n K 0 rfl dX1_joins_124 ?_
        refine ax_iload K 4 rfl dX1_joins_125 ?_
        refine ax_iload K 5 rfl dX1_joins_127 ?_
        refine ax_iload K 6 rfl dX1_joins_129 ?_
        refine ax_iload_n K 1 rfl dX1_joins_131 ?_
        refine rx_goesWith K (by decide) dX1_joins_132 (Nat.le_of_ble_eq_true rfl) h (fun r132 σ132 h => ?_)
        refine ax_if_eq (tgt := 157) K dX1_joins_135 (by decide) (fun c135 => ?_) (fun c135 => ?_)
        · have h := ax_it h c135
          exact ax_sub [0, 1, 2, 3, 4, 5, 6] rfl (kx_joins_j157 K E ih v1 v2 v3 v4 v5 v6 σ132 h)
        · have h := ax_ie h c135
          refine ax_aload_n K 0 rfl dX1_joins_138 ?_
          refine xg_wideLasts K dX1_joins_139 ?_
          refine ax_iload K 4 rfl dX1_joins_142 ?_
          refine ax_iconst (v := (1 : Int32)) K (by decide) dX1_joins_144 ?_
          refine ax_iload K 6 rfl dX1_joins_145 ?_
          refine ax_ishl K dX1_joins_147 ?_
          refine ax_ior K dX1_joins_148 ?_
          refine ax_dup2 K rfl rfl dX1_joins_149 ?_
          refine xl_wideLasts K h.1 dX1_joins_150 ?_
          replace h := h.2
          refine ax_iconst (v := (1 : Int32)) K (by decide) dX1_joins_151 ?_
          refine ax_iload K 6 rfl dX1_joins_152 ?_
          refine ax_ishl K dX1_joins_154 ?_
          refine ax_ior K dX1_joins_155 ?_
          refine xs_wideLasts K h.1 dX1_joins_156 ?_
          replace h := h.2
          exact ax_sub [0, 1, 2, 3, 4, 5, 6] rfl (kx_joins_j157 K E ih v1 v2 v3 v4 v5 v6 (xU_wideLasts σ132 (v4 ||| ((1 : Int32) <<< (v6 &&& 31))) ((xA_wideLasts σ132 ((v4 ||| ((1 : Int32) <<< (v6 &&& 31)))).toNatClampNeg) ||| ((1 : Int32) <<< (v6 &&& 31)))) h)
set_option maxHeartbeats 4000000 in
theorem kx_joins_j163 {Z : AZ} {G : AG} {L : Nat → Nat} {P : Int32 → St → Prop} (K : AK Z G cX1_joins RX1 7 (rmH 4)) (E : AEi Z cX1_joins .boolean (xW G L) 0 0 P) {K81 : Int32 → Int32 → Int32 → Int32 → Int32 → St → Prop} (hK81 : ∀ (v1 : Int32) (v2 : Int32) (v3 : Int32) (v4 : Int32) (v5 : Int32) (σ : St), K81 v1 v2 v3 v4 v5 σ → AX Z 0 0 81 [(0, .ref (L 0)), (1, .int v1), (2, .int v2), (3, .int v3), (4, .int v4), (5, .int v5)] [] (xW G L σ)) (v1 : Int32) (v2 : Int32) (v3 : Int32) (v4 : Int32) (v5 : Int32) (σ : St) (h : wx_joins_j163 P K81 v1 v2 v3 v4 v5 σ) : AX Z 0 0 163 [(0, .ref (L 0)), (1, .int v1), (2, .int v2), (3, .int v3), (4, .int v4), (5, .int v5)] [] (xW G L σ) := by
  unfold wx_joins_j163 at h
  refine ax_iinc (lv' := [(5, .int (v5 + (1 : Int32))), (0, .ref (L 0)), (1, .int v1), (2, .int v2), (3, .int v3), (4, .int v4)]) (v := (v5 + (1 : Int32))) K 5 dX1_joins_163 rfl (by rfl) (by decide) rfl ?_
  refine ax_goto (tgt := 81) K dX1_joins_166 (by decide) ?_
  exact ax_sub [1, 2, 3, 4, 5, 0] rfl (hK81 v1 v2 v3 v4 (v5 + (1 : Int32)) σ h)
set_option maxHeartbeats 4000000 in
theorem kx_joins_l81 {Z : AZ} {G : AG} {L : Nat → Nat} {P : Int32 → St → Prop} (K : AK Z G cX1_joins RX1 7 (rmH 4)) (E : AEi Z cX1_joins .boolean (xW G L) 0 0 P) {K72 : Int32 → Int32 → Int32 → Int32 → St → Prop} (hK72 : ∀ (v1 : Int32) (v2 : Int32) (v3 : Int32) (v4 : Int32) (σ : St), K72 v1 v2 v3 v4 σ → AX Z 0 0 72 [(0, .ref (L 0)), (1, .int v1), (2, .int v2), (3, .int v3), (4, .int v4)] [] (xW G L σ)) : ∀ (n : Nat) (v1 : Int32) (v2 : Int32) (v3 : Int32) (v4 : Int32) (v5 : Int32) (σ : St), wx_joins_l81 P K72 n v1 v2 v3 v4 v5 σ → AX Z 0 0 81 [(0, .ref (L 0)), (1, .int v1), (2, .int v2), (3, .int v3), (4, .int v4), (5, .int v5)] [] (xW G L σ) := by
  intro n
  induction n with
  | zero => intro v1 v2 v3 v4 v5 σ h; exact False.elim h
  | succ n ih =>
    intro v1 v2 v3 v4 v5 σ h
    rw [wx_joins_l81_s] at h
    refine ax_iload K 5 rfl dX1_joins_81 ?_
    refine ax_iload_n K 2 rfl dX1_joins_83 ?_
    refine ax_icmp_ge (tgt := 169) K dX1_joins_84 (by decide) (fun c84 => ?_) (fun c84 => ?_)
    · have h := ax_it h c84
      refine ax_iinc (lv' := [(4, .int (v4 + (1 : Int32))), (0, .ref (L 0)), (1, .int v1), (2, .int v2), (3, .int v3), (5, .int v5)]) (v := (v4 + (1 : Int32))) K 4 dX1_joins_169 rfl (by rfl) (by decide) rfl ?_
      refine ax_goto (tgt := 72) K dX1_joins_172 (by decide) ?_
      exact ax_sub [1, 2, 3, 4, 0] rfl (hK72 v1 v2 v3 (v4 + (1 : Int32)) σ h)
    · have h := ax_ie h c84
      refine ax_aload_n K 0 rfl dX1_joins_87 ?_
      refine xg_wideLasts K dX1_joins_88 ?_
      refine ax_iload K 4 rfl dX1_joins_91 ?_
      refine xl_wideLasts K h.1 dX1_joins_93 ?_
      replace h := h.2
      refine ax_iload K 5 rfl dX1_joins_94 ?_
      refine rx_has K (by decide) dX1_joins_96 (Nat.le_of_ble_eq_true rfl) h (fun r96 h => ?_)
      refine ax_if_ne (tgt := 105) K dX1_joins_99 (by decide) (fun c99 => ?_) (fun c99 => ?_)
      · have h := ax_ie h c99
        refine ax_iconst (v := (0 : Int32)) K (by decide) dX1_joins_105 ?_
        refine ax_istore (lv' := [(6, .int (0 : Int32)), (0, .ref (L 0)), (1, .int v1), (2, .int v2), (3, .int v3), (4, .int v4), (5, .int v5)]) K dX1_joins_106 (by decide) rfl ?_
        exact ax_sub [1, 2, 3, 4, 5, 6, 0] rfl (h.elim fun n108 h => kx_joins_l108 K E (kx_joins_j163 K E ih) n108 v1 v2 v3 v4 v5 (0 : Int32) σ h)
      · have h := ax_it h c99
        refine ax_goto (tgt := 163) K dX1_joins_102 (by decide) ?_
        exact ax_sub [0, 1, 2, 3, 4, 5] rfl (kx_joins_j163 K E ih v1 v2 v3 v4 v5 σ h)
set_option maxHeartbeats 4000000 in
theorem kx_joins_l72 {Z : AZ} {G : AG} {L : Nat → Nat} {P : Int32 → St → Prop} (K : AK Z G cX1_joins RX1 7 (rmH 4)) (E : AEi Z cX1_joins .boolean (xW G L) 0 0 P) {K188 : St → Prop} (hK188 : ∀ (σ : St), K188 σ → AX Z 0 0 188 [(0, .ref (L 0))] [] (xW G L σ)) {K193 : Int32 → St → Prop} (hK193 : ∀ (s0 : Int32) (σ : St), K193 s0 σ → AX Z 0 0 193 [(0, .ref (L 0))] [.int s0] (xW G L σ)) : ∀ (n : Nat) (v1 : Int32) (v2 : Int32) (v3 : Int32) (v4 : Int32) (σ : St), wx_joins_l72 P K188 K193 n v1 v2 v3 v4 σ → AX Z 0 0 72 [(0, .ref (L 0)), (1, .int v1), (2, .int v2), (3, .int v3), (4, .int v4)] [] (xW G L σ) := by
  intro n
  induction n with
  | zero => intro v1 v2 v3 v4 σ h; exact False.elim h
  | succ n ih =>
    intro v1 v2 v3 v4 σ h
    rw [wx_joins_l72_s] at h
    refine ax_iload K 4 rfl dX1_joins_72 ?_
    refine ax_iload_n K 3 rfl dX1_joins_74 ?_
    refine ax_icmp_gt (tgt := 175) K dX1_joins_75 (by decide) (fun c75 => ?_) (fun c75 => ?_)
    · have h := ax_it h c75
      refine ax_iload_n K 3 rfl dX1_joins_175 ?_
      refine ax_if_eq (tgt := 188) K dX1_joins_176 (by decide) (fun c176 => ?_) (fun c176 => ?_)
      · have h := ax_it h c176
        exact ax_sub [0] rfl (hK188 σ h)
      · have h := ax_ie h c176
        refine ax_aload_n K 0 rfl dX1_joins_179 ?_
        refine xg_wideLasts K dX1_joins_180 ?_
        refine ax_iload_n K 3 rfl dX1_joins_183 ?_
        refine xl_wideLasts K h.1 dX1_joins_184 ?_
        replace h := h.2
        refine ax_if_eq (tgt := 192) K dX1_joins_185 (by decide) (fun c185 => ?_) (fun c185 => ?_)
        · have h := ax_it h c185
          refine ax_iconst (v := (0 : Int32)) K (by decide) dX1_joins_192 ?_
          exact ax_sub [0] rfl (hK193 (0 : Int32) σ h)
        · have h := ax_ie h c185
          exact ax_sub [0] rfl (hK188 σ h)
    · have h := ax_ie h c75
      refine ax_iconst (v := (0 : Int32)) K (by decide) dX1_joins_78 ?_
      refine ax_istore (lv' := [(5, .int (0 : Int32)), (0, .ref (L 0)), (1, .int v1), (2, .int v2), (3, .int v3), (4, .int v4)]) K dX1_joins_79 (by decide) rfl ?_
      exact ax_sub [1, 2, 3, 4, 5, 0] rfl (h.elim fun n81 h => kx_joins_l81 K E ih n81 v1 v2 v3 v4 (0 : Int32) σ h)
set_option maxHeartbeats 4000000 in
theorem kx_joins_j193 {Z : AZ} {G : AG} {L : Nat → Nat} {P : Int32 → St → Prop} (K : AK Z G cX1_joins RX1 7 (rmH 4)) (E : AEi Z cX1_joins .boolean (xW G L) 0 0 P) (s0 : Int32) (σ : St) (h : wx_joins_j193 P  s0 σ) : AX Z 0 0 193 [(0, .ref (L 0))] [.int s0] (xW G L σ) := by
  unfold wx_joins_j193 at h
  exact E _ _ _ _ dX1_joins_193 h.1 h.2
set_option maxHeartbeats 4000000 in
theorem kx_joins_j188 {Z : AZ} {G : AG} {L : Nat → Nat} {P : Int32 → St → Prop} (K : AK Z G cX1_joins RX1 7 (rmH 4)) (E : AEi Z cX1_joins .boolean (xW G L) 0 0 P) (σ : St) (h : wx_joins_j188 P  σ) : AX Z 0 0 188 [(0, .ref (L 0))] [] (xW G L σ) := by
  unfold wx_joins_j188 at h
  refine ax_iconst (v := (1 : Int32)) K (by decide) dX1_joins_188 ?_
  refine ax_goto (tgt := 193) K dX1_joins_189 (by decide) ?_
  exact ax_sub [0] rfl (kx_joins_j193 K E  (1 : Int32) σ h)
set_option maxHeartbeats 4000000 in
theorem kx_joins_j13 {Z : AZ} {G : AG} {L : Nat → Nat} {P : Int32 → St → Prop} (K : AK Z G cX1_joins RX1 7 (rmH 4)) (E : AEi Z cX1_joins .boolean (xW G L) 0 0 P) (v1 : Int32) (s0 : Int32) (s1 : Int32) (σ : St) (h : wx_joins_j13 P  v1 s0 s1 σ) : AX Z 0 0 13 [(0, .ref (L 0)), (1, .int v1)] [.int s1, .int s0] (xW G L σ) := by
  unfold wx_joins_j13 at h
  refine ax_iadd K dX1_joins_13 ?_
  refine ax_istore_n (lv' := [(2, .int (s0 + s1)), (0, .ref (L 0)), (1, .int v1)]) K dX1_joins_14 (by decide) rfl ?_
  refine ax_iconst (v := (1 : Int32)) K (by decide) dX1_joins_15 ?_
  refine ax_iload_n K 0 rfl dX1_joins_16 ?_
  refine ax_ishl K dX1_joins_17 ?_
  refine ax_iconst (v := (1 : Int32)) K (by decide) dX1_joins_18 ?_
  refine ax_isub K dX1_joins_19 ?_
  refine ax_istore_n (lv' := [(3, .int (((1 : Int32) <<< ((s0 + s1) &&& 31)) - (1 : Int32))), (2, .int (s0 + s1)), (0, .ref (L 0)), (1, .int v1)]) K dX1_joins_20 (by decide) rfl ?_
  refine ax_aload_n K 2 rfl dX1_joins_21 ?_
  refine ax_iload_n K 0 rfl dX1_joins_22 ?_
  refine ax_iload_n K 3 rfl dX1_joins_23 ?_
  refine rx_isFineWith K (by decide) dX1_joins_24 (Nat.le_of_ble_eq_true rfl) h (fun r24 σ24 h => ?_)
  refine ax_if_ne (tgt := 32) K dX1_joins_27 (by decide) (fun c27 => ?_) (fun c27 => ?_)
  · have h := ax_ie h c27
    refine ax_iconst (v := (0 : Int32)) K (by decide) dX1_joins_32 ?_
    refine ax_istore (lv' := [(4, .int (0 : Int32)), (3, .int (((1 : Int32) <<< ((s0 + s1) &&& 31)) - (1 : Int32))), (2, .int (s0 + s1)), (0, .ref (L 0)), (1, .int v1)]) K dX1_joins_33 (by decide) rfl ?_
    exact ax_sub [3, 4, 2, 1, 0] rfl (h.elim fun n35 h => kx_joins_l35 K E (fun v1 v2 v3 v4 σ h => h.elim fun n72 h => kx_joins_l72 K E (kx_joins_j188 K E) (kx_joins_j193 K E) n72 v1 v2 v3 v4 σ h) n35 v1 (s0 + s1) (((1 : Int32) <<< ((s0 + s1) &&& 31)) - (1 : Int32)) (0 : Int32) σ24 h)
  · have h := ax_it h c27
    refine ax_iconst (v := (0 : Int32)) K (by decide) dX1_joins_30 ?_
    exact E _ _ _ _ dX1_joins_31 rfl h
set_option maxHeartbeats 4000000 in
theorem mx_joins {l : Launch} {G : AG} {L : Nat → Nat} {σ : St} {v1 : Int32} {P : Int32 → St → Prop} (h : wx_joins σ v1 P) : CtW l G yX1_joins cX1_joins 7 (some .boolean) (rmH 4) [.ref (L 0), .int v1] (xW G L) σ (pI P) := by
  refine CtW.ofI (by decide) (Nat.le_of_ble_eq_true rfl) fun Z _ K E => ?_
  unfold wx_joins at h
  show AX Z 0 0 0 [(0, .ref (L 0)), (1, .int v1)] [] (xW G L σ)
  refine ax_aload_n K 0 rfl dX1_joins_0 ?_
  refine xg_dishes K dX1_joins_1 ?_
  refine ax_iload_n K 1 rfl dX1_joins_4 ?_
  refine ax_if_ne (tgt := 12) K dX1_joins_5 (by decide) (fun c5 => ?_) (fun c5 => ?_)
  · have h := ax_ie h c5
    refine ax_iconst (v := (1 : Int32)) K (by decide) dX1_joins_12 ?_
    exact ax_sub [0, 1] rfl (kx_joins_j13 K E  v1 (xI_dishes σ) (1 : Int32) σ h)
  · have h := ax_it h c5
    refine ax_iconst (v := (0 : Int32)) K (by decide) dX1_joins_8 ?_
    refine ax_goto (tgt := 13) K dX1_joins_9 (by decide) ?_
    exact ax_sub [0, 1] rfl (kx_joins_j13 K E  v1 (xI_dishes σ) (0 : Int32) σ h)
theorem rx_joins {Z : AZ} {G : AG} {cc : ByteArray} {mL hh pc : Nat} {lv : List (Nat × Value)} {rest : List Value} {L : Nat → Nat} {σ : St} (K : AK Z G cc RX1 mL (rmH hh)) (hlt : 4 < hh) (d : decode cc pc = .ok (.invokevirtual 444, 3)) (hrest : (rest.map fun v => v.category).sum ≤ 8) {v1 : Int32} {P : Int32 → St → Prop} (h : sx_joins σ v1 P) (kk : ∀ (r : Int32) (σ' : St), P r σ' → AX Z 0 0 (pc + 3) lv (.int r :: rest) (xW G L σ')) : AX Z 0 0 pc lv (.int v1 :: .ref (L 0) :: rest) (xW G L σ) :=
  ax_callV (N0 := 1) (As := [.int v1]) K (mx_joins (sx_joins_ok h)) q891 q893 qs54 q117 q894 ⟨rfl, by decide, by decide, by decide⟩ rfl ⟨by show 4 + 1 + 1 ≤ hh + 1; omega, by show 8 + (7 + 11) + 60 * (4 + 1) ≤ 60 * (hh + 1); omega⟩ ⟨Nat.zero_le _, Nat.zero_le _⟩ rfl rfl rfl hrest d (fun r σ' hp => by obtain ⟨v, rfl, hp⟩ := hp; exact kk v σ' hp)
/-! x.laysOut -/
set_option maxHeartbeats 4000000 in
theorem kx_laysOut_j44 {Z : AZ} {G : AG} {L : Nat → Nat} {P : St → Prop} (K : AK Z G cX1_laysOut RX1 2 (rmH 4)) (E : AEv Z cX1_laysOut (xW G L) 0 0 P) {K2 : Int32 → St → Prop} (hK2 : ∀ (v1 : Int32) (σ : St), K2 v1 σ → AX Z 0 0 2 [(0, .ref (L 0)), (1, .int v1)] [] (xW G L σ)) (v1 : Int32) (s1 : Int32) (s2 : Int32) (σ : St) (h : wx_laysOut_j44 P K2 v1 s1 s2 σ) : AX Z 0 0 44 [(0, .ref (L 0)), (1, .int v1)] [.int s2, .int s1, .ref (L 18)] (xW G L σ) := by
  unfold wx_laysOut_j44 at h
  refine xs_fine K h.1 dX1_laysOut_44 ?_
  replace h := h.2
  refine ax_iinc (lv' := [(1, .int (v1 + (1 : Int32))), (0, .ref (L 0))]) (v := (v1 + (1 : Int32))) K 1 dX1_laysOut_45 rfl (by rfl) (by decide) rfl ?_
  refine ax_goto (tgt := 2) K dX1_laysOut_48 (by decide) ?_
  exact ax_sub [1, 0] rfl (hK2 (v1 + (1 : Int32)) (xU_fine σ s1 s2) h)
set_option maxHeartbeats 4000000 in
theorem kx_laysOut_j43 {Z : AZ} {G : AG} {L : Nat → Nat} {P : St → Prop} (K : AK Z G cX1_laysOut RX1 2 (rmH 4)) (E : AEv Z cX1_laysOut (xW G L) 0 0 P) {K2 : Int32 → St → Prop} (hK2 : ∀ (v1 : Int32) (σ : St), K2 v1 σ → AX Z 0 0 2 [(0, .ref (L 0)), (1, .int v1)] [] (xW G L σ)) (v1 : Int32) (s1 : Int32) (σ : St) (h : wx_laysOut_j43 P K2 v1 s1 σ) : AX Z 0 0 43 [(0, .ref (L 0)), (1, .int v1)] [.int s1, .ref (L 18)] (xW G L σ) := by
  unfold wx_laysOut_j43 at h
  refine ax_iconst (v := (0 : Int32)) K (by decide) dX1_laysOut_43 ?_
  exact ax_sub [0, 1] rfl (kx_laysOut_j44 K E hK2 v1 s1 (0 : Int32) σ h)
set_option maxHeartbeats 4000000 in
theorem kx_laysOut_l2 {Z : AZ} {G : AG} {L : Nat → Nat} {P : St → Prop} (K : AK Z G cX1_laysOut RX1 2 (rmH 4)) (E : AEv Z cX1_laysOut (xW G L) 0 0 P) : ∀ (n : Nat) (v1 : Int32) (σ : St), wx_laysOut_l2 P  n v1 σ → AX Z 0 0 2 [(0, .ref (L 0)), (1, .int v1)] [] (xW G L σ) := by
  intro n
  induction n with
  | zero => intro v1 σ h; exact False.elim h
  | succ n ih =>
    intro v1 σ h
    rw [wx_laysOut_l2_s] at h
    refine ax_iload_n K 1 rfl dX1_laysOut_2 ?_
    refine ax_iconst (v := (1 : Int32)) K (by decide) dX1_laysOut_3 ?_
    refine ax_aload_n K 0 rfl dX1_laysOut_4 ?_
    refine xg_dishes K dX1_laysOut_5 ?_
    refine ax_ishl K dX1_laysOut_8 ?_
    refine ax_icmp_ge (tgt := 51) K dX1_laysOut_9 (by decide) (fun c9 => ?_) (fun c9 => ?_)
    · have h := ax_it h c9
      refine ax_aload_n K 0 rfl dX1_laysOut_51 ?_
      refine ax_iconst (v := (1 : Int32)) K (by decide) dX1_laysOut_52 ?_
      refine ax_aload_n K 0 rfl dX1_laysOut_53 ?_
      refine xg_dishes K dX1_laysOut_54 ?_
      refine ax_ishl K dX1_laysOut_57 ?_
      refine ax_iconst (v := (1 : Int32)) K (by decide) dX1_laysOut_58 ?_
      refine ax_isub K dX1_laysOut_59 ?_
      refine xp_allowed K dX1_laysOut_60 ?_
      exact E _ _ _ dX1_laysOut_63 h
    · have h := ax_ie h c9
      refine ax_aload_n K 0 rfl dX1_laysOut_12 ?_
      refine xg_fine K dX1_laysOut_13 ?_
      refine ax_iload_n K 1 rfl dX1_laysOut_16 ?_
      refine ax_aload_n K 0 rfl dX1_laysOut_17 ?_
      refine ax_iload_n K 1 rfl dX1_laysOut_18 ?_
      refine rx_mostOf K (by decide) dX1_laysOut_19 (Nat.le_of_ble_eq_true rfl) h (fun r19 σ19 h => ?_)
      refine ax_aload_n K 0 rfl dX1_laysOut_22 ?_
      refine xg_law K dX1_laysOut_23 ?_
      refine ax_iconst (v := (1 : Int32)) K (by decide) dX1_laysOut_26 ?_
      refine xl_law K h.1 dX1_laysOut_27 ?_
      replace h := h.2
      refine ax_icmp_gt (tgt := 43) K dX1_laysOut_28 (by decide) (fun c28 => ?_) (fun c28 => ?_)
      · have h := ax_it h c28
        exact ax_sub [0, 1] rfl (kx_laysOut_j43 K E ih v1 v1 σ19 h)
      · have h := ax_ie h c28
        refine ax_aload_n K 0 rfl dX1_laysOut_31 ?_
        refine ax_iload_n K 1 rfl dX1_laysOut_32 ?_
        refine rx_isStored K (by decide) dX1_laysOut_33 (Nat.le_of_ble_eq_true rfl) h (fun r33 σ33 h => ?_)
        refine ax_if_eq (tgt := 43) K dX1_laysOut_36 (by decide) (fun c36 => ?_) (fun c36 => ?_)
        · have h := ax_it h c36
          exact ax_sub [0, 1] rfl (kx_laysOut_j43 K E ih v1 v1 σ33 h)
        · have h := ax_ie h c36
          refine ax_iconst (v := (1 : Int32)) K (by decide) dX1_laysOut_39 ?_
          refine ax_goto (tgt := 44) K dX1_laysOut_40 (by decide) ?_
          exact ax_sub [0, 1] rfl (kx_laysOut_j44 K E ih v1 v1 (1 : Int32) σ33 h)
set_option maxHeartbeats 4000000 in
theorem mx_laysOut {l : Launch} {G : AG} {L : Nat → Nat} {σ : St} {P : St → Prop} (h : wx_laysOut σ P) : CtW l G yX1_laysOut cX1_laysOut 2 none (rmH 4) [.ref (L 0)] (xW G L) σ (pV P) := by
  refine CtW.ofV (by decide) (Nat.le_of_ble_eq_true rfl) fun Z _ K E => ?_
  unfold wx_laysOut at h
  show AX Z 0 0 0 [(0, .ref (L 0))] [] (xW G L σ)
  refine ax_iconst (v := (0 : Int32)) K (by decide) dX1_laysOut_0 ?_
  refine ax_istore_n (lv' := [(1, .int (0 : Int32)), (0, .ref (L 0))]) K dX1_laysOut_1 (by decide) rfl ?_
  exact ax_sub [1, 0] rfl (h.elim fun n2 h => kx_laysOut_l2 K E  n2 (0 : Int32) σ h)
theorem rx_laysOut {Z : AZ} {G : AG} {cc : ByteArray} {mL hh pc : Nat} {lv : List (Nat × Value)} {rest : List Value} {L : Nat → Nat} {σ : St} (K : AK Z G cc RX1 mL (rmH hh)) (hlt : 4 < hh) (d : decode cc pc = .ok (.invokevirtual 367, 3)) (hrest : (rest.map fun v => v.category).sum ≤ 8) {P : St → Prop} (h : sx_laysOut σ  P) (kk : ∀ (σ' : St), P σ' → AX Z 0 0 (pc + 3) lv (rest) (xW G L σ')) : AX Z 0 0 pc lv (.ref (L 0) :: rest) (xW G L σ) :=
  ax_callV (N0 := 0) (As := []) K (mx_laysOut (sx_laysOut_ok h)) q675 q677 qs30 q117 q678 ⟨rfl, by decide, by decide, by decide⟩ rfl ⟨by show 4 + 1 + 1 ≤ hh + 1; omega, by show 8 + (2 + 11) + 60 * (4 + 1) ≤ 60 * (hh + 1); omega⟩ ⟨Nat.zero_le _, Nat.zero_le _⟩ rfl rfl rfl hrest d (fun r σ' hp => by obtain ⟨rfl, hp⟩ := hp; exact kk σ' hp)
/-! x.measures -/
set_option maxHeartbeats 4000000 in
theorem kx_measures_j134 {Z : AZ} {G : AG} {L : Nat → Nat} {P : St → Prop} (K : AK Z G cX1_measures RX1 8 (rmH 4)) (E : AEv Z cX1_measures (xW G L) 0 0 P) {K88 : Int32 → Int32 → Int32 → Int32 → Int32 → Int32 → St → Prop} (hK88 : ∀ (v1 : Int32) (v2 : Int32) (v3 : Int32) (v4 : Int32) (v6 : Int32) (v7 : Int32) (σ : St), K88 v1 v2 v3 v4 v6 v7 σ → AX Z 0 0 88 [(0, .ref (L 0)), (1, .int v1), (2, .int v2), (3, .int v3), (4, .int v4), (6, .int v6), (7, .int v7)] [] (xW G L σ)) (v1 : Int32) (v2 : Int32) (v3 : Int32) (v4 : Int32) (v6 : Int32) (v7 : Int32) (σ : St) (h : wx_measures_j134 P K88 v1 v2 v3 v4 v6 v7 σ) : AX Z 0 0 134 [(0, .ref (L 0)), (1, .int v1), (2, .int v2), (3, .int v3), (4, .int v4), (6, .int v6), (7, .int v7)] [] (xW G L σ) := by
  unfold wx_measures_j134 at h
  refine ax_iinc (lv' := [(7, .int (v7 + (1 : Int32))), (0, .ref (L 0)), (1, .int v1), (2, .int v2), (3, .int v3), (4, .int v4), (6, .int v6)]) (v := (v7 + (1 : Int32))) K 6 dX1_measures_134 rfl (by rfl) (by decide) rfl ?_
  refine ax_goto (tgt := 88) K dX1_measures_137 (by decide) ?_
  exact ax_sub [1, 2, 3, 4, 5, 6, 0] rfl (hK88 v1 v2 v3 v4 v6 (v7 + (1 : Int32)) σ h)
set_option maxHeartbeats 4000000 in
theorem kx_measures_l88 {Z : AZ} {G : AG} {L : Nat → Nat} {P : St → Prop} (K : AK Z G cX1_measures RX1 8 (rmH 4)) (E : AEv Z cX1_measures (xW G L) 0 0 P) {K153 : Int32 → Int32 → Int32 → Int32 → St → Prop} (hK153 : ∀ (v1 : Int32) (v2 : Int32) (v3 : Int32) (v4 : Int32) (σ : St), K153 v1 v2 v3 v4 σ → AX Z 0 0 153 [(0, .ref (L 0)), (1, .int v1), (2, .int v2), (3, .int v3), (4, .int v4)] [] (xW G L σ)) : ∀ (n : Nat) (v1 : Int32) (v2 : Int32) (v3 : Int32) (v4 : Int32) (v6 : Int32) (v7 : Int32) (σ : St), wx_measures_l88 P K153 n v1 v2 v3 v4 v6 v7 σ → AX Z 0 0 88 [(0, .ref (L 0)), (1, .int v1), (2, .int v2), (3, .int v3), (4, .int v4), (6, .int v6), (7, .int v7)] [] (xW G L σ) := by
  intro n
  induction n with
  | zero => intro v1 v2 v3 v4 v6 v7 σ h; exact False.elim h
  | succ n ih =>
    intro v1 v2 v3 v4 v6 v7 σ h
    rw [wx_measures_l88_s] at h
    refine ax_iload K 6 rfl dX1_measures_88 ?_
    refine ax_aload_n K 0 rfl dX1_measures_90 ?_
    refine xg_dishes K dX1_measures_91 ?_
    refine ax_icmp_ge (tgt := 140) K dX1_measures_94 (by decide) (fun c94 => ?_) (fun c94 => ?_)
    · have h := ax_it h c94
      refine ax_aload_n K 0 rfl dX1_measures_140 ?_
      refine xg_value K dX1_measures_141 ?_
      refine ax_iload_n K 3 rfl dX1_measures_144 ?_
      refine ax_iload K 4 rfl dX1_measures_145 ?_
      refine rx_stateOf K (by decide) dX1_measures_147 (Nat.le_of_ble_eq_true rfl) h (fun r147 h => ?_)
      refine ax_iload K 5 rfl dX1_measures_150 ?_
      refine xs_value K h.1 dX1_measures_152 ?_
      replace h := h.2
      exact ax_sub [0, 1, 2, 3, 4] rfl (hK153 v1 v2 v3 v4 (xU_value σ r147 v6) h)
    · have h := ax_ie h c94
      refine ax_aload_n K 0 rfl dX1_measures_97 ?_
      refine ax_iload_n K 3 rfl dX1_measures_98 ?_
      refine ax_iload K 4 rfl dX1_measures_99 ?_
      refine ax_iload K 6 rfl dX1_measures_101 ?_
      refine rx_goesOn K (by decide) dX1_measures_103 (Nat.le_of_ble_eq_true rfl) h (fun r103 σ103 h => ?_)
      refine ax_if_eq (tgt := 134) K dX1_measures_106 (by decide) (fun c106 => ?_) (fun c106 => ?_)
      · have h := ax_it h c106
        exact ax_sub [0, 1, 2, 3, 4, 5, 6] rfl (kx_measures_j134 K E ih v1 v2 v3 v4 v6 v7 σ103 h)
      · have h := ax_ie h c106
        refine ax_iload K 5 rfl dX1_measures_109 ?_
        refine ax_iconst (v := (1 : Int32)) K (by decide) dX1_measures_111 ?_
        refine ax_aload_n K 0 rfl dX1_measures_112 ?_
        refine xg_value K dX1_measures_113 ?_
        refine ax_iload_n K 3 rfl dX1_measures_116 ?_
        refine ax_iconst (v := (1 : Int32)) K (by decide) dX1_measures_117 ?_
        refine ax_iload K 6 rfl dX1_measures_118 ?_
        refine ax_ishl K dX1_measures_120 ?_
        refine ax_ior K dX1_measures_121 ?_
        refine ax_iload K 6 rfl dX1_measures_122 ?_
        refine rx_stateOf K (by decide) dX1_measures_124 (Nat.le_of_ble_eq_true rfl) h (fun r124 h => ?_)
        refine xl_value K h.1 dX1_measures_127 ?_
        replace h := h.2
        refine ax_iadd K dX1_measures_128 ?_
        refine rx_max K (by decide) (Nat.le_of_ble_eq_true rfl) dX1_measures_129 ?_
        refine ax_istore (lv' := [(6, .int (jmax v6 ((1 : Int32) + (xA_value σ103 (r124).toNatClampNeg)))), (0, .ref (L 0)), (1, .int v1), (2, .int v2), (3, .int v3), (4, .int v4), (7, .int v7)]) K dX1_measures_132 (by decide) rfl ?_
        exact ax_sub [1, 2, 3, 4, 5, 0, 6] rfl (kx_measures_j134 K E ih v1 v2 v3 v4 (jmax v6 ((1 : Int32) + (xA_value σ103 (r124).toNatClampNeg))) v7 σ103 h)
set_option maxHeartbeats 4000000 in
theorem kx_measures_j153 {Z : AZ} {G : AG} {L : Nat → Nat} {P : St → Prop} (K : AK Z G cX1_measures RX1 8 (rmH 4)) (E : AEv Z cX1_measures (xW G L) 0 0 P) {K16 : Int32 → Int32 → Int32 → Int32 → St → Prop} (hK16 : ∀ (v1 : Int32) (v2 : Int32) (v3 : Int32) (v4 : Int32) (σ : St), K16 v1 v2 v3 v4 σ → AX Z 0 0 16 [(0, .ref (L 0)), (1, .int v1), (2, .int v2), (3, .int v3), (4, .int v4)] [] (xW G L σ)) (v1 : Int32) (v2 : Int32) (v3 : Int32) (v4 : Int32) (σ : St) (h : wx_measures_j153 P K16 v1 v2 v3 v4 σ) : AX Z 0 0 153 [(0, .ref (L 0)), (1, .int v1), (2, .int v2), (3, .int v3), (4, .int v4)] [] (xW G L σ) := by
  unfold wx_measures_j153 at h
  refine ax_iinc (lv' := [(4, .int (v4 + (1 : Int32))), (0, .ref (L 0)), (1, .int v1), (2, .int v2), (3, .int v3)]) (v := (v4 + (1 : Int32))) K 4 dX1_measures_153 rfl (by rfl) (by decide) rfl ?_
  refine ax_goto (tgt := 16) K dX1_measures_156 (by decide) ?_
  exact ax_sub [1, 2, 3, 4, 0] rfl (hK16 v1 v2 v3 (v4 + (1 : Int32)) σ h)
set_option maxHeartbeats 4000000 in
theorem kx_measures_j83 {Z : AZ} {G : AG} {L : Nat → Nat} {P : St → Prop} (K : AK Z G cX1_measures RX1 8 (rmH 4)) (E : AEv Z cX1_measures (xW G L) 0 0 P) {K16 : Int32 → Int32 → Int32 → Int32 → St → Prop} (hK16 : ∀ (v1 : Int32) (v2 : Int32) (v3 : Int32) (v4 : Int32) (σ : St), K16 v1 v2 v3 v4 σ → AX Z 0 0 16 [(0, .ref (L 0)), (1, .int v1), (2, .int v2), (3, .int v3), (4, .int v4)] [] (xW G L σ)) (v1 : Int32) (v2 : Int32) (v3 : Int32) (v4 : Int32) (s0 : Int32) (σ : St) (h : wx_measures_j83 P K16 v1 v2 v3 v4 s0 σ) : AX Z 0 0 83 [(0, .ref (L 0)), (1, .int v1), (2, .int v2), (3, .int v3), (4, .int v4)] [.int s0] (xW G L σ) := by
  unfold wx_measures_j83 at h
  refine ax_istore (lv' := [(6, .int s0), (0, .ref (L 0)), (1, .int v1), (2, .int v2), (3, .int v3), (4, .int v4)]) K dX1_measures_83 (by decide) rfl ?_
  refine ax_iconst (v := (0 : Int32)) K (by decide) dX1_measures_85 ?_
  refine ax_istore (lv' := [(7, .int (0 : Int32)), (6, .int s0), (0, .ref (L 0)), (1, .int v1), (2, .int v2), (3, .int v3), (4, .int v4)]) K dX1_measures_86 (by decide) rfl ?_
  exact ax_sub [2, 3, 4, 5, 6, 1, 0] rfl (h.elim fun n88 h => kx_measures_l88 K E (kx_measures_j153 K E hK16) n88 v1 v2 v3 v4 s0 (0 : Int32) σ h)
set_option maxHeartbeats 4000000 in
theorem kx_measures_j69 {Z : AZ} {G : AG} {L : Nat → Nat} {P : St → Prop} (K : AK Z G cX1_measures RX1 8 (rmH 4)) (E : AEv Z cX1_measures (xW G L) 0 0 P) {K16 : Int32 → Int32 → Int32 → Int32 → St → Prop} (hK16 : ∀ (v1 : Int32) (v2 : Int32) (v3 : Int32) (v4 : Int32) (σ : St), K16 v1 v2 v3 v4 σ → AX Z 0 0 16 [(0, .ref (L 0)), (1, .int v1), (2, .int v2), (3, .int v3), (4, .int v4)] [] (xW G L σ)) (v1 : Int32) (v2 : Int32) (v3 : Int32) (v4 : Int32) (s0 : Int32) (σ : St) (h : wx_measures_j69 P K16 v1 v2 v3 v4 s0 σ) : AX Z 0 0 69 [(0, .ref (L 0)), (1, .int v1), (2, .int v2), (3, .int v3), (4, .int v4)] [.int s0] (xW G L σ) := by
  unfold wx_measures_j69 at h
  refine ax_istore (lv' := [(5, .int s0), (0, .ref (L 0)), (1, .int v1), (2, .int v2), (3, .int v3), (4, .int v4)]) K dX1_measures_69 (by decide) rfl ?_
  refine ax_iload K 0 rfl dX1_measures_71 ?_
  refine ax_if_eq (tgt := 80) K dX1_measures_73 (by decide) (fun c73 => ?_) (fun c73 => ?_)
  · have h := ax_it h c73
    refine ax_ldcw (v := (-1000000 : Int32)) K q687 dX1_measures_80 ?_
    exact ax_sub [1, 2, 3, 4, 5] rfl (kx_measures_j83 K E hK16 v1 v2 v3 v4 (-1000000 : Int32) σ h)
  · have h := ax_ie h c73
    refine ax_iconst (v := (0 : Int32)) K (by decide) dX1_measures_76 ?_
    refine ax_goto (tgt := 83) K dX1_measures_77 (by decide) ?_
    exact ax_sub [1, 2, 3, 4, 5] rfl (kx_measures_j83 K E hK16 v1 v2 v3 v4 (0 : Int32) σ h)
set_option maxHeartbeats 4000000 in
theorem kx_measures_j64 {Z : AZ} {G : AG} {L : Nat → Nat} {P : St → Prop} (K : AK Z G cX1_measures RX1 8 (rmH 4)) (E : AEv Z cX1_measures (xW G L) 0 0 P) {K16 : Int32 → Int32 → Int32 → Int32 → St → Prop} (hK16 : ∀ (v1 : Int32) (v2 : Int32) (v3 : Int32) (v4 : Int32) (σ : St), K16 v1 v2 v3 v4 σ → AX Z 0 0 16 [(0, .ref (L 0)), (1, .int v1), (2, .int v2), (3, .int v3), (4, .int v4)] [] (xW G L σ)) (v1 : Int32) (v2 : Int32) (v3 : Int32) (v4 : Int32) (σ : St) (h : wx_measures_j64 P K16 v1 v2 v3 v4 σ) : AX Z 0 0 64 [(0, .ref (L 0)), (1, .int v1), (2, .int v2), (3, .int v3), (4, .int v4)] [] (xW G L σ) := by
  unfold wx_measures_j64 at h
  refine ax_iconst (v := (1 : Int32)) K (by decide) dX1_measures_64 ?_
  refine ax_goto (tgt := 69) K dX1_measures_65 (by decide) ?_
  exact ax_sub [0, 1, 2, 3, 4] rfl (kx_measures_j69 K E hK16 v1 v2 v3 v4 (1 : Int32) σ h)
set_option maxHeartbeats 4000000 in
theorem kx_measures_j68 {Z : AZ} {G : AG} {L : Nat → Nat} {P : St → Prop} (K : AK Z G cX1_measures RX1 8 (rmH 4)) (E : AEv Z cX1_measures (xW G L) 0 0 P) {K16 : Int32 → Int32 → Int32 → Int32 → St → Prop} (hK16 : ∀ (v1 : Int32) (v2 : Int32) (v3 : Int32) (v4 : Int32) (σ : St), K16 v1 v2 v3 v4 σ → AX Z 0 0 16 [(0, .ref (L 0)), (1, .int v1), (2, .int v2), (3, .int v3), (4, .int v4)] [] (xW G L σ)) (v1 : Int32) (v2 : Int32) (v3 : Int32) (v4 : Int32) (σ : St) (h : wx_measures_j68 P K16 v1 v2 v3 v4 σ) : AX Z 0 0 68 [(0, .ref (L 0)), (1, .int v1), (2, .int v2), (3, .int v3), (4, .int v4)] [] (xW G L σ) := by
  unfold wx_measures_j68 at h
  refine ax_iconst (v := (0 : Int32)) K (by decide) dX1_measures_68 ?_
  exact ax_sub [0, 1, 2, 3, 4] rfl (kx_measures_j69 K E hK16 v1 v2 v3 v4 (0 : Int32) σ h)
set_option maxHeartbeats 4000000 in
theorem kx_measures_l16 {Z : AZ} {G : AG} {L : Nat → Nat} {P : St → Prop} (K : AK Z G cX1_measures RX1 8 (rmH 4)) (E : AEv Z cX1_measures (xW G L) 0 0 P) {K9 : Int32 → Int32 → Int32 → St → Prop} (hK9 : ∀ (v1 : Int32) (v2 : Int32) (v3 : Int32) (σ : St), K9 v1 v2 v3 σ → AX Z 0 0 9 [(0, .ref (L 0)), (1, .int v1), (2, .int v2), (3, .int v3)] [] (xW G L σ)) : ∀ (n : Nat) (v1 : Int32) (v2 : Int32) (v3 : Int32) (v4 : Int32) (σ : St), wx_measures_l16 P K9 n v1 v2 v3 v4 σ → AX Z 0 0 16 [(0, .ref (L 0)), (1, .int v1), (2, .int v2), (3, .int v3), (4, .int v4)] [] (xW G L σ) := by
  intro n
  induction n with
  | zero => intro v1 v2 v3 v4 σ h; exact False.elim h
  | succ n ih =>
    intro v1 v2 v3 v4 σ h
    rw [wx_measures_l16_s] at h
    refine ax_iload K 4 rfl dX1_measures_16 ?_
    refine ax_aload_n K 0 rfl dX1_measures_18 ?_
    refine xg_dishes K dX1_measures_19 ?_
    refine ax_icmp_ge (tgt := 159) K dX1_measures_22 (by decide) (fun c22 => ?_) (fun c22 => ?_)
    · have h := ax_it h c22
      refine ax_iinc (lv' := [(3, .int (v3 + (-1 : Int32))), (0, .ref (L 0)), (1, .int v1), (2, .int v2), (4, .int v4)]) (v := (v3 + (-1 : Int32))) K 3 dX1_measures_159 rfl (by rfl) (by decide) rfl ?_
      refine ax_goto (tgt := 9) K dX1_measures_162 (by decide) ?_
      exact ax_sub [1, 2, 3, 0] rfl (hK9 v1 v2 (v3 + (-1 : Int32)) σ h)
    · have h := ax_ie h c22
      refine ax_aload_n K 0 rfl dX1_measures_25 ?_
      refine ax_iload_n K 3 rfl dX1_measures_26 ?_
      refine ax_iload K 4 rfl dX1_measures_27 ?_
      refine rx_isLastOf K (by decide) dX1_measures_29 (Nat.le_of_ble_eq_true rfl) h (fun r29 σ29 h => ?_)
      refine ax_if_ne (tgt := 38) K dX1_measures_32 (by decide) (fun c32 => ?_) (fun c32 => ?_)
      · have h := ax_ie h c32
        refine ax_iload_n K 1 rfl dX1_measures_38 ?_
        refine ax_if_lt (tgt := 64) K dX1_measures_39 (by decide) (fun c39 => ?_) (fun c39 => ?_)
        · have h := ax_it h c39
          exact ax_sub [0, 1, 2, 3, 4] rfl (kx_measures_j64 K E ih v1 v2 v3 v4 σ29 h)
        · have h := ax_ie h c39
          refine ax_iload K 4 rfl dX1_measures_42 ?_
          refine ax_if_lt (tgt := 68) K dX1_measures_44 (by decide) (fun c44 => ?_) (fun c44 => ?_)
          · have h := ax_it h c44
            exact ax_sub [0, 1, 2, 3, 4] rfl (kx_measures_j68 K E ih v1 v2 v3 v4 σ29 h)
          · have h := ax_ie h c44
            refine ax_iload_n K 1 rfl dX1_measures_47 ?_
            refine ax_iload K 4 rfl dX1_measures_48 ?_
            refine rx_has K (by decide) dX1_measures_50 (Nat.le_of_ble_eq_true rfl) h (fun r50 h => ?_)
            refine ax_if_eq (tgt := 68) K dX1_measures_53 (by decide) (fun c53 => ?_) (fun c53 => ?_)
            · have h := ax_it h c53
              exact ax_sub [0, 1, 2, 3, 4] rfl (kx_measures_j68 K E ih v1 v2 v3 v4 σ29 h)
            · have h := ax_ie h c53
              refine ax_iload_n K 3 rfl dX1_measures_56 ?_
              refine rx_bitCount K (by decide) dX1_measures_57 (Nat.le_of_ble_eq_true rfl) ?_
              refine ax_iload_n K 2 rfl dX1_measures_60 ?_
              refine ax_icmp_lt (tgt := 68) K dX1_measures_61 (by decide) (fun c61 => ?_) (fun c61 => ?_)
              · have h := ax_it h c61
                exact ax_sub [0, 1, 2, 3, 4] rfl (kx_measures_j68 K E ih v1 v2 v3 v4 σ29 h)
              · have h := ax_ie h c61
                exact ax_sub [0, 1, 2, 3, 4] rfl (kx_measures_j64 K E ih v1 v2 v3 v4 σ29 h)
      · have h := ax_it h c32
        refine ax_goto (tgt := 153) K dX1_measures_35 (by decide) ?_
        exact ax_sub [0, 1, 2, 3, 4] rfl (kx_measures_j153 K E ih v1 v2 v3 v4 σ29 h)
set_option maxHeartbeats 4000000 in
theorem kx_measures_l9 {Z : AZ} {G : AG} {L : Nat → Nat} {P : St → Prop} (K : AK Z G cX1_measures RX1 8 (rmH 4)) (E : AEv Z cX1_measures (xW G L) 0 0 P) : ∀ (n : Nat) (v1 : Int32) (v2 : Int32) (v3 : Int32) (σ : St), wx_measures_l9 P  n v1 v2 v3 σ → AX Z 0 0 9 [(0, .ref (L 0)), (1, .int v1), (2, .int v2), (3, .int v3)] [] (xW G L σ) := by
  intro n
  induction n with
  | zero => intro v1 v2 v3 σ h; exact False.elim h
  | succ n ih =>
    intro v1 v2 v3 σ h
    rw [wx_measures_l9_s] at h
    refine ax_iload_n K 3 rfl dX1_measures_9 ?_
    refine ax_if_lt (tgt := 165) K dX1_measures_10 (by decide) (fun c10 => ?_) (fun c10 => ?_)
    · have h := ax_it h c10
      exact E _ _ _ dX1_measures_165 h
    · have h := ax_ie h c10
      refine ax_iconst (v := (-1 : Int32)) K (by decide) dX1_measures_13 ?_
      refine ax_istore (lv' := [(4, .int (-1 : Int32)), (0, .ref (L 0)), (1, .int v1), (2, .int v2), (3, .int v3)]) K dX1_measures_14 (by decide) rfl ?_
      exact ax_sub [1, 2, 3, 4, 0] rfl (h.elim fun n16 h => kx_measures_l16 K E ih n16 v1 v2 v3 (-1 : Int32) σ h)
set_option maxHeartbeats 4000000 in
theorem mx_measures {l : Launch} {G : AG} {L : Nat → Nat} {σ : St} {v1 : Int32} {v2 : Int32} {P : St → Prop} (h : wx_measures σ v1 v2 P) : CtW l G yX1_measures cX1_measures 8 none (rmH 4) [.ref (L 0), .int v1, .int v2] (xW G L) σ (pV P) := by
  refine CtW.ofV (by decide) (Nat.le_of_ble_eq_true rfl) fun Z _ K E => ?_
  unfold wx_measures at h
  show AX Z 0 0 0 [(0, .ref (L 0)), (1, .int v1), (2, .int v2)] [] (xW G L σ)
  refine ax_iconst (v := (1 : Int32)) K (by decide) dX1_measures_0 ?_
  refine ax_aload_n K 0 rfl dX1_measures_1 ?_
  refine xg_dishes K dX1_measures_2 ?_
  refine ax_ishl K dX1_measures_5 ?_
  refine ax_iconst (v := (1 : Int32)) K (by decide) dX1_measures_6 ?_
  refine ax_isub K dX1_measures_7 ?_
  refine ax_istore_n (lv' := [(3, .int (((1 : Int32) <<< ((xI_dishes σ) &&& 31)) - (1 : Int32))), (0, .ref (L 0)), (1, .int v1), (2, .int v2)]) K dX1_measures_8 (by decide) rfl ?_
  exact ax_sub [1, 2, 3, 0] rfl (h.elim fun n9 h => kx_measures_l9 K E  n9 v1 v2 (((1 : Int32) <<< ((xI_dishes σ) &&& 31)) - (1 : Int32)) σ h)
theorem rx_measures {Z : AZ} {G : AG} {cc : ByteArray} {mL hh pc : Nat} {lv : List (Nat × Value)} {rest : List Value} {L : Nat → Nat} {σ : St} (K : AK Z G cc RX1 mL (rmH hh)) (hlt : 4 < hh) (d : decode cc pc = .ok (.invokevirtual 370, 3)) (hrest : (rest.map fun v => v.category).sum ≤ 8) {v1 : Int32} {v2 : Int32} {P : St → Prop} (h : sx_measures σ v1 v2 P) (kk : ∀ (σ' : St), P σ' → AX Z 0 0 (pc + 3) lv (rest) (xW G L σ')) : AX Z 0 0 pc lv (.int v2 :: .int v1 :: .ref (L 0) :: rest) (xW G L σ) :=
  ax_callV (N0 := 2) (As := [.int v1, .int v2]) K (mx_measures (sx_measures_ok h)) q679 q681 qs31 q117 q682 ⟨rfl, by decide, by decide, by decide⟩ rfl ⟨by show 4 + 1 + 1 ≤ hh + 1; omega, by show 8 + (8 + 11) + 60 * (4 + 1) ≤ 60 * (hh + 1); omega⟩ ⟨Nat.zero_le _, Nat.zero_le _⟩ rfl rfl rfl hrest d (fun r σ' hp => by obtain ⟨rfl, hp⟩ := hp; exact kk σ' hp)
/-! x.measuresLeast -/
set_option maxHeartbeats 4000000 in
theorem kx_measuresLeast_j101 {Z : AZ} {G : AG} {L : Nat → Nat} {P : St → Prop} (K : AK Z G cX1_measuresLeast RX1 6 (rmH 4)) (E : AEv Z cX1_measuresLeast (xW G L) 0 0 P) {K51 : Int32 → Int32 → Int32 → Int32 → Int32 → St → Prop} (hK51 : ∀ (v1 : Int32) (v2 : Int32) (v3 : Int32) (v4 : Int32) (v5 : Int32) (σ : St), K51 v1 v2 v3 v4 v5 σ → AX Z 0 0 51 [(0, .ref (L 0)), (1, .int v1), (2, .int v2), (3, .int v3), (4, .int v4), (5, .int v5)] [] (xW G L σ)) (v1 : Int32) (v2 : Int32) (v3 : Int32) (v4 : Int32) (v5 : Int32) (σ : St) (h : wx_measuresLeast_j101 P K51 v1 v2 v3 v4 v5 σ) : AX Z 0 0 101 [(0, .ref (L 0)), (1, .int v1), (2, .int v2), (3, .int v3), (4, .int v4), (5, .int v5)] [] (xW G L σ) := by
  unfold wx_measuresLeast_j101 at h
  refine ax_iinc (lv' := [(5, .int (v5 + (1 : Int32))), (0, .ref (L 0)), (1, .int v1), (2, .int v2), (3, .int v3), (4, .int v4)]) (v := (v5 + (1 : Int32))) K 5 dX1_measuresLeast_101 rfl (by rfl) (by decide) rfl ?_
  refine ax_goto (tgt := 51) K dX1_measuresLeast_104 (by decide) ?_
  exact ax_sub [1, 2, 3, 4, 5, 0] rfl (hK51 v1 v2 v3 v4 (v5 + (1 : Int32)) σ h)
set_option maxHeartbeats 4000000 in
theorem kx_measuresLeast_l51 {Z : AZ} {G : AG} {L : Nat → Nat} {P : St → Prop} (K : AK Z G cX1_measuresLeast RX1 6 (rmH 4)) (E : AEv Z cX1_measuresLeast (xW G L) 0 0 P) {K107 : Int32 → Int32 → Int32 → Int32 → St → Prop} (hK107 : ∀ (v1 : Int32) (v2 : Int32) (v3 : Int32) (v4 : Int32) (σ : St), K107 v1 v2 v3 v4 σ → AX Z 0 0 107 [(0, .ref (L 0)), (1, .int v1), (2, .int v2), (3, .int v3), (4, .int v4)] [] (xW G L σ)) : ∀ (n : Nat) (v1 : Int32) (v2 : Int32) (v3 : Int32) (v4 : Int32) (v5 : Int32) (σ : St), wx_measuresLeast_l51 P K107 n v1 v2 v3 v4 v5 σ → AX Z 0 0 51 [(0, .ref (L 0)), (1, .int v1), (2, .int v2), (3, .int v3), (4, .int v4), (5, .int v5)] [] (xW G L σ) := by
  intro n
  induction n with
  | zero => intro v1 v2 v3 v4 v5 σ h; exact False.elim h
  | succ n ih =>
    intro v1 v2 v3 v4 v5 σ h
    rw [wx_measuresLeast_l51_s] at h
    refine ax_iload K 5 rfl dX1_measuresLeast_51 ?_
    refine ax_aload_n K 0 rfl dX1_measuresLeast_53 ?_
    refine xg_dishes K dX1_measuresLeast_54 ?_
    refine ax_icmp_ge (tgt := 107) K dX1_measuresLeast_57 (by decide) (fun c57 => ?_) (fun c57 => ?_)
    · have h := ax_it h c57
      exact ax_sub [0, 1, 2, 3, 4] rfl (hK107 v1 v2 v3 v4 σ h)
    · have h := ax_ie h c57
      refine ax_iload K 4 rfl dX1_measuresLeast_60 ?_
      refine ax_if_le (tgt := 107) K dX1_measuresLeast_62 (by decide) (fun c62 => ?_) (fun c62 => ?_)
      · have h := ax_it h c62
        exact ax_sub [0, 1, 2, 3, 4] rfl (hK107 v1 v2 v3 v4 σ h)
      · have h := ax_ie h c62
        refine ax_aload_n K 0 rfl dX1_measuresLeast_65 ?_
        refine ax_iload_n K 2 rfl dX1_measuresLeast_66 ?_
        refine ax_iload_n K 3 rfl dX1_measuresLeast_67 ?_
        refine ax_iload K 5 rfl dX1_measuresLeast_68 ?_
        refine rx_goesOn K (by decide) dX1_measuresLeast_70 (Nat.le_of_ble_eq_true rfl) h (fun r70 σ70 h => ?_)
        refine ax_if_eq (tgt := 101) K dX1_measuresLeast_73 (by decide) (fun c73 => ?_) (fun c73 => ?_)
        · have h := ax_it h c73
          exact ax_sub [0, 1, 2, 3, 4, 5] rfl (kx_measuresLeast_j101 K E ih v1 v2 v3 v4 v5 σ70 h)
        · have h := ax_ie h c73
          refine ax_iload K 4 rfl dX1_measuresLeast_76 ?_
          refine ax_iconst (v := (1 : Int32)) K (by decide) dX1_measuresLeast_78 ?_
          refine ax_aload_n K 0 rfl dX1_measuresLeast_79 ?_
          refine xg_value K dX1_measuresLeast_80 ?_
          refine ax_iload_n K 2 rfl dX1_measuresLeast_83 ?_
          refine ax_iconst (v := (1 : Int32)) K (by decide) dX1_measuresLeast_84 ?_
          refine ax_iload K 5 rfl dX1_measuresLeast_85 ?_
          refine ax_ishl K dX1_measuresLeast_87 ?_
          refine ax_ior K dX1_measuresLeast_88 ?_
          refine ax_iload K 5 rfl dX1_measuresLeast_89 ?_
          refine rx_stateOf K (by decide) dX1_measuresLeast_91 (Nat.le_of_ble_eq_true rfl) h (fun r91 h => ?_)
          refine xl_value K h.1 dX1_measuresLeast_94 ?_
          replace h := h.2
          refine ax_iadd K dX1_measuresLeast_95 ?_
          refine rx_min K (by decide) (Nat.le_of_ble_eq_true rfl) dX1_measuresLeast_96 ?_
          refine ax_istore (lv' := [(4, .int (jmin v4 ((1 : Int32) + (xA_value σ70 (r91).toNatClampNeg)))), (0, .ref (L 0)), (1, .int v1), (2, .int v2), (3, .int v3), (5, .int v5)]) K dX1_measuresLeast_99 (by decide) rfl ?_
          exact ax_sub [1, 2, 3, 4, 0, 5] rfl (kx_measuresLeast_j101 K E ih v1 v2 v3 (jmin v4 ((1 : Int32) + (xA_value σ70 (r91).toNatClampNeg))) v5 σ70 h)
set_option maxHeartbeats 4000000 in
theorem kx_measuresLeast_j119 {Z : AZ} {G : AG} {L : Nat → Nat} {P : St → Prop} (K : AK Z G cX1_measuresLeast RX1 6 (rmH 4)) (E : AEv Z cX1_measuresLeast (xW G L) 0 0 P) {K15 : Int32 → Int32 → Int32 → St → Prop} (hK15 : ∀ (v1 : Int32) (v2 : Int32) (v3 : Int32) (σ : St), K15 v1 v2 v3 σ → AX Z 0 0 15 [(0, .ref (L 0)), (1, .int v1), (2, .int v2), (3, .int v3)] [] (xW G L σ)) (v1 : Int32) (v2 : Int32) (v3 : Int32) (σ : St) (h : wx_measuresLeast_j119 P K15 v1 v2 v3 σ) : AX Z 0 0 119 [(0, .ref (L 0)), (1, .int v1), (2, .int v2), (3, .int v3)] [] (xW G L σ) := by
  unfold wx_measuresLeast_j119 at h
  refine ax_iinc (lv' := [(3, .int (v3 + (1 : Int32))), (0, .ref (L 0)), (1, .int v1), (2, .int v2)]) (v := (v3 + (1 : Int32))) K 3 dX1_measuresLeast_119 rfl (by rfl) (by decide) rfl ?_
  refine ax_goto (tgt := 15) K dX1_measuresLeast_122 (by decide) ?_
  exact ax_sub [1, 2, 3, 0] rfl (hK15 v1 v2 (v3 + (1 : Int32)) σ h)
set_option maxHeartbeats 4000000 in
theorem kx_measuresLeast_j107 {Z : AZ} {G : AG} {L : Nat → Nat} {P : St → Prop} (K : AK Z G cX1_measuresLeast RX1 6 (rmH 4)) (E : AEv Z cX1_measuresLeast (xW G L) 0 0 P) {K15 : Int32 → Int32 → Int32 → St → Prop} (hK15 : ∀ (v1 : Int32) (v2 : Int32) (v3 : Int32) (σ : St), K15 v1 v2 v3 σ → AX Z 0 0 15 [(0, .ref (L 0)), (1, .int v1), (2, .int v2), (3, .int v3)] [] (xW G L σ)) (v1 : Int32) (v2 : Int32) (v3 : Int32) (v4 : Int32) (σ : St) (h : wx_measuresLeast_j107 P K15 v1 v2 v3 v4 σ) : AX Z 0 0 107 [(0, .ref (L 0)), (1, .int v1), (2, .int v2), (3, .int v3), (4, .int v4)] [] (xW G L σ) := by
  unfold wx_measuresLeast_j107 at h
  refine ax_aload_n K 0 rfl dX1_measuresLeast_107 ?_
  refine xg_value K dX1_measuresLeast_108 ?_
  refine ax_iload_n K 2 rfl dX1_measuresLeast_111 ?_
  refine ax_iload_n K 3 rfl dX1_measuresLeast_112 ?_
  refine rx_stateOf K (by decide) dX1_measuresLeast_113 (Nat.le_of_ble_eq_true rfl) h (fun r113 h => ?_)
  refine ax_iload K 4 rfl dX1_measuresLeast_116 ?_
  refine xs_value K h.1 dX1_measuresLeast_118 ?_
  replace h := h.2
  exact ax_sub [0, 1, 2, 3] rfl (kx_measuresLeast_j119 K E hK15 v1 v2 v3 (xU_value σ r113 v4) h)
set_option maxHeartbeats 4000000 in
theorem kx_measuresLeast_j46 {Z : AZ} {G : AG} {L : Nat → Nat} {P : St → Prop} (K : AK Z G cX1_measuresLeast RX1 6 (rmH 4)) (E : AEv Z cX1_measuresLeast (xW G L) 0 0 P) {K15 : Int32 → Int32 → Int32 → St → Prop} (hK15 : ∀ (v1 : Int32) (v2 : Int32) (v3 : Int32) (σ : St), K15 v1 v2 v3 σ → AX Z 0 0 15 [(0, .ref (L 0)), (1, .int v1), (2, .int v2), (3, .int v3)] [] (xW G L σ)) (v1 : Int32) (v2 : Int32) (v3 : Int32) (s0 : Int32) (σ : St) (h : wx_measuresLeast_j46 P K15 v1 v2 v3 s0 σ) : AX Z 0 0 46 [(0, .ref (L 0)), (1, .int v1), (2, .int v2), (3, .int v3)] [.int s0] (xW G L σ) := by
  unfold wx_measuresLeast_j46 at h
  refine ax_istore (lv' := [(4, .int s0), (0, .ref (L 0)), (1, .int v1), (2, .int v2), (3, .int v3)]) K dX1_measuresLeast_46 (by decide) rfl ?_
  refine ax_iconst (v := (0 : Int32)) K (by decide) dX1_measuresLeast_48 ?_
  refine ax_istore (lv' := [(5, .int (0 : Int32)), (4, .int s0), (0, .ref (L 0)), (1, .int v1), (2, .int v2), (3, .int v3)]) K dX1_measuresLeast_49 (by decide) rfl ?_
  exact ax_sub [2, 3, 4, 5, 1, 0] rfl (h.elim fun n51 h => kx_measuresLeast_l51 K E (kx_measuresLeast_j107 K E hK15) n51 v1 v2 v3 s0 (0 : Int32) σ h)
set_option maxHeartbeats 4000000 in
theorem kx_measuresLeast_l15 {Z : AZ} {G : AG} {L : Nat → Nat} {P : St → Prop} (K : AK Z G cX1_measuresLeast RX1 6 (rmH 4)) (E : AEv Z cX1_measuresLeast (xW G L) 0 0 P) {K9 : Int32 → Int32 → St → Prop} (hK9 : ∀ (v1 : Int32) (v2 : Int32) (σ : St), K9 v1 v2 σ → AX Z 0 0 9 [(0, .ref (L 0)), (1, .int v1), (2, .int v2)] [] (xW G L σ)) : ∀ (n : Nat) (v1 : Int32) (v2 : Int32) (v3 : Int32) (σ : St), wx_measuresLeast_l15 P K9 n v1 v2 v3 σ → AX Z 0 0 15 [(0, .ref (L 0)), (1, .int v1), (2, .int v2), (3, .int v3)] [] (xW G L σ) := by
  intro n
  induction n with
  | zero => intro v1 v2 v3 σ h; exact False.elim h
  | succ n ih =>
    intro v1 v2 v3 σ h
    rw [wx_measuresLeast_l15_s] at h
    refine ax_iload_n K 3 rfl dX1_measuresLeast_15 ?_
    refine ax_aload_n K 0 rfl dX1_measuresLeast_16 ?_
    refine xg_dishes K dX1_measuresLeast_17 ?_
    refine ax_icmp_ge (tgt := 125) K dX1_measuresLeast_20 (by decide) (fun c20 => ?_) (fun c20 => ?_)
    · have h := ax_it h c20
      refine ax_iinc (lv' := [(2, .int (v2 + (-1 : Int32))), (0, .ref (L 0)), (1, .int v1), (3, .int v3)]) (v := (v2 + (-1 : Int32))) K 2 dX1_measuresLeast_125 rfl (by rfl) (by decide) rfl ?_
      refine ax_goto (tgt := 9) K dX1_measuresLeast_128 (by decide) ?_
      exact ax_sub [1, 2, 0] rfl (hK9 v1 (v2 + (-1 : Int32)) σ h)
    · have h := ax_ie h c20
      refine ax_iload_n K 2 rfl dX1_measuresLeast_23 ?_
      refine ax_iload_n K 3 rfl dX1_measuresLeast_24 ?_
      refine rx_has K (by decide) dX1_measuresLeast_25 (Nat.le_of_ble_eq_true rfl) h (fun r25 h => ?_)
      refine ax_if_ne (tgt := 34) K dX1_measuresLeast_28 (by decide) (fun c28 => ?_) (fun c28 => ?_)
      · have h := ax_ie h c28
        refine ax_iload_n K 3 rfl dX1_measuresLeast_34 ?_
        refine ax_iload_n K 1 rfl dX1_measuresLeast_35 ?_
        refine ax_icmp_ne (tgt := 43) K dX1_measuresLeast_36 (by decide) (fun c36 => ?_) (fun c36 => ?_)
        · have h := ax_ie h c36
          refine ax_ldcw (v := (1000000 : Int32)) K q717 dX1_measuresLeast_43 ?_
          exact ax_sub [0, 1, 2, 3] rfl (kx_measuresLeast_j46 K E ih v1 v2 v3 (1000000 : Int32) σ h)
        · have h := ax_it h c36
          refine ax_iconst (v := (0 : Int32)) K (by decide) dX1_measuresLeast_39 ?_
          refine ax_goto (tgt := 46) K dX1_measuresLeast_40 (by decide) ?_
          exact ax_sub [0, 1, 2, 3] rfl (kx_measuresLeast_j46 K E ih v1 v2 v3 (0 : Int32) σ h)
      · have h := ax_it h c28
        refine ax_goto (tgt := 119) K dX1_measuresLeast_31 (by decide) ?_
        exact ax_sub [0, 1, 2, 3] rfl (kx_measuresLeast_j119 K E ih v1 v2 v3 σ h)
set_option maxHeartbeats 4000000 in
theorem kx_measuresLeast_l9 {Z : AZ} {G : AG} {L : Nat → Nat} {P : St → Prop} (K : AK Z G cX1_measuresLeast RX1 6 (rmH 4)) (E : AEv Z cX1_measuresLeast (xW G L) 0 0 P) : ∀ (n : Nat) (v1 : Int32) (v2 : Int32) (σ : St), wx_measuresLeast_l9 P  n v1 v2 σ → AX Z 0 0 9 [(0, .ref (L 0)), (1, .int v1), (2, .int v2)] [] (xW G L σ) := by
  intro n
  induction n with
  | zero => intro v1 v2 σ h; exact False.elim h
  | succ n ih =>
    intro v1 v2 σ h
    rw [wx_measuresLeast_l9_s] at h
    refine ax_iload_n K 2 rfl dX1_measuresLeast_9 ?_
    refine ax_if_le (tgt := 131) K dX1_measuresLeast_10 (by decide) (fun c10 => ?_) (fun c10 => ?_)
    · have h := ax_it h c10
      exact E _ _ _ dX1_measuresLeast_131 h
    · have h := ax_ie h c10
      refine ax_iconst (v := (0 : Int32)) K (by decide) dX1_measuresLeast_13 ?_
      refine ax_istore_n (lv' := [(3, .int (0 : Int32)), (0, .ref (L 0)), (1, .int v1), (2, .int v2)]) K dX1_measuresLeast_14 (by decide) rfl ?_
      exact ax_sub [1, 2, 3, 0] rfl (h.elim fun n15 h => kx_measuresLeast_l15 K E ih n15 v1 v2 (0 : Int32) σ h)
set_option maxHeartbeats 4000000 in
theorem mx_measuresLeast {l : Launch} {G : AG} {L : Nat → Nat} {σ : St} {v1 : Int32} {P : St → Prop} (h : wx_measuresLeast σ v1 P) : CtW l G yX1_measuresLeast cX1_measuresLeast 6 none (rmH 4) [.ref (L 0), .int v1] (xW G L) σ (pV P) := by
  refine CtW.ofV (by decide) (Nat.le_of_ble_eq_true rfl) fun Z _ K E => ?_
  unfold wx_measuresLeast at h
  show AX Z 0 0 0 [(0, .ref (L 0)), (1, .int v1)] [] (xW G L σ)
  refine ax_iconst (v := (1 : Int32)) K (by decide) dX1_measuresLeast_0 ?_
  refine ax_aload_n K 0 rfl dX1_measuresLeast_1 ?_
  refine xg_dishes K dX1_measuresLeast_2 ?_
  refine ax_ishl K dX1_measuresLeast_5 ?_
  refine ax_iconst (v := (1 : Int32)) K (by decide) dX1_measuresLeast_6 ?_
  refine ax_isub K dX1_measuresLeast_7 ?_
  refine ax_istore_n (lv' := [(2, .int (((1 : Int32) <<< ((xI_dishes σ) &&& 31)) - (1 : Int32))), (0, .ref (L 0)), (1, .int v1)]) K dX1_measuresLeast_8 (by decide) rfl ?_
  exact ax_sub [1, 2, 0] rfl (h.elim fun n9 h => kx_measuresLeast_l9 K E  n9 v1 (((1 : Int32) <<< ((xI_dishes σ) &&& 31)) - (1 : Int32)) σ h)
theorem rx_measuresLeast {Z : AZ} {G : AG} {cc : ByteArray} {mL hh pc : Nat} {lv : List (Nat × Value)} {rest : List Value} {L : Nat → Nat} {σ : St} (K : AK Z G cc RX1 mL (rmH hh)) (hlt : 4 < hh) (d : decode cc pc = .ok (.invokevirtual 382, 3)) (hrest : (rest.map fun v => v.category).sum ≤ 8) {v1 : Int32} {P : St → Prop} (h : sx_measuresLeast σ v1 P) (kk : ∀ (σ' : St), P σ' → AX Z 0 0 (pc + 3) lv (rest) (xW G L σ')) : AX Z 0 0 pc lv (.int v1 :: .ref (L 0) :: rest) (xW G L σ) :=
  ax_callV (N0 := 1) (As := [.int v1]) K (mx_measuresLeast (sx_measuresLeast_ok h)) q713 q715 qs35 q117 q716 ⟨rfl, by decide, by decide, by decide⟩ rfl ⟨by show 4 + 1 + 1 ≤ hh + 1; omega, by show 8 + (6 + 11) + 60 * (4 + 1) ≤ 60 * (hh + 1); omega⟩ ⟨Nat.zero_le _, Nat.zero_le _⟩ rfl rfl rfl hrest d (fun r σ' hp => by obtain ⟨rfl, hp⟩ := hp; exact kk σ' hp)
/-! x.partOf -/
set_option maxHeartbeats 4000000 in
theorem kx_partOf_j46 {Z : AZ} {G : AG} {L : Nat → Nat} {P : Int32 → St → Prop} (K : AK Z G cX1_partOf RX1 5 (rmH 4)) (E : AEi Z cX1_partOf .int (xW G L) 0 0 P) {K17 : Int32 → Int32 → Int32 → St → Prop} (hK17 : ∀ (v2 : Int32) (v3 : Int32) (v4 : Int32) (σ : St), K17 v2 v3 v4 σ → AX Z 0 0 17 [(0, .ref (L 0)), (2, .int v2), (3, .int v3), (4, .int v4)] [] (xW G L σ)) (v3 : Int32) (v4 : Int32) (s0 : Int32) (s1 : Int32) (σ : St) (h : wx_partOf_j46 P K17 v3 v4 s0 s1 σ) : AX Z 0 0 46 [(0, .ref (L 0)), (3, .int v3), (4, .int v4)] [.int s1, .int s0] (xW G L σ) := by
  unfold wx_partOf_j46 at h
  refine ax_ior K dX1_partOf_46 ?_
  refine ax_istore_n (lv' := [(2, .int (s0 ||| s1)), (0, .ref (L 0)), (3, .int v3), (4, .int v4)]) K dX1_partOf_47 (by decide) rfl ?_
  refine ax_iinc (lv' := [(4, .int (v4 + (1 : Int32))), (2, .int (s0 ||| s1)), (0, .ref (L 0)), (3, .int v3)]) (v := (v4 + (1 : Int32))) K 3 dX1_partOf_48 rfl (by rfl) (by decide) rfl ?_
  refine ax_goto (tgt := 17) K dX1_partOf_51 (by decide) ?_
  exact ax_sub [2, 1, 3, 0] rfl (hK17 (s0 ||| s1) v3 (v4 + (1 : Int32)) σ h)
set_option maxHeartbeats 4000000 in
theorem kx_partOf_l17 {Z : AZ} {G : AG} {L : Nat → Nat} {P : Int32 → St → Prop} (K : AK Z G cX1_partOf RX1 5 (rmH 4)) (E : AEi Z cX1_partOf .int (xW G L) 0 0 P) {K6 : Int32 → Int32 → St → Prop} (hK6 : ∀ (v2 : Int32) (v3 : Int32) (σ : St), K6 v2 v3 σ → AX Z 0 0 6 [(0, .ref (L 0)), (2, .int v2), (3, .int v3)] [] (xW G L σ)) : ∀ (n : Nat) (v2 : Int32) (v3 : Int32) (v4 : Int32) (σ : St), wx_partOf_l17 P K6 n v2 v3 v4 σ → AX Z 0 0 17 [(0, .ref (L 0)), (2, .int v2), (3, .int v3), (4, .int v4)] [] (xW G L σ) := by
  intro n
  induction n with
  | zero => intro v2 v3 v4 σ h; exact False.elim h
  | succ n ih =>
    intro v2 v3 v4 σ h
    rw [wx_partOf_l17_s] at h
    refine ax_iload K 3 rfl dX1_partOf_17 ?_
    refine ax_aload_n K 0 rfl dX1_partOf_19 ?_
    refine xg_dishes K dX1_partOf_20 ?_
    refine ax_icmp_ge (tgt := 54) K dX1_partOf_23 (by decide) (fun c23 => ?_) (fun c23 => ?_)
    · have h := ax_it h c23
      refine ax_iinc (lv' := [(3, .int (v3 + (1 : Int32))), (0, .ref (L 0)), (2, .int v2), (4, .int v4)]) (v := (v3 + (1 : Int32))) K 2 dX1_partOf_54 rfl (by rfl) (by decide) rfl ?_
      refine ax_goto (tgt := 6) K dX1_partOf_57 (by decide) ?_
      exact ax_sub [1, 2, 0] rfl (hK6 v2 (v3 + (1 : Int32)) σ h)
    · have h := ax_ie h c23
      refine ax_iload_n K 1 rfl dX1_partOf_26 ?_
      refine ax_iload_n K 1 rfl dX1_partOf_27 ?_
      refine ax_iload K 3 rfl dX1_partOf_28 ?_
      refine rx_has K (by decide) dX1_partOf_30 (Nat.le_of_ble_eq_true rfl) h (fun r30 h => ?_)
      refine ax_if_eq (tgt := 45) K dX1_partOf_33 (by decide) (fun c33 => ?_) (fun c33 => ?_)
      · have h := ax_it h c33
        refine ax_iconst (v := (0 : Int32)) K (by decide) dX1_partOf_45 ?_
        exact ax_sub [0, 2, 3] rfl (kx_partOf_j46 K E ih v3 v4 v2 (0 : Int32) σ h)
      · have h := ax_ie h c33
        refine ax_aload_n K 0 rfl dX1_partOf_36 ?_
        refine ax_iload K 3 rfl dX1_partOf_37 ?_
        refine rx_pairsOf K (by decide) dX1_partOf_39 (Nat.le_of_ble_eq_true rfl) h (fun r39 σ39 h => ?_)
        refine ax_goto (tgt := 46) K dX1_partOf_42 (by decide) ?_
        exact ax_sub [0, 2, 3] rfl (kx_partOf_j46 K E ih v3 v4 v2 r39 σ39 h)
set_option maxHeartbeats 4000000 in
theorem kx_partOf_l6 {Z : AZ} {G : AG} {L : Nat → Nat} {P : Int32 → St → Prop} (K : AK Z G cX1_partOf RX1 5 (rmH 4)) (E : AEi Z cX1_partOf .int (xW G L) 0 0 P) : ∀ (n : Nat) (v2 : Int32) (v3 : Int32) (σ : St), wx_partOf_l6 P  n v2 v3 σ → AX Z 0 0 6 [(0, .ref (L 0)), (2, .int v2), (3, .int v3)] [] (xW G L σ) := by
  intro n
  induction n with
  | zero => intro v2 v3 σ h; exact False.elim h
  | succ n ih =>
    intro v2 v3 σ h
    rw [wx_partOf_l6_s] at h
    refine ax_iload_n K 2 rfl dX1_partOf_6 ?_
    refine ax_aload_n K 0 rfl dX1_partOf_7 ?_
    refine xg_dishes K dX1_partOf_8 ?_
    refine ax_icmp_ge (tgt := 60) K dX1_partOf_11 (by decide) (fun c11 => ?_) (fun c11 => ?_)
    · have h := ax_it h c11
      refine ax_iload_n K 1 rfl dX1_partOf_60 ?_
      exact E _ _ _ _ dX1_partOf_61 rfl h
    · have h := ax_ie h c11
      refine ax_iconst (v := (0 : Int32)) K (by decide) dX1_partOf_14 ?_
      refine ax_istore (lv' := [(4, .int (0 : Int32)), (0, .ref (L 0)), (2, .int v2), (3, .int v3)]) K dX1_partOf_15 (by decide) rfl ?_
      exact ax_sub [1, 2, 3, 0] rfl (h.elim fun n17 h => kx_partOf_l17 K E ih n17 v2 v3 (0 : Int32) σ h)
set_option maxHeartbeats 4000000 in
theorem mx_partOf {l : Launch} {G : AG} {L : Nat → Nat} {σ : St} {v1 : Int32} {P : Int32 → St → Prop} (h : wx_partOf σ v1 P) : CtW l G yX1_partOf cX1_partOf 5 (some .int) (rmH 4) [.ref (L 0), .int v1] (xW G L) σ (pI P) := by
  refine CtW.ofI (by decide) (Nat.le_of_ble_eq_true rfl) fun Z _ K E => ?_
  unfold wx_partOf at h
  show AX Z 0 0 0 [(0, .ref (L 0)), (1, .int v1)] [] (xW G L σ)
  refine ax_iconst (v := (1 : Int32)) K (by decide) dX1_partOf_0 ?_
  refine ax_iload_n K 1 rfl dX1_partOf_1 ?_
  refine ax_ishl K dX1_partOf_2 ?_
  refine ax_istore_n (lv' := [(2, .int ((1 : Int32) <<< (v1 &&& 31))), (0, .ref (L 0)), (1, .int v1)]) K dX1_partOf_3 (by decide) rfl ?_
  refine ax_iconst (v := (0 : Int32)) K (by decide) dX1_partOf_4 ?_
  refine ax_istore_n (lv' := [(3, .int (0 : Int32)), (2, .int ((1 : Int32) <<< (v1 &&& 31))), (0, .ref (L 0)), (1, .int v1)]) K dX1_partOf_5 (by decide) rfl ?_
  exact ax_sub [2, 1, 0] rfl (h.elim fun n6 h => kx_partOf_l6 K E  n6 ((1 : Int32) <<< (v1 &&& 31)) (0 : Int32) σ h)
theorem rx_partOf {Z : AZ} {G : AG} {cc : ByteArray} {mL hh pc : Nat} {lv : List (Nat × Value)} {rest : List Value} {L : Nat → Nat} {σ : St} (K : AK Z G cc RX1 mL (rmH hh)) (hlt : 4 < hh) (d : decode cc pc = .ok (.invokevirtual 388, 3)) (hrest : (rest.map fun v => v.category).sum ≤ 8) {v1 : Int32} {P : Int32 → St → Prop} (h : sx_partOf σ v1 P) (kk : ∀ (r : Int32) (σ' : St), P r σ' → AX Z 0 0 (pc + 3) lv (.int r :: rest) (xW G L σ')) : AX Z 0 0 pc lv (.int v1 :: .ref (L 0) :: rest) (xW G L σ) :=
  ax_callV (N0 := 1) (As := [.int v1]) K (mx_partOf (sx_partOf_ok h)) q738 q740 qs38 q117 q741 ⟨rfl, by decide, by decide, by decide⟩ rfl ⟨by show 4 + 1 + 1 ≤ hh + 1; omega, by show 8 + (5 + 11) + 60 * (4 + 1) ≤ 60 * (hh + 1); omega⟩ ⟨Nat.zero_le _, Nat.zero_le _⟩ rfl rfl rfl hrest d (fun r σ' hp => by obtain ⟨v, rfl, hp⟩ := hp; exact kk v σ' hp)
/-! x.plays -/
set_option maxHeartbeats 4000000 in
theorem kx_plays_j167 {Z : AZ} {G : AG} {L : Nat → Nat} {P : St → Prop} (K : AK Z G cX1_plays RX1 9 (rmH 4)) (E : AEv Z cX1_plays (xW G L) 0 0 P) {K43 : Int32 → Int32 → Int32 → Int32 → Int32 → St → Prop} (hK43 : ∀ (v1 : Int32) (v2 : Int32) (v3 : Int32) (v4 : Int32) (v5 : Int32) (σ : St), K43 v1 v2 v3 v4 v5 σ → AX Z 0 0 43 [(0, .ref (L 0)), (1, .int v1), (2, .int v2), (3, .int v3), (4, .int v4), (5, .int v5)] [] (xW G L σ)) (v1 : Int32) (v2 : Int32) (v3 : Int32) (v4 : Int32) (v5 : Int32) (σ : St) (h : wx_plays_j167 P K43 v1 v2 v3 v4 v5 σ) : AX Z 0 0 167 [(0, .ref (L 0)), (1, .int v1), (2, .int v2), (3, .int v3), (4, .int v4), (5, .int v5)] [] (xW G L σ) := by
  unfold wx_plays_j167 at h
  refine ax_iinc (lv' := [(5, .int (v5 + (1 : Int32))), (0, .ref (L 0)), (1, .int v1), (2, .int v2), (3, .int v3), (4, .int v4)]) (v := (v5 + (1 : Int32))) K 5 dX1_plays_167 rfl (by rfl) (by decide) rfl ?_
  refine ax_goto (tgt := 43) K dX1_plays_170 (by decide) ?_
  exact ax_sub [1, 2, 3, 4, 5, 0] rfl (hK43 v1 v2 v3 v4 (v5 + (1 : Int32)) σ h)
set_option maxHeartbeats 4000000 in
theorem kx_plays_j165 {Z : AZ} {G : AG} {L : Nat → Nat} {P : St → Prop} (K : AK Z G cX1_plays RX1 9 (rmH 4)) (E : AEv Z cX1_plays (xW G L) 0 0 P) {K43 : Int32 → Int32 → Int32 → Int32 → Int32 → St → Prop} (hK43 : ∀ (v1 : Int32) (v2 : Int32) (v3 : Int32) (v4 : Int32) (v5 : Int32) (σ : St), K43 v1 v2 v3 v4 v5 σ → AX Z 0 0 43 [(0, .ref (L 0)), (1, .int v1), (2, .int v2), (3, .int v3), (4, .int v4), (5, .int v5)] [] (xW G L σ)) (v1 : Int32) (v2 : Int32) (v3 : Int32) (v5 : Int32) (s0 : Int32) (σ : St) (h : wx_plays_j165 P K43 v1 v2 v3 v5 s0 σ) : AX Z 0 0 165 [(0, .ref (L 0)), (1, .int v1), (2, .int v2), (3, .int v3), (5, .int v5)] [.int s0] (xW G L σ) := by
  unfold wx_plays_j165 at h
  refine ax_istore (lv' := [(4, .int s0), (0, .ref (L 0)), (1, .int v1), (2, .int v2), (3, .int v3), (5, .int v5)]) K dX1_plays_165 (by decide) rfl ?_
  exact ax_sub [1, 2, 3, 4, 0, 5] rfl (kx_plays_j167 K E hK43 v1 v2 v3 s0 v5 σ h)
set_option maxHeartbeats 4000000 in
theorem kx_plays_j160 {Z : AZ} {G : AG} {L : Nat → Nat} {P : St → Prop} (K : AK Z G cX1_plays RX1 9 (rmH 4)) (E : AEv Z cX1_plays (xW G L) 0 0 P) {K43 : Int32 → Int32 → Int32 → Int32 → Int32 → St → Prop} (hK43 : ∀ (v1 : Int32) (v2 : Int32) (v3 : Int32) (v4 : Int32) (v5 : Int32) (σ : St), K43 v1 v2 v3 v4 v5 σ → AX Z 0 0 43 [(0, .ref (L 0)), (1, .int v1), (2, .int v2), (3, .int v3), (4, .int v4), (5, .int v5)] [] (xW G L σ)) (v1 : Int32) (v2 : Int32) (v3 : Int32) (v5 : Int32) (σ : St) (h : wx_plays_j160 P K43 v1 v2 v3 v5 σ) : AX Z 0 0 160 [(0, .ref (L 0)), (1, .int v1), (2, .int v2), (3, .int v3), (5, .int v5)] [] (xW G L σ) := by
  unfold wx_plays_j160 at h
  refine ax_iconst (v := (1 : Int32)) K (by decide) dX1_plays_160 ?_
  refine ax_goto (tgt := 165) K dX1_plays_161 (by decide) ?_
  exact ax_sub [0, 1, 2, 3, 4] rfl (kx_plays_j165 K E hK43 v1 v2 v3 v5 (1 : Int32) σ h)
set_option maxHeartbeats 4000000 in
theorem kx_plays_j149 {Z : AZ} {G : AG} {L : Nat → Nat} {P : St → Prop} (K : AK Z G cX1_plays RX1 9 (rmH 4)) (E : AEv Z cX1_plays (xW G L) 0 0 P) {K43 : Int32 → Int32 → Int32 → Int32 → Int32 → St → Prop} (hK43 : ∀ (v1 : Int32) (v2 : Int32) (v3 : Int32) (v4 : Int32) (v5 : Int32) (σ : St), K43 v1 v2 v3 v4 v5 σ → AX Z 0 0 43 [(0, .ref (L 0)), (1, .int v1), (2, .int v2), (3, .int v3), (4, .int v4), (5, .int v5)] [] (xW G L σ)) (v1 : Int32) (v2 : Int32) (v4 : Int32) (v5 : Int32) (v7 : Int32) (s0 : Int32) (σ : St) (h : wx_plays_j149 P K43 v1 v2 v4 v5 v7 s0 σ) : AX Z 0 0 149 [(0, .ref (L 0)), (1, .int v1), (2, .int v2), (4, .int v4), (5, .int v5), (7, .int v7)] [.int s0] (xW G L σ) := by
  unfold wx_plays_j149 at h
  refine ax_istore_n (lv' := [(3, .int s0), (0, .ref (L 0)), (1, .int v1), (2, .int v2), (4, .int v4), (5, .int v5), (7, .int v7)]) K dX1_plays_149 (by decide) rfl ?_
  refine ax_iload K 4 rfl dX1_plays_150 ?_
  refine ax_if_ne (tgt := 160) K dX1_plays_152 (by decide) (fun c152 => ?_) (fun c152 => ?_)
  · have h := ax_ie h c152
    exact ax_sub [1, 2, 3, 0, 5] rfl (kx_plays_j160 K E hK43 v1 v2 s0 v5 σ h)
  · have h := ax_it h c152
    refine ax_iload K 6 rfl dX1_plays_155 ?_
    refine ax_if_eq (tgt := 164) K dX1_plays_157 (by decide) (fun c157 => ?_) (fun c157 => ?_)
    · have h := ax_it h c157
      refine ax_iconst (v := (0 : Int32)) K (by decide) dX1_plays_164 ?_
      exact ax_sub [1, 2, 3, 0, 5] rfl (kx_plays_j165 K E hK43 v1 v2 s0 v5 (0 : Int32) σ h)
    · have h := ax_ie h c157
      exact ax_sub [1, 2, 3, 0, 5] rfl (kx_plays_j160 K E hK43 v1 v2 s0 v5 σ h)
set_option maxHeartbeats 4000000 in
theorem kx_plays_j95 {Z : AZ} {G : AG} {L : Nat → Nat} {P : St → Prop} (K : AK Z G cX1_plays RX1 9 (rmH 4)) (E : AEv Z cX1_plays (xW G L) 0 0 P) {K43 : Int32 → Int32 → Int32 → Int32 → Int32 → St → Prop} (hK43 : ∀ (v1 : Int32) (v2 : Int32) (v3 : Int32) (v4 : Int32) (v5 : Int32) (σ : St), K43 v1 v2 v3 v4 v5 σ → AX Z 0 0 43 [(0, .ref (L 0)), (1, .int v1), (2, .int v2), (3, .int v3), (4, .int v4), (5, .int v5)] [] (xW G L σ)) (v1 : Int32) (v2 : Int32) (v3 : Int32) (v4 : Int32) (v5 : Int32) (v6 : Int32) (s0 : Int32) (σ : St) (h : wx_plays_j95 P K43 v1 v2 v3 v4 v5 v6 s0 σ) : AX Z 0 0 95 [(0, .ref (L 0)), (1, .int v1), (2, .int v2), (3, .int v3), (4, .int v4), (5, .int v5), (6, .int v6)] [.int s0] (xW G L σ) := by
  unfold wx_plays_j95 at h
  refine ax_istore (lv' := [(7, .int s0), (0, .ref (L 0)), (1, .int v1), (2, .int v2), (3, .int v3), (4, .int v4), (5, .int v5), (6, .int v6)]) K dX1_plays_95 (by decide) rfl ?_
  refine ax_iconst (v := (1 : Int32)) K (by decide) dX1_plays_97 ?_
  refine ax_aload_n K 1 rfl dX1_plays_98 ?_
  refine xg_length K dX1_plays_99 ?_
  refine ax_iload K 7 rfl dX1_plays_102 ?_
  refine xl_length K h.1 dX1_plays_104 ?_
  replace h := h.2
  refine ax_iadd K dX1_plays_105 ?_
  refine ax_istore (lv' := [(8, .int ((1 : Int32) + (xA_length σ (v6).toNatClampNeg))), (7, .int s0), (0, .ref (L 0)), (1, .int v1), (2, .int v2), (3, .int v3), (4, .int v4), (5, .int v5), (6, .int v6)]) K dX1_plays_106 (by decide) rfl ?_
  refine ax_iload K 1 rfl dX1_plays_108 ?_
  refine ax_iload K 6 rfl dX1_plays_110 ?_
  refine ax_icmp_ne (tgt := 138) K dX1_plays_112 (by decide) (fun c112 => ?_) (fun c112 => ?_)
  · have h := ax_ie h c112
    refine ax_iload K 1 rfl dX1_plays_138 ?_
    refine ax_if_eq (tgt := 148) K dX1_plays_140 (by decide) (fun c140 => ?_) (fun c140 => ?_)
    · have h := ax_it h c140
      refine ax_iload_n K 5 rfl dX1_plays_148 ?_
      exact ax_sub [2, 3, 4, 6, 7, 1] rfl (kx_plays_j149 K E hK43 v1 v2 v4 v5 s0 v3 σ h)
    · have h := ax_ie h c140
      refine ax_iload K 0 rfl dX1_plays_143 ?_
      refine ax_goto (tgt := 149) K dX1_plays_145 (by decide) ?_
      exact ax_sub [2, 3, 4, 6, 7, 1] rfl (kx_plays_j149 K E hK43 v1 v2 v4 v5 s0 ((1 : Int32) + (xA_length σ (v6).toNatClampNeg)) σ h)
  · have h := ax_it h c112
    refine ax_iload K 1 rfl dX1_plays_115 ?_
    refine ax_if_eq (tgt := 129) K dX1_plays_117 (by decide) (fun c117 => ?_) (fun c117 => ?_)
    · have h := ax_it h c117
      refine ax_iload_n K 5 rfl dX1_plays_129 ?_
      refine ax_iload K 0 rfl dX1_plays_130 ?_
      refine rx_max K (by decide) (Nat.le_of_ble_eq_true rfl) dX1_plays_132 ?_
      refine ax_goto (tgt := 149) K dX1_plays_135 (by decide) ?_
      exact ax_sub [2, 3, 4, 6, 7, 1] rfl (kx_plays_j149 K E hK43 v1 v2 v4 v5 s0 (jmax v3 ((1 : Int32) + (xA_length σ (v6).toNatClampNeg))) σ h)
    · have h := ax_ie h c117
      refine ax_iload_n K 5 rfl dX1_plays_120 ?_
      refine ax_iload K 0 rfl dX1_plays_121 ?_
      refine rx_min K (by decide) (Nat.le_of_ble_eq_true rfl) dX1_plays_123 ?_
      refine ax_goto (tgt := 149) K dX1_plays_126 (by decide) ?_
      exact ax_sub [2, 3, 4, 6, 7, 1] rfl (kx_plays_j149 K E hK43 v1 v2 v4 v5 s0 (jmin v3 ((1 : Int32) + (xA_length σ (v6).toNatClampNeg))) σ h)
set_option maxHeartbeats 4000000 in
theorem kx_plays_l43 {Z : AZ} {G : AG} {L : Nat → Nat} {P : St → Prop} (K : AK Z G cX1_plays RX1 9 (rmH 4)) (E : AEv Z cX1_plays (xW G L) 0 0 P) {K192 : Int32 → Int32 → Int32 → Int32 → Int32 → St → Prop} (hK192 : ∀ (v1 : Int32) (v2 : Int32) (v3 : Int32) (s1 : Int32) (s2 : Int32) (σ : St), K192 v1 v2 v3 s1 s2 σ → AX Z 0 0 192 [(0, .ref (L 0)), (1, .int v1), (2, .int v2), (3, .int v3)] [.int s2, .int s1, .ref (L 20)] (xW G L σ)) : ∀ (n : Nat) (v1 : Int32) (v2 : Int32) (v3 : Int32) (v4 : Int32) (v5 : Int32) (σ : St), wx_plays_l43 P K192 n v1 v2 v3 v4 v5 σ → AX Z 0 0 43 [(0, .ref (L 0)), (1, .int v1), (2, .int v2), (3, .int v3), (4, .int v4), (5, .int v5)] [] (xW G L σ) := by
  intro n
  induction n with
  | zero => intro v1 v2 v3 v4 v5 σ h; exact False.elim h
  | succ n ih =>
    intro v1 v2 v3 v4 v5 σ h
    rw [wx_plays_l43_s] at h
    refine ax_iload K 5 rfl dX1_plays_43 ?_
    refine ax_aload_n K 0 rfl dX1_plays_45 ?_
    refine xg_dishes K dX1_plays_46 ?_
    refine ax_icmp_ge (tgt := 173) K dX1_plays_49 (by decide) (fun c49 => ?_) (fun c49 => ?_)
    · have h := ax_it h c49
      refine ax_aload_n K 0 rfl dX1_plays_173 ?_
      refine xg_value K dX1_plays_174 ?_
      refine ax_iload_n K 1 rfl dX1_plays_177 ?_
      refine ax_iload_n K 2 rfl dX1_plays_178 ?_
      refine rx_stateOf K (by decide) dX1_plays_179 (Nat.le_of_ble_eq_true rfl) h (fun r179 h => ?_)
      refine ax_iload K 4 rfl dX1_plays_182 ?_
      refine ax_if_eq (tgt := 191) K dX1_plays_184 (by decide) (fun c184 => ?_) (fun c184 => ?_)
      · have h := ax_it h c184
        refine ax_iconst (v := (2 : Int32)) K (by decide) dX1_plays_191 ?_
        exact ax_sub [0, 1, 2, 3] rfl (hK192 v1 v2 v3 r179 (2 : Int32) σ h)
      · have h := ax_ie h c184
        refine ax_iconst (v := (1 : Int32)) K (by decide) dX1_plays_187 ?_
        refine ax_goto (tgt := 192) K dX1_plays_188 (by decide) ?_
        exact ax_sub [0, 1, 2, 3] rfl (hK192 v1 v2 v3 r179 (1 : Int32) σ h)
    · have h := ax_ie h c49
      refine ax_aload_n K 0 rfl dX1_plays_52 ?_
      refine ax_iload_n K 1 rfl dX1_plays_53 ?_
      refine ax_iload_n K 2 rfl dX1_plays_54 ?_
      refine ax_iload K 5 rfl dX1_plays_55 ?_
      refine rx_goesOn K (by decide) dX1_plays_57 (Nat.le_of_ble_eq_true rfl) h (fun r57 σ57 h => ?_)
      refine ax_if_ne (tgt := 66) K dX1_plays_60 (by decide) (fun c60 => ?_) (fun c60 => ?_)
      · have h := ax_ie h c60
        refine ax_iload_n K 1 rfl dX1_plays_66 ?_
        refine ax_iconst (v := (1 : Int32)) K (by decide) dX1_plays_67 ?_
        refine ax_iload K 5 rfl dX1_plays_68 ?_
        refine ax_ishl K dX1_plays_70 ?_
        refine ax_ior K dX1_plays_71 ?_
        refine ax_iload K 5 rfl dX1_plays_72 ?_
        refine rx_stateOf K (by decide) dX1_plays_74 (Nat.le_of_ble_eq_true rfl) h (fun r74 h => ?_)
        refine ax_istore (lv' := [(6, .int r74), (0, .ref (L 0)), (1, .int v1), (2, .int v2), (3, .int v3), (4, .int v4), (5, .int v5)]) K dX1_plays_77 (by decide) rfl ?_
        refine ax_aload_n K 1 rfl dX1_plays_79 ?_
        refine xg_value K dX1_plays_80 ?_
        refine ax_iload K 0 rfl dX1_plays_83 ?_
        refine xl_value K h.1 dX1_plays_85 ?_
        replace h := h.2
        refine ax_iconst (v := (2 : Int32)) K (by decide) dX1_plays_86 ?_
        refine ax_icmp_ne (tgt := 94) K dX1_plays_87 (by decide) (fun c87 => ?_) (fun c87 => ?_)
        · have h := ax_ie h c87
          refine ax_iconst (v := (0 : Int32)) K (by decide) dX1_plays_94 ?_
          exact ax_sub [1, 2, 3, 4, 5, 6, 0] rfl (kx_plays_j95 K E ih v1 v2 v3 v4 v5 r74 (0 : Int32) σ57 h)
        · have h := ax_it h c87
          refine ax_iconst (v := (1 : Int32)) K (by decide) dX1_plays_90 ?_
          refine ax_goto (tgt := 95) K dX1_plays_91 (by decide) ?_
          exact ax_sub [1, 2, 3, 4, 5, 6, 0] rfl (kx_plays_j95 K E ih v1 v2 v3 v4 v5 r74 (1 : Int32) σ57 h)
      · have h := ax_it h c60
        refine ax_goto (tgt := 167) K dX1_plays_63 (by decide) ?_
        exact ax_sub [0, 1, 2, 3, 4, 5] rfl (kx_plays_j167 K E ih v1 v2 v3 v4 v5 σ57 h)
set_option maxHeartbeats 4000000 in
theorem kx_plays_j204 {Z : AZ} {G : AG} {L : Nat → Nat} {P : St → Prop} (K : AK Z G cX1_plays RX1 9 (rmH 4)) (E : AEv Z cX1_plays (xW G L) 0 0 P) {K15 : Int32 → Int32 → St → Prop} (hK15 : ∀ (v1 : Int32) (v2 : Int32) (σ : St), K15 v1 v2 σ → AX Z 0 0 15 [(0, .ref (L 0)), (1, .int v1), (2, .int v2)] [] (xW G L σ)) (v1 : Int32) (v2 : Int32) (σ : St) (h : wx_plays_j204 P K15 v1 v2 σ) : AX Z 0 0 204 [(0, .ref (L 0)), (1, .int v1), (2, .int v2)] [] (xW G L σ) := by
  unfold wx_plays_j204 at h
  refine ax_iinc (lv' := [(2, .int (v2 + (1 : Int32))), (0, .ref (L 0)), (1, .int v1)]) (v := (v2 + (1 : Int32))) K 2 dX1_plays_204 rfl (by rfl) (by decide) rfl ?_
  refine ax_goto (tgt := 15) K dX1_plays_207 (by decide) ?_
  exact ax_sub [1, 2, 0] rfl (hK15 v1 (v2 + (1 : Int32)) σ h)
set_option maxHeartbeats 4000000 in
theorem kx_plays_j192 {Z : AZ} {G : AG} {L : Nat → Nat} {P : St → Prop} (K : AK Z G cX1_plays RX1 9 (rmH 4)) (E : AEv Z cX1_plays (xW G L) 0 0 P) {K15 : Int32 → Int32 → St → Prop} (hK15 : ∀ (v1 : Int32) (v2 : Int32) (σ : St), K15 v1 v2 σ → AX Z 0 0 15 [(0, .ref (L 0)), (1, .int v1), (2, .int v2)] [] (xW G L σ)) (v1 : Int32) (v2 : Int32) (v3 : Int32) (s1 : Int32) (s2 : Int32) (σ : St) (h : wx_plays_j192 P K15 v1 v2 v3 s1 s2 σ) : AX Z 0 0 192 [(0, .ref (L 0)), (1, .int v1), (2, .int v2), (3, .int v3)] [.int s2, .int s1, .ref (L 20)] (xW G L σ) := by
  unfold wx_plays_j192 at h
  refine xs_value K h.1 dX1_plays_192 ?_
  replace h := h.2
  refine ax_aload_n K 0 rfl dX1_plays_193 ?_
  refine xg_length K dX1_plays_194 ?_
  refine ax_iload_n K 1 rfl dX1_plays_197 ?_
  refine ax_iload_n K 2 rfl dX1_plays_198 ?_
  refine rx_stateOf K (by decide) dX1_plays_199 (Nat.le_of_ble_eq_true rfl) h (fun r199 h => ?_)
  refine ax_iload_n K 3 rfl dX1_plays_202 ?_
  refine xs_length K h.1 dX1_plays_203 ?_
  replace h := h.2
  exact ax_sub [0, 1, 2] rfl (kx_plays_j204 K E hK15 v1 v2 (xU_length (xU_value σ s1 s2) r199 v3) h)
set_option maxHeartbeats 4000000 in
theorem kx_plays_l15 {Z : AZ} {G : AG} {L : Nat → Nat} {P : St → Prop} (K : AK Z G cX1_plays RX1 9 (rmH 4)) (E : AEv Z cX1_plays (xW G L) 0 0 P) {K9 : Int32 → St → Prop} (hK9 : ∀ (v1 : Int32) (σ : St), K9 v1 σ → AX Z 0 0 9 [(0, .ref (L 0)), (1, .int v1)] [] (xW G L σ)) : ∀ (n : Nat) (v1 : Int32) (v2 : Int32) (σ : St), wx_plays_l15 P K9 n v1 v2 σ → AX Z 0 0 15 [(0, .ref (L 0)), (1, .int v1), (2, .int v2)] [] (xW G L σ) := by
  intro n
  induction n with
  | zero => intro v1 v2 σ h; exact False.elim h
  | succ n ih =>
    intro v1 v2 σ h
    rw [wx_plays_l15_s] at h
    refine ax_iload_n K 2 rfl dX1_plays_15 ?_
    refine ax_aload_n K 0 rfl dX1_plays_16 ?_
    refine xg_dishes K dX1_plays_17 ?_
    refine ax_icmp_ge (tgt := 210) K dX1_plays_20 (by decide) (fun c20 => ?_) (fun c20 => ?_)
    · have h := ax_it h c20
      refine ax_iinc (lv' := [(1, .int (v1 + (-1 : Int32))), (0, .ref (L 0)), (2, .int v2)]) (v := (v1 + (-1 : Int32))) K 1 dX1_plays_210 rfl (by rfl) (by decide) rfl ?_
      refine ax_goto (tgt := 9) K dX1_plays_213 (by decide) ?_
      exact ax_sub [1, 0] rfl (hK9 (v1 + (-1 : Int32)) σ h)
    · have h := ax_ie h c20
      refine ax_aload_n K 0 rfl dX1_plays_23 ?_
      refine ax_iload_n K 1 rfl dX1_plays_24 ?_
      refine ax_iload_n K 2 rfl dX1_plays_25 ?_
      refine rx_isLastOf K (by decide) dX1_plays_26 (Nat.le_of_ble_eq_true rfl) h (fun r26 σ26 h => ?_)
      refine ax_if_ne (tgt := 35) K dX1_plays_29 (by decide) (fun c29 => ?_) (fun c29 => ?_)
      · have h := ax_ie h c29
        refine ax_iconst (v := (0 : Int32)) K (by decide) dX1_plays_35 ?_
        refine ax_istore_n (lv' := [(3, .int (0 : Int32)), (0, .ref (L 0)), (1, .int v1), (2, .int v2)]) K dX1_plays_36 (by decide) rfl ?_
        refine ax_iconst (v := (0 : Int32)) K (by decide) dX1_plays_37 ?_
        refine ax_istore (lv' := [(4, .int (0 : Int32)), (3, .int (0 : Int32)), (0, .ref (L 0)), (1, .int v1), (2, .int v2)]) K dX1_plays_38 (by decide) rfl ?_
        refine ax_iconst (v := (0 : Int32)) K (by decide) dX1_plays_40 ?_
        refine ax_istore (lv' := [(5, .int (0 : Int32)), (4, .int (0 : Int32)), (3, .int (0 : Int32)), (0, .ref (L 0)), (1, .int v1), (2, .int v2)]) K dX1_plays_41 (by decide) rfl ?_
        exact ax_sub [3, 4, 5, 2, 1, 0] rfl (h.elim fun n43 h => kx_plays_l43 K E (kx_plays_j192 K E ih) n43 v1 v2 (0 : Int32) (0 : Int32) (0 : Int32) σ26 h)
      · have h := ax_it h c29
        refine ax_goto (tgt := 204) K dX1_plays_32 (by decide) ?_
        exact ax_sub [0, 1, 2] rfl (kx_plays_j204 K E ih v1 v2 σ26 h)
set_option maxHeartbeats 4000000 in
theorem kx_plays_l9 {Z : AZ} {G : AG} {L : Nat → Nat} {P : St → Prop} (K : AK Z G cX1_plays RX1 9 (rmH 4)) (E : AEv Z cX1_plays (xW G L) 0 0 P) : ∀ (n : Nat) (v1 : Int32) (σ : St), wx_plays_l9 P  n v1 σ → AX Z 0 0 9 [(0, .ref (L 0)), (1, .int v1)] [] (xW G L σ) := by
  intro n
  induction n with
  | zero => intro v1 σ h; exact False.elim h
  | succ n ih =>
    intro v1 σ h
    rw [wx_plays_l9_s] at h
    refine ax_iload_n K 1 rfl dX1_plays_9 ?_
    refine ax_if_lt (tgt := 216) K dX1_plays_10 (by decide) (fun c10 => ?_) (fun c10 => ?_)
    · have h := ax_it h c10
      exact E _ _ _ dX1_plays_216 h
    · have h := ax_ie h c10
      refine ax_iconst (v := (-1 : Int32)) K (by decide) dX1_plays_13 ?_
      refine ax_istore_n (lv' := [(2, .int (-1 : Int32)), (0, .ref (L 0)), (1, .int v1)]) K dX1_plays_14 (by decide) rfl ?_
      exact ax_sub [1, 2, 0] rfl (h.elim fun n15 h => kx_plays_l15 K E ih n15 v1 (-1 : Int32) σ h)
set_option maxHeartbeats 4000000 in
theorem mx_plays {l : Launch} {G : AG} {L : Nat → Nat} {σ : St} {P : St → Prop} (h : wx_plays σ P) : CtW l G yX1_plays cX1_plays 9 none (rmH 4) [.ref (L 0)] (xW G L) σ (pV P) := by
  refine CtW.ofV (by decide) (Nat.le_of_ble_eq_true rfl) fun Z _ K E => ?_
  unfold wx_plays at h
  show AX Z 0 0 0 [(0, .ref (L 0))] [] (xW G L σ)
  refine ax_iconst (v := (1 : Int32)) K (by decide) dX1_plays_0 ?_
  refine ax_aload_n K 0 rfl dX1_plays_1 ?_
  refine xg_dishes K dX1_plays_2 ?_
  refine ax_ishl K dX1_plays_5 ?_
  refine ax_iconst (v := (1 : Int32)) K (by decide) dX1_plays_6 ?_
  refine ax_isub K dX1_plays_7 ?_
  refine ax_istore_n (lv' := [(1, .int (((1 : Int32) <<< ((xI_dishes σ) &&& 31)) - (1 : Int32))), (0, .ref (L 0))]) K dX1_plays_8 (by decide) rfl ?_
  exact ax_sub [1, 0] rfl (h.elim fun n9 h => kx_plays_l9 K E  n9 (((1 : Int32) <<< ((xI_dishes σ) &&& 31)) - (1 : Int32)) σ h)
theorem rx_plays {Z : AZ} {G : AG} {cc : ByteArray} {mL hh pc : Nat} {lv : List (Nat × Value)} {rest : List Value} {L : Nat → Nat} {σ : St} (K : AK Z G cc RX1 mL (rmH hh)) (hlt : 4 < hh) (d : decode cc pc = .ok (.invokevirtual 408, 3)) (hrest : (rest.map fun v => v.category).sum ≤ 8) {P : St → Prop} (h : sx_plays σ  P) (kk : ∀ (σ' : St), P σ' → AX Z 0 0 (pc + 3) lv (rest) (xW G L σ')) : AX Z 0 0 pc lv (.ref (L 0) :: rest) (xW G L σ) :=
  ax_callV (N0 := 0) (As := []) K (mx_plays (sx_plays_ok h)) q818 q820 qs45 q117 q821 ⟨rfl, by decide, by decide, by decide⟩ rfl ⟨by show 4 + 1 + 1 ≤ hh + 1; omega, by show 8 + (9 + 11) + 60 * (4 + 1) ≤ 60 * (hh + 1); omega⟩ ⟨Nat.zero_le _, Nat.zero_le _⟩ rfl rfl rfl hrest d (fun r σ' hp => by obtain ⟨rfl, hp⟩ := hp; exact kk σ' hp)
/-! x.reaches -/
set_option maxHeartbeats 4000000 in
theorem kx_reaches_j38 {Z : AZ} {G : AG} {L : Nat → Nat} {P : St → Prop} (K : AK Z G cX1_reaches RX1 6 (rmH 4)) (E : AEv Z cX1_reaches (xW G L) 0 0 P) {K2 : Int32 → Int32 → Int32 → St → Prop} (hK2 : ∀ (v1 : Int32) (v2 : Int32) (v3 : Int32) (σ : St), K2 v1 v2 v3 σ → AX Z 0 0 2 [(0, .ref (L 0)), (1, .int v1), (2, .int v2), (3, .int v3)] [] (xW G L σ)) (v1 : Int32) (v2 : Int32) (v3 : Int32) (s1 : Int32) (s2 : Int32) (σ : St) (h : wx_reaches_j38 P K2 v1 v2 v3 s1 s2 σ) : AX Z 0 0 38 [(0, .ref (L 0)), (1, .int v1), (2, .int v2), (3, .int v3)] [.int s2, .int s1, .ref (L 19)] (xW G L σ) := by
  unfold wx_reaches_j38 at h
  refine xs_lasts K h.1 dX1_reaches_38 ?_
  replace h := h.2
  refine ax_iinc (lv' := [(3, .int (v3 + (1 : Int32))), (0, .ref (L 0)), (1, .int v1), (2, .int v2)]) (v := (v3 + (1 : Int32))) K 3 dX1_reaches_39 rfl (by rfl) (by decide) rfl ?_
  refine ax_goto (tgt := 2) K dX1_reaches_42 (by decide) ?_
  exact ax_sub [1, 2, 3, 0] rfl (hK2 v1 v2 (v3 + (1 : Int32)) (xU_lasts σ s1 s2) h)
set_option maxHeartbeats 4000000 in
theorem kx_reaches_j33 {Z : AZ} {G : AG} {L : Nat → Nat} {P : St → Prop} (K : AK Z G cX1_reaches RX1 6 (rmH 4)) (E : AEv Z cX1_reaches (xW G L) 0 0 P) {K2 : Int32 → Int32 → Int32 → St → Prop} (hK2 : ∀ (v1 : Int32) (v2 : Int32) (v3 : Int32) (σ : St), K2 v1 v2 v3 σ → AX Z 0 0 2 [(0, .ref (L 0)), (1, .int v1), (2, .int v2), (3, .int v3)] [] (xW G L σ)) (v1 : Int32) (v2 : Int32) (v3 : Int32) (s1 : Int32) (s2 : Int32) (s3 : Int32) (σ : St) (h : wx_reaches_j33 P K2 v1 v2 v3 s1 s2 s3 σ) : AX Z 0 0 33 [(0, .ref (L 0)), (1, .int v1), (2, .int v2), (3, .int v3)] [.int s3, .int s2, .int s1, .ref (L 19)] (xW G L σ) := by
  unfold wx_reaches_j33 at h
  refine ax_ishl K dX1_reaches_33 ?_
  refine ax_goto (tgt := 38) K dX1_reaches_34 (by decide) ?_
  exact ax_sub [0, 1, 2, 3] rfl (kx_reaches_j38 K E hK2 v1 v2 v3 s1 (s2 <<< (s3 &&& 31)) σ h)
set_option maxHeartbeats 4000000 in
theorem kx_reaches_l2 {Z : AZ} {G : AG} {L : Nat → Nat} {P : St → Prop} (K : AK Z G cX1_reaches RX1 6 (rmH 4)) (E : AEv Z cX1_reaches (xW G L) 0 0 P) {K47 : Int32 → St → Prop} (hK47 : ∀ (v3 : Int32) (σ : St), K47 v3 σ → AX Z 0 0 47 [(0, .ref (L 0)), (3, .int v3)] [] (xW G L σ)) : ∀ (n : Nat) (v1 : Int32) (v2 : Int32) (v3 : Int32) (σ : St), wx_reaches_l2 P K47 n v1 v2 v3 σ → AX Z 0 0 2 [(0, .ref (L 0)), (1, .int v1), (2, .int v2), (3, .int v3)] [] (xW G L σ) := by
  intro n
  induction n with
  | zero => intro v1 v2 v3 σ h; exact False.elim h
  | succ n ih =>
    intro v1 v2 v3 σ h
    rw [wx_reaches_l2_s] at h
    refine ax_iload_n K 3 rfl dX1_reaches_2 ?_
    refine ax_iconst (v := (1 : Int32)) K (by decide) dX1_reaches_3 ?_
    refine ax_aload_n K 0 rfl dX1_reaches_4 ?_
    refine xg_dishes K dX1_reaches_5 ?_
    refine ax_ishl K dX1_reaches_8 ?_
    refine ax_icmp_ge (tgt := 45) K dX1_reaches_9 (by decide) (fun c9 => ?_) (fun c9 => ?_)
    · have h := ax_it h c9
      refine ax_iconst (v := (0 : Int32)) K (by decide) dX1_reaches_45 ?_
      refine ax_istore_n (lv' := [(3, .int (0 : Int32)), (0, .ref (L 0)), (1, .int v1), (2, .int v2)]) K dX1_reaches_46 (by decide) rfl ?_
      exact ax_sub [1, 0] rfl (hK47 (0 : Int32) σ h)
    · have h := ax_ie h c9
      refine ax_aload_n K 0 rfl dX1_reaches_12 ?_
      refine xg_lasts K dX1_reaches_13 ?_
      refine ax_iload_n K 3 rfl dX1_reaches_16 ?_
      refine ax_iload_n K 3 rfl dX1_reaches_17 ?_
      refine ax_iload_n K 1 rfl dX1_reaches_18 ?_
      refine ax_icmp_ne (tgt := 37) K dX1_reaches_19 (by decide) (fun c19 => ?_) (fun c19 => ?_)
      · have h := ax_ie h c19
        refine ax_iconst (v := (0 : Int32)) K (by decide) dX1_reaches_37 ?_
        exact ax_sub [0, 1, 2, 3] rfl (kx_reaches_j38 K E ih v1 v2 v3 v3 (0 : Int32) σ h)
      · have h := ax_it h c19
        refine ax_iconst (v := (1 : Int32)) K (by decide) dX1_reaches_22 ?_
        refine ax_iload_n K 2 rfl dX1_reaches_23 ?_
        refine ax_if_ge (tgt := 32) K dX1_reaches_24 (by decide) (fun c24 => ?_) (fun c24 => ?_)
        · have h := ax_it h c24
          refine ax_iload_n K 2 rfl dX1_reaches_32 ?_
          exact ax_sub [0, 1, 2, 3] rfl (kx_reaches_j33 K E ih v1 v2 v3 v3 (1 : Int32) v2 σ h)
        · have h := ax_ie h c24
          refine ax_bipush (v := (10 : Int32)) K (by decide) dX1_reaches_27 ?_
          refine ax_goto (tgt := 33) K dX1_reaches_29 (by decide) ?_
          exact ax_sub [0, 1, 2, 3] rfl (kx_reaches_j33 K E ih v1 v2 v3 v3 (1 : Int32) (10 : Int32) σ h)
set_option maxHeartbeats 4000000 in
theorem kx_reaches_j138 {Z : AZ} {G : AG} {L : Nat → Nat} {P : St → Prop} (K : AK Z G cX1_reaches RX1 6 (rmH 4)) (E : AEv Z cX1_reaches (xW G L) 0 0 P) {K99 : Int32 → Int32 → Int32 → St → Prop} (hK99 : ∀ (v3 : Int32) (v4 : Int32) (v5 : Int32) (σ : St), K99 v3 v4 v5 σ → AX Z 0 0 99 [(0, .ref (L 0)), (3, .int v3), (4, .int v4), (5, .int v5)] [] (xW G L σ)) (v3 : Int32) (v4 : Int32) (v5 : Int32) (σ : St) (h : wx_reaches_j138 P K99 v3 v4 v5 σ) : AX Z 0 0 138 [(0, .ref (L 0)), (3, .int v3), (4, .int v4), (5, .int v5)] [] (xW G L σ) := by
  unfold wx_reaches_j138 at h
  refine ax_iinc (lv' := [(5, .int (v5 + (1 : Int32))), (0, .ref (L 0)), (3, .int v3), (4, .int v4)]) (v := (v5 + (1 : Int32))) K 3 dX1_reaches_138 rfl (by rfl) (by decide) rfl ?_
  refine ax_goto (tgt := 99) K dX1_reaches_141 (by decide) ?_
  exact ax_sub [1, 2, 3, 0] rfl (hK99 v3 v4 (v5 + (1 : Int32)) σ h)
set_option maxHeartbeats 4000000 in
theorem kx_reaches_l99 {Z : AZ} {G : AG} {L : Nat → Nat} {P : St → Prop} (K : AK Z G cX1_reaches RX1 6 (rmH 4)) (E : AEv Z cX1_reaches (xW G L) 0 0 P) {K144 : Int32 → Int32 → St → Prop} (hK144 : ∀ (v3 : Int32) (v4 : Int32) (σ : St), K144 v3 v4 σ → AX Z 0 0 144 [(0, .ref (L 0)), (3, .int v3), (4, .int v4)] [] (xW G L σ)) : ∀ (n : Nat) (v3 : Int32) (v4 : Int32) (v5 : Int32) (σ : St), wx_reaches_l99 P K144 n v3 v4 v5 σ → AX Z 0 0 99 [(0, .ref (L 0)), (3, .int v3), (4, .int v4), (5, .int v5)] [] (xW G L σ) := by
  intro n
  induction n with
  | zero => intro v3 v4 v5 σ h; exact False.elim h
  | succ n ih =>
    intro v3 v4 v5 σ h
    rw [wx_reaches_l99_s] at h
    refine ax_iload K 3 rfl dX1_reaches_99 ?_
    refine ax_aload_n K 0 rfl dX1_reaches_101 ?_
    refine xg_dishes K dX1_reaches_102 ?_
    refine ax_icmp_ge (tgt := 144) K dX1_reaches_105 (by decide) (fun c105 => ?_) (fun c105 => ?_)
    · have h := ax_it h c105
      exact ax_sub [0, 1, 2] rfl (hK144 v3 v4 σ h)
    · have h := ax_ie h c105
      refine ax_aload_n K 0 rfl dX1_reaches_108 ?_
      refine ax_iload_n K 1 rfl dX1_reaches_109 ?_
      refine ax_iload K 2 rfl dX1_reaches_110 ?_
      refine ax_iload K 3 rfl dX1_reaches_112 ?_
      refine rx_goesOn K (by decide) dX1_reaches_114 (Nat.le_of_ble_eq_true rfl) h (fun r114 σ114 h => ?_)
      refine ax_if_eq (tgt := 138) K dX1_reaches_117 (by decide) (fun c117 => ?_) (fun c117 => ?_)
      · have h := ax_it h c117
        exact ax_sub [0, 1, 2, 3] rfl (kx_reaches_j138 K E ih v3 v4 v5 σ114 h)
      · have h := ax_ie h c117
        refine ax_aload_n K 0 rfl dX1_reaches_120 ?_
        refine xg_lasts K dX1_reaches_121 ?_
        refine ax_iload_n K 1 rfl dX1_reaches_124 ?_
        refine ax_iconst (v := (1 : Int32)) K (by decide) dX1_reaches_125 ?_
        refine ax_iload K 3 rfl dX1_reaches_126 ?_
        refine ax_ishl K dX1_reaches_128 ?_
        refine ax_ior K dX1_reaches_129 ?_
        refine ax_dup2 K rfl rfl dX1_reaches_130 ?_
        refine xl_lasts K h.1 dX1_reaches_131 ?_
        replace h := h.2
        refine ax_iconst (v := (1 : Int32)) K (by decide) dX1_reaches_132 ?_
        refine ax_iload K 3 rfl dX1_reaches_133 ?_
        refine ax_ishl K dX1_reaches_135 ?_
        refine ax_ior K dX1_reaches_136 ?_
        refine xs_lasts K h.1 dX1_reaches_137 ?_
        replace h := h.2
        exact ax_sub [0, 1, 2, 3] rfl (kx_reaches_j138 K E ih v3 v4 v5 (xU_lasts σ114 (v3 ||| ((1 : Int32) <<< (v5 &&& 31))) ((xA_lasts σ114 ((v3 ||| ((1 : Int32) <<< (v5 &&& 31)))).toNatClampNeg) ||| ((1 : Int32) <<< (v5 &&& 31)))) h)
set_option maxHeartbeats 4000000 in
theorem kx_reaches_j144 {Z : AZ} {G : AG} {L : Nat → Nat} {P : St → Prop} (K : AK Z G cX1_reaches RX1 6 (rmH 4)) (E : AEv Z cX1_reaches (xW G L) 0 0 P) {K60 : Int32 → Int32 → St → Prop} (hK60 : ∀ (v3 : Int32) (v4 : Int32) (σ : St), K60 v3 v4 σ → AX Z 0 0 60 [(0, .ref (L 0)), (3, .int v3), (4, .int v4)] [] (xW G L σ)) (v3 : Int32) (v4 : Int32) (σ : St) (h : wx_reaches_j144 P K60 v3 v4 σ) : AX Z 0 0 144 [(0, .ref (L 0)), (3, .int v3), (4, .int v4)] [] (xW G L σ) := by
  unfold wx_reaches_j144 at h
  refine ax_iinc (lv' := [(4, .int (v4 + (1 : Int32))), (0, .ref (L 0)), (3, .int v3)]) (v := (v4 + (1 : Int32))) K 2 dX1_reaches_144 rfl (by rfl) (by decide) rfl ?_
  refine ax_goto (tgt := 60) K dX1_reaches_147 (by decide) ?_
  exact ax_sub [1, 2, 0] rfl (hK60 v3 (v4 + (1 : Int32)) σ h)
set_option maxHeartbeats 4000000 in
theorem kx_reaches_j87 {Z : AZ} {G : AG} {L : Nat → Nat} {P : St → Prop} (K : AK Z G cX1_reaches RX1 6 (rmH 4)) (E : AEv Z cX1_reaches (xW G L) 0 0 P) {K60 : Int32 → Int32 → St → Prop} (hK60 : ∀ (v3 : Int32) (v4 : Int32) (σ : St), K60 v3 v4 σ → AX Z 0 0 60 [(0, .ref (L 0)), (3, .int v3), (4, .int v4)] [] (xW G L σ)) (v3 : Int32) (v4 : Int32) (s0 : Int32) (s1 : Int32) (σ : St) (h : wx_reaches_j87 P K60 v3 v4 s0 s1 σ) : AX Z 0 0 87 [(0, .ref (L 0)), (3, .int v3), (4, .int v4)] [.int s1, .int s0] (xW G L σ) := by
  unfold wx_reaches_j87 at h
  refine rx_has K (by decide) dX1_reaches_87 (Nat.le_of_ble_eq_true rfl) h (fun r87 h => ?_)
  refine ax_if_ne (tgt := 96) K dX1_reaches_90 (by decide) (fun c90 => ?_) (fun c90 => ?_)
  · have h := ax_ie h c90
    refine ax_iconst (v := (0 : Int32)) K (by decide) dX1_reaches_96 ?_
    refine ax_istore (lv' := [(5, .int (0 : Int32)), (0, .ref (L 0)), (3, .int v3), (4, .int v4)]) K dX1_reaches_97 (by decide) rfl ?_
    exact ax_sub [1, 2, 3, 0] rfl (h.elim fun n99 h => kx_reaches_l99 K E (kx_reaches_j144 K E hK60) n99 v3 v4 (0 : Int32) σ h)
  · have h := ax_it h c90
    refine ax_goto (tgt := 144) K dX1_reaches_93 (by decide) ?_
    exact ax_sub [0, 1, 2] rfl (kx_reaches_j144 K E hK60 v3 v4 σ h)
set_option maxHeartbeats 4000000 in
theorem kx_reaches_l60 {Z : AZ} {G : AG} {L : Nat → Nat} {P : St → Prop} (K : AK Z G cX1_reaches RX1 6 (rmH 4)) (E : AEv Z cX1_reaches (xW G L) 0 0 P) {K47 : Int32 → St → Prop} (hK47 : ∀ (v3 : Int32) (σ : St), K47 v3 σ → AX Z 0 0 47 [(0, .ref (L 0)), (3, .int v3)] [] (xW G L σ)) : ∀ (n : Nat) (v3 : Int32) (v4 : Int32) (σ : St), wx_reaches_l60 P K47 n v3 v4 σ → AX Z 0 0 60 [(0, .ref (L 0)), (3, .int v3), (4, .int v4)] [] (xW G L σ) := by
  intro n
  induction n with
  | zero => intro v3 v4 σ h; exact False.elim h
  | succ n ih =>
    intro v3 v4 σ h
    rw [wx_reaches_l60_s] at h
    refine ax_iload K 2 rfl dX1_reaches_60 ?_
    refine ax_aload_n K 0 rfl dX1_reaches_62 ?_
    refine xg_dishes K dX1_reaches_63 ?_
    refine ax_icmp_ge (tgt := 150) K dX1_reaches_66 (by decide) (fun c66 => ?_) (fun c66 => ?_)
    · have h := ax_it h c66
      refine ax_iinc (lv' := [(3, .int (v3 + (1 : Int32))), (0, .ref (L 0)), (4, .int v4)]) (v := (v3 + (1 : Int32))) K 1 dX1_reaches_150 rfl (by rfl) (by decide) rfl ?_
      refine ax_goto (tgt := 47) K dX1_reaches_153 (by decide) ?_
      exact ax_sub [1, 0] rfl (hK47 (v3 + (1 : Int32)) σ h)
    · have h := ax_ie h c66
      refine ax_aload_n K 0 rfl dX1_reaches_69 ?_
      refine xg_lasts K dX1_reaches_70 ?_
      refine ax_iload_n K 1 rfl dX1_reaches_73 ?_
      refine xl_lasts K h.1 dX1_reaches_74 ?_
      replace h := h.2
      refine ax_iload K 2 rfl dX1_reaches_75 ?_
      refine ax_if_ge (tgt := 85) K dX1_reaches_77 (by decide) (fun c77 => ?_) (fun c77 => ?_)
      · have h := ax_it h c77
        refine ax_iload K 2 rfl dX1_reaches_85 ?_
        exact ax_sub [0, 1, 2] rfl (kx_reaches_j87 K E ih v3 v4 (xA_lasts σ (v3).toNatClampNeg) v4 σ h)
      · have h := ax_ie h c77
        refine ax_bipush (v := (10 : Int32)) K (by decide) dX1_reaches_80 ?_
        refine ax_goto (tgt := 87) K dX1_reaches_82 (by decide) ?_
        exact ax_sub [0, 1, 2] rfl (kx_reaches_j87 K E ih v3 v4 (xA_lasts σ (v3).toNatClampNeg) (10 : Int32) σ h)
set_option maxHeartbeats 4000000 in
theorem kx_reaches_l47 {Z : AZ} {G : AG} {L : Nat → Nat} {P : St → Prop} (K : AK Z G cX1_reaches RX1 6 (rmH 4)) (E : AEv Z cX1_reaches (xW G L) 0 0 P) : ∀ (n : Nat) (v3 : Int32) (σ : St), wx_reaches_l47 P  n v3 σ → AX Z 0 0 47 [(0, .ref (L 0)), (3, .int v3)] [] (xW G L σ) := by
  intro n
  induction n with
  | zero => intro v3 σ h; exact False.elim h
  | succ n ih =>
    intro v3 σ h
    rw [wx_reaches_l47_s] at h
    refine ax_iload_n K 1 rfl dX1_reaches_47 ?_
    refine ax_iconst (v := (1 : Int32)) K (by decide) dX1_reaches_48 ?_
    refine ax_aload_n K 0 rfl dX1_reaches_49 ?_
    refine xg_dishes K dX1_reaches_50 ?_
    refine ax_ishl K dX1_reaches_53 ?_
    refine ax_icmp_ge (tgt := 156) K dX1_reaches_54 (by decide) (fun c54 => ?_) (fun c54 => ?_)
    · have h := ax_it h c54
      exact E _ _ _ dX1_reaches_156 h
    · have h := ax_ie h c54
      refine ax_iconst (v := (-1 : Int32)) K (by decide) dX1_reaches_57 ?_
      refine ax_istore (lv' := [(4, .int (-1 : Int32)), (0, .ref (L 0)), (3, .int v3)]) K dX1_reaches_58 (by decide) rfl ?_
      exact ax_sub [1, 2, 0] rfl (h.elim fun n60 h => kx_reaches_l60 K E ih n60 v3 (-1 : Int32) σ h)
set_option maxHeartbeats 4000000 in
theorem mx_reaches {l : Launch} {G : AG} {L : Nat → Nat} {σ : St} {v1 : Int32} {v2 : Int32} {P : St → Prop} (h : wx_reaches σ v1 v2 P) : CtW l G yX1_reaches cX1_reaches 6 none (rmH 4) [.ref (L 0), .int v1, .int v2] (xW G L) σ (pV P) := by
  refine CtW.ofV (by decide) (Nat.le_of_ble_eq_true rfl) fun Z _ K E => ?_
  unfold wx_reaches at h
  show AX Z 0 0 0 [(0, .ref (L 0)), (1, .int v1), (2, .int v2)] [] (xW G L σ)
  refine ax_iconst (v := (0 : Int32)) K (by decide) dX1_reaches_0 ?_
  refine ax_istore_n (lv' := [(3, .int (0 : Int32)), (0, .ref (L 0)), (1, .int v1), (2, .int v2)]) K dX1_reaches_1 (by decide) rfl ?_
  exact ax_sub [1, 2, 3, 0] rfl (h.elim fun n2 h => kx_reaches_l2 K E (fun v3 σ h => h.elim fun n47 h => kx_reaches_l47 K E  n47 v3 σ h) n2 v1 v2 (0 : Int32) σ h)
theorem rx_reaches {Z : AZ} {G : AG} {cc : ByteArray} {mL hh pc : Nat} {lv : List (Nat × Value)} {rest : List Value} {L : Nat → Nat} {σ : St} (K : AK Z G cc RX1 mL (rmH hh)) (hlt : 4 < hh) (d : decode cc pc = .ok (.invokevirtual 391, 3)) (hrest : (rest.map fun v => v.category).sum ≤ 8) {v1 : Int32} {v2 : Int32} {P : St → Prop} (h : sx_reaches σ v1 v2 P) (kk : ∀ (σ' : St), P σ' → AX Z 0 0 (pc + 3) lv (rest) (xW G L σ')) : AX Z 0 0 pc lv (.int v2 :: .int v1 :: .ref (L 0) :: rest) (xW G L σ) :=
  ax_callV (N0 := 2) (As := [.int v1, .int v2]) K (mx_reaches (sx_reaches_ok h)) q754 q756 qs39 q117 q757 ⟨rfl, by decide, by decide, by decide⟩ rfl ⟨by show 4 + 1 + 1 ≤ hh + 1; omega, by show 8 + (6 + 11) + 60 * (4 + 1) ≤ 60 * (hh + 1); omega⟩ ⟨Nat.zero_le _, Nat.zero_le _⟩ rfl rfl rfl hrest d (fun r σ' hp => by obtain ⟨rfl, hp⟩ := hp; exact kk σ' hp)
/-! x.reachesBy -/
set_option maxHeartbeats 4000000 in
theorem kx_reachesBy_j28 {Z : AZ} {G : AG} {L : Nat → Nat} {P : St → Prop} (K : AK Z G cX1_reachesBy RX1 6 (rmH 4)) (E : AEv Z cX1_reachesBy (xW G L) 0 0 P) {K2 : Int32 → Int32 → St → Prop} (hK2 : ∀ (v1 : Int32) (v2 : Int32) (σ : St), K2 v1 v2 σ → AX Z 0 0 2 [(0, .ref (L 0)), (1, .int v1), (2, .int v2)] [] (xW G L σ)) (v1 : Int32) (v2 : Int32) (s1 : Int32) (s2 : Int32) (σ : St) (h : wx_reachesBy_j28 P K2 v1 v2 s1 s2 σ) : AX Z 0 0 28 [(0, .ref (L 0)), (1, .int v1), (2, .int v2)] [.int s2, .int s1, .ref (L 19)] (xW G L σ) := by
  unfold wx_reachesBy_j28 at h
  refine xs_lasts K h.1 dX1_reachesBy_28 ?_
  replace h := h.2
  refine ax_iinc (lv' := [(2, .int (v2 + (1 : Int32))), (0, .ref (L 0)), (1, .int v1)]) (v := (v2 + (1 : Int32))) K 2 dX1_reachesBy_29 rfl (by rfl) (by decide) rfl ?_
  refine ax_goto (tgt := 2) K dX1_reachesBy_32 (by decide) ?_
  exact ax_sub [1, 2, 0] rfl (hK2 v1 (v2 + (1 : Int32)) (xU_lasts σ s1 s2) h)
set_option maxHeartbeats 4000000 in
theorem kx_reachesBy_l2 {Z : AZ} {G : AG} {L : Nat → Nat} {P : St → Prop} (K : AK Z G cX1_reachesBy RX1 6 (rmH 4)) (E : AEv Z cX1_reachesBy (xW G L) 0 0 P) {K37 : Int32 → Int32 → St → Prop} (hK37 : ∀ (v1 : Int32) (v2 : Int32) (σ : St), K37 v1 v2 σ → AX Z 0 0 37 [(0, .ref (L 0)), (1, .int v1), (2, .int v2)] [] (xW G L σ)) : ∀ (n : Nat) (v1 : Int32) (v2 : Int32) (σ : St), wx_reachesBy_l2 P K37 n v1 v2 σ → AX Z 0 0 2 [(0, .ref (L 0)), (1, .int v1), (2, .int v2)] [] (xW G L σ) := by
  intro n
  induction n with
  | zero => intro v1 v2 σ h; exact False.elim h
  | succ n ih =>
    intro v1 v2 σ h
    rw [wx_reachesBy_l2_s] at h
    refine ax_iload_n K 2 rfl dX1_reachesBy_2 ?_
    refine ax_iconst (v := (1 : Int32)) K (by decide) dX1_reachesBy_3 ?_
    refine ax_aload_n K 0 rfl dX1_reachesBy_4 ?_
    refine xg_dishes K dX1_reachesBy_5 ?_
    refine ax_ishl K dX1_reachesBy_8 ?_
    refine ax_icmp_ge (tgt := 35) K dX1_reachesBy_9 (by decide) (fun c9 => ?_) (fun c9 => ?_)
    · have h := ax_it h c9
      refine ax_iconst (v := (0 : Int32)) K (by decide) dX1_reachesBy_35 ?_
      refine ax_istore_n (lv' := [(2, .int (0 : Int32)), (0, .ref (L 0)), (1, .int v1)]) K dX1_reachesBy_36 (by decide) rfl ?_
      exact ax_sub [1, 2, 0] rfl (hK37 v1 (0 : Int32) σ h)
    · have h := ax_ie h c9
      refine ax_aload_n K 0 rfl dX1_reachesBy_12 ?_
      refine xg_lasts K dX1_reachesBy_13 ?_
      refine ax_iload_n K 2 rfl dX1_reachesBy_16 ?_
      refine ax_iload_n K 2 rfl dX1_reachesBy_17 ?_
      refine ax_if_ne (tgt := 27) K dX1_reachesBy_18 (by decide) (fun c18 => ?_) (fun c18 => ?_)
      · have h := ax_ie h c18
        refine ax_iconst (v := (0 : Int32)) K (by decide) dX1_reachesBy_27 ?_
        exact ax_sub [0, 1, 2] rfl (kx_reachesBy_j28 K E ih v1 v2 v2 (0 : Int32) σ h)
      · have h := ax_it h c18
        refine ax_sipush (v := (1024 : Int32)) K (by decide) dX1_reachesBy_21 ?_
        refine ax_goto (tgt := 28) K dX1_reachesBy_24 (by decide) ?_
        exact ax_sub [0, 1, 2] rfl (kx_reachesBy_j28 K E ih v1 v2 v2 (1024 : Int32) σ h)
set_option maxHeartbeats 4000000 in
theorem kx_reachesBy_j154 {Z : AZ} {G : AG} {L : Nat → Nat} {P : St → Prop} (K : AK Z G cX1_reachesBy RX1 6 (rmH 4)) (E : AEv Z cX1_reachesBy (xW G L) 0 0 P) {K104 : Int32 → Int32 → Int32 → Int32 → Int32 → St → Prop} (hK104 : ∀ (v1 : Int32) (v2 : Int32) (v3 : Int32) (v4 : Int32) (v5 : Int32) (σ : St), K104 v1 v2 v3 v4 v5 σ → AX Z 0 0 104 [(0, .ref (L 0)), (1, .int v1), (2, .int v2), (3, .int v3), (4, .int v4), (5, .int v5)] [] (xW G L σ)) (v1 : Int32) (v2 : Int32) (v3 : Int32) (v4 : Int32) (v5 : Int32) (σ : St) (h : wx_reachesBy_j154 P K104 v1 v2 v3 v4 v5 σ) : AX Z 0 0 154 [(0, .ref (L 0)), (1, .int v1), (2, .int v2), (3, .int v3), (4, .int v4), (5, .int v5)] [] (xW G L σ) := by
  unfold wx_reachesBy_j154 at h
  refine ax_iinc (lv' := [(5, .int (v5 + (1 : Int32))), (0, .ref (L 0)), (1, .int v1), (2, .int v2), (3, .int v3), (4, .int v4)]) (v := (v5 + (1 : Int32))) K 5 dX1_reachesBy_154 rfl (by rfl) (by decide) rfl ?_
  refine ax_goto (tgt := 104) K dX1_reachesBy_157 (by decide) ?_
  exact ax_sub [1, 2, 3, 4, 5, 0] rfl (hK104 v1 v2 v3 v4 (v5 + (1 : Int32)) σ h)
set_option maxHeartbeats 4000000 in
theorem kx_reachesBy_l104 {Z : AZ} {G : AG} {L : Nat → Nat} {P : St → Prop} (K : AK Z G cX1_reachesBy RX1 6 (rmH 4)) (E : AEv Z cX1_reachesBy (xW G L) 0 0 P) {K160 : Int32 → Int32 → Int32 → Int32 → St → Prop} (hK160 : ∀ (v1 : Int32) (v2 : Int32) (v3 : Int32) (v4 : Int32) (σ : St), K160 v1 v2 v3 v4 σ → AX Z 0 0 160 [(0, .ref (L 0)), (1, .int v1), (2, .int v2), (3, .int v3), (4, .int v4)] [] (xW G L σ)) : ∀ (n : Nat) (v1 : Int32) (v2 : Int32) (v3 : Int32) (v4 : Int32) (v5 : Int32) (σ : St), wx_reachesBy_l104 P K160 n v1 v2 v3 v4 v5 σ → AX Z 0 0 104 [(0, .ref (L 0)), (1, .int v1), (2, .int v2), (3, .int v3), (4, .int v4), (5, .int v5)] [] (xW G L σ) := by
  intro n
  induction n with
  | zero => intro v1 v2 v3 v4 v5 σ h; exact False.elim h
  | succ n ih =>
    intro v1 v2 v3 v4 v5 σ h
    rw [wx_reachesBy_l104_s] at h
    refine ax_iload K 5 rfl dX1_reachesBy_104 ?_
    refine ax_aload_n K 0 rfl dX1_reachesBy_106 ?_
    refine xg_dishes K dX1_reachesBy_107 ?_
    refine ax_icmp_ge (tgt := 160) K dX1_reachesBy_110 (by decide) (fun c110 => ?_) (fun c110 => ?_)
    · have h := ax_it h c110
      exact ax_sub [0, 1, 2, 3, 4] rfl (hK160 v1 v2 v3 v4 σ h)
    · have h := ax_ie h c110
      refine ax_aload_n K 0 rfl dX1_reachesBy_113 ?_
      refine ax_iload_n K 1 rfl dX1_reachesBy_114 ?_
      refine ax_iload_n K 3 rfl dX1_reachesBy_115 ?_
      refine ax_iload K 5 rfl dX1_reachesBy_116 ?_
      refine rx_fits K (by decide) dX1_reachesBy_118 (Nat.le_of_ble_eq_true rfl) h (fun r118 σ118 h => ?_)
      refine ax_if_eq (tgt := 154) K dX1_reachesBy_121 (by decide) (fun c121 => ?_) (fun c121 => ?_)
      · have h := ax_it h c121
        exact ax_sub [0, 1, 2, 3, 4, 5] rfl (kx_reachesBy_j154 K E ih v1 v2 v3 v4 v5 σ118 h)
      · have h := ax_ie h c121
        refine ax_aload_n K 0 rfl dX1_reachesBy_124 ?_
        refine ax_iload_n K 2 rfl dX1_reachesBy_125 ?_
        refine ax_iload K 4 rfl dX1_reachesBy_126 ?_
        refine ax_iload K 5 rfl dX1_reachesBy_128 ?_
        refine rx_goesOn K (by decide) dX1_reachesBy_130 (Nat.le_of_ble_eq_true rfl) h (fun r130 σ130 h => ?_)
        refine ax_if_eq (tgt := 154) K dX1_reachesBy_133 (by decide) (fun c133 => ?_) (fun c133 => ?_)
        · have h := ax_it h c133
          exact ax_sub [0, 1, 2, 3, 4, 5] rfl (kx_reachesBy_j154 K E ih v1 v2 v3 v4 v5 σ130 h)
        · have h := ax_ie h c133
          refine ax_aload_n K 0 rfl dX1_reachesBy_136 ?_
          refine xg_lasts K dX1_reachesBy_137 ?_
          refine ax_iload_n K 2 rfl dX1_reachesBy_140 ?_
          refine ax_iconst (v := (1 : Int32)) K (by decide) dX1_reachesBy_141 ?_
          refine ax_iload K 5 rfl dX1_reachesBy_142 ?_
          refine ax_ishl K dX1_reachesBy_144 ?_
          refine ax_ior K dX1_reachesBy_145 ?_
          refine ax_dup2 K rfl rfl dX1_reachesBy_146 ?_
          refine xl_lasts K h.1 dX1_reachesBy_147 ?_
          replace h := h.2
          refine ax_iconst (v := (1 : Int32)) K (by decide) dX1_reachesBy_148 ?_
          refine ax_iload K 5 rfl dX1_reachesBy_149 ?_
          refine ax_ishl K dX1_reachesBy_151 ?_
          refine ax_ior K dX1_reachesBy_152 ?_
          refine xs_lasts K h.1 dX1_reachesBy_153 ?_
          replace h := h.2
          exact ax_sub [0, 1, 2, 3, 4, 5] rfl (kx_reachesBy_j154 K E ih v1 v2 v3 v4 v5 (xU_lasts σ130 (v2 ||| ((1 : Int32) <<< (v5 &&& 31))) ((xA_lasts σ130 ((v2 ||| ((1 : Int32) <<< (v5 &&& 31)))).toNatClampNeg) ||| ((1 : Int32) <<< (v5 &&& 31)))) h)
set_option maxHeartbeats 4000000 in
theorem kx_reachesBy_j160 {Z : AZ} {G : AG} {L : Nat → Nat} {P : St → Prop} (K : AK Z G cX1_reachesBy RX1 6 (rmH 4)) (E : AEv Z cX1_reachesBy (xW G L) 0 0 P) {K55 : Int32 → Int32 → Int32 → Int32 → St → Prop} (hK55 : ∀ (v1 : Int32) (v2 : Int32) (v3 : Int32) (v4 : Int32) (σ : St), K55 v1 v2 v3 v4 σ → AX Z 0 0 55 [(0, .ref (L 0)), (1, .int v1), (2, .int v2), (3, .int v3), (4, .int v4)] [] (xW G L σ)) (v1 : Int32) (v2 : Int32) (v3 : Int32) (v4 : Int32) (σ : St) (h : wx_reachesBy_j160 P K55 v1 v2 v3 v4 σ) : AX Z 0 0 160 [(0, .ref (L 0)), (1, .int v1), (2, .int v2), (3, .int v3), (4, .int v4)] [] (xW G L σ) := by
  unfold wx_reachesBy_j160 at h
  refine ax_iinc (lv' := [(4, .int (v4 + (1 : Int32))), (0, .ref (L 0)), (1, .int v1), (2, .int v2), (3, .int v3)]) (v := (v4 + (1 : Int32))) K 4 dX1_reachesBy_160 rfl (by rfl) (by decide) rfl ?_
  refine ax_goto (tgt := 55) K dX1_reachesBy_163 (by decide) ?_
  exact ax_sub [1, 2, 3, 4, 0] rfl (hK55 v1 v2 v3 (v4 + (1 : Int32)) σ h)
set_option maxHeartbeats 4000000 in
theorem kx_reachesBy_j92 {Z : AZ} {G : AG} {L : Nat → Nat} {P : St → Prop} (K : AK Z G cX1_reachesBy RX1 6 (rmH 4)) (E : AEv Z cX1_reachesBy (xW G L) 0 0 P) {K55 : Int32 → Int32 → Int32 → Int32 → St → Prop} (hK55 : ∀ (v1 : Int32) (v2 : Int32) (v3 : Int32) (v4 : Int32) (σ : St), K55 v1 v2 v3 v4 σ → AX Z 0 0 55 [(0, .ref (L 0)), (1, .int v1), (2, .int v2), (3, .int v3), (4, .int v4)] [] (xW G L σ)) (v1 : Int32) (v2 : Int32) (v3 : Int32) (v4 : Int32) (s0 : Int32) (s1 : Int32) (σ : St) (h : wx_reachesBy_j92 P K55 v1 v2 v3 v4 s0 s1 σ) : AX Z 0 0 92 [(0, .ref (L 0)), (1, .int v1), (2, .int v2), (3, .int v3), (4, .int v4)] [.int s1, .int s0] (xW G L σ) := by
  unfold wx_reachesBy_j92 at h
  refine rx_has K (by decide) dX1_reachesBy_92 (Nat.le_of_ble_eq_true rfl) h (fun r92 h => ?_)
  refine ax_if_ne (tgt := 101) K dX1_reachesBy_95 (by decide) (fun c95 => ?_) (fun c95 => ?_)
  · have h := ax_ie h c95
    refine ax_iconst (v := (0 : Int32)) K (by decide) dX1_reachesBy_101 ?_
    refine ax_istore (lv' := [(5, .int (0 : Int32)), (0, .ref (L 0)), (1, .int v1), (2, .int v2), (3, .int v3), (4, .int v4)]) K dX1_reachesBy_102 (by decide) rfl ?_
    exact ax_sub [1, 2, 3, 4, 5, 0] rfl (h.elim fun n104 h => kx_reachesBy_l104 K E (kx_reachesBy_j160 K E hK55) n104 v1 v2 v3 v4 (0 : Int32) σ h)
  · have h := ax_it h c95
    refine ax_goto (tgt := 160) K dX1_reachesBy_98 (by decide) ?_
    exact ax_sub [0, 1, 2, 3, 4] rfl (kx_reachesBy_j160 K E hK55 v1 v2 v3 v4 σ h)
set_option maxHeartbeats 4000000 in
theorem kx_reachesBy_l55 {Z : AZ} {G : AG} {L : Nat → Nat} {P : St → Prop} (K : AK Z G cX1_reachesBy RX1 6 (rmH 4)) (E : AEv Z cX1_reachesBy (xW G L) 0 0 P) {K166 : Int32 → Int32 → St → Prop} (hK166 : ∀ (v1 : Int32) (v2 : Int32) (σ : St), K166 v1 v2 σ → AX Z 0 0 166 [(0, .ref (L 0)), (1, .int v1), (2, .int v2)] [] (xW G L σ)) : ∀ (n : Nat) (v1 : Int32) (v2 : Int32) (v3 : Int32) (v4 : Int32) (σ : St), wx_reachesBy_l55 P K166 n v1 v2 v3 v4 σ → AX Z 0 0 55 [(0, .ref (L 0)), (1, .int v1), (2, .int v2), (3, .int v3), (4, .int v4)] [] (xW G L σ) := by
  intro n
  induction n with
  | zero => intro v1 v2 v3 v4 σ h; exact False.elim h
  | succ n ih =>
    intro v1 v2 v3 v4 σ h
    rw [wx_reachesBy_l55_s] at h
    refine ax_iload K 4 rfl dX1_reachesBy_55 ?_
    refine ax_aload_n K 0 rfl dX1_reachesBy_57 ?_
    refine xg_dishes K dX1_reachesBy_58 ?_
    refine ax_icmp_ge (tgt := 166) K dX1_reachesBy_61 (by decide) (fun c61 => ?_) (fun c61 => ?_)
    · have h := ax_it h c61
      exact ax_sub [0, 1, 2] rfl (hK166 v1 v2 σ h)
    · have h := ax_ie h c61
      refine ax_iload_n K 3 rfl dX1_reachesBy_64 ?_
      refine ax_aload_n K 0 rfl dX1_reachesBy_65 ?_
      refine xg_menuMany K dX1_reachesBy_66 ?_
      refine ax_iload_n K 1 rfl dX1_reachesBy_69 ?_
      refine xl_menuMany K h.1 dX1_reachesBy_70 ?_
      replace h := h.2
      refine ax_icmp_ge (tgt := 166) K dX1_reachesBy_71 (by decide) (fun c71 => ?_) (fun c71 => ?_)
      · have h := ax_it h c71
        exact ax_sub [0, 1, 2] rfl (hK166 v1 v2 σ h)
      · have h := ax_ie h c71
        refine ax_aload_n K 0 rfl dX1_reachesBy_74 ?_
        refine xg_lasts K dX1_reachesBy_75 ?_
        refine ax_iload_n K 2 rfl dX1_reachesBy_78 ?_
        refine xl_lasts K h.1 dX1_reachesBy_79 ?_
        replace h := h.2
        refine ax_iload K 4 rfl dX1_reachesBy_80 ?_
        refine ax_if_ge (tgt := 90) K dX1_reachesBy_82 (by decide) (fun c82 => ?_) (fun c82 => ?_)
        · have h := ax_it h c82
          refine ax_iload K 4 rfl dX1_reachesBy_90 ?_
          exact ax_sub [0, 1, 2, 3, 4] rfl (kx_reachesBy_j92 K E ih v1 v2 v3 v4 (xA_lasts σ (v2).toNatClampNeg) v4 σ h)
        · have h := ax_ie h c82
          refine ax_bipush (v := (10 : Int32)) K (by decide) dX1_reachesBy_85 ?_
          refine ax_goto (tgt := 92) K dX1_reachesBy_87 (by decide) ?_
          exact ax_sub [0, 1, 2, 3, 4] rfl (kx_reachesBy_j92 K E ih v1 v2 v3 v4 (xA_lasts σ (v2).toNatClampNeg) (10 : Int32) σ h)
set_option maxHeartbeats 4000000 in
theorem kx_reachesBy_j166 {Z : AZ} {G : AG} {L : Nat → Nat} {P : St → Prop} (K : AK Z G cX1_reachesBy RX1 6 (rmH 4)) (E : AEv Z cX1_reachesBy (xW G L) 0 0 P) {K37 : Int32 → Int32 → St → Prop} (hK37 : ∀ (v1 : Int32) (v2 : Int32) (σ : St), K37 v1 v2 σ → AX Z 0 0 37 [(0, .ref (L 0)), (1, .int v1), (2, .int v2)] [] (xW G L σ)) (v1 : Int32) (v2 : Int32) (σ : St) (h : wx_reachesBy_j166 P K37 v1 v2 σ) : AX Z 0 0 166 [(0, .ref (L 0)), (1, .int v1), (2, .int v2)] [] (xW G L σ) := by
  unfold wx_reachesBy_j166 at h
  refine ax_iinc (lv' := [(2, .int (v2 + (1 : Int32))), (0, .ref (L 0)), (1, .int v1)]) (v := (v2 + (1 : Int32))) K 2 dX1_reachesBy_166 rfl (by rfl) (by decide) rfl ?_
  refine ax_goto (tgt := 37) K dX1_reachesBy_169 (by decide) ?_
  exact ax_sub [1, 2, 0] rfl (hK37 v1 (v2 + (1 : Int32)) σ h)
set_option maxHeartbeats 4000000 in
theorem kx_reachesBy_l37 {Z : AZ} {G : AG} {L : Nat → Nat} {P : St → Prop} (K : AK Z G cX1_reachesBy RX1 6 (rmH 4)) (E : AEv Z cX1_reachesBy (xW G L) 0 0 P) : ∀ (n : Nat) (v1 : Int32) (v2 : Int32) (σ : St), wx_reachesBy_l37 P  n v1 v2 σ → AX Z 0 0 37 [(0, .ref (L 0)), (1, .int v1), (2, .int v2)] [] (xW G L σ) := by
  intro n
  induction n with
  | zero => intro v1 v2 σ h; exact False.elim h
  | succ n ih =>
    intro v1 v2 σ h
    rw [wx_reachesBy_l37_s] at h
    refine ax_iload_n K 2 rfl dX1_reachesBy_37 ?_
    refine ax_iconst (v := (1 : Int32)) K (by decide) dX1_reachesBy_38 ?_
    refine ax_aload_n K 0 rfl dX1_reachesBy_39 ?_
    refine xg_dishes K dX1_reachesBy_40 ?_
    refine ax_ishl K dX1_reachesBy_43 ?_
    refine ax_icmp_ge (tgt := 172) K dX1_reachesBy_44 (by decide) (fun c44 => ?_) (fun c44 => ?_)
    · have h := ax_it h c44
      exact E _ _ _ dX1_reachesBy_172 h
    · have h := ax_ie h c44
      refine ax_iload_n K 2 rfl dX1_reachesBy_47 ?_
      refine rx_bitCount K (by decide) dX1_reachesBy_48 (Nat.le_of_ble_eq_true rfl) ?_
      refine ax_istore_n (lv' := [(3, .int (bitC v2)), (0, .ref (L 0)), (1, .int v1), (2, .int v2)]) K dX1_reachesBy_51 (by decide) rfl ?_
      refine ax_iconst (v := (-1 : Int32)) K (by decide) dX1_reachesBy_52 ?_
      refine ax_istore (lv' := [(4, .int (-1 : Int32)), (3, .int (bitC v2)), (0, .ref (L 0)), (1, .int v1), (2, .int v2)]) K dX1_reachesBy_53 (by decide) rfl ?_
      exact ax_sub [2, 3, 4, 1, 0] rfl (h.elim fun n55 h => kx_reachesBy_l55 K E (kx_reachesBy_j166 K E ih) n55 v1 v2 (bitC v2) (-1 : Int32) σ h)
set_option maxHeartbeats 4000000 in
theorem mx_reachesBy {l : Launch} {G : AG} {L : Nat → Nat} {σ : St} {v1 : Int32} {P : St → Prop} (h : wx_reachesBy σ v1 P) : CtW l G yX1_reachesBy cX1_reachesBy 6 none (rmH 4) [.ref (L 0), .int v1] (xW G L) σ (pV P) := by
  refine CtW.ofV (by decide) (Nat.le_of_ble_eq_true rfl) fun Z _ K E => ?_
  unfold wx_reachesBy at h
  show AX Z 0 0 0 [(0, .ref (L 0)), (1, .int v1)] [] (xW G L σ)
  refine ax_iconst (v := (0 : Int32)) K (by decide) dX1_reachesBy_0 ?_
  refine ax_istore_n (lv' := [(2, .int (0 : Int32)), (0, .ref (L 0)), (1, .int v1)]) K dX1_reachesBy_1 (by decide) rfl ?_
  exact ax_sub [1, 2, 0] rfl (h.elim fun n2 h => kx_reachesBy_l2 K E (fun v1 v2 σ h => h.elim fun n37 h => kx_reachesBy_l37 K E  n37 v1 v2 σ h) n2 v1 (0 : Int32) σ h)
theorem rx_reachesBy {Z : AZ} {G : AG} {cc : ByteArray} {mL hh pc : Nat} {lv : List (Nat × Value)} {rest : List Value} {L : Nat → Nat} {σ : St} (K : AK Z G cc RX1 mL (rmH hh)) (hlt : 4 < hh) (d : decode cc pc = .ok (.invokevirtual 428, 3)) (hrest : (rest.map fun v => v.category).sum ≤ 8) {v1 : Int32} {P : St → Prop} (h : sx_reachesBy σ v1 P) (kk : ∀ (σ' : St), P σ' → AX Z 0 0 (pc + 3) lv (rest) (xW G L σ')) : AX Z 0 0 pc lv (.int v1 :: .ref (L 0) :: rest) (xW G L σ) :=
  ax_callV (N0 := 1) (As := [.int v1]) K (mx_reachesBy (sx_reachesBy_ok h)) q863 q865 qs52 q117 q866 ⟨rfl, by decide, by decide, by decide⟩ rfl ⟨by show 4 + 1 + 1 ≤ hh + 1; omega, by show 8 + (6 + 11) + 60 * (4 + 1) ≤ 60 * (hh + 1); omega⟩ ⟨Nat.zero_le _, Nat.zero_le _⟩ rfl rfl rfl hrest d (fun r σ' hp => by obtain ⟨rfl, hp⟩ := hp; exact kk σ' hp)
/-! x.readsDish -/
set_option maxHeartbeats 4000000 in
theorem kx_readsDish_j128 {Z : AZ} {G : AG} {L : Nat → Nat} {P : Int32 → St → Prop} (K : AK Z G cX1_readsDish RX1 2 (rmH 4)) (E : AEi Z cX1_readsDish .boolean (xW G L) 0 0 P) (s0 : Int32) (σ : St) (h : wx_readsDish_j128 P  s0 σ) : AX Z 0 0 128 [(0, .ref (L 0))] [.int s0] (xW G L σ) := by
  unfold wx_readsDish_j128 at h
  exact E _ _ _ _ dX1_readsDish_128 h.1 h.2
set_option maxHeartbeats 4000000 in
theorem kx_readsDish_j103 {Z : AZ} {G : AG} {L : Nat → Nat} {P : Int32 → St → Prop} (K : AK Z G cX1_readsDish RX1 2 (rmH 4)) (E : AEi Z cX1_readsDish .boolean (xW G L) 0 0 P) (v1 : Int32) (s1 : Int32) (s2 : Int32) (σ : St) (h : wx_readsDish_j103 P  v1 s1 s2 σ) : AX Z 0 0 103 [(0, .ref (L 0)), (1, .int v1)] [.int s2, .int s1, .ref (L 12)] (xW G L σ) := by
  unfold wx_readsDish_j103 at h
  refine xs_readHours K h.1 dX1_readsDish_103 ?_
  replace h := h.2
  refine ax_aload_n K 0 rfl dX1_readsDish_104 ?_
  refine ax_dup K rfl dX1_readsDish_105 ?_
  refine xg_readDishes K dX1_readsDish_106 ?_
  refine ax_iconst (v := (1 : Int32)) K (by decide) dX1_readsDish_109 ?_
  refine ax_iadd K dX1_readsDish_110 ?_
  refine xp_readDishes K dX1_readsDish_111 ?_
  refine ax_aload_n K 0 rfl dX1_readsDish_114 ?_
  refine xg_readHours K dX1_readsDish_115 ?_
  refine ax_iload_n K 1 rfl dX1_readsDish_118 ?_
  refine xl_readHours K h.1 dX1_readsDish_119 ?_
  replace h := h.2
  refine ax_if_lt (tgt := 127) K dX1_readsDish_120 (by decide) (fun c120 => ?_) (fun c120 => ?_)
  · have h := ax_it h c120
    refine ax_iconst (v := (0 : Int32)) K (by decide) dX1_readsDish_127 ?_
    exact ax_sub [0] rfl (kx_readsDish_j128 K E  (0 : Int32) (xS_readDishes (xU_readHours σ s1 s2) ((xI_readDishes (xU_readHours σ s1 s2)) + (1 : Int32))) h)
  · have h := ax_ie h c120
    refine ax_iconst (v := (1 : Int32)) K (by decide) dX1_readsDish_123 ?_
    refine ax_goto (tgt := 128) K dX1_readsDish_124 (by decide) ?_
    exact ax_sub [0] rfl (kx_readsDish_j128 K E  (1 : Int32) (xS_readDishes (xU_readHours σ s1 s2) ((xI_readDishes (xU_readHours σ s1 s2)) + (1 : Int32))) h)
set_option maxHeartbeats 4000000 in
theorem kx_readsDish_j76 {Z : AZ} {G : AG} {L : Nat → Nat} {P : Int32 → St → Prop} (K : AK Z G cX1_readsDish RX1 2 (rmH 4)) (E : AEi Z cX1_readsDish .boolean (xW G L) 0 0 P) (v1 : Int32) (s1 : Int32) (s2 : Int32) (σ : St) (h : wx_readsDish_j76 P  v1 s1 s2 σ) : AX Z 0 0 76 [(0, .ref (L 0)), (1, .int v1)] [.int s2, .int s1, .ref (L 0)] (xW G L σ) := by
  unfold wx_readsDish_j76 at h
  refine ax_ior K dX1_readsDish_76 ?_
  refine xp_readHot K dX1_readsDish_77 ?_
  refine ax_aload_n K 0 rfl dX1_readsDish_80 ?_
  refine xg_readHours K dX1_readsDish_81 ?_
  refine ax_iload_n K 1 rfl dX1_readsDish_84 ?_
  refine ax_aload_n K 0 rfl dX1_readsDish_85 ?_
  refine ax_bipush (v := (43 : Int32)) K (by decide) dX1_readsDish_86 ?_
  refine rx_takes K (by decide) dX1_readsDish_88 (Nat.le_of_ble_eq_true rfl) h (fun r88 σ88 h => ?_)
  refine ax_if_eq (tgt := 102) K dX1_readsDish_91 (by decide) (fun c91 => ?_) (fun c91 => ?_)
  · have h := ax_it h c91
    refine ax_iconst (v := (0 : Int32)) K (by decide) dX1_readsDish_102 ?_
    exact ax_sub [0, 1] rfl (kx_readsDish_j103 K E  v1 v1 (0 : Int32) σ88 h)
  · have h := ax_ie h c91
    refine ax_aload_n K 0 rfl dX1_readsDish_94 ?_
    refine ax_iconst (v := (1 : Int32)) K (by decide) dX1_readsDish_95 ?_
    refine rx_number K (by decide) dX1_readsDish_96 (Nat.le_of_ble_eq_true rfl) h (fun r96 σ96 h => ?_)
    refine ax_goto (tgt := 103) K dX1_readsDish_99 (by decide) ?_
    exact ax_sub [0, 1] rfl (kx_readsDish_j103 K E  v1 v1 r96 σ96 h)
set_option maxHeartbeats 4000000 in
theorem mx_readsDish {l : Launch} {G : AG} {L : Nat → Nat} {σ : St} {P : Int32 → St → Prop} (h : wx_readsDish σ P) : CtW l G yX1_readsDish cX1_readsDish 2 (some .boolean) (rmH 4) [.ref (L 0)] (xW G L) σ (pI P) := by
  refine CtW.ofI (by decide) (Nat.le_of_ble_eq_true rfl) fun Z _ K E => ?_
  unfold wx_readsDish at h
  show AX Z 0 0 0 [(0, .ref (L 0))] [] (xW G L σ)
  refine ax_aload_n K 0 rfl dX1_readsDish_0 ?_
  refine rx_isStuff K (by decide) dX1_readsDish_1 (Nat.le_of_ble_eq_true rfl) h (fun r1 σ1 h => ?_)
  refine ax_if_eq (tgt := 16) K dX1_readsDish_4 (by decide) (fun c4 => ?_) (fun c4 => ?_)
  · have h := ax_it h c4
    refine ax_iconst (v := (0 : Int32)) K (by decide) dX1_readsDish_16 ?_
    exact E _ _ _ _ dX1_readsDish_17 rfl h
  · have h := ax_ie h c4
    refine ax_aload_n K 0 rfl dX1_readsDish_7 ?_
    refine xg_readDishes K dX1_readsDish_8 ?_
    refine ax_bipush (v := (10 : Int32)) K (by decide) dX1_readsDish_11 ?_
    refine ax_icmp_ne (tgt := 18) K dX1_readsDish_13 (by decide) (fun c13 => ?_) (fun c13 => ?_)
    · have h := ax_ie h c13
      refine ax_aload_n K 0 rfl dX1_readsDish_18 ?_
      refine xg_readDishes K dX1_readsDish_19 ?_
      refine ax_istore_n (lv' := [(1, .int (xI_readDishes σ1)), (0, .ref (L 0))]) K dX1_readsDish_22 (by decide) rfl ?_
      refine ax_aload_n K 1 rfl dX1_readsDish_23 ?_
      refine xg_readStuffs K dX1_readsDish_24 ?_
      refine ax_iload_n K 0 rfl dX1_readsDish_27 ?_
      refine ax_aload_n K 1 rfl dX1_readsDish_28 ?_
      refine rx_letters K (by decide) dX1_readsDish_29 (Nat.le_of_ble_eq_true rfl) h (fun r29 σ29 h => ?_)
      refine xs_readStuffs K h.1 dX1_readsDish_32 ?_
      replace h := h.2
      refine ax_aload_n K 1 rfl dX1_readsDish_33 ?_
      refine xg_readCost K dX1_readsDish_34 ?_
      refine ax_iload_n K 0 rfl dX1_readsDish_37 ?_
      refine ax_aload_n K 1 rfl dX1_readsDish_38 ?_
      refine ax_iconst (v := (2 : Int32)) K (by decide) dX1_readsDish_39 ?_
      refine rx_number K (by decide) dX1_readsDish_40 (Nat.le_of_ble_eq_true rfl) h (fun r40 σ40 h => ?_)
      refine xs_readCost K h.1 dX1_readsDish_43 ?_
      replace h := h.2
      refine ax_aload_n K 1 rfl dX1_readsDish_44 ?_
      refine xg_readCost K dX1_readsDish_45 ?_
      refine ax_iload_n K 0 rfl dX1_readsDish_48 ?_
      refine xl_readCost K h.1 dX1_readsDish_49 ?_
      replace h := h.2
      refine ax_if_ge (tgt := 55) K dX1_readsDish_50 (by decide) (fun c50 => ?_) (fun c50 => ?_)
      · have h := ax_it h c50
        refine ax_aload_n K 1 rfl dX1_readsDish_55 ?_
        refine ax_dup K rfl dX1_readsDish_56 ?_
        refine xg_readHot K dX1_readsDish_57 ?_
        refine ax_aload_n K 1 rfl dX1_readsDish_60 ?_
        refine ax_bipush (v := (72 : Int32)) K (by decide) dX1_readsDish_61 ?_
        refine rx_takes K (by decide) dX1_readsDish_63 (Nat.le_of_ble_eq_true rfl) h (fun r63 σ63 h => ?_)
        refine ax_if_eq (tgt := 75) K dX1_readsDish_66 (by decide) (fun c66 => ?_) (fun c66 => ?_)
        · have h := ax_it h c66
          refine ax_iconst (v := (0 : Int32)) K (by decide) dX1_readsDish_75 ?_
          exact ax_sub [1, 0] rfl (kx_readsDish_j76 K E  (xI_readDishes σ1) (xI_readHot (xU_readCost σ40 (xI_readDishes σ1) r40)) (0 : Int32) σ63 h)
        · have h := ax_ie h c66
          refine ax_iconst (v := (1 : Int32)) K (by decide) dX1_readsDish_69 ?_
          refine ax_iload_n K 0 rfl dX1_readsDish_70 ?_
          refine ax_ishl K dX1_readsDish_71 ?_
          refine ax_goto (tgt := 76) K dX1_readsDish_72 (by decide) ?_
          exact ax_sub [1, 0] rfl (kx_readsDish_j76 K E  (xI_readDishes σ1) (xI_readHot (xU_readCost σ40 (xI_readDishes σ1) r40)) ((1 : Int32) <<< ((xI_readDishes σ1) &&& 31)) σ63 h)
      · have h := ax_ie h c50
        refine ax_iconst (v := (0 : Int32)) K (by decide) dX1_readsDish_53 ?_
        exact E _ _ _ _ dX1_readsDish_54 rfl h
    · have h := ax_it h c13
      refine ax_iconst (v := (0 : Int32)) K (by decide) dX1_readsDish_16 ?_
      exact E _ _ _ _ dX1_readsDish_17 rfl h
theorem rx_readsDish {Z : AZ} {G : AG} {cc : ByteArray} {mL hh pc : Nat} {lv : List (Nat × Value)} {rest : List Value} {L : Nat → Nat} {σ : St} (K : AK Z G cc RX1 mL (rmH hh)) (hlt : 4 < hh) (d : decode cc pc = .ok (.invokevirtual 184, 3)) (hrest : (rest.map fun v => v.category).sum ≤ 8) {P : Int32 → St → Prop} (h : sx_readsDish σ  P) (kk : ∀ (r : Int32) (σ' : St), P r σ' → AX Z 0 0 (pc + 3) lv (.int r :: rest) (xW G L σ')) : AX Z 0 0 pc lv (.ref (L 0) :: rest) (xW G L σ) :=
  ax_callV (N0 := 0) (As := []) K (mx_readsDish (sx_readsDish_ok h)) q333 q335 qs6 q117 q336 ⟨rfl, by decide, by decide, by decide⟩ rfl ⟨by show 4 + 1 + 1 ≤ hh + 1; omega, by show 8 + (2 + 11) + 60 * (4 + 1) ≤ 60 * (hh + 1); omega⟩ ⟨Nat.zero_le _, Nat.zero_le _⟩ rfl rfl rfl hrest d (fun r σ' hp => by obtain ⟨v, rfl, hp⟩ := hp; exact kk v σ' hp)
