/-! x.readsGuest -/
set_option maxHeartbeats 4000000 in
theorem mx_readsGuest {l : Launch} {G : AG} {L : Nat → Nat} {σ : St} {P : Int32 → St → Prop} (h : wx_readsGuest σ P) : CtW l G yX1_readsGuest cX1_readsGuest 2 (some .boolean) (rmH 4) [.ref (L 0)] (xW G L) σ (pI P) := by
  refine CtW.ofI (by decide) (Nat.le_of_ble_eq_true rfl) fun Z _ K E => ?_
  unfold wx_readsGuest at h
  show AX Z 0 0 0 [(0, .ref (L 0))] [] (xW G L σ)
  refine ax_aload_n K 0 rfl dX1_readsGuest_0 ?_
  refine xg_readGuests K dX1_readsGuest_1 ?_
  refine ax_istore_n (lv' := [(1, .int (xI_readGuests σ)), (0, .ref (L 0))]) K dX1_readsGuest_4 (by decide) rfl ?_
  refine ax_iload_n K 0 rfl dX1_readsGuest_5 ?_
  refine ax_bipush (v := (6 : Int32)) K (by decide) dX1_readsGuest_6 ?_
  refine ax_icmp_ne (tgt := 13) K dX1_readsGuest_8 (by decide) (fun c8 => ?_) (fun c8 => ?_)
  · have h := ax_ie h c8
    refine ax_aload_n K 1 rfl dX1_readsGuest_13 ?_
    refine ax_dup K rfl dX1_readsGuest_14 ?_
    refine xg_at K dX1_readsGuest_15 ?_
    refine ax_iconst (v := (1 : Int32)) K (by decide) dX1_readsGuest_18 ?_
    refine ax_iadd K dX1_readsGuest_19 ?_
    refine xp_at K dX1_readsGuest_20 ?_
    refine ax_aload_n K 1 rfl dX1_readsGuest_23 ?_
    refine xg_readLoves K dX1_readsGuest_24 ?_
    refine ax_iload_n K 0 rfl dX1_readsGuest_27 ?_
    refine ax_aload_n K 1 rfl dX1_readsGuest_28 ?_
    refine rx_letters K (by decide) dX1_readsGuest_29 (Nat.le_of_ble_eq_true rfl) h (fun r29 σ29 h => ?_)
    refine xs_readLoves K h.1 dX1_readsGuest_32 ?_
    replace h := h.2
    refine ax_aload_n K 1 rfl dX1_readsGuest_33 ?_
    refine ax_bipush (v := (45 : Int32)) K (by decide) dX1_readsGuest_34 ?_
    refine rx_takes K (by decide) dX1_readsGuest_36 (Nat.le_of_ble_eq_true rfl) h (fun r36 σ36 h => ?_)
    refine ax_if_ne (tgt := 44) K dX1_readsGuest_39 (by decide) (fun c39 => ?_) (fun c39 => ?_)
    · have h := ax_ie h c39
      refine ax_aload_n K 1 rfl dX1_readsGuest_44 ?_
      refine xg_readBars K dX1_readsGuest_45 ?_
      refine ax_iload_n K 0 rfl dX1_readsGuest_48 ?_
      refine ax_aload_n K 1 rfl dX1_readsGuest_49 ?_
      refine rx_letters K (by decide) dX1_readsGuest_50 (Nat.le_of_ble_eq_true rfl) h (fun r50 σ50 h => ?_)
      refine xs_readBars K h.1 dX1_readsGuest_53 ?_
      replace h := h.2
      refine ax_aload_n K 1 rfl dX1_readsGuest_54 ?_
      refine ax_dup K rfl dX1_readsGuest_55 ?_
      refine xg_readGuests K dX1_readsGuest_56 ?_
      refine ax_iconst (v := (1 : Int32)) K (by decide) dX1_readsGuest_59 ?_
      refine ax_iadd K dX1_readsGuest_60 ?_
      refine xp_readGuests K dX1_readsGuest_61 ?_
      refine ax_iconst (v := (1 : Int32)) K (by decide) dX1_readsGuest_64 ?_
      exact E _ _ _ _ dX1_readsGuest_65 rfl h
    · have h := ax_it h c39
      refine ax_iconst (v := (0 : Int32)) K (by decide) dX1_readsGuest_42 ?_
      exact E _ _ _ _ dX1_readsGuest_43 rfl h
  · have h := ax_it h c8
    refine ax_iconst (v := (0 : Int32)) K (by decide) dX1_readsGuest_11 ?_
    exact E _ _ _ _ dX1_readsGuest_12 rfl h
theorem rx_readsGuest {Z : AZ} {G : AG} {cc : ByteArray} {mL hh pc : Nat} {lv : List (Nat × Value)} {rest : List Value} {L : Nat → Nat} {σ : St} (K : AK Z G cc RX1 mL (rmH hh)) (hlt : 4 < hh) (d : decode cc pc = .ok (.invokevirtual 181, 3)) (hrest : (rest.map fun v => v.category).sum ≤ 8) {P : Int32 → St → Prop} (h : sx_readsGuest σ  P) (kk : ∀ (r : Int32) (σ' : St), P r σ' → AX Z 0 0 (pc + 3) lv (.int r :: rest) (xW G L σ')) : AX Z 0 0 pc lv (.ref (L 0) :: rest) (xW G L σ) :=
  ax_callV (N0 := 0) (As := []) K (mx_readsGuest (sx_readsGuest_ok h)) q315 q317 qs2 q117 q318 ⟨rfl, by decide, by decide, by decide⟩ rfl ⟨by show 4 + 1 + 1 ≤ hh + 1; omega, by show 8 + (2 + 11) + 60 * (4 + 1) ≤ 60 * (hh + 1); omega⟩ ⟨Nat.zero_le _, Nat.zero_le _⟩ rfl rfl rfl hrest d (fun r σ' hp => by obtain ⟨v, rfl, hp⟩ := hp; exact kk v σ' hp)
/-! x.tellsMost -/
set_option maxHeartbeats 4000000 in
theorem kx_tellsMost_j65 {Z : AZ} {G : AG} {L : Nat → Nat} {P : St → Prop} (K : AK Z G cX1_tellsMost RX1 8 (rmH 4)) (E : AEv Z cX1_tellsMost (xW G L) 0 0 P) {K28 : Int32 → Int32 → Int32 → Int32 → St → Prop} (hK28 : ∀ (v4 : Int32) (v5 : Int32) (v6 : Int32) (v7 : Int32) (σ : St), K28 v4 v5 v6 v7 σ → AX Z 0 0 28 [(0, .ref (L 0)), (4, .int v4), (5, .int v5), (6, .int v6), (7, .int v7)] [] (xW G L σ)) (v4 : Int32) (v5 : Int32) (v6 : Int32) (v7 : Int32) (σ : St) (h : wx_tellsMost_j65 P K28 v4 v5 v6 v7 σ) : AX Z 0 0 65 [(0, .ref (L 0)), (4, .int v4), (5, .int v5), (6, .int v6), (7, .int v7)] [] (xW G L σ) := by
  unfold wx_tellsMost_j65 at h
  refine ax_iinc (lv' := [(7, .int (v7 + (1 : Int32))), (0, .ref (L 0)), (4, .int v4), (5, .int v5), (6, .int v6)]) (v := (v7 + (1 : Int32))) K 4 dX1_tellsMost_65 rfl (by rfl) (by decide) rfl ?_
  refine ax_goto (tgt := 28) K dX1_tellsMost_68 (by decide) ?_
  exact ax_sub [1, 2, 3, 4, 0] rfl (hK28 v4 v5 v6 (v7 + (1 : Int32)) σ h)
set_option maxHeartbeats 4000000 in
theorem kx_tellsMost_l28 {Z : AZ} {G : AG} {L : Nat → Nat} {P : St → Prop} (K : AK Z G cX1_tellsMost RX1 8 (rmH 4)) (E : AEv Z cX1_tellsMost (xW G L) 0 0 P) {K20 : Int32 → Int32 → Int32 → St → Prop} (hK20 : ∀ (v4 : Int32) (v5 : Int32) (v6 : Int32) (σ : St), K20 v4 v5 v6 σ → AX Z 0 0 20 [(0, .ref (L 0)), (4, .int v4), (5, .int v5), (6, .int v6)] [] (xW G L σ)) : ∀ (n : Nat) (v4 : Int32) (v5 : Int32) (v6 : Int32) (v7 : Int32) (σ : St), wx_tellsMost_l28 P K20 n v4 v5 v6 v7 σ → AX Z 0 0 28 [(0, .ref (L 0)), (4, .int v4), (5, .int v5), (6, .int v6), (7, .int v7)] [] (xW G L σ) := by
  intro n
  induction n with
  | zero => intro v4 v5 v6 v7 σ h; exact False.elim h
  | succ n ih =>
    intro v4 v5 v6 v7 σ h
    rw [wx_tellsMost_l28_s] at h
    refine ax_aload_n K 0 rfl dX1_tellsMost_28 ?_
    refine ax_iload K 1 rfl dX1_tellsMost_29 ?_
    refine ax_iload K 2 rfl dX1_tellsMost_31 ?_
    refine ax_iload K 4 rfl dX1_tellsMost_33 ?_
    refine rx_goesOn K (by decide) dX1_tellsMost_35 (Nat.le_of_ble_eq_true rfl) h (fun r35 σ35 h => ?_)
    refine ax_if_eq (tgt := 65) K dX1_tellsMost_38 (by decide) (fun c38 => ?_) (fun c38 => ?_)
    · have h := ax_it h c38
      exact ax_sub [0, 1, 2, 3, 4] rfl (kx_tellsMost_j65 K E ih v4 v5 v6 v7 σ35 h)
    · have h := ax_ie h c38
      refine ax_aload_n K 0 rfl dX1_tellsMost_41 ?_
      refine xg_value K dX1_tellsMost_42 ?_
      refine ax_iload K 1 rfl dX1_tellsMost_45 ?_
      refine ax_iconst (v := (1 : Int32)) K (by decide) dX1_tellsMost_47 ?_
      refine ax_iload K 4 rfl dX1_tellsMost_48 ?_
      refine ax_ishl K dX1_tellsMost_50 ?_
      refine ax_ior K dX1_tellsMost_51 ?_
      refine ax_iload K 4 rfl dX1_tellsMost_52 ?_
      refine rx_stateOf K (by decide) dX1_tellsMost_54 (Nat.le_of_ble_eq_true rfl) h (fun r54 h => ?_)
      refine xl_value K h.1 dX1_tellsMost_57 ?_
      replace h := h.2
      refine ax_iload K 3 rfl dX1_tellsMost_58 ?_
      refine ax_iconst (v := (1 : Int32)) K (by decide) dX1_tellsMost_60 ?_
      refine ax_isub K dX1_tellsMost_61 ?_
      refine ax_icmp_eq (tgt := 71) K dX1_tellsMost_62 (by decide) (fun c62 => ?_) (fun c62 => ?_)
      · have h := ax_it h c62
        refine ax_aload_n K 0 rfl dX1_tellsMost_71 ?_
        refine ax_iload K 4 rfl dX1_tellsMost_72 ?_
        refine rx_tells K (by decide) dX1_tellsMost_74 (Nat.le_of_ble_eq_true rfl) h (fun σ74 h => ?_)
        refine ax_iload K 1 rfl dX1_tellsMost_77 ?_
        refine ax_iconst (v := (1 : Int32)) K (by decide) dX1_tellsMost_79 ?_
        refine ax_iload K 4 rfl dX1_tellsMost_80 ?_
        refine ax_ishl K dX1_tellsMost_82 ?_
        refine ax_ior K dX1_tellsMost_83 ?_
        refine ax_istore (lv' := [(4, .int (v4 ||| ((1 : Int32) <<< (v7 &&& 31)))), (0, .ref (L 0)), (5, .int v5), (6, .int v6), (7, .int v7)]) K dX1_tellsMost_84 (by decide) rfl ?_
        refine ax_iload K 4 rfl dX1_tellsMost_86 ?_
        refine ax_istore (lv' := [(5, .int v7), (4, .int (v4 ||| ((1 : Int32) <<< (v7 &&& 31)))), (0, .ref (L 0)), (6, .int v6), (7, .int v7)]) K dX1_tellsMost_88 (by decide) rfl ?_
        refine ax_iinc (lv' := [(6, .int (v6 + (-1 : Int32))), (5, .int v7), (4, .int (v4 ||| ((1 : Int32) <<< (v7 &&& 31)))), (0, .ref (L 0)), (7, .int v7)]) (v := (v6 + (-1 : Int32))) K 3 dX1_tellsMost_90 rfl (by rfl) (by decide) rfl ?_
        refine ax_goto (tgt := 20) K dX1_tellsMost_93 (by decide) ?_
        exact ax_sub [3, 2, 1, 0] rfl (hK20 (v4 ||| ((1 : Int32) <<< (v7 &&& 31))) v7 (v6 + (-1 : Int32)) σ74 h)
      · have h := ax_ie h c62
        exact ax_sub [0, 1, 2, 3, 4] rfl (kx_tellsMost_j65 K E ih v4 v5 v6 v7 σ35 h)
set_option maxHeartbeats 4000000 in
theorem kx_tellsMost_l20 {Z : AZ} {G : AG} {L : Nat → Nat} {P : St → Prop} (K : AK Z G cX1_tellsMost RX1 8 (rmH 4)) (E : AEv Z cX1_tellsMost (xW G L) 0 0 P) : ∀ (n : Nat) (v4 : Int32) (v5 : Int32) (v6 : Int32) (σ : St), wx_tellsMost_l20 P  n v4 v5 v6 σ → AX Z 0 0 20 [(0, .ref (L 0)), (4, .int v4), (5, .int v5), (6, .int v6)] [] (xW G L σ) := by
  intro n
  induction n with
  | zero => intro v4 v5 v6 σ h; exact False.elim h
  | succ n ih =>
    intro v4 v5 v6 σ h
    rw [wx_tellsMost_l20_s] at h
    refine ax_iload K 3 rfl dX1_tellsMost_20 ?_
    refine ax_if_le (tgt := 96) K dX1_tellsMost_22 (by decide) (fun c22 => ?_) (fun c22 => ?_)
    · have h := ax_it h c22
      exact E _ _ _ dX1_tellsMost_96 h
    · have h := ax_ie h c22
      refine ax_iconst (v := (0 : Int32)) K (by decide) dX1_tellsMost_25 ?_
      refine ax_istore (lv' := [(7, .int (0 : Int32)), (0, .ref (L 0)), (4, .int v4), (5, .int v5), (6, .int v6)]) K dX1_tellsMost_26 (by decide) rfl ?_
      exact ax_sub [1, 2, 3, 4, 0] rfl (h.elim fun n28 h => kx_tellsMost_l28 K E ih n28 v4 v5 v6 (0 : Int32) σ h)
set_option maxHeartbeats 4000000 in
theorem mx_tellsMost {l : Launch} {G : AG} {L : Nat → Nat} {σ : St} {v1 : Int32} {v2 : Int32} {P : St → Prop} (h : wx_tellsMost σ v1 v2 P) : CtW l G yX1_tellsMost cX1_tellsMost 8 none (rmH 4) [.ref (L 0), .int v1, .int v2] (xW G L) σ (pV P) := by
  refine CtW.ofV (by decide) (Nat.le_of_ble_eq_true rfl) fun Z _ K E => ?_
  unfold wx_tellsMost at h
  show AX Z 0 0 0 [(0, .ref (L 0)), (1, .int v1), (2, .int v2)] [] (xW G L σ)
  refine ax_aload_n K 0 rfl dX1_tellsMost_0 ?_
  refine xg_value K dX1_tellsMost_1 ?_
  refine ax_iload_n K 1 rfl dX1_tellsMost_4 ?_
  refine ax_iload_n K 2 rfl dX1_tellsMost_5 ?_
  refine rx_stateOf K (by decide) dX1_tellsMost_6 (Nat.le_of_ble_eq_true rfl) h (fun r6 h => ?_)
  refine xl_value K h.1 dX1_tellsMost_9 ?_
  replace h := h.2
  refine ax_istore_n (lv' := [(3, .int (xA_value σ (r6).toNatClampNeg)), (0, .ref (L 0)), (1, .int v1), (2, .int v2)]) K dX1_tellsMost_10 (by decide) rfl ?_
  refine ax_iload_n K 2 rfl dX1_tellsMost_11 ?_
  refine ax_istore (lv' := [(4, .int v1), (3, .int (xA_value σ (r6).toNatClampNeg)), (0, .ref (L 0)), (1, .int v1), (2, .int v2)]) K dX1_tellsMost_12 (by decide) rfl ?_
  refine ax_iload_n K 4 rfl dX1_tellsMost_14 ?_
  refine ax_istore (lv' := [(5, .int v2), (4, .int v1), (3, .int (xA_value σ (r6).toNatClampNeg)), (0, .ref (L 0)), (1, .int v1), (2, .int v2)]) K dX1_tellsMost_15 (by decide) rfl ?_
  refine ax_iload_n K 2 rfl dX1_tellsMost_17 ?_
  refine ax_istore (lv' := [(6, .int (xA_value σ (r6).toNatClampNeg)), (5, .int v2), (4, .int v1), (3, .int (xA_value σ (r6).toNatClampNeg)), (0, .ref (L 0)), (1, .int v1), (2, .int v2)]) K dX1_tellsMost_18 (by decide) rfl ?_
  exact ax_sub [4, 2, 1, 0] rfl (h.elim fun n20 h => kx_tellsMost_l20 K E  n20 v1 v2 (xA_value σ (r6).toNatClampNeg) σ h)
theorem rx_tellsMost {Z : AZ} {G : AG} {cc : ByteArray} {mL hh pc : Nat} {lv : List (Nat × Value)} {rest : List Value} {L : Nat → Nat} {σ : St} (K : AK Z G cc RX1 mL (rmH hh)) (hlt : 4 < hh) (d : decode cc pc = .ok (.invokevirtual 374, 3)) (hrest : (rest.map fun v => v.category).sum ≤ 8) {v1 : Int32} {v2 : Int32} {P : St → Prop} (h : sx_tellsMost σ v1 v2 P) (kk : ∀ (σ' : St), P σ' → AX Z 0 0 (pc + 3) lv (rest) (xW G L σ')) : AX Z 0 0 pc lv (.int v2 :: .int v1 :: .ref (L 0) :: rest) (xW G L σ) :=
  ax_callV (N0 := 2) (As := [.int v1, .int v2]) K (mx_tellsMost (sx_tellsMost_ok h)) q695 q697 qs34 q117 q698 ⟨rfl, by decide, by decide, by decide⟩ rfl ⟨by show 4 + 1 + 1 ≤ hh + 1; omega, by show 8 + (8 + 11) + 60 * (4 + 1) ≤ 60 * (hh + 1); omega⟩ ⟨Nat.zero_le _, Nat.zero_le _⟩ rfl rfl rfl hrest d (fun r σ' hp => by obtain ⟨rfl, hp⟩ := hp; exact kk σ' hp)
/-! x.turn -/
set_option maxHeartbeats 4000000 in
theorem kx_turn_l12 {Z : AZ} {G : AG} {L : Nat → Nat} {P : Int32 → St → Prop} (K : AK Z G cX1_turn RX1 3 (rmH 4)) (E : AEi Z cX1_turn .boolean (xW G L) 0 0 P) : ∀ (n : Nat) (v1 : Int32) (v2 : Int32) (σ : St), wx_turn_l12 P  n v1 v2 σ → AX Z 0 0 12 [(0, .ref (L 0)), (1, .int v1), (2, .int v2)] [] (xW G L σ) := by
  intro n
  induction n with
  | zero => intro v1 v2 σ h; exact False.elim h
  | succ n ih =>
    intro v1 v2 σ h
    rw [wx_turn_l12_s] at h
    refine ax_iconst (v := (2 : Int32)) K (by decide) dX1_turn_12 ?_
    refine ax_iload_n K 2 rfl dX1_turn_13 ?_
    refine ax_imul K dX1_turn_14 ?_
    refine ax_aload_n K 0 rfl dX1_turn_15 ?_
    refine xg_menuMany K dX1_turn_16 ?_
    refine ax_iload_n K 1 rfl dX1_turn_19 ?_
    refine xl_menuMany K h.1 dX1_turn_20 ?_
    replace h := h.2
    refine ax_iconst (v := (1 : Int32)) K (by decide) dX1_turn_21 ?_
    refine ax_isub K dX1_turn_22 ?_
    refine ax_icmp_ge (tgt := 48) K dX1_turn_23 (by decide) (fun c23 => ?_) (fun c23 => ?_)
    · have h := ax_it h c23
      refine ax_iconst (v := (1 : Int32)) K (by decide) dX1_turn_48 ?_
      exact E _ _ _ _ dX1_turn_49 rfl h
    · have h := ax_ie h c23
      refine ax_aload_n K 0 rfl dX1_turn_26 ?_
      refine ax_iload_n K 1 rfl dX1_turn_27 ?_
      refine ax_iload_n K 2 rfl dX1_turn_28 ?_
      refine ax_aload_n K 0 rfl dX1_turn_29 ?_
      refine xg_menuMany K dX1_turn_30 ?_
      refine ax_iload_n K 1 rfl dX1_turn_33 ?_
      refine xl_menuMany K h.1 dX1_turn_34 ?_
      replace h := h.2
      refine ax_iconst (v := (1 : Int32)) K (by decide) dX1_turn_35 ?_
      refine ax_isub K dX1_turn_36 ?_
      refine ax_iload_n K 2 rfl dX1_turn_37 ?_
      refine ax_isub K dX1_turn_38 ?_
      refine rx_swaps K (by decide) dX1_turn_39 (Nat.le_of_ble_eq_true rfl) h (fun σ39 h => ?_)
      refine ax_iinc (lv' := [(2, .int (v2 + (1 : Int32))), (0, .ref (L 0)), (1, .int v1)]) (v := (v2 + (1 : Int32))) K 2 dX1_turn_42 rfl (by rfl) (by decide) rfl ?_
      refine ax_goto (tgt := 12) K dX1_turn_45 (by decide) ?_
      exact ax_sub [1, 2, 0] rfl (ih v1 (v2 + (1 : Int32)) σ39 h)
set_option maxHeartbeats 4000000 in
theorem mx_turn {l : Launch} {G : AG} {L : Nat → Nat} {σ : St} {v1 : Int32} {P : Int32 → St → Prop} (h : wx_turn σ v1 P) : CtW l G yX1_turn cX1_turn 3 (some .boolean) (rmH 4) [.ref (L 0), .int v1] (xW G L) σ (pI P) := by
  refine CtW.ofI (by decide) (Nat.le_of_ble_eq_true rfl) fun Z _ K E => ?_
  unfold wx_turn at h
  show AX Z 0 0 0 [(0, .ref (L 0)), (1, .int v1)] [] (xW G L σ)
  refine ax_aload_n K 0 rfl dX1_turn_0 ?_
  refine ax_iload_n K 1 rfl dX1_turn_1 ?_
  refine rx_isLaid K (by decide) dX1_turn_2 (Nat.le_of_ble_eq_true rfl) h (fun r2 σ2 h => ?_)
  refine ax_if_ne (tgt := 10) K dX1_turn_5 (by decide) (fun c5 => ?_) (fun c5 => ?_)
  · have h := ax_ie h c5
    refine ax_iconst (v := (0 : Int32)) K (by decide) dX1_turn_10 ?_
    refine ax_istore_n (lv' := [(2, .int (0 : Int32)), (0, .ref (L 0)), (1, .int v1)]) K dX1_turn_11 (by decide) rfl ?_
    exact ax_sub [1, 2, 0] rfl (h.elim fun n12 h => kx_turn_l12 K E  n12 v1 (0 : Int32) σ2 h)
  · have h := ax_it h c5
    refine ax_iconst (v := (0 : Int32)) K (by decide) dX1_turn_8 ?_
    exact E _ _ _ _ dX1_turn_9 rfl h

/-! x.whyNot -/
set_option maxHeartbeats 4000000 in
theorem kx_whyNot_j86 {Z : AZ} {G : AG} {L : Nat → Nat} {P : Int32 → St → Prop} (K : AK Z G cX1_whyNot RX1 5 (rmH 4)) (E : AEi Z cX1_whyNot .int (xW G L) 0 0 P) (s0 : Int32) (σ : St) (h : wx_whyNot_j86 P  s0 σ) : AX Z 0 0 86 [(0, .ref (L 0))] [.int s0] (xW G L σ) := by
  unfold wx_whyNot_j86 at h
  exact E _ _ _ _ dX1_whyNot_86 rfl h
set_option maxHeartbeats 4000000 in
theorem kx_whyNot_j44 {Z : AZ} {G : AG} {L : Nat → Nat} {P : Int32 → St → Prop} (K : AK Z G cX1_whyNot RX1 5 (rmH 4)) (E : AEi Z cX1_whyNot .int (xW G L) 0 0 P) (v1 : Int32) (v3 : Int32) (σ : St) (h : wx_whyNot_j44 P  v1 v3 σ) : AX Z 0 0 44 [(0, .ref (L 0)), (1, .int v1), (3, .int v3)] [] (xW G L σ) := by
  unfold wx_whyNot_j44 at h
  refine ax_iload_n K 1 rfl dX1_whyNot_44 ?_
  refine ax_iconst (v := (1 : Int32)) K (by decide) dX1_whyNot_45 ?_
  refine ax_iload_n K 2 rfl dX1_whyNot_46 ?_
  refine ax_ishl K dX1_whyNot_47 ?_
  refine ax_ior K dX1_whyNot_48 ?_
  refine ax_istore (lv' := [(4, .int (v1 ||| ((1 : Int32) <<< (v3 &&& 31)))), (0, .ref (L 0)), (1, .int v1), (3, .int v3)]) K dX1_whyNot_49 (by decide) rfl ?_
  refine ax_aload_n K 1 rfl dX1_whyNot_51 ?_
  refine ax_iload K 0 rfl dX1_whyNot_52 ?_
  refine rx_mostOf K (by decide) dX1_whyNot_54 (Nat.le_of_ble_eq_true rfl) h (fun r54 σ54 h => ?_)
  refine ax_aload_n K 1 rfl dX1_whyNot_57 ?_
  refine xg_law K dX1_whyNot_58 ?_
  refine ax_iconst (v := (1 : Int32)) K (by decide) dX1_whyNot_61 ?_
  refine xl_law K h.1 dX1_whyNot_62 ?_
  replace h := h.2
  refine ax_icmp_le (tgt := 71) K dX1_whyNot_63 (by decide) (fun c63 => ?_) (fun c63 => ?_)
  · have h := ax_it h c63
    refine ax_aload_n K 1 rfl dX1_whyNot_71 ?_
    refine ax_iload K 0 rfl dX1_whyNot_72 ?_
    refine rx_isStored K (by decide) dX1_whyNot_74 (Nat.le_of_ble_eq_true rfl) h (fun r74 σ74 h => ?_)
    refine ax_if_eq (tgt := 84) K dX1_whyNot_77 (by decide) (fun c77 => ?_) (fun c77 => ?_)
    · have h := ax_it h c77
      refine ax_bipush (v := (-6 : Int32)) K (by decide) dX1_whyNot_84 ?_
      exact ax_sub [1] rfl (kx_whyNot_j86 K E  (-6 : Int32) σ74 h)
    · have h := ax_ie h c77
      refine ax_iconst (v := (0 : Int32)) K (by decide) dX1_whyNot_80 ?_
      refine ax_goto (tgt := 86) K dX1_whyNot_81 (by decide) ?_
      exact ax_sub [1] rfl (kx_whyNot_j86 K E  (0 : Int32) σ74 h)
  · have h := ax_ie h c63
    refine ax_bipush (v := (-5 : Int32)) K (by decide) dX1_whyNot_66 ?_
    refine ax_goto (tgt := 86) K dX1_whyNot_68 (by decide) ?_
    exact ax_sub [1] rfl (kx_whyNot_j86 K E  (-5 : Int32) σ54 h)
set_option maxHeartbeats 4000000 in
theorem kx_whyNot_j27 {Z : AZ} {G : AG} {L : Nat → Nat} {P : Int32 → St → Prop} (K : AK Z G cX1_whyNot RX1 5 (rmH 4)) (E : AEi Z cX1_whyNot .int (xW G L) 0 0 P) (v1 : Int32) (v2 : Int32) (v3 : Int32) (σ : St) (h : wx_whyNot_j27 P  v1 v2 v3 σ) : AX Z 0 0 27 [(0, .ref (L 0)), (1, .int v1), (2, .int v2), (3, .int v3)] [] (xW G L σ) := by
  unfold wx_whyNot_j27 at h
  refine ax_iload_n K 2 rfl dX1_whyNot_27 ?_
  refine ax_if_lt (tgt := 44) K dX1_whyNot_28 (by decide) (fun c28 => ?_) (fun c28 => ?_)
  · have h := ax_it h c28
    exact ax_sub [0, 1, 3] rfl (kx_whyNot_j44 K E  v1 v3 σ h)
  · have h := ax_ie h c28
    refine ax_aload_n K 0 rfl dX1_whyNot_31 ?_
    refine ax_iload_n K 1 rfl dX1_whyNot_32 ?_
    refine ax_iload_n K 2 rfl dX1_whyNot_33 ?_
    refine ax_iload_n K 3 rfl dX1_whyNot_34 ?_
    refine rx_isWarm K (by decide) dX1_whyNot_35 (Nat.le_of_ble_eq_true rfl) h (fun r35 σ35 h => ?_)
    refine ax_if_ne (tgt := 44) K dX1_whyNot_38 (by decide) (fun c38 => ?_) (fun c38 => ?_)
    · have h := ax_ie h c38
      exact ax_sub [0, 1, 3] rfl (kx_whyNot_j44 K E  v1 v3 σ35 h)
    · have h := ax_it h c38
      refine ax_bipush (v := (-4 : Int32)) K (by decide) dX1_whyNot_41 ?_
      exact E _ _ _ _ dX1_whyNot_43 rfl h
set_option maxHeartbeats 4000000 in
theorem mx_whyNot {l : Launch} {G : AG} {L : Nat → Nat} {σ : St} {v1 : Int32} {v2 : Int32} {v3 : Int32} {P : Int32 → St → Prop} (h : wx_whyNot σ v1 v2 v3 P) : CtW l G yX1_whyNot cX1_whyNot 5 (some .int) (rmH 4) [.ref (L 0), .int v1, .int v2, .int v3] (xW G L) σ (pI P) := by
  refine CtW.ofI (by decide) (Nat.le_of_ble_eq_true rfl) fun Z _ K E => ?_
  unfold wx_whyNot at h
  show AX Z 0 0 0 [(0, .ref (L 0)), (1, .int v1), (2, .int v2), (3, .int v3)] [] (xW G L σ)
  refine ax_iload_n K 1 rfl dX1_whyNot_0 ?_
  refine ax_iload_n K 3 rfl dX1_whyNot_1 ?_
  refine rx_has K (by decide) dX1_whyNot_2 (Nat.le_of_ble_eq_true rfl) h (fun r2 h => ?_)
  refine ax_if_eq (tgt := 11) K dX1_whyNot_5 (by decide) (fun c5 => ?_) (fun c5 => ?_)
  · have h := ax_it h c5
    refine ax_iload_n K 2 rfl dX1_whyNot_11 ?_
    refine ax_if_lt (tgt := 27) K dX1_whyNot_12 (by decide) (fun c12 => ?_) (fun c12 => ?_)
    · have h := ax_it h c12
      exact ax_sub [0, 1, 2, 3] rfl (kx_whyNot_j27 K E  v1 v2 v3 σ h)
    · have h := ax_ie h c12
      refine ax_aload_n K 0 rfl dX1_whyNot_15 ?_
      refine ax_iload_n K 2 rfl dX1_whyNot_16 ?_
      refine ax_iload_n K 3 rfl dX1_whyNot_17 ?_
      refine rx_arePair K (by decide) dX1_whyNot_18 (Nat.le_of_ble_eq_true rfl) h (fun r18 σ18 h => ?_)
      refine ax_if_ne (tgt := 27) K dX1_whyNot_21 (by decide) (fun c21 => ?_) (fun c21 => ?_)
      · have h := ax_ie h c21
        exact ax_sub [0, 1, 2, 3] rfl (kx_whyNot_j27 K E  v1 v2 v3 σ18 h)
      · have h := ax_it h c21
        refine ax_bipush (v := (-3 : Int32)) K (by decide) dX1_whyNot_24 ?_
        exact E _ _ _ _ dX1_whyNot_26 rfl h
  · have h := ax_ie h c5
    refine ax_bipush (v := (-2 : Int32)) K (by decide) dX1_whyNot_8 ?_
    exact E _ _ _ _ dX1_whyNot_10 rfl h
theorem rx_whyNot {Z : AZ} {G : AG} {cc : ByteArray} {mL hh pc : Nat} {lv : List (Nat × Value)} {rest : List Value} {L : Nat → Nat} {σ : St} (K : AK Z G cc RX1 mL (rmH hh)) (hlt : 4 < hh) (d : decode cc pc = .ok (.invokevirtual 312, 3)) (hrest : (rest.map fun v => v.category).sum ≤ 8) {v1 : Int32} {v2 : Int32} {v3 : Int32} {P : Int32 → St → Prop} (h : sx_whyNot σ v1 v2 v3 P) (kk : ∀ (r : Int32) (σ' : St), P r σ' → AX Z 0 0 (pc + 3) lv (.int r :: rest) (xW G L σ')) : AX Z 0 0 pc lv (.int v3 :: .int v2 :: .int v1 :: .ref (L 0) :: rest) (xW G L σ) :=
  ax_callV (N0 := 3) (As := [.int v1, .int v2, .int v3]) K (mx_whyNot (sx_whyNot_ok h)) q564 q566 qs16 q117 q567 ⟨rfl, by decide, by decide, by decide⟩ rfl ⟨by show 4 + 1 + 1 ≤ hh + 1; omega, by show 8 + (5 + 11) + 60 * (4 + 1) ≤ 60 * (hh + 1); omega⟩ ⟨Nat.zero_le _, Nat.zero_le _⟩ rfl rfl rfl hrest d (fun r σ' hp => by obtain ⟨v, rfl, hp⟩ := hp; exact kk v σ' hp)
/-! x.bears -/
set_option maxHeartbeats 4000000 in
theorem kx_bears_j50 {Z : AZ} {G : AG} {L : Nat → Nat} {P : Int32 → St → Prop} (K : AK Z G cX1_bears RX1 3 (rmH 5)) (E : AEi Z cX1_bears .int (xW G L) 0 0 P) {K16 : Int32 → Int32 → St → Prop} (hK16 : ∀ (v1 : Int32) (v2 : Int32) (σ : St), K16 v1 v2 σ → AX Z 0 0 16 [(0, .ref (L 0)), (1, .int v1), (2, .int v2)] [] (xW G L σ)) (v1 : Int32) (v2 : Int32) (s1 : Int32) (s2 : Int32) (σ : St) (h : wx_bears_j50 P K16 v1 v2 s1 s2 σ) : AX Z 0 0 50 [(0, .ref (L 0)), (1, .int v1), (2, .int v2)] [.int s2, .int s1, .ref (L 0)] (xW G L σ) := by
  unfold wx_bears_j50 at h
  refine ax_iand K dX1_bears_50 ?_
  refine xp_allowed K dX1_bears_51 ?_
  refine ax_iinc (lv' := [(2, .int (v2 + (1 : Int32))), (0, .ref (L 0)), (1, .int v1)]) (v := (v2 + (1 : Int32))) K 2 dX1_bears_54 rfl (by rfl) (by decide) rfl ?_
  refine ax_goto (tgt := 16) K dX1_bears_57 (by decide) ?_
  exact ax_sub [1, 2, 0] rfl (hK16 v1 (v2 + (1 : Int32)) (xS_allowed σ (s1 &&& s2)) h)
set_option maxHeartbeats 4000000 in
theorem kx_bears_l16 {Z : AZ} {G : AG} {L : Nat → Nat} {P : Int32 → St → Prop} (K : AK Z G cX1_bears RX1 3 (rmH 5)) (E : AEi Z cX1_bears .int (xW G L) 0 0 P) : ∀ (n : Nat) (v1 : Int32) (v2 : Int32) (σ : St), wx_bears_l16 P  n v1 v2 σ → AX Z 0 0 16 [(0, .ref (L 0)), (1, .int v1), (2, .int v2)] [] (xW G L σ) := by
  intro n
  induction n with
  | zero => intro v1 v2 σ h; exact False.elim h
  | succ n ih =>
    intro v1 v2 σ h
    rw [wx_bears_l16_s] at h
    refine ax_iload_n K 2 rfl dX1_bears_16 ?_
    refine ax_aload_n K 0 rfl dX1_bears_17 ?_
    refine xg_dishes K dX1_bears_18 ?_
    refine ax_icmp_ge (tgt := 60) K dX1_bears_21 (by decide) (fun c21 => ?_) (fun c21 => ?_)
    · have h := ax_it h c21
      refine ax_aload_n K 0 rfl dX1_bears_60 ?_
      refine ax_iconst (v := (-1 : Int32)) K (by decide) dX1_bears_61 ?_
      refine ax_iconst (v := (0 : Int32)) K (by decide) dX1_bears_62 ?_
      refine rx_measures K (by decide) dX1_bears_63 (Nat.le_of_ble_eq_true rfl) h (fun σ63 h => ?_)
      refine ax_aload_n K 0 rfl dX1_bears_66 ?_
      refine ax_iconst (v := (0 : Int32)) K (by decide) dX1_bears_67 ?_
      refine xp_rowMany K dX1_bears_68 ?_
      refine ax_aload_n K 0 rfl dX1_bears_71 ?_
      refine ax_aload_n K 0 rfl dX1_bears_72 ?_
      refine rx_setNow K (by decide) dX1_bears_73 (Nat.le_of_ble_eq_true rfl) h (fun r73 σ73 h => ?_)
      refine ax_aload_n K 0 rfl dX1_bears_76 ?_
      refine rx_lastNow K (by decide) dX1_bears_77 (Nat.le_of_ble_eq_true rfl) h (fun r77 σ77 h => ?_)
      refine rx_tellsMost K (by decide) dX1_bears_80 (Nat.le_of_ble_eq_true rfl) h (fun σ80 h => ?_)
      refine ax_aload_n K 0 rfl dX1_bears_83 ?_
      refine xg_value K dX1_bears_84 ?_
      refine ax_aload_n K 0 rfl dX1_bears_87 ?_
      refine rx_setNow K (by decide) dX1_bears_88 (Nat.le_of_ble_eq_true rfl) h (fun r88 σ88 h => ?_)
      refine ax_aload_n K 0 rfl dX1_bears_91 ?_
      refine rx_lastNow K (by decide) dX1_bears_92 (Nat.le_of_ble_eq_true rfl) h (fun r92 σ92 h => ?_)
      refine rx_stateOf K (by decide) dX1_bears_95 (Nat.le_of_ble_eq_true rfl) h (fun r95 h => ?_)
      refine xl_value K h.1 dX1_bears_98 ?_
      replace h := h.2
      exact E _ _ _ _ dX1_bears_99 rfl h
    · have h := ax_ie h c21
      refine ax_aload_n K 0 rfl dX1_bears_24 ?_
      refine ax_dup K rfl dX1_bears_25 ?_
      refine xg_allowed K dX1_bears_26 ?_
      refine ax_aload_n K 0 rfl dX1_bears_29 ?_
      refine ax_iload_n K 2 rfl dX1_bears_30 ?_
      refine rx_hungryAt K (by decide) dX1_bears_31 (Nat.le_of_ble_eq_true rfl) h (fun r31 σ31 h => ?_)
      refine ax_iload_n K 1 rfl dX1_bears_34 ?_
      refine rx_has K (by decide) dX1_bears_35 (Nat.le_of_ble_eq_true rfl) h (fun r35 h => ?_)
      refine ax_if_eq (tgt := 49) K dX1_bears_38 (by decide) (fun c38 => ?_) (fun c38 => ?_)
      · have h := ax_it h c38
        refine ax_iconst (v := (-1 : Int32)) K (by decide) dX1_bears_49 ?_
        exact ax_sub [0, 1, 2] rfl (kx_bears_j50 K E ih v1 v2 (xI_allowed σ) (-1 : Int32) σ31 h)
      · have h := ax_ie h c38
        refine ax_iconst (v := (1 : Int32)) K (by decide) dX1_bears_41 ?_
        refine ax_iload_n K 2 rfl dX1_bears_42 ?_
        refine ax_ishl K dX1_bears_43 ?_
        refine ax_iconst (v := (-1 : Int32)) K (by decide) dX1_bears_44 ?_
        refine ax_ixor K dX1_bears_45 ?_
        refine ax_goto (tgt := 50) K dX1_bears_46 (by decide) ?_
        exact ax_sub [0, 1, 2] rfl (kx_bears_j50 K E ih v1 v2 (xI_allowed σ) (((1 : Int32) <<< (v2 &&& 31)) ^^^ (-1 : Int32)) σ31 h)
set_option maxHeartbeats 4000000 in
theorem mx_bears {l : Launch} {G : AG} {L : Nat → Nat} {σ : St} {v1 : Int32} {P : Int32 → St → Prop} (h : wx_bears σ v1 P) : CtW l G yX1_bears cX1_bears 3 (some .int) (rmH 5) [.ref (L 0), .int v1] (xW G L) σ (pI P) := by
  refine CtW.ofI (by decide) (Nat.le_of_ble_eq_true rfl) fun Z _ K E => ?_
  unfold wx_bears at h
  show AX Z 0 0 0 [(0, .ref (L 0)), (1, .int v1)] [] (xW G L σ)
  refine ax_aload_n K 0 rfl dX1_bears_0 ?_
  refine ax_iload_n K 1 rfl dX1_bears_1 ?_
  refine rx_isGuest K (by decide) dX1_bears_2 (Nat.le_of_ble_eq_true rfl) h (fun r2 σ2 h => ?_)
  refine ax_if_ne (tgt := 10) K dX1_bears_5 (by decide) (fun c5 => ?_) (fun c5 => ?_)
  · have h := ax_ie h c5
    refine ax_aload_n K 0 rfl dX1_bears_10 ?_
    refine rx_laysOut K (by decide) dX1_bears_11 (Nat.le_of_ble_eq_true rfl) h (fun σ11 h => ?_)
    refine ax_iconst (v := (0 : Int32)) K (by decide) dX1_bears_14 ?_
    refine ax_istore_n (lv' := [(2, .int (0 : Int32)), (0, .ref (L 0)), (1, .int v1)]) K dX1_bears_15 (by decide) rfl ?_
    exact ax_sub [1, 2, 0] rfl (h.elim fun n16 h => kx_bears_l16 K E  n16 v1 (0 : Int32) σ11 h)
  · have h := ax_it h c5
    refine ax_iconst (v := (-1 : Int32)) K (by decide) dX1_bears_8 ?_
    exact E _ _ _ _ dX1_bears_9 rfl h

/-! x.bestSet -/
set_option maxHeartbeats 4000000 in
theorem kx_bestSet_j71 {Z : AZ} {G : AG} {L : Nat → Nat} {P : Int32 → St → Prop} (K : AK Z G cX1_bestSet RX1 10 (rmH 5)) (E : AEi Z cX1_bestSet .int (xW G L) 0 0 P) {K22 : Int32 → Int32 → Int32 → Int32 → Int32 → St → Prop} (hK22 : ∀ (v1 : Int32) (v2 : Int32) (v3 : Int32) (v4 : Int32) (v5 : Int32) (σ : St), K22 v1 v2 v3 v4 v5 σ → AX Z 0 0 22 [(0, .ref (L 0)), (1, .int v1), (2, .int v2), (3, .int v3), (4, .int v4), (5, .int v5)] [] (xW G L σ)) (v1 : Int32) (v2 : Int32) (v3 : Int32) (v4 : Int32) (v5 : Int32) (σ : St) (h : wx_bestSet_j71 P K22 v1 v2 v3 v4 v5 σ) : AX Z 0 0 71 [(0, .ref (L 0)), (1, .int v1), (2, .int v2), (3, .int v3), (4, .int v4), (5, .int v5)] [] (xW G L σ) := by
  unfold wx_bestSet_j71 at h
  refine ax_iinc (lv' := [(5, .int (v5 + (1 : Int32))), (0, .ref (L 0)), (1, .int v1), (2, .int v2), (3, .int v3), (4, .int v4)]) (v := (v5 + (1 : Int32))) K 5 dX1_bestSet_71 rfl (by rfl) (by decide) rfl ?_
  refine ax_goto (tgt := 22) K dX1_bestSet_74 (by decide) ?_
  exact ax_sub [1, 2, 3, 4, 5, 0] rfl (hK22 v1 v2 v3 v4 (v5 + (1 : Int32)) σ h)
set_option maxHeartbeats 4000000 in
theorem kx_bestSet_l22 {Z : AZ} {G : AG} {L : Nat → Nat} {P : Int32 → St → Prop} (K : AK Z G cX1_bestSet RX1 10 (rmH 5)) (E : AEi Z cX1_bestSet .int (xW G L) 0 0 P) {K99 : Int32 → Int32 → Int32 → Int32 → Int32 → St → Prop} (hK99 : ∀ (v1 : Int32) (v2 : Int32) (v3 : Int32) (v4 : Int32) (v5 : Int32) (σ : St), K99 v1 v2 v3 v4 v5 σ → AX Z 0 0 99 [(0, .ref (L 0)), (1, .int v1), (2, .int v2), (3, .int v3), (4, .int v4), (5, .int v5)] [] (xW G L σ)) : ∀ (n : Nat) (v1 : Int32) (v2 : Int32) (v3 : Int32) (v4 : Int32) (v5 : Int32) (σ : St), wx_bestSet_l22 P K99 n v1 v2 v3 v4 v5 σ → AX Z 0 0 22 [(0, .ref (L 0)), (1, .int v1), (2, .int v2), (3, .int v3), (4, .int v4), (5, .int v5)] [] (xW G L σ) := by
  intro n
  induction n with
  | zero => intro v1 v2 v3 v4 v5 σ h; exact False.elim h
  | succ n ih =>
    intro v1 v2 v3 v4 v5 σ h
    rw [wx_bestSet_l22_s] at h
    refine ax_iload K 5 rfl dX1_bestSet_22 ?_
    refine ax_iconst (v := (1 : Int32)) K (by decide) dX1_bestSet_24 ?_
    refine ax_aload_n K 0 rfl dX1_bestSet_25 ?_
    refine xg_dishes K dX1_bestSet_26 ?_
    refine ax_ishl K dX1_bestSet_29 ?_
    refine ax_icmp_ge (tgt := 77) K dX1_bestSet_30 (by decide) (fun c30 => ?_) (fun c30 => ?_)
    · have h := ax_it h c30
      refine ax_iload K 4 rfl dX1_bestSet_77 ?_
      refine ax_ldcw (v := (-1000000 : Int32)) K q687 dX1_bestSet_79 ?_
      refine ax_icmp_ne (tgt := 89) K dX1_bestSet_82 (by decide) (fun c82 => ?_) (fun c82 => ?_)
      · have h := ax_ie h c82
        refine ax_iconst (v := (1 : Int32)) K (by decide) dX1_bestSet_89 ?_
        refine ax_aload_n K 0 rfl dX1_bestSet_90 ?_
        refine xg_dishes K dX1_bestSet_91 ?_
        refine ax_ishl K dX1_bestSet_94 ?_
        refine ax_iconst (v := (1 : Int32)) K (by decide) dX1_bestSet_95 ?_
        refine ax_isub K dX1_bestSet_96 ?_
        refine ax_istore (lv' := [(5, .int (((1 : Int32) <<< ((xI_dishes σ) &&& 31)) - (1 : Int32))), (0, .ref (L 0)), (1, .int v1), (2, .int v2), (3, .int v3), (4, .int v4)]) K dX1_bestSet_97 (by decide) rfl ?_
        exact ax_sub [1, 2, 3, 4, 5, 0] rfl (hK99 v1 v2 v3 v4 (((1 : Int32) <<< ((xI_dishes σ) &&& 31)) - (1 : Int32)) σ h)
      · have h := ax_it h c82
        refine ax_ldcw (v := (-1000000 : Int32)) K q687 dX1_bestSet_85 ?_
        exact E _ _ _ _ dX1_bestSet_88 rfl h
    · have h := ax_ie h c30
      refine ax_aload_n K 0 rfl dX1_bestSet_33 ?_
      refine xg_lasts K dX1_bestSet_34 ?_
      refine ax_iload K 5 rfl dX1_bestSet_37 ?_
      refine xl_lasts K h.1 dX1_bestSet_39 ?_
      replace h := h.2
      refine ax_if_eq (tgt := 71) K dX1_bestSet_40 (by decide) (fun c40 => ?_) (fun c40 => ?_)
      · have h := ax_it h c40
        exact ax_sub [0, 1, 2, 3, 4, 5] rfl (kx_bestSet_j71 K E ih v1 v2 v3 v4 v5 σ h)
      · have h := ax_ie h c40
        refine ax_iload K 5 rfl dX1_bestSet_43 ?_
        refine rx_bitCount K (by decide) dX1_bestSet_45 (Nat.le_of_ble_eq_true rfl) ?_
        refine ax_aload_n K 0 rfl dX1_bestSet_48 ?_
        refine xg_servedMany K dX1_bestSet_49 ?_
        refine ax_iload_n K 1 rfl dX1_bestSet_52 ?_
        refine ax_iadd K dX1_bestSet_53 ?_
        refine ax_icmp_ne (tgt := 71) K dX1_bestSet_54 (by decide) (fun c54 => ?_) (fun c54 => ?_)
        · have h := ax_ie h c54
          exact ax_sub [0, 1, 2, 3, 4, 5] rfl (kx_bestSet_j71 K E ih v1 v2 v3 v4 v5 σ h)
        · have h := ax_it h c54
          refine ax_iload K 4 rfl dX1_bestSet_57 ?_
          refine ax_aload_n K 0 rfl dX1_bestSet_59 ?_
          refine xg_worth K dX1_bestSet_60 ?_
          refine ax_iload K 5 rfl dX1_bestSet_63 ?_
          refine xl_worth K h.1 dX1_bestSet_65 ?_
          replace h := h.2
          refine rx_max K (by decide) (Nat.le_of_ble_eq_true rfl) dX1_bestSet_66 ?_
          refine ax_istore (lv' := [(4, .int (jmax v4 (xA_worth σ (v5).toNatClampNeg))), (0, .ref (L 0)), (1, .int v1), (2, .int v2), (3, .int v3), (5, .int v5)]) K dX1_bestSet_69 (by decide) rfl ?_
          exact ax_sub [1, 2, 3, 4, 0, 5] rfl (kx_bestSet_j71 K E ih v1 v2 v3 (jmax v4 (xA_worth σ (v5).toNatClampNeg)) v5 σ h)
set_option maxHeartbeats 4000000 in
theorem kx_bestSet_j227 {Z : AZ} {G : AG} {L : Nat → Nat} {P : Int32 → St → Prop} (K : AK Z G cX1_bestSet RX1 10 (rmH 5)) (E : AEi Z cX1_bestSet .int (xW G L) 0 0 P) {K178 : Int32 → Int32 → Int32 → Int32 → Int32 → Int32 → Int32 → Int32 → Int32 → St → Prop} (hK178 : ∀ (v1 : Int32) (v2 : Int32) (v3 : Int32) (v4 : Int32) (v5 : Int32) (v6 : Int32) (v7 : Int32) (v8 : Int32) (v9 : Int32) (σ : St), K178 v1 v2 v3 v4 v5 v6 v7 v8 v9 σ → AX Z 0 0 178 [(0, .ref (L 0)), (1, .int v1), (2, .int v2), (3, .int v3), (4, .int v4), (5, .int v5), (6, .int v6), (7, .int v7), (8, .int v8), (9, .int v9)] [] (xW G L σ)) (v1 : Int32) (v2 : Int32) (v3 : Int32) (v4 : Int32) (v5 : Int32) (v6 : Int32) (v7 : Int32) (v8 : Int32) (v9 : Int32) (σ : St) (h : wx_bestSet_j227 P K178 v1 v2 v3 v4 v5 v6 v7 v8 v9 σ) : AX Z 0 0 227 [(0, .ref (L 0)), (1, .int v1), (2, .int v2), (3, .int v3), (4, .int v4), (5, .int v5), (6, .int v6), (7, .int v7), (8, .int v8), (9, .int v9)] [] (xW G L σ) := by
  unfold wx_bestSet_j227 at h
  refine ax_iinc (lv' := [(9, .int (v9 + (1 : Int32))), (0, .ref (L 0)), (1, .int v1), (2, .int v2), (3, .int v3), (4, .int v4), (5, .int v5), (6, .int v6), (7, .int v7), (8, .int v8)]) (v := (v9 + (1 : Int32))) K 9 dX1_bestSet_227 rfl (by rfl) (by decide) rfl ?_
  refine ax_goto (tgt := 178) K dX1_bestSet_230 (by decide) ?_
  exact ax_sub [1, 2, 3, 4, 5, 6, 7, 8, 9, 0] rfl (hK178 v1 v2 v3 v4 v5 v6 v7 v8 (v9 + (1 : Int32)) σ h)
set_option maxHeartbeats 4000000 in
theorem kx_bestSet_l178 {Z : AZ} {G : AG} {L : Nat → Nat} {P : Int32 → St → Prop} (K : AK Z G cX1_bestSet RX1 10 (rmH 5)) (E : AEi Z cX1_bestSet .int (xW G L) 0 0 P) {K233 : Int32 → Int32 → Int32 → Int32 → Int32 → Int32 → Int32 → St → Prop} (hK233 : ∀ (v1 : Int32) (v2 : Int32) (v3 : Int32) (v4 : Int32) (v5 : Int32) (v6 : Int32) (v8 : Int32) (σ : St), K233 v1 v2 v3 v4 v5 v6 v8 σ → AX Z 0 0 233 [(0, .ref (L 0)), (1, .int v1), (2, .int v2), (3, .int v3), (4, .int v4), (5, .int v5), (6, .int v6), (8, .int v8)] [] (xW G L σ)) : ∀ (n : Nat) (v1 : Int32) (v2 : Int32) (v3 : Int32) (v4 : Int32) (v5 : Int32) (v6 : Int32) (v7 : Int32) (v8 : Int32) (v9 : Int32) (σ : St), wx_bestSet_l178 P K233 n v1 v2 v3 v4 v5 v6 v7 v8 v9 σ → AX Z 0 0 178 [(0, .ref (L 0)), (1, .int v1), (2, .int v2), (3, .int v3), (4, .int v4), (5, .int v5), (6, .int v6), (7, .int v7), (8, .int v8), (9, .int v9)] [] (xW G L σ) := by
  intro n
  induction n with
  | zero => intro v1 v2 v3 v4 v5 v6 v7 v8 v9 σ h; exact False.elim h
  | succ n ih =>
    intro v1 v2 v3 v4 v5 v6 v7 v8 v9 σ h
    rw [wx_bestSet_l178_s] at h
    refine ax_iload K 9 rfl dX1_bestSet_178 ?_
    refine ax_aload_n K 0 rfl dX1_bestSet_180 ?_
    refine xg_dishes K dX1_bestSet_181 ?_
    refine ax_icmp_ge (tgt := 233) K dX1_bestSet_184 (by decide) (fun c184 => ?_) (fun c184 => ?_)
    · have h := ax_it h c184
      exact ax_sub [0, 1, 2, 3, 4, 5, 6, 8] rfl (hK233 v1 v2 v3 v4 v5 v6 v8 σ h)
    · have h := ax_ie h c184
      refine ax_iload K 7 rfl dX1_bestSet_187 ?_
      refine ax_if_ne (tgt := 233) K dX1_bestSet_189 (by decide) (fun c189 => ?_) (fun c189 => ?_)
      · have h := ax_ie h c189
        exact ax_sub [0, 1, 2, 3, 4, 5, 6, 8] rfl (hK233 v1 v2 v3 v4 v5 v6 v8 σ h)
      · have h := ax_it h c189
        refine ax_aload_n K 0 rfl dX1_bestSet_192 ?_
        refine ax_iload K 5 rfl dX1_bestSet_193 ?_
        refine ax_iload K 6 rfl dX1_bestSet_195 ?_
        refine ax_iload K 9 rfl dX1_bestSet_197 ?_
        refine rx_goesOn K (by decide) dX1_bestSet_199 (Nat.le_of_ble_eq_true rfl) h (fun r199 σ199 h => ?_)
        refine ax_if_eq (tgt := 227) K dX1_bestSet_202 (by decide) (fun c202 => ?_) (fun c202 => ?_)
        · have h := ax_it h c202
          exact ax_sub [0, 1, 2, 3, 4, 5, 6, 7, 8, 9] rfl (kx_bestSet_j227 K E ih v1 v2 v3 v4 v5 v6 v7 v8 v9 σ199 h)
        · have h := ax_ie h c202
          refine ax_iload K 8 rfl dX1_bestSet_205 ?_
          refine ax_aload_n K 0 rfl dX1_bestSet_207 ?_
          refine xg_value K dX1_bestSet_208 ?_
          refine ax_iload K 5 rfl dX1_bestSet_211 ?_
          refine ax_iconst (v := (1 : Int32)) K (by decide) dX1_bestSet_213 ?_
          refine ax_iload K 9 rfl dX1_bestSet_214 ?_
          refine ax_ishl K dX1_bestSet_216 ?_
          refine ax_ior K dX1_bestSet_217 ?_
          refine ax_iload K 9 rfl dX1_bestSet_218 ?_
          refine rx_stateOf K (by decide) dX1_bestSet_220 (Nat.le_of_ble_eq_true rfl) h (fun r220 h => ?_)
          refine xl_value K h.1 dX1_bestSet_223 ?_
          replace h := h.2
          refine ax_ior K dX1_bestSet_224 ?_
          refine ax_istore (lv' := [(8, .int (v8 ||| (xA_value σ199 (r220).toNatClampNeg))), (0, .ref (L 0)), (1, .int v1), (2, .int v2), (3, .int v3), (4, .int v4), (5, .int v5), (6, .int v6), (7, .int v7), (9, .int v9)]) K dX1_bestSet_225 (by decide) rfl ?_
          exact ax_sub [1, 2, 3, 4, 5, 6, 7, 8, 0, 9] rfl (kx_bestSet_j227 K E ih v1 v2 v3 v4 v5 v6 v7 (v8 ||| (xA_value σ199 (r220).toNatClampNeg)) v9 σ199 h)
set_option maxHeartbeats 4000000 in
theorem kx_bestSet_j247 {Z : AZ} {G : AG} {L : Nat → Nat} {P : Int32 → St → Prop} (K : AK Z G cX1_bestSet RX1 10 (rmH 5)) (E : AEi Z cX1_bestSet .int (xW G L) 0 0 P) {K107 : Int32 → Int32 → Int32 → Int32 → Int32 → Int32 → St → Prop} (hK107 : ∀ (v1 : Int32) (v2 : Int32) (v3 : Int32) (v4 : Int32) (v5 : Int32) (v6 : Int32) (σ : St), K107 v1 v2 v3 v4 v5 v6 σ → AX Z 0 0 107 [(0, .ref (L 0)), (1, .int v1), (2, .int v2), (3, .int v3), (4, .int v4), (5, .int v5), (6, .int v6)] [] (xW G L σ)) (v1 : Int32) (v2 : Int32) (v3 : Int32) (v4 : Int32) (v5 : Int32) (v6 : Int32) (σ : St) (h : wx_bestSet_j247 P K107 v1 v2 v3 v4 v5 v6 σ) : AX Z 0 0 247 [(0, .ref (L 0)), (1, .int v1), (2, .int v2), (3, .int v3), (4, .int v4), (5, .int v5), (6, .int v6)] [] (xW G L σ) := by
  unfold wx_bestSet_j247 at h
  refine ax_iinc (lv' := [(6, .int (v6 + (1 : Int32))), (0, .ref (L 0)), (1, .int v1), (2, .int v2), (3, .int v3), (4, .int v4), (5, .int v5)]) (v := (v6 + (1 : Int32))) K 6 dX1_bestSet_247 rfl (by rfl) (by decide) rfl ?_
  refine ax_goto (tgt := 107) K dX1_bestSet_250 (by decide) ?_
  exact ax_sub [1, 2, 3, 4, 5, 6, 0] rfl (hK107 v1 v2 v3 v4 v5 (v6 + (1 : Int32)) σ h)
set_option maxHeartbeats 4000000 in
theorem kx_bestSet_j233 {Z : AZ} {G : AG} {L : Nat → Nat} {P : Int32 → St → Prop} (K : AK Z G cX1_bestSet RX1 10 (rmH 5)) (E : AEi Z cX1_bestSet .int (xW G L) 0 0 P) {K107 : Int32 → Int32 → Int32 → Int32 → Int32 → Int32 → St → Prop} (hK107 : ∀ (v1 : Int32) (v2 : Int32) (v3 : Int32) (v4 : Int32) (v5 : Int32) (v6 : Int32) (σ : St), K107 v1 v2 v3 v4 v5 v6 σ → AX Z 0 0 107 [(0, .ref (L 0)), (1, .int v1), (2, .int v2), (3, .int v3), (4, .int v4), (5, .int v5), (6, .int v6)] [] (xW G L σ)) (v1 : Int32) (v2 : Int32) (v3 : Int32) (v4 : Int32) (v5 : Int32) (v6 : Int32) (v8 : Int32) (σ : St) (h : wx_bestSet_j233 P K107 v1 v2 v3 v4 v5 v6 v8 σ) : AX Z 0 0 233 [(0, .ref (L 0)), (1, .int v1), (2, .int v2), (3, .int v3), (4, .int v4), (5, .int v5), (6, .int v6), (8, .int v8)] [] (xW G L σ) := by
  unfold wx_bestSet_j233 at h
  refine ax_aload_n K 0 rfl dX1_bestSet_233 ?_
  refine xg_value K dX1_bestSet_234 ?_
  refine ax_iload K 5 rfl dX1_bestSet_237 ?_
  refine ax_iload K 6 rfl dX1_bestSet_239 ?_
  refine rx_stateOf K (by decide) dX1_bestSet_241 (Nat.le_of_ble_eq_true rfl) h (fun r241 h => ?_)
  refine ax_iload K 7 rfl dX1_bestSet_244 ?_
  refine xs_value K h.1 dX1_bestSet_246 ?_
  replace h := h.2
  exact ax_sub [0, 1, 2, 3, 4, 5, 6] rfl (kx_bestSet_j247 K E hK107 v1 v2 v3 v4 v5 v6 (xU_value σ r241 v8) h)
set_option maxHeartbeats 4000000 in
theorem kx_bestSet_j173 {Z : AZ} {G : AG} {L : Nat → Nat} {P : Int32 → St → Prop} (K : AK Z G cX1_bestSet RX1 10 (rmH 5)) (E : AEi Z cX1_bestSet .int (xW G L) 0 0 P) {K107 : Int32 → Int32 → Int32 → Int32 → Int32 → Int32 → St → Prop} (hK107 : ∀ (v1 : Int32) (v2 : Int32) (v3 : Int32) (v4 : Int32) (v5 : Int32) (v6 : Int32) (σ : St), K107 v1 v2 v3 v4 v5 v6 σ → AX Z 0 0 107 [(0, .ref (L 0)), (1, .int v1), (2, .int v2), (3, .int v3), (4, .int v4), (5, .int v5), (6, .int v6)] [] (xW G L σ)) (v1 : Int32) (v2 : Int32) (v3 : Int32) (v4 : Int32) (v5 : Int32) (v6 : Int32) (v7 : Int32) (s0 : Int32) (σ : St) (h : wx_bestSet_j173 P K107 v1 v2 v3 v4 v5 v6 v7 s0 σ) : AX Z 0 0 173 [(0, .ref (L 0)), (1, .int v1), (2, .int v2), (3, .int v3), (4, .int v4), (5, .int v5), (6, .int v6), (7, .int v7)] [.int s0] (xW G L σ) := by
  unfold wx_bestSet_j173 at h
  refine ax_istore (lv' := [(8, .int s0), (0, .ref (L 0)), (1, .int v1), (2, .int v2), (3, .int v3), (4, .int v4), (5, .int v5), (6, .int v6), (7, .int v7)]) K dX1_bestSet_173 (by decide) rfl ?_
  refine ax_iconst (v := (0 : Int32)) K (by decide) dX1_bestSet_175 ?_
  refine ax_istore (lv' := [(9, .int (0 : Int32)), (8, .int s0), (0, .ref (L 0)), (1, .int v1), (2, .int v2), (3, .int v3), (4, .int v4), (5, .int v5), (6, .int v6), (7, .int v7)]) K dX1_bestSet_176 (by decide) rfl ?_
  exact ax_sub [2, 3, 4, 5, 6, 7, 8, 9, 1, 0] rfl (h.elim fun n178 h => kx_bestSet_l178 K E (kx_bestSet_j233 K E hK107) n178 v1 v2 v3 v4 v5 v6 v7 s0 (0 : Int32) σ h)
set_option maxHeartbeats 4000000 in
theorem kx_bestSet_j172 {Z : AZ} {G : AG} {L : Nat → Nat} {P : Int32 → St → Prop} (K : AK Z G cX1_bestSet RX1 10 (rmH 5)) (E : AEi Z cX1_bestSet .int (xW G L) 0 0 P) {K107 : Int32 → Int32 → Int32 → Int32 → Int32 → Int32 → St → Prop} (hK107 : ∀ (v1 : Int32) (v2 : Int32) (v3 : Int32) (v4 : Int32) (v5 : Int32) (v6 : Int32) (σ : St), K107 v1 v2 v3 v4 v5 v6 σ → AX Z 0 0 107 [(0, .ref (L 0)), (1, .int v1), (2, .int v2), (3, .int v3), (4, .int v4), (5, .int v5), (6, .int v6)] [] (xW G L σ)) (v1 : Int32) (v2 : Int32) (v3 : Int32) (v4 : Int32) (v5 : Int32) (v6 : Int32) (v7 : Int32) (σ : St) (h : wx_bestSet_j172 P K107 v1 v2 v3 v4 v5 v6 v7 σ) : AX Z 0 0 172 [(0, .ref (L 0)), (1, .int v1), (2, .int v2), (3, .int v3), (4, .int v4), (5, .int v5), (6, .int v6), (7, .int v7)] [] (xW G L σ) := by
  unfold wx_bestSet_j172 at h
  refine ax_iconst (v := (0 : Int32)) K (by decide) dX1_bestSet_172 ?_
  exact ax_sub [0, 1, 2, 3, 4, 5, 6, 7] rfl (kx_bestSet_j173 K E hK107 v1 v2 v3 v4 v5 v6 v7 (0 : Int32) σ h)
set_option maxHeartbeats 4000000 in
theorem kx_bestSet_j149 {Z : AZ} {G : AG} {L : Nat → Nat} {P : Int32 → St → Prop} (K : AK Z G cX1_bestSet RX1 10 (rmH 5)) (E : AEi Z cX1_bestSet .int (xW G L) 0 0 P) {K107 : Int32 → Int32 → Int32 → Int32 → Int32 → Int32 → St → Prop} (hK107 : ∀ (v1 : Int32) (v2 : Int32) (v3 : Int32) (v4 : Int32) (v5 : Int32) (v6 : Int32) (σ : St), K107 v1 v2 v3 v4 v5 v6 σ → AX Z 0 0 107 [(0, .ref (L 0)), (1, .int v1), (2, .int v2), (3, .int v3), (4, .int v4), (5, .int v5), (6, .int v6)] [] (xW G L σ)) (v1 : Int32) (v2 : Int32) (v3 : Int32) (v4 : Int32) (v5 : Int32) (v6 : Int32) (s0 : Int32) (σ : St) (h : wx_bestSet_j149 P K107 v1 v2 v3 v4 v5 v6 s0 σ) : AX Z 0 0 149 [(0, .ref (L 0)), (1, .int v1), (2, .int v2), (3, .int v3), (4, .int v4), (5, .int v5), (6, .int v6)] [.int s0] (xW G L σ) := by
  unfold wx_bestSet_j149 at h
  refine ax_istore (lv' := [(7, .int s0), (0, .ref (L 0)), (1, .int v1), (2, .int v2), (3, .int v3), (4, .int v4), (5, .int v5), (6, .int v6)]) K dX1_bestSet_149 (by decide) rfl ?_
  refine ax_iload K 0 rfl dX1_bestSet_151 ?_
  refine ax_if_eq (tgt := 172) K dX1_bestSet_153 (by decide) (fun c153 => ?_) (fun c153 => ?_)
  · have h := ax_it h c153
    exact ax_sub [1, 2, 3, 4, 5, 6, 7, 0] rfl (kx_bestSet_j172 K E hK107 v1 v2 v3 v4 v5 v6 s0 σ h)
  · have h := ax_ie h c153
    refine ax_aload_n K 1 rfl dX1_bestSet_156 ?_
    refine xg_worth K dX1_bestSet_157 ?_
    refine ax_iload K 6 rfl dX1_bestSet_160 ?_
    refine xl_worth K h.1 dX1_bestSet_162 ?_
    replace h := h.2
    refine ax_iload K 5 rfl dX1_bestSet_163 ?_
    refine ax_icmp_ne (tgt := 172) K dX1_bestSet_165 (by decide) (fun c165 => ?_) (fun c165 => ?_)
    · have h := ax_ie h c165
      exact ax_sub [1, 2, 3, 4, 5, 6, 7, 0] rfl (kx_bestSet_j172 K E hK107 v1 v2 v3 v4 v5 v6 s0 σ h)
    · have h := ax_it h c165
      refine ax_iconst (v := (1 : Int32)) K (by decide) dX1_bestSet_168 ?_
      refine ax_goto (tgt := 173) K dX1_bestSet_169 (by decide) ?_
      exact ax_sub [1, 2, 3, 4, 5, 6, 7, 0] rfl (kx_bestSet_j173 K E hK107 v1 v2 v3 v4 v5 v6 s0 (1 : Int32) σ h)
set_option maxHeartbeats 4000000 in
theorem kx_bestSet_l107 {Z : AZ} {G : AG} {L : Nat → Nat} {P : Int32 → St → Prop} (K : AK Z G cX1_bestSet RX1 10 (rmH 5)) (E : AEi Z cX1_bestSet .int (xW G L) 0 0 P) {K99 : Int32 → Int32 → Int32 → Int32 → Int32 → St → Prop} (hK99 : ∀ (v1 : Int32) (v2 : Int32) (v3 : Int32) (v4 : Int32) (v5 : Int32) (σ : St), K99 v1 v2 v3 v4 v5 σ → AX Z 0 0 99 [(0, .ref (L 0)), (1, .int v1), (2, .int v2), (3, .int v3), (4, .int v4), (5, .int v5)] [] (xW G L σ)) : ∀ (n : Nat) (v1 : Int32) (v2 : Int32) (v3 : Int32) (v4 : Int32) (v5 : Int32) (v6 : Int32) (σ : St), wx_bestSet_l107 P K99 n v1 v2 v3 v4 v5 v6 σ → AX Z 0 0 107 [(0, .ref (L 0)), (1, .int v1), (2, .int v2), (3, .int v3), (4, .int v4), (5, .int v5), (6, .int v6)] [] (xW G L σ) := by
  intro n
  induction n with
  | zero => intro v1 v2 v3 v4 v5 v6 σ h; exact False.elim h
  | succ n ih =>
    intro v1 v2 v3 v4 v5 v6 σ h
    rw [wx_bestSet_l107_s] at h
    refine ax_iload K 6 rfl dX1_bestSet_107 ?_
    refine ax_aload_n K 0 rfl dX1_bestSet_109 ?_
    refine xg_dishes K dX1_bestSet_110 ?_
    refine ax_icmp_ge (tgt := 253) K dX1_bestSet_113 (by decide) (fun c113 => ?_) (fun c113 => ?_)
    · have h := ax_it h c113
      refine ax_iinc (lv' := [(5, .int (v5 + (-1 : Int32))), (0, .ref (L 0)), (1, .int v1), (2, .int v2), (3, .int v3), (4, .int v4), (6, .int v6)]) (v := (v5 + (-1 : Int32))) K 5 dX1_bestSet_253 rfl (by rfl) (by decide) rfl ?_
      refine ax_goto (tgt := 99) K dX1_bestSet_256 (by decide) ?_
      exact ax_sub [1, 2, 3, 4, 5, 0] rfl (hK99 v1 v2 v3 v4 (v5 + (-1 : Int32)) σ h)
    · have h := ax_ie h c113
      refine ax_aload_n K 0 rfl dX1_bestSet_116 ?_
      refine ax_iload K 5 rfl dX1_bestSet_117 ?_
      refine ax_iload K 6 rfl dX1_bestSet_119 ?_
      refine rx_isLastOf K (by decide) dX1_bestSet_121 (Nat.le_of_ble_eq_true rfl) h (fun r121 σ121 h => ?_)
      refine ax_if_ne (tgt := 130) K dX1_bestSet_124 (by decide) (fun c124 => ?_) (fun c124 => ?_)
      · have h := ax_ie h c124
        refine ax_iload K 5 rfl dX1_bestSet_130 ?_
        refine rx_bitCount K (by decide) dX1_bestSet_132 (Nat.le_of_ble_eq_true rfl) ?_
        refine ax_aload_n K 0 rfl dX1_bestSet_135 ?_
        refine xg_servedMany K dX1_bestSet_136 ?_
        refine ax_iload_n K 1 rfl dX1_bestSet_139 ?_
        refine ax_iadd K dX1_bestSet_140 ?_
        refine ax_icmp_ne (tgt := 148) K dX1_bestSet_141 (by decide) (fun c141 => ?_) (fun c141 => ?_)
        · have h := ax_ie h c141
          refine ax_iconst (v := (0 : Int32)) K (by decide) dX1_bestSet_148 ?_
          exact ax_sub [0, 1, 2, 3, 4, 5, 6] rfl (kx_bestSet_j149 K E ih v1 v2 v3 v4 v5 v6 (0 : Int32) σ121 h)
        · have h := ax_it h c141
          refine ax_iconst (v := (1 : Int32)) K (by decide) dX1_bestSet_144 ?_
          refine ax_goto (tgt := 149) K dX1_bestSet_145 (by decide) ?_
          exact ax_sub [0, 1, 2, 3, 4, 5, 6] rfl (kx_bestSet_j149 K E ih v1 v2 v3 v4 v5 v6 (1 : Int32) σ121 h)
      · have h := ax_it h c124
        refine ax_goto (tgt := 247) K dX1_bestSet_127 (by decide) ?_
        exact ax_sub [0, 1, 2, 3, 4, 5, 6] rfl (kx_bestSet_j247 K E ih v1 v2 v3 v4 v5 v6 σ121 h)
set_option maxHeartbeats 4000000 in
theorem kx_bestSet_l99 {Z : AZ} {G : AG} {L : Nat → Nat} {P : Int32 → St → Prop} (K : AK Z G cX1_bestSet RX1 10 (rmH 5)) (E : AEi Z cX1_bestSet .int (xW G L) 0 0 P) {K274 : Int32 → Int32 → Int32 → St → Prop} (hK274 : ∀ (v1 : Int32) (v3 : Int32) (v4 : Int32) (σ : St), K274 v1 v3 v4 σ → AX Z 0 0 274 [(0, .ref (L 0)), (1, .int v1), (3, .int v3), (4, .int v4)] [] (xW G L σ)) : ∀ (n : Nat) (v1 : Int32) (v2 : Int32) (v3 : Int32) (v4 : Int32) (v5 : Int32) (σ : St), wx_bestSet_l99 P K274 n v1 v2 v3 v4 v5 σ → AX Z 0 0 99 [(0, .ref (L 0)), (1, .int v1), (2, .int v2), (3, .int v3), (4, .int v4), (5, .int v5)] [] (xW G L σ) := by
  intro n
  induction n with
  | zero => intro v1 v2 v3 v4 v5 σ h; exact False.elim h
  | succ n ih =>
    intro v1 v2 v3 v4 v5 σ h
    rw [wx_bestSet_l99_s] at h
    refine ax_iload K 5 rfl dX1_bestSet_99 ?_
    refine ax_if_lt (tgt := 259) K dX1_bestSet_101 (by decide) (fun c101 => ?_) (fun c101 => ?_)
    · have h := ax_it h c101
      refine ax_aload_n K 0 rfl dX1_bestSet_259 ?_
      refine ax_iconst (v := (0 : Int32)) K (by decide) dX1_bestSet_260 ?_
      refine xp_rowMany K dX1_bestSet_261 ?_
      refine ax_iload_n K 2 rfl dX1_bestSet_264 ?_
      refine ax_if_eq (tgt := 274) K dX1_bestSet_265 (by decide) (fun c265 => ?_) (fun c265 => ?_)
      · have h := ax_it h c265
        exact ax_sub [0, 1, 3, 4] rfl (hK274 v1 v3 v4 (xS_rowMany σ (0 : Int32)) h)
      · have h := ax_ie h c265
        refine ax_aload_n K 0 rfl dX1_bestSet_268 ?_
        refine ax_iload K 4 rfl dX1_bestSet_269 ?_
        refine rx_tells K (by decide) dX1_bestSet_271 (Nat.le_of_ble_eq_true rfl) h (fun σ271 h => ?_)
        exact ax_sub [0, 1, 3, 4] rfl (hK274 v1 v3 v4 σ271 h)
    · have h := ax_ie h c101
      refine ax_iconst (v := (-1 : Int32)) K (by decide) dX1_bestSet_104 ?_
      refine ax_istore (lv' := [(6, .int (-1 : Int32)), (0, .ref (L 0)), (1, .int v1), (2, .int v2), (3, .int v3), (4, .int v4), (5, .int v5)]) K dX1_bestSet_105 (by decide) rfl ?_
      exact ax_sub [1, 2, 3, 4, 5, 6, 0] rfl (h.elim fun n107 h => kx_bestSet_l107 K E ih n107 v1 v2 v3 v4 v5 (-1 : Int32) σ h)
set_option maxHeartbeats 4000000 in
theorem kx_bestSet_j323 {Z : AZ} {G : AG} {L : Nat → Nat} {P : Int32 → St → Prop} (K : AK Z G cX1_bestSet RX1 10 (rmH 5)) (E : AEi Z cX1_bestSet .int (xW G L) 0 0 P) {K292 : Int32 → Int32 → Int32 → Int32 → Int32 → Int32 → St → Prop} (hK292 : ∀ (v1 : Int32) (v3 : Int32) (v4 : Int32) (v5 : Int32) (v6 : Int32) (v7 : Int32) (σ : St), K292 v1 v3 v4 v5 v6 v7 σ → AX Z 0 0 292 [(0, .ref (L 0)), (1, .int v1), (3, .int v3), (4, .int v4), (5, .int v5), (6, .int v6), (7, .int v7)] [] (xW G L σ)) (v1 : Int32) (v3 : Int32) (v4 : Int32) (v5 : Int32) (v6 : Int32) (v7 : Int32) (σ : St) (h : wx_bestSet_j323 P K292 v1 v3 v4 v5 v6 v7 σ) : AX Z 0 0 323 [(0, .ref (L 0)), (1, .int v1), (3, .int v3), (4, .int v4), (5, .int v5), (6, .int v6), (7, .int v7)] [] (xW G L σ) := by
  unfold wx_bestSet_j323 at h
  refine ax_iinc (lv' := [(7, .int (v7 + (1 : Int32))), (0, .ref (L 0)), (1, .int v1), (3, .int v3), (4, .int v4), (5, .int v5), (6, .int v6)]) (v := (v7 + (1 : Int32))) K 6 dX1_bestSet_323 rfl (by rfl) (by decide) rfl ?_
  refine ax_goto (tgt := 292) K dX1_bestSet_326 (by decide) ?_
  exact ax_sub [1, 2, 3, 4, 5, 6, 0] rfl (hK292 v1 v3 v4 v5 v6 (v7 + (1 : Int32)) σ h)
set_option maxHeartbeats 4000000 in
theorem kx_bestSet_l292 {Z : AZ} {G : AG} {L : Nat → Nat} {P : Int32 → St → Prop} (K : AK Z G cX1_bestSet RX1 10 (rmH 5)) (E : AEi Z cX1_bestSet .int (xW G L) 0 0 P) {K283 : Int32 → Int32 → Int32 → Int32 → Int32 → St → Prop} (hK283 : ∀ (v1 : Int32) (v3 : Int32) (v4 : Int32) (v5 : Int32) (v6 : Int32) (σ : St), K283 v1 v3 v4 v5 v6 σ → AX Z 0 0 283 [(0, .ref (L 0)), (1, .int v1), (3, .int v3), (4, .int v4), (5, .int v5), (6, .int v6)] [] (xW G L σ)) : ∀ (n : Nat) (v1 : Int32) (v3 : Int32) (v4 : Int32) (v5 : Int32) (v6 : Int32) (v7 : Int32) (σ : St), wx_bestSet_l292 P K283 n v1 v3 v4 v5 v6 v7 σ → AX Z 0 0 292 [(0, .ref (L 0)), (1, .int v1), (3, .int v3), (4, .int v4), (5, .int v5), (6, .int v6), (7, .int v7)] [] (xW G L σ) := by
  intro n
  induction n with
  | zero => intro v1 v3 v4 v5 v6 v7 σ h; exact False.elim h
  | succ n ih =>
    intro v1 v3 v4 v5 v6 v7 σ h
    rw [wx_bestSet_l292_s] at h
    refine ax_aload_n K 0 rfl dX1_bestSet_292 ?_
    refine ax_iload_n K 2 rfl dX1_bestSet_293 ?_
    refine ax_iload K 4 rfl dX1_bestSet_294 ?_
    refine ax_iload K 6 rfl dX1_bestSet_296 ?_
    refine rx_goesOn K (by decide) dX1_bestSet_298 (Nat.le_of_ble_eq_true rfl) h (fun r298 σ298 h => ?_)
    refine ax_if_eq (tgt := 323) K dX1_bestSet_301 (by decide) (fun c301 => ?_) (fun c301 => ?_)
    · have h := ax_it h c301
      exact ax_sub [0, 1, 2, 3, 4, 5, 6] rfl (kx_bestSet_j323 K E ih v1 v3 v4 v5 v6 v7 σ298 h)
    · have h := ax_ie h c301
      refine ax_aload_n K 0 rfl dX1_bestSet_304 ?_
      refine xg_value K dX1_bestSet_305 ?_
      refine ax_iload_n K 2 rfl dX1_bestSet_308 ?_
      refine ax_iconst (v := (1 : Int32)) K (by decide) dX1_bestSet_309 ?_
      refine ax_iload K 6 rfl dX1_bestSet_310 ?_
      refine ax_ishl K dX1_bestSet_312 ?_
      refine ax_ior K dX1_bestSet_313 ?_
      refine ax_iload K 6 rfl dX1_bestSet_314 ?_
      refine rx_stateOf K (by decide) dX1_bestSet_316 (Nat.le_of_ble_eq_true rfl) h (fun r316 h => ?_)
      refine xl_value K h.1 dX1_bestSet_319 ?_
      replace h := h.2
      refine ax_if_ne (tgt := 329) K dX1_bestSet_320 (by decide) (fun c320 => ?_) (fun c320 => ?_)
      · have h := ax_ie h c320
        refine ax_aload_n K 0 rfl dX1_bestSet_329 ?_
        refine ax_iload K 6 rfl dX1_bestSet_330 ?_
        refine rx_tells K (by decide) dX1_bestSet_332 (Nat.le_of_ble_eq_true rfl) h (fun σ332 h => ?_)
        refine ax_iload_n K 2 rfl dX1_bestSet_335 ?_
        refine ax_iconst (v := (1 : Int32)) K (by decide) dX1_bestSet_336 ?_
        refine ax_iload K 6 rfl dX1_bestSet_337 ?_
        refine ax_ishl K dX1_bestSet_339 ?_
        refine ax_ior K dX1_bestSet_340 ?_
        refine ax_istore_n (lv' := [(3, .int (v3 ||| ((1 : Int32) <<< (v7 &&& 31)))), (0, .ref (L 0)), (1, .int v1), (4, .int v4), (5, .int v5), (6, .int v6), (7, .int v7)]) K dX1_bestSet_341 (by decide) rfl ?_
        refine ax_iload K 6 rfl dX1_bestSet_342 ?_
        refine ax_istore (lv' := [(5, .int v7), (3, .int (v3 ||| ((1 : Int32) <<< (v7 &&& 31)))), (0, .ref (L 0)), (1, .int v1), (4, .int v4), (6, .int v6), (7, .int v7)]) K dX1_bestSet_344 (by decide) rfl ?_
        refine ax_iinc (lv' := [(6, .int (v6 + (1 : Int32))), (5, .int v7), (3, .int (v3 ||| ((1 : Int32) <<< (v7 &&& 31)))), (0, .ref (L 0)), (1, .int v1), (4, .int v4), (7, .int v7)]) (v := (v6 + (1 : Int32))) K 5 dX1_bestSet_346 rfl (by rfl) (by decide) rfl ?_
        refine ax_goto (tgt := 283) K dX1_bestSet_349 (by decide) ?_
        exact ax_sub [3, 4, 2, 5, 1, 0] rfl (hK283 v1 (v3 ||| ((1 : Int32) <<< (v7 &&& 31))) v4 v7 (v6 + (1 : Int32)) σ332 h)
      · have h := ax_it h c320
        exact ax_sub [0, 1, 2, 3, 4, 5, 6] rfl (kx_bestSet_j323 K E ih v1 v3 v4 v5 v6 v7 σ298 h)
set_option maxHeartbeats 4000000 in
theorem kx_bestSet_l283 {Z : AZ} {G : AG} {L : Nat → Nat} {P : Int32 → St → Prop} (K : AK Z G cX1_bestSet RX1 10 (rmH 5)) (E : AEi Z cX1_bestSet .int (xW G L) 0 0 P) : ∀ (n : Nat) (v1 : Int32) (v3 : Int32) (v4 : Int32) (v5 : Int32) (v6 : Int32) (σ : St), wx_bestSet_l283 P  n v1 v3 v4 v5 v6 σ → AX Z 0 0 283 [(0, .ref (L 0)), (1, .int v1), (3, .int v3), (4, .int v4), (5, .int v5), (6, .int v6)] [] (xW G L σ) := by
  intro n
  induction n with
  | zero => intro v1 v3 v4 v5 v6 σ h; exact False.elim h
  | succ n ih =>
    intro v1 v3 v4 v5 v6 σ h
    rw [wx_bestSet_l283_s] at h
    refine ax_iload K 5 rfl dX1_bestSet_283 ?_
    refine ax_iload_n K 1 rfl dX1_bestSet_285 ?_
    refine ax_icmp_ge (tgt := 352) K dX1_bestSet_286 (by decide) (fun c286 => ?_) (fun c286 => ?_)
    · have h := ax_it h c286
      refine ax_iload K 3 rfl dX1_bestSet_352 ?_
      exact E _ _ _ _ dX1_bestSet_354 rfl h
    · have h := ax_ie h c286
      refine ax_iconst (v := (0 : Int32)) K (by decide) dX1_bestSet_289 ?_
      refine ax_istore (lv' := [(7, .int (0 : Int32)), (0, .ref (L 0)), (1, .int v1), (3, .int v3), (4, .int v4), (5, .int v5), (6, .int v6)]) K dX1_bestSet_290 (by decide) rfl ?_
      exact ax_sub [1, 2, 3, 4, 5, 6, 0] rfl (h.elim fun n292 h => kx_bestSet_l292 K E ih n292 v1 v3 v4 v5 v6 (0 : Int32) σ h)
set_option maxHeartbeats 4000000 in
theorem kx_bestSet_j274 {Z : AZ} {G : AG} {L : Nat → Nat} {P : Int32 → St → Prop} (K : AK Z G cX1_bestSet RX1 10 (rmH 5)) (E : AEi Z cX1_bestSet .int (xW G L) 0 0 P) (v1 : Int32) (v3 : Int32) (v4 : Int32) (σ : St) (h : wx_bestSet_j274 P  v1 v3 v4 σ) : AX Z 0 0 274 [(0, .ref (L 0)), (1, .int v1), (3, .int v3), (4, .int v4)] [] (xW G L σ) := by
  unfold wx_bestSet_j274 at h
  refine ax_aload_n K 0 rfl dX1_bestSet_274 ?_
  refine rx_lastNow K (by decide) dX1_bestSet_275 (Nat.le_of_ble_eq_true rfl) h (fun r275 σ275 h => ?_)
  refine ax_istore (lv' := [(5, .int r275), (0, .ref (L 0)), (1, .int v1), (3, .int v3), (4, .int v4)]) K dX1_bestSet_278 (by decide) rfl ?_
  refine ax_iconst (v := (0 : Int32)) K (by decide) dX1_bestSet_280 ?_
  refine ax_istore (lv' := [(6, .int (0 : Int32)), (5, .int r275), (0, .ref (L 0)), (1, .int v1), (3, .int v3), (4, .int v4)]) K dX1_bestSet_281 (by decide) rfl ?_
  exact ax_sub [2, 3, 4, 5, 1, 0] rfl (h.elim fun n283 h => kx_bestSet_l283 K E  n283 v1 v3 v4 r275 (0 : Int32) σ275 h)
set_option maxHeartbeats 4000000 in
theorem mx_bestSet {l : Launch} {G : AG} {L : Nat → Nat} {σ : St} {v1 : Int32} {v2 : Int32} {P : Int32 → St → Prop} (h : wx_bestSet σ v1 v2 P) : CtW l G yX1_bestSet cX1_bestSet 10 (some .int) (rmH 5) [.ref (L 0), .int v1, .int v2] (xW G L) σ (pI P) := by
  refine CtW.ofI (by decide) (Nat.le_of_ble_eq_true rfl) fun Z _ K E => ?_
  unfold wx_bestSet at h
  show AX Z 0 0 0 [(0, .ref (L 0)), (1, .int v1), (2, .int v2)] [] (xW G L σ)
  refine ax_aload_n K 0 rfl dX1_bestSet_0 ?_
  refine rx_setNow K (by decide) dX1_bestSet_1 (Nat.le_of_ble_eq_true rfl) h (fun r1 σ1 h => ?_)
  refine ax_istore_n (lv' := [(3, .int r1), (0, .ref (L 0)), (1, .int v1), (2, .int v2)]) K dX1_bestSet_4 (by decide) rfl ?_
  refine ax_aload_n K 1 rfl dX1_bestSet_5 ?_
  refine ax_iload_n K 0 rfl dX1_bestSet_6 ?_
  refine ax_aload_n K 1 rfl dX1_bestSet_7 ?_
  refine rx_lastNow K (by decide) dX1_bestSet_8 (Nat.le_of_ble_eq_true rfl) h (fun r8 σ8 h => ?_)
  refine rx_reaches K (by decide) dX1_bestSet_11 (Nat.le_of_ble_eq_true rfl) h (fun σ11 h => ?_)
  refine ax_ldcw (v := (-1000000 : Int32)) K q687 dX1_bestSet_14 ?_
  refine ax_istore (lv' := [(4, .int (-1000000 : Int32)), (3, .int r1), (0, .ref (L 0)), (1, .int v1), (2, .int v2)]) K dX1_bestSet_17 (by decide) rfl ?_
  refine ax_iconst (v := (0 : Int32)) K (by decide) dX1_bestSet_19 ?_
  refine ax_istore (lv' := [(5, .int (0 : Int32)), (4, .int (-1000000 : Int32)), (3, .int r1), (0, .ref (L 0)), (1, .int v1), (2, .int v2)]) K dX1_bestSet_20 (by decide) rfl ?_
  exact ax_sub [3, 4, 5, 2, 1, 0] rfl (h.elim fun n22 h => kx_bestSet_l22 K E (fun v1 v2 v3 v4 v5 σ h => h.elim fun n99 h => kx_bestSet_l99 K E (kx_bestSet_j274 K E) n99 v1 v2 v3 v4 v5 σ h) n22 v1 v2 r1 (-1000000 : Int32) (0 : Int32) σ11 h)
theorem rx_bestSet {Z : AZ} {G : AG} {cc : ByteArray} {mL hh pc : Nat} {lv : List (Nat × Value)} {rest : List Value} {L : Nat → Nat} {σ : St} (K : AK Z G cc RX1 mL (rmH hh)) (hlt : 5 < hh) (d : decode cc pc = .ok (.invokevirtual 405, 3)) (hrest : (rest.map fun v => v.category).sum ≤ 8) {v1 : Int32} {v2 : Int32} {P : Int32 → St → Prop} (h : sx_bestSet σ v1 v2 P) (kk : ∀ (r : Int32) (σ' : St), P r σ' → AX Z 0 0 (pc + 3) lv (.int r :: rest) (xW G L σ')) : AX Z 0 0 pc lv (.int v2 :: .int v1 :: .ref (L 0) :: rest) (xW G L σ) :=
  ax_callV (N0 := 2) (As := [.int v1, .int v2]) K (mx_bestSet (sx_bestSet_ok h)) q798 q800 qs44 q117 q801 ⟨rfl, by decide, by decide, by decide⟩ rfl ⟨by show 5 + 1 + 1 ≤ hh + 1; omega, by show 8 + (10 + 11) + 60 * (5 + 1) ≤ 60 * (hh + 1); omega⟩ ⟨Nat.zero_le _, Nat.zero_le _⟩ rfl rfl rfl hrest d (fun r σ' hp => by obtain ⟨v, rfl, hp⟩ := hp; exact kk v σ' hp)
/-! x.between -/
set_option maxHeartbeats 4000000 in
theorem kx_between_j96 {Z : AZ} {G : AG} {L : Nat → Nat} {P : Int32 → St → Prop} (K : AK Z G cX1_between RX1 4 (rmH 5)) (E : AEi Z cX1_between .int (xW G L) 0 0 P) (v3 : Int32) (σ : St) (h : wx_between_j96 P  v3 σ) : AX Z 0 0 96 [(0, .ref (L 0)), (3, .int v3)] [] (xW G L σ) := by
  unfold wx_between_j96 at h
  refine ax_iload_n K 1 rfl dX1_between_96 ?_
  refine ax_iconst (v := (1 : Int32)) K (by decide) dX1_between_97 ?_
  refine ax_iadd K dX1_between_98 ?_
  exact E _ _ _ _ dX1_between_99 rfl h
set_option maxHeartbeats 4000000 in
theorem kx_between_j65 {Z : AZ} {G : AG} {L : Nat → Nat} {P : Int32 → St → Prop} (K : AK Z G cX1_between RX1 4 (rmH 5)) (E : AEi Z cX1_between .int (xW G L) 0 0 P) (v1 : Int32) (v2 : Int32) (s0 : Int32) (σ : St) (h : wx_between_j65 P  v1 v2 s0 σ) : AX Z 0 0 65 [(0, .ref (L 0)), (1, .int v1), (2, .int v2)] [.int s0] (xW G L σ) := by
  unfold wx_between_j65 at h
  refine ax_istore_n (lv' := [(3, .int s0), (0, .ref (L 0)), (1, .int v1), (2, .int v2)]) K dX1_between_65 (by decide) rfl ?_
  refine ax_iload_n K 0 rfl dX1_between_66 ?_
  refine ax_if_ge (tgt := 73) K dX1_between_67 (by decide) (fun c67 => ?_) (fun c67 => ?_)
  · have h := ax_it h c67
    refine ax_aload_n K 1 rfl dX1_between_73 ?_
    refine ax_iconst (v := (0 : Int32)) K (by decide) dX1_between_74 ?_
    refine xp_rowMany K dX1_between_75 ?_
    refine ax_aload_n K 1 rfl dX1_between_78 ?_
    refine ax_iload_n K 2 rfl dX1_between_79 ?_
    refine rx_tells K (by decide) dX1_between_80 (Nat.le_of_ble_eq_true rfl) h (fun σ80 h => ?_)
    refine ax_iload_n K 2 rfl dX1_between_83 ?_
    refine ax_iload_n K 3 rfl dX1_between_84 ?_
    refine ax_icmp_eq (tgt := 96) K dX1_between_85 (by decide) (fun c85 => ?_) (fun c85 => ?_)
    · have h := ax_it h c85
      exact ax_sub [1, 0] rfl (kx_between_j96 K E  s0 σ80 h)
    · have h := ax_ie h c85
      refine ax_aload_n K 1 rfl dX1_between_88 ?_
      refine ax_iconst (v := (1 : Int32)) K (by decide) dX1_between_89 ?_
      refine ax_iload_n K 2 rfl dX1_between_90 ?_
      refine ax_ishl K dX1_between_91 ?_
      refine ax_iload_n K 2 rfl dX1_between_92 ?_
      refine rx_tellsMost K (by decide) dX1_between_93 (Nat.le_of_ble_eq_true rfl) h (fun σ93 h => ?_)
      exact ax_sub [1, 0] rfl (kx_between_j96 K E  s0 σ93 h)
  · have h := ax_ie h c67
    refine ax_bipush (v := (-2 : Int32)) K (by decide) dX1_between_70 ?_
    exact E _ _ _ _ dX1_between_72 rfl h
set_option maxHeartbeats 4000000 in
theorem mx_between {l : Launch} {G : AG} {L : Nat → Nat} {σ : St} {v1 : Int32} {v2 : Int32} {P : Int32 → St → Prop} (h : wx_between σ v1 v2 P) : CtW l G yX1_between cX1_between 4 (some .int) (rmH 5) [.ref (L 0), .int v1, .int v2] (xW G L) σ (pI P) := by
  refine CtW.ofI (by decide) (Nat.le_of_ble_eq_true rfl) fun Z _ K E => ?_
  unfold wx_between at h
  show AX Z 0 0 0 [(0, .ref (L 0)), (1, .int v1), (2, .int v2)] [] (xW G L σ)
  refine ax_aload_n K 0 rfl dX1_between_0 ?_
  refine ax_iload_n K 1 rfl dX1_between_1 ?_
  refine rx_isDish K (by decide) dX1_between_2 (Nat.le_of_ble_eq_true rfl) h (fun r2 σ2 h => ?_)
  refine ax_if_eq (tgt := 16) K dX1_between_5 (by decide) (fun c5 => ?_) (fun c5 => ?_)
  · have h := ax_it h c5
    refine ax_iconst (v := (-1 : Int32)) K (by decide) dX1_between_16 ?_
    exact E _ _ _ _ dX1_between_17 rfl h
  · have h := ax_ie h c5
    refine ax_aload_n K 0 rfl dX1_between_8 ?_
    refine ax_iload_n K 2 rfl dX1_between_9 ?_
    refine rx_isDish K (by decide) dX1_between_10 (Nat.le_of_ble_eq_true rfl) h (fun r10 σ10 h => ?_)
    refine ax_if_ne (tgt := 18) K dX1_between_13 (by decide) (fun c13 => ?_) (fun c13 => ?_)
    · have h := ax_ie h c13
      refine ax_aload_n K 0 rfl dX1_between_18 ?_
      refine rx_laysOut K (by decide) dX1_between_19 (Nat.le_of_ble_eq_true rfl) h (fun σ19 h => ?_)
      refine ax_aload_n K 0 rfl dX1_between_22 ?_
      refine xg_fine K dX1_between_23 ?_
      refine ax_iconst (v := (1 : Int32)) K (by decide) dX1_between_26 ?_
      refine ax_iload_n K 1 rfl dX1_between_27 ?_
      refine ax_ishl K dX1_between_28 ?_
      refine xl_fine K h.1 dX1_between_29 ?_
      replace h := h.2
      refine ax_if_ne (tgt := 36) K dX1_between_30 (by decide) (fun c30 => ?_) (fun c30 => ?_)
      · have h := ax_ie h c30
        refine ax_aload_n K 0 rfl dX1_between_36 ?_
        refine ax_iconst (v := (1 : Int32)) K (by decide) dX1_between_37 ?_
        refine ax_iload_n K 2 rfl dX1_between_38 ?_
        refine ax_ishl K dX1_between_39 ?_
        refine ax_iconst (v := (0 : Int32)) K (by decide) dX1_between_40 ?_
        refine rx_measures K (by decide) dX1_between_41 (Nat.le_of_ble_eq_true rfl) h (fun σ41 h => ?_)
        refine ax_iload_n K 1 rfl dX1_between_44 ?_
        refine ax_iload_n K 2 rfl dX1_between_45 ?_
        refine ax_icmp_ne (tgt := 53) K dX1_between_46 (by decide) (fun c46 => ?_) (fun c46 => ?_)
        · have h := ax_ie h c46
          refine ax_aload_n K 0 rfl dX1_between_53 ?_
          refine xg_value K dX1_between_54 ?_
          refine ax_iconst (v := (1 : Int32)) K (by decide) dX1_between_57 ?_
          refine ax_iload_n K 1 rfl dX1_between_58 ?_
          refine ax_ishl K dX1_between_59 ?_
          refine ax_iload_n K 1 rfl dX1_between_60 ?_
          refine rx_stateOf K (by decide) dX1_between_61 (Nat.le_of_ble_eq_true rfl) h (fun r61 h => ?_)
          refine xl_value K h.1 dX1_between_64 ?_
          replace h := h.2
          exact ax_sub [0, 1, 2] rfl (kx_between_j65 K E  v1 v2 (xA_value σ41 (r61).toNatClampNeg) σ41 h)
        · have h := ax_it h c46
          refine ax_iconst (v := (0 : Int32)) K (by decide) dX1_between_49 ?_
          refine ax_goto (tgt := 65) K dX1_between_50 (by decide) ?_
          exact ax_sub [0, 1, 2] rfl (kx_between_j65 K E  v1 v2 (0 : Int32) σ41 h)
      · have h := ax_it h c30
        refine ax_bipush (v := (-2 : Int32)) K (by decide) dX1_between_33 ?_
        exact E _ _ _ _ dX1_between_35 rfl h
    · have h := ax_it h c13
      refine ax_iconst (v := (-1 : Int32)) K (by decide) dX1_between_16 ?_
      exact E _ _ _ _ dX1_between_17 rfl h

/-! x.can -/
set_option maxHeartbeats 4000000 in
theorem kx_can_j36 {Z : AZ} {G : AG} {L : Nat → Nat} {P : Int32 → St → Prop} (K : AK Z G cX1_can RX1 3 (rmH 5)) (E : AEi Z cX1_can .int (xW G L) 0 0 P) {K4 : Int32 → Int32 → St → Prop} (hK4 : ∀ (v1 : Int32) (v2 : Int32) (σ : St), K4 v1 v2 σ → AX Z 0 0 4 [(0, .ref (L 0)), (1, .int v1), (2, .int v2)] [] (xW G L σ)) (v2 : Int32) (s0 : Int32) (s1 : Int32) (σ : St) (h : wx_can_j36 P K4 v2 s0 s1 σ) : AX Z 0 0 36 [(0, .ref (L 0)), (2, .int v2)] [.int s1, .int s0] (xW G L σ) := by
  unfold wx_can_j36 at h
  refine ax_ior K dX1_can_36 ?_
  refine ax_istore_n (lv' := [(1, .int (s0 ||| s1)), (0, .ref (L 0)), (2, .int v2)]) K dX1_can_37 (by decide) rfl ?_
  refine ax_iinc (lv' := [(2, .int (v2 + (1 : Int32))), (1, .int (s0 ||| s1)), (0, .ref (L 0))]) (v := (v2 + (1 : Int32))) K 2 dX1_can_38 rfl (by rfl) (by decide) rfl ?_
  refine ax_goto (tgt := 4) K dX1_can_41 (by decide) ?_
  exact ax_sub [2, 1, 0] rfl (hK4 (s0 ||| s1) (v2 + (1 : Int32)) σ h)
set_option maxHeartbeats 4000000 in
theorem kx_can_l4 {Z : AZ} {G : AG} {L : Nat → Nat} {P : Int32 → St → Prop} (K : AK Z G cX1_can RX1 3 (rmH 5)) (E : AEi Z cX1_can .int (xW G L) 0 0 P) : ∀ (n : Nat) (v1 : Int32) (v2 : Int32) (σ : St), wx_can_l4 P  n v1 v2 σ → AX Z 0 0 4 [(0, .ref (L 0)), (1, .int v1), (2, .int v2)] [] (xW G L σ) := by
  intro n
  induction n with
  | zero => intro v1 v2 σ h; exact False.elim h
  | succ n ih =>
    intro v1 v2 σ h
    rw [wx_can_l4_s] at h
    refine ax_iload_n K 2 rfl dX1_can_4 ?_
    refine ax_aload_n K 0 rfl dX1_can_5 ?_
    refine xg_dishes K dX1_can_6 ?_
    refine ax_icmp_ge (tgt := 44) K dX1_can_9 (by decide) (fun c9 => ?_) (fun c9 => ?_)
    · have h := ax_it h c9
      refine ax_iload_n K 1 rfl dX1_can_44 ?_
      exact E _ _ _ _ dX1_can_45 rfl h
    · have h := ax_ie h c9
      refine ax_iload_n K 1 rfl dX1_can_12 ?_
      refine ax_aload_n K 0 rfl dX1_can_13 ?_
      refine ax_aload_n K 0 rfl dX1_can_14 ?_
      refine rx_setNow K (by decide) dX1_can_15 (Nat.le_of_ble_eq_true rfl) h (fun r15 σ15 h => ?_)
      refine ax_aload_n K 0 rfl dX1_can_18 ?_
      refine rx_lastNow K (by decide) dX1_can_19 (Nat.le_of_ble_eq_true rfl) h (fun r19 σ19 h => ?_)
      refine ax_iload_n K 2 rfl dX1_can_22 ?_
      refine rx_whyNot K (by decide) dX1_can_23 (Nat.le_of_ble_eq_true rfl) h (fun r23 σ23 h => ?_)
      refine ax_if_ne (tgt := 35) K dX1_can_26 (by decide) (fun c26 => ?_) (fun c26 => ?_)
      · have h := ax_ie h c26
        refine ax_iconst (v := (0 : Int32)) K (by decide) dX1_can_35 ?_
        exact ax_sub [0, 2] rfl (kx_can_j36 K E ih v2 v1 (0 : Int32) σ23 h)
      · have h := ax_it h c26
        refine ax_iconst (v := (1 : Int32)) K (by decide) dX1_can_29 ?_
        refine ax_iload_n K 2 rfl dX1_can_30 ?_
        refine ax_ishl K dX1_can_31 ?_
        refine ax_goto (tgt := 36) K dX1_can_32 (by decide) ?_
        exact ax_sub [0, 2] rfl (kx_can_j36 K E ih v2 v1 ((1 : Int32) <<< (v2 &&& 31)) σ23 h)
set_option maxHeartbeats 4000000 in
theorem mx_can {l : Launch} {G : AG} {L : Nat → Nat} {σ : St} {P : Int32 → St → Prop} (h : wx_can σ P) : CtW l G yX1_can cX1_can 3 (some .int) (rmH 5) [.ref (L 0)] (xW G L) σ (pI P) := by
  refine CtW.ofI (by decide) (Nat.le_of_ble_eq_true rfl) fun Z _ K E => ?_
  unfold wx_can at h
  show AX Z 0 0 0 [(0, .ref (L 0))] [] (xW G L σ)
  refine ax_iconst (v := (0 : Int32)) K (by decide) dX1_can_0 ?_
  refine ax_istore_n (lv' := [(1, .int (0 : Int32)), (0, .ref (L 0))]) K dX1_can_1 (by decide) rfl ?_
  refine ax_iconst (v := (0 : Int32)) K (by decide) dX1_can_2 ?_
  refine ax_istore_n (lv' := [(2, .int (0 : Int32)), (1, .int (0 : Int32)), (0, .ref (L 0))]) K dX1_can_3 (by decide) rfl ?_
  exact ax_sub [2, 1, 0] rfl (h.elim fun n4 h => kx_can_l4 K E  n4 (0 : Int32) (0 : Int32) σ h)

/-! x.countsFills -/
set_option maxHeartbeats 4000000 in
theorem kx_countsFills_j137 {Z : AZ} {G : AG} {L : Nat → Nat} {P : St → Prop} (K : AK Z G cX1_countsFills RX1 9 (rmH 5)) (E : AEv Z cX1_countsFills (xW G L) 0 0 P) {K77 : Int32 → Int32 → Int32 → Int32 → Int32 → Int64 → Int32 → St → Prop} (hK77 : ∀ (v1 : Int32) (v2 : Int32) (v3 : Int32) (v4 : Int32) (v5 : Int32) (v6 : Int64) (v8 : Int32) (σ : St), K77 v1 v2 v3 v4 v5 v6 v8 σ → AX Z 0 0 77 [(0, .ref (L 0)), (1, .int v1), (2, .int v2), (3, .int v3), (4, .int v4), (5, .int v5), (6, .long v6), (8, .int v8)] [] (xW G L σ)) (v1 : Int32) (v2 : Int32) (v3 : Int32) (v4 : Int32) (v5 : Int32) (v6 : Int64) (v8 : Int32) (σ : St) (h : wx_countsFills_j137 P K77 v1 v2 v3 v4 v5 v6 v8 σ) : AX Z 0 0 137 [(0, .ref (L 0)), (1, .int v1), (2, .int v2), (3, .int v3), (4, .int v4), (5, .int v5), (6, .long v6), (8, .int v8)] [] (xW G L σ) := by
  unfold wx_countsFills_j137 at h
  refine ax_iinc (lv' := [(8, .int (v8 + (1 : Int32))), (0, .ref (L 0)), (1, .int v1), (2, .int v2), (3, .int v3), (4, .int v4), (5, .int v5), (6, .long v6)]) (v := (v8 + (1 : Int32))) K 7 dX1_countsFills_137 rfl (by rfl) (by decide) rfl ?_
  refine ax_goto (tgt := 77) K dX1_countsFills_140 (by decide) ?_
  exact ax_sub [1, 2, 3, 4, 5, 6, 7, 0] rfl (hK77 v1 v2 v3 v4 v5 v6 (v8 + (1 : Int32)) σ h)
set_option maxHeartbeats 4000000 in
theorem kx_countsFills_l77 {Z : AZ} {G : AG} {L : Nat → Nat} {P : St → Prop} (K : AK Z G cX1_countsFills RX1 9 (rmH 5)) (E : AEv Z cX1_countsFills (xW G L) 0 0 P) {K143 : Int32 → Int32 → Int32 → Int32 → Int32 → Int64 → St → Prop} (hK143 : ∀ (v1 : Int32) (v2 : Int32) (v3 : Int32) (v4 : Int32) (v5 : Int32) (v6 : Int64) (σ : St), K143 v1 v2 v3 v4 v5 v6 σ → AX Z 0 0 143 [(0, .ref (L 0)), (1, .int v1), (2, .int v2), (3, .int v3), (4, .int v4), (5, .int v5), (6, .long v6)] [] (xW G L σ)) : ∀ (n : Nat) (v1 : Int32) (v2 : Int32) (v3 : Int32) (v4 : Int32) (v5 : Int32) (v6 : Int64) (v8 : Int32) (σ : St), wx_countsFills_l77 P K143 n v1 v2 v3 v4 v5 v6 v8 σ → AX Z 0 0 77 [(0, .ref (L 0)), (1, .int v1), (2, .int v2), (3, .int v3), (4, .int v4), (5, .int v5), (6, .long v6), (8, .int v8)] [] (xW G L σ) := by
  intro n
  induction n with
  | zero => intro v1 v2 v3 v4 v5 v6 v8 σ h; exact False.elim h
  | succ n ih =>
    intro v1 v2 v3 v4 v5 v6 v8 σ h
    rw [wx_countsFills_l77_s] at h
    refine ax_iload K 7 rfl dX1_countsFills_77 ?_
    refine ax_aload_n K 0 rfl dX1_countsFills_79 ?_
    refine xg_dishes K dX1_countsFills_80 ?_
    refine ax_icmp_ge (tgt := 143) K dX1_countsFills_83 (by decide) (fun c83 => ?_) (fun c83 => ?_)
    · have h := ax_it h c83
      exact ax_sub [0, 1, 2, 3, 4, 5, 6] rfl (hK143 v1 v2 v3 v4 v5 v6 σ h)
    · have h := ax_ie h c83
      refine ax_iload K 4 rfl dX1_countsFills_86 ?_
      refine ax_iload_n K 2 rfl dX1_countsFills_88 ?_
      refine ax_icmp_ge (tgt := 143) K dX1_countsFills_89 (by decide) (fun c89 => ?_) (fun c89 => ?_)
      · have h := ax_it h c89
        exact ax_sub [0, 1, 2, 3, 4, 5, 6] rfl (hK143 v1 v2 v3 v4 v5 v6 σ h)
      · have h := ax_ie h c89
        refine ax_aload_n K 0 rfl dX1_countsFills_92 ?_
        refine ax_iload_n K 1 rfl dX1_countsFills_93 ?_
        refine ax_iload K 4 rfl dX1_countsFills_94 ?_
        refine ax_iload K 7 rfl dX1_countsFills_96 ?_
        refine rx_fits K (by decide) dX1_countsFills_98 (Nat.le_of_ble_eq_true rfl) h (fun r98 σ98 h => ?_)
        refine ax_if_eq (tgt := 137) K dX1_countsFills_101 (by decide) (fun c101 => ?_) (fun c101 => ?_)
        · have h := ax_it h c101
          exact ax_sub [0, 1, 2, 3, 4, 5, 6, 7] rfl (kx_countsFills_j137 K E ih v1 v2 v3 v4 v5 v6 v8 σ98 h)
        · have h := ax_ie h c101
          refine ax_aload_n K 0 rfl dX1_countsFills_104 ?_
          refine ax_iload_n K 3 rfl dX1_countsFills_105 ?_
          refine ax_iload K 5 rfl dX1_countsFills_106 ?_
          refine ax_iload K 7 rfl dX1_countsFills_108 ?_
          refine rx_goesOn K (by decide) dX1_countsFills_110 (Nat.le_of_ble_eq_true rfl) h (fun r110 σ110 h => ?_)
          refine ax_if_eq (tgt := 137) K dX1_countsFills_113 (by decide) (fun c113 => ?_) (fun c113 => ?_)
          · have h := ax_it h c113
            exact ax_sub [0, 1, 2, 3, 4, 5, 6, 7] rfl (kx_countsFills_j137 K E ih v1 v2 v3 v4 v5 v6 v8 σ110 h)
          · have h := ax_ie h c113
            refine ax_lload K 6 rfl dX1_countsFills_116 ?_
            refine ax_aload_n K 0 rfl dX1_countsFills_118 ?_
            refine xg_many K dX1_countsFills_119 ?_
            refine ax_iload_n K 3 rfl dX1_countsFills_122 ?_
            refine ax_iconst (v := (1 : Int32)) K (by decide) dX1_countsFills_123 ?_
            refine ax_iload K 7 rfl dX1_countsFills_124 ?_
            refine ax_ishl K dX1_countsFills_126 ?_
            refine ax_ior K dX1_countsFills_127 ?_
            refine ax_iload K 7 rfl dX1_countsFills_128 ?_
            refine rx_stateOf K (by decide) dX1_countsFills_130 (Nat.le_of_ble_eq_true rfl) h (fun r130 h => ?_)
            refine xl_many K h.1 dX1_countsFills_133 ?_
            replace h := h.2
            refine ax_ladd K dX1_countsFills_134 ?_
            refine ax_lstore (lv' := [(6, .long (v6 + (xA_many σ110 (r130).toNatClampNeg))), (0, .ref (L 0)), (1, .int v1), (2, .int v2), (3, .int v3), (4, .int v4), (5, .int v5), (8, .int v8)]) K dX1_countsFills_135 (by decide) rfl ?_
            exact ax_sub [1, 2, 3, 4, 5, 6, 0, 7] rfl (kx_countsFills_j137 K E ih v1 v2 v3 v4 v5 (v6 + (xA_many σ110 (r130).toNatClampNeg)) v8 σ110 h)
set_option maxHeartbeats 4000000 in
theorem kx_countsFills_j156 {Z : AZ} {G : AG} {L : Nat → Nat} {P : St → Prop} (K : AK Z G cX1_countsFills RX1 9 (rmH 5)) (E : AEv Z cX1_countsFills (xW G L) 0 0 P) {K33 : Int32 → Int32 → Int32 → Int32 → Int32 → St → Prop} (hK33 : ∀ (v1 : Int32) (v2 : Int32) (v3 : Int32) (v4 : Int32) (v5 : Int32) (σ : St), K33 v1 v2 v3 v4 v5 σ → AX Z 0 0 33 [(0, .ref (L 0)), (1, .int v1), (2, .int v2), (3, .int v3), (4, .int v4), (5, .int v5)] [] (xW G L σ)) (v1 : Int32) (v2 : Int32) (v3 : Int32) (v4 : Int32) (v5 : Int32) (σ : St) (h : wx_countsFills_j156 P K33 v1 v2 v3 v4 v5 σ) : AX Z 0 0 156 [(0, .ref (L 0)), (1, .int v1), (2, .int v2), (3, .int v3), (4, .int v4), (5, .int v5)] [] (xW G L σ) := by
  unfold wx_countsFills_j156 at h
  refine ax_iinc (lv' := [(5, .int (v5 + (1 : Int32))), (0, .ref (L 0)), (1, .int v1), (2, .int v2), (3, .int v3), (4, .int v4)]) (v := (v5 + (1 : Int32))) K 5 dX1_countsFills_156 rfl (by rfl) (by decide) rfl ?_
  refine ax_goto (tgt := 33) K dX1_countsFills_159 (by decide) ?_
  exact ax_sub [1, 2, 3, 4, 5, 0] rfl (hK33 v1 v2 v3 v4 (v5 + (1 : Int32)) σ h)
set_option maxHeartbeats 4000000 in
theorem kx_countsFills_j143 {Z : AZ} {G : AG} {L : Nat → Nat} {P : St → Prop} (K : AK Z G cX1_countsFills RX1 9 (rmH 5)) (E : AEv Z cX1_countsFills (xW G L) 0 0 P) {K33 : Int32 → Int32 → Int32 → Int32 → Int32 → St → Prop} (hK33 : ∀ (v1 : Int32) (v2 : Int32) (v3 : Int32) (v4 : Int32) (v5 : Int32) (σ : St), K33 v1 v2 v3 v4 v5 σ → AX Z 0 0 33 [(0, .ref (L 0)), (1, .int v1), (2, .int v2), (3, .int v3), (4, .int v4), (5, .int v5)] [] (xW G L σ)) (v1 : Int32) (v2 : Int32) (v3 : Int32) (v4 : Int32) (v5 : Int32) (v6 : Int64) (σ : St) (h : wx_countsFills_j143 P K33 v1 v2 v3 v4 v5 v6 σ) : AX Z 0 0 143 [(0, .ref (L 0)), (1, .int v1), (2, .int v2), (3, .int v3), (4, .int v4), (5, .int v5), (6, .long v6)] [] (xW G L σ) := by
  unfold wx_countsFills_j143 at h
  refine ax_aload_n K 0 rfl dX1_countsFills_143 ?_
  refine xg_many K dX1_countsFills_144 ?_
  refine ax_iload_n K 3 rfl dX1_countsFills_147 ?_
  refine ax_iload K 5 rfl dX1_countsFills_148 ?_
  refine rx_stateOf K (by decide) dX1_countsFills_150 (Nat.le_of_ble_eq_true rfl) h (fun r150 h => ?_)
  refine ax_lload K 6 rfl dX1_countsFills_153 ?_
  refine xs_many K h.1 dX1_countsFills_155 ?_
  replace h := h.2
  exact ax_sub [0, 1, 2, 3, 4, 5] rfl (kx_countsFills_j156 K E hK33 v1 v2 v3 v4 v5 (xU_many σ r150 v6) h)
set_option maxHeartbeats 4000000 in
theorem kx_countsFills_j72 {Z : AZ} {G : AG} {L : Nat → Nat} {P : St → Prop} (K : AK Z G cX1_countsFills RX1 9 (rmH 5)) (E : AEv Z cX1_countsFills (xW G L) 0 0 P) {K33 : Int32 → Int32 → Int32 → Int32 → Int32 → St → Prop} (hK33 : ∀ (v1 : Int32) (v2 : Int32) (v3 : Int32) (v4 : Int32) (v5 : Int32) (σ : St), K33 v1 v2 v3 v4 v5 σ → AX Z 0 0 33 [(0, .ref (L 0)), (1, .int v1), (2, .int v2), (3, .int v3), (4, .int v4), (5, .int v5)] [] (xW G L σ)) (v1 : Int32) (v2 : Int32) (v3 : Int32) (v4 : Int32) (v5 : Int32) (s0 : Int64) (σ : St) (h : wx_countsFills_j72 P K33 v1 v2 v3 v4 v5 s0 σ) : AX Z 0 0 72 [(0, .ref (L 0)), (1, .int v1), (2, .int v2), (3, .int v3), (4, .int v4), (5, .int v5)] [.long s0] (xW G L σ) := by
  unfold wx_countsFills_j72 at h
  refine ax_lstore (lv' := [(6, .long s0), (0, .ref (L 0)), (1, .int v1), (2, .int v2), (3, .int v3), (4, .int v4), (5, .int v5)]) K dX1_countsFills_72 (by decide) rfl ?_
  refine ax_iconst (v := (0 : Int32)) K (by decide) dX1_countsFills_74 ?_
  refine ax_istore (lv' := [(8, .int (0 : Int32)), (6, .long s0), (0, .ref (L 0)), (1, .int v1), (2, .int v2), (3, .int v3), (4, .int v4), (5, .int v5)]) K dX1_countsFills_75 (by decide) rfl ?_
  exact ax_sub [2, 3, 4, 5, 6, 7, 1, 0] rfl (h.elim fun n77 h => kx_countsFills_l77 K E (kx_countsFills_j143 K E hK33) n77 v1 v2 v3 v4 v5 s0 (0 : Int32) σ h)
set_option maxHeartbeats 4000000 in
theorem kx_countsFills_l33 {Z : AZ} {G : AG} {L : Nat → Nat} {P : St → Prop} (K : AK Z G cX1_countsFills RX1 9 (rmH 5)) (E : AEv Z cX1_countsFills (xW G L) 0 0 P) {K162 : Int32 → Int32 → Int32 → St → Prop} (hK162 : ∀ (v1 : Int32) (v2 : Int32) (v3 : Int32) (σ : St), K162 v1 v2 v3 σ → AX Z 0 0 162 [(0, .ref (L 0)), (1, .int v1), (2, .int v2), (3, .int v3)] [] (xW G L σ)) : ∀ (n : Nat) (v1 : Int32) (v2 : Int32) (v3 : Int32) (v4 : Int32) (v5 : Int32) (σ : St), wx_countsFills_l33 P K162 n v1 v2 v3 v4 v5 σ → AX Z 0 0 33 [(0, .ref (L 0)), (1, .int v1), (2, .int v2), (3, .int v3), (4, .int v4), (5, .int v5)] [] (xW G L σ) := by
  intro n
  induction n with
  | zero => intro v1 v2 v3 v4 v5 σ h; exact False.elim h
  | succ n ih =>
    intro v1 v2 v3 v4 v5 σ h
    rw [wx_countsFills_l33_s] at h
    refine ax_iload K 5 rfl dX1_countsFills_33 ?_
    refine ax_aload_n K 0 rfl dX1_countsFills_35 ?_
    refine xg_dishes K dX1_countsFills_36 ?_
    refine ax_icmp_ge (tgt := 162) K dX1_countsFills_39 (by decide) (fun c39 => ?_) (fun c39 => ?_)
    · have h := ax_it h c39
      exact ax_sub [0, 1, 2, 3] rfl (hK162 v1 v2 v3 σ h)
    · have h := ax_ie h c39
      refine ax_iload K 4 rfl dX1_countsFills_42 ?_
      refine ax_iload_n K 2 rfl dX1_countsFills_44 ?_
      refine ax_icmp_gt (tgt := 162) K dX1_countsFills_45 (by decide) (fun c45 => ?_) (fun c45 => ?_)
      · have h := ax_it h c45
        exact ax_sub [0, 1, 2, 3] rfl (hK162 v1 v2 v3 σ h)
      · have h := ax_ie h c45
        refine ax_aload_n K 0 rfl dX1_countsFills_48 ?_
        refine ax_iload_n K 3 rfl dX1_countsFills_49 ?_
        refine ax_iload K 5 rfl dX1_countsFills_50 ?_
        refine rx_isLastOf K (by decide) dX1_countsFills_52 (Nat.le_of_ble_eq_true rfl) h (fun r52 σ52 h => ?_)
        refine ax_if_ne (tgt := 61) K dX1_countsFills_55 (by decide) (fun c55 => ?_) (fun c55 => ?_)
        · have h := ax_ie h c55
          refine ax_iload K 4 rfl dX1_countsFills_61 ?_
          refine ax_iload_n K 2 rfl dX1_countsFills_63 ?_
          refine ax_icmp_ne (tgt := 71) K dX1_countsFills_64 (by decide) (fun c64 => ?_) (fun c64 => ?_)
          · have h := ax_ie h c64
            refine ax_lconst (v := (0 : Int64)) K (by decide) dX1_countsFills_71 ?_
            exact ax_sub [0, 1, 2, 3, 4, 5] rfl (kx_countsFills_j72 K E ih v1 v2 v3 v4 v5 (0 : Int64) σ52 h)
          · have h := ax_it h c64
            refine ax_lconst (v := (1 : Int64)) K (by decide) dX1_countsFills_67 ?_
            refine ax_goto (tgt := 72) K dX1_countsFills_68 (by decide) ?_
            exact ax_sub [0, 1, 2, 3, 4, 5] rfl (kx_countsFills_j72 K E ih v1 v2 v3 v4 v5 (1 : Int64) σ52 h)
        · have h := ax_it h c55
          refine ax_goto (tgt := 156) K dX1_countsFills_58 (by decide) ?_
          exact ax_sub [0, 1, 2, 3, 4, 5] rfl (kx_countsFills_j156 K E ih v1 v2 v3 v4 v5 σ52 h)
set_option maxHeartbeats 4000000 in
theorem kx_countsFills_j162 {Z : AZ} {G : AG} {L : Nat → Nat} {P : St → Prop} (K : AK Z G cX1_countsFills RX1 9 (rmH 5)) (E : AEv Z cX1_countsFills (xW G L) 0 0 P) {K20 : Int32 → Int32 → Int32 → St → Prop} (hK20 : ∀ (v1 : Int32) (v2 : Int32) (v3 : Int32) (σ : St), K20 v1 v2 v3 σ → AX Z 0 0 20 [(0, .ref (L 0)), (1, .int v1), (2, .int v2), (3, .int v3)] [] (xW G L σ)) (v1 : Int32) (v2 : Int32) (v3 : Int32) (σ : St) (h : wx_countsFills_j162 P K20 v1 v2 v3 σ) : AX Z 0 0 162 [(0, .ref (L 0)), (1, .int v1), (2, .int v2), (3, .int v3)] [] (xW G L σ) := by
  unfold wx_countsFills_j162 at h
  refine ax_iinc (lv' := [(3, .int (v3 + (-1 : Int32))), (0, .ref (L 0)), (1, .int v1), (2, .int v2)]) (v := (v3 + (-1 : Int32))) K 3 dX1_countsFills_162 rfl (by rfl) (by decide) rfl ?_
  refine ax_goto (tgt := 20) K dX1_countsFills_165 (by decide) ?_
  exact ax_sub [1, 2, 3, 0] rfl (hK20 v1 v2 (v3 + (-1 : Int32)) σ h)
set_option maxHeartbeats 4000000 in
theorem kx_countsFills_l20 {Z : AZ} {G : AG} {L : Nat → Nat} {P : St → Prop} (K : AK Z G cX1_countsFills RX1 9 (rmH 5)) (E : AEv Z cX1_countsFills (xW G L) 0 0 P) : ∀ (n : Nat) (v1 : Int32) (v2 : Int32) (v3 : Int32) (σ : St), wx_countsFills_l20 P  n v1 v2 v3 σ → AX Z 0 0 20 [(0, .ref (L 0)), (1, .int v1), (2, .int v2), (3, .int v3)] [] (xW G L σ) := by
  intro n
  induction n with
  | zero => intro v1 v2 v3 σ h; exact False.elim h
  | succ n ih =>
    intro v1 v2 v3 σ h
    rw [wx_countsFills_l20_s] at h
    refine ax_iload_n K 3 rfl dX1_countsFills_20 ?_
    refine ax_if_lt (tgt := 168) K dX1_countsFills_21 (by decide) (fun c21 => ?_) (fun c21 => ?_)
    · have h := ax_it h c21
      exact E _ _ _ dX1_countsFills_168 h
    · have h := ax_ie h c21
      refine ax_iload_n K 3 rfl dX1_countsFills_24 ?_
      refine rx_bitCount K (by decide) dX1_countsFills_25 (Nat.le_of_ble_eq_true rfl) ?_
      refine ax_istore (lv' := [(4, .int (bitC v3)), (0, .ref (L 0)), (1, .int v1), (2, .int v2), (3, .int v3)]) K dX1_countsFills_28 (by decide) rfl ?_
      refine ax_iconst (v := (-1 : Int32)) K (by decide) dX1_countsFills_30 ?_
      refine ax_istore (lv' := [(5, .int (-1 : Int32)), (4, .int (bitC v3)), (0, .ref (L 0)), (1, .int v1), (2, .int v2), (3, .int v3)]) K dX1_countsFills_31 (by decide) rfl ?_
      exact ax_sub [2, 3, 4, 5, 1, 0] rfl (h.elim fun n33 h => kx_countsFills_l33 K E (kx_countsFills_j162 K E ih) n33 v1 v2 v3 (bitC v3) (-1 : Int32) σ h)
set_option maxHeartbeats 4000000 in
theorem mx_countsFills {l : Launch} {G : AG} {L : Nat → Nat} {σ : St} {v1 : Int32} {P : St → Prop} (h : wx_countsFills σ v1 P) : CtW l G yX1_countsFills cX1_countsFills 9 none (rmH 5) [.ref (L 0), .int v1] (xW G L) σ (pV P) := by
  refine CtW.ofV (by decide) (Nat.le_of_ble_eq_true rfl) fun Z _ K E => ?_
  unfold wx_countsFills at h
  show AX Z 0 0 0 [(0, .ref (L 0)), (1, .int v1)] [] (xW G L σ)
  refine ax_aload_n K 0 rfl dX1_countsFills_0 ?_
  refine rx_laysOut K (by decide) dX1_countsFills_1 (Nat.le_of_ble_eq_true rfl) h (fun σ1 h => ?_)
  refine ax_aload_n K 0 rfl dX1_countsFills_4 ?_
  refine xg_menuMany K dX1_countsFills_5 ?_
  refine ax_iload_n K 1 rfl dX1_countsFills_8 ?_
  refine xl_menuMany K h.1 dX1_countsFills_9 ?_
  replace h := h.2
  refine ax_istore_n (lv' := [(2, .int (xA_menuMany σ1 (v1).toNatClampNeg)), (0, .ref (L 0)), (1, .int v1)]) K dX1_countsFills_10 (by decide) rfl ?_
  refine ax_iconst (v := (1 : Int32)) K (by decide) dX1_countsFills_11 ?_
  refine ax_aload_n K 1 rfl dX1_countsFills_12 ?_
  refine xg_dishes K dX1_countsFills_13 ?_
  refine ax_ishl K dX1_countsFills_16 ?_
  refine ax_iconst (v := (1 : Int32)) K (by decide) dX1_countsFills_17 ?_
  refine ax_isub K dX1_countsFills_18 ?_
  refine ax_istore_n (lv' := [(3, .int (((1 : Int32) <<< ((xI_dishes σ1) &&& 31)) - (1 : Int32))), (2, .int (xA_menuMany σ1 (v1).toNatClampNeg)), (0, .ref (L 0)), (1, .int v1)]) K dX1_countsFills_19 (by decide) rfl ?_
  exact ax_sub [2, 3, 1, 0] rfl (h.elim fun n20 h => kx_countsFills_l20 K E  n20 v1 (xA_menuMany σ1 (v1).toNatClampNeg) (((1 : Int32) <<< ((xI_dishes σ1) &&& 31)) - (1 : Int32)) σ1 h)
theorem rx_countsFills {Z : AZ} {G : AG} {cc : ByteArray} {mL hh pc : Nat} {lv : List (Nat × Value)} {rest : List Value} {L : Nat → Nat} {σ : St} (K : AK Z G cc RX1 mL (rmH hh)) (hlt : 5 < hh) (d : decode cc pc = .ok (.invokevirtual 425, 3)) (hrest : (rest.map fun v => v.category).sum ≤ 8) {v1 : Int32} {P : St → Prop} (h : sx_countsFills σ v1 P) (kk : ∀ (σ' : St), P σ' → AX Z 0 0 (pc + 3) lv (rest) (xW G L σ')) : AX Z 0 0 pc lv (.int v1 :: .ref (L 0) :: rest) (xW G L σ) :=
  ax_callV (N0 := 1) (As := [.int v1]) K (mx_countsFills (sx_countsFills_ok h)) q851 q853 qs50 q117 q854 ⟨rfl, by decide, by decide, by decide⟩ rfl ⟨by show 5 + 1 + 1 ≤ hh + 1; omega, by show 8 + (9 + 11) + 60 * (5 + 1) ≤ 60 * (hh + 1); omega⟩ ⟨Nat.zero_le _, Nat.zero_le _⟩ rfl rfl rfl hrest d (fun r σ' hp => by obtain ⟨rfl, hp⟩ := hp; exact kk σ' hp)
/-! x.firstBad -/
set_option maxHeartbeats 4000000 in
theorem kx_firstBad_j53 {Z : AZ} {G : AG} {L : Nat → Nat} {P : Int32 → St → Prop} (K : AK Z G cX1_firstBad RX1 5 (rmH 5)) (E : AEi Z cX1_firstBad .int (xW G L) 0 0 P) {K12 : Int32 → Int32 → Int32 → Int32 → St → Prop} (hK12 : ∀ (v1 : Int32) (v2 : Int32) (v3 : Int32) (v4 : Int32) (σ : St), K12 v1 v2 v3 v4 σ → AX Z 0 0 12 [(0, .ref (L 0)), (1, .int v1), (2, .int v2), (3, .int v3), (4, .int v4)] [] (xW G L σ)) (v1 : Int32) (v2 : Int32) (v4 : Int32) (s1 : Int32) (σ : St) (h : wx_firstBad_j53 P K12 v1 v2 v4 s1 σ) : AX Z 0 0 53 [(0, .ref (L 0)), (1, .int v1), (2, .int v2), (4, .int v4)] [.int s1, .ref (L 0)] (xW G L σ) := by
  unfold wx_firstBad_j53 at h
  refine xp_whyThen K dX1_firstBad_53 ?_
  refine ax_aload_n K 0 rfl dX1_firstBad_56 ?_
  refine xg_whyThen K dX1_firstBad_57 ?_
  refine ax_if_ge (tgt := 66) K dX1_firstBad_60 (by decide) (fun c60 => ?_) (fun c60 => ?_)
  · have h := ax_it h c60
    refine ax_aload_n K 0 rfl dX1_firstBad_66 ?_
    refine ax_iload_n K 1 rfl dX1_firstBad_67 ?_
    refine ax_iload K 3 rfl dX1_firstBad_68 ?_
    refine rx_dishAt K (by decide) dX1_firstBad_70 (Nat.le_of_ble_eq_true rfl) h (fun r70 σ70 h => ?_)
    refine ax_istore_n (lv' := [(3, .int r70), (0, .ref (L 0)), (1, .int v1), (2, .int v2), (4, .int v4)]) K dX1_firstBad_73 (by decide) rfl ?_
    refine ax_iload_n K 3 rfl dX1_firstBad_74 ?_
    refine ax_iconst (v := (1 : Int32)) K (by decide) dX1_firstBad_75 ?_
    refine ax_iload_n K 0 rfl dX1_firstBad_76 ?_
    refine ax_ishl K dX1_firstBad_77 ?_
    refine ax_ior K dX1_firstBad_78 ?_
    refine ax_istore_n (lv' := [(2, .int (v2 ||| ((1 : Int32) <<< (r70 &&& 31)))), (3, .int r70), (0, .ref (L 0)), (1, .int v1), (4, .int v4)]) K dX1_firstBad_79 (by decide) rfl ?_
    refine ax_iinc (lv' := [(4, .int (v4 + (1 : Int32))), (2, .int (v2 ||| ((1 : Int32) <<< (r70 &&& 31)))), (3, .int r70), (0, .ref (L 0)), (1, .int v1)]) (v := (v4 + (1 : Int32))) K 4 dX1_firstBad_80 rfl (by rfl) (by decide) rfl ?_
    refine ax_goto (tgt := 12) K dX1_firstBad_83 (by decide) ?_
    exact ax_sub [3, 4, 1, 2, 0] rfl (hK12 v1 (v2 ||| ((1 : Int32) <<< (r70 &&& 31))) r70 (v4 + (1 : Int32)) σ70 h)
  · have h := ax_ie h c60
    refine ax_iload K 3 rfl dX1_firstBad_63 ?_
    exact E _ _ _ _ dX1_firstBad_65 rfl h
set_option maxHeartbeats 4000000 in
theorem kx_firstBad_l12 {Z : AZ} {G : AG} {L : Nat → Nat} {P : Int32 → St → Prop} (K : AK Z G cX1_firstBad RX1 5 (rmH 5)) (E : AEi Z cX1_firstBad .int (xW G L) 0 0 P) : ∀ (n : Nat) (v1 : Int32) (v2 : Int32) (v3 : Int32) (v4 : Int32) (σ : St), wx_firstBad_l12 P  n v1 v2 v3 v4 σ → AX Z 0 0 12 [(0, .ref (L 0)), (1, .int v1), (2, .int v2), (3, .int v3), (4, .int v4)] [] (xW G L σ) := by
  intro n
  induction n with
  | zero => intro v1 v2 v3 v4 σ h; exact False.elim h
  | succ n ih =>
    intro v1 v2 v3 v4 σ h
    rw [wx_firstBad_l12_s] at h
    refine ax_iload K 4 rfl dX1_firstBad_12 ?_
    refine ax_aload_n K 0 rfl dX1_firstBad_14 ?_
    refine xg_menuMany K dX1_firstBad_15 ?_
    refine ax_iload_n K 1 rfl dX1_firstBad_18 ?_
    refine xl_menuMany K h.1 dX1_firstBad_19 ?_
    replace h := h.2
    refine ax_icmp_ge (tgt := 86) K dX1_firstBad_20 (by decide) (fun c20 => ?_) (fun c20 => ?_)
    · have h := ax_it h c20
      refine ax_bipush (v := (-2 : Int32)) K (by decide) dX1_firstBad_86 ?_
      exact E _ _ _ _ dX1_firstBad_88 rfl h
    · have h := ax_ie h c20
      refine ax_aload_n K 0 rfl dX1_firstBad_23 ?_
      refine ax_aload_n K 0 rfl dX1_firstBad_24 ?_
      refine ax_iload_n K 1 rfl dX1_firstBad_25 ?_
      refine ax_iload K 4 rfl dX1_firstBad_26 ?_
      refine rx_dishAt K (by decide) dX1_firstBad_28 (Nat.le_of_ble_eq_true rfl) h (fun r28 σ28 h => ?_)
      refine ax_bipush (v := (99 : Int32)) K (by decide) dX1_firstBad_31 ?_
      refine ax_icmp_ne (tgt := 40) K dX1_firstBad_33 (by decide) (fun c33 => ?_) (fun c33 => ?_)
      · have h := ax_ie h c33
        refine ax_aload_n K 0 rfl dX1_firstBad_40 ?_
        refine ax_iload_n K 2 rfl dX1_firstBad_41 ?_
        refine ax_iload_n K 3 rfl dX1_firstBad_42 ?_
        refine ax_aload_n K 0 rfl dX1_firstBad_43 ?_
        refine ax_iload_n K 1 rfl dX1_firstBad_44 ?_
        refine ax_iload K 4 rfl dX1_firstBad_45 ?_
        refine rx_dishAt K (by decide) dX1_firstBad_47 (Nat.le_of_ble_eq_true rfl) h (fun r47 σ47 h => ?_)
        refine rx_whyNot K (by decide) dX1_firstBad_50 (Nat.le_of_ble_eq_true rfl) h (fun r50 σ50 h => ?_)
        exact ax_sub [0, 1, 2, 4] rfl (kx_firstBad_j53 K E ih v1 v2 v4 r50 σ50 h)
      · have h := ax_it h c33
        refine ax_iconst (v := (-1 : Int32)) K (by decide) dX1_firstBad_36 ?_
        refine ax_goto (tgt := 53) K dX1_firstBad_37 (by decide) ?_
        exact ax_sub [0, 1, 2, 4] rfl (kx_firstBad_j53 K E ih v1 v2 v4 (-1 : Int32) σ28 h)
set_option maxHeartbeats 4000000 in
theorem mx_firstBad {l : Launch} {G : AG} {L : Nat → Nat} {σ : St} {v1 : Int32} {P : Int32 → St → Prop} (h : wx_firstBad σ v1 P) : CtW l G yX1_firstBad cX1_firstBad 5 (some .int) (rmH 5) [.ref (L 0), .int v1] (xW G L) σ (pI P) := by
  refine CtW.ofI (by decide) (Nat.le_of_ble_eq_true rfl) fun Z _ K E => ?_
  unfold wx_firstBad at h
  show AX Z 0 0 0 [(0, .ref (L 0)), (1, .int v1)] [] (xW G L σ)
  refine ax_iconst (v := (0 : Int32)) K (by decide) dX1_firstBad_0 ?_
  refine ax_istore_n (lv' := [(2, .int (0 : Int32)), (0, .ref (L 0)), (1, .int v1)]) K dX1_firstBad_1 (by decide) rfl ?_
  refine ax_iconst (v := (-1 : Int32)) K (by decide) dX1_firstBad_2 ?_
  refine ax_istore_n (lv' := [(3, .int (-1 : Int32)), (2, .int (0 : Int32)), (0, .ref (L 0)), (1, .int v1)]) K dX1_firstBad_3 (by decide) rfl ?_
  refine ax_aload_n K 2 rfl dX1_firstBad_4 ?_
  refine ax_iconst (v := (0 : Int32)) K (by decide) dX1_firstBad_5 ?_
  refine xp_whyThen K dX1_firstBad_6 ?_
  refine ax_iconst (v := (0 : Int32)) K (by decide) dX1_firstBad_9 ?_
  refine ax_istore (lv' := [(4, .int (0 : Int32)), (3, .int (-1 : Int32)), (2, .int (0 : Int32)), (0, .ref (L 0)), (1, .int v1)]) K dX1_firstBad_10 (by decide) rfl ?_
  exact ax_sub [3, 4, 2, 1, 0] rfl (h.elim fun n12 h => kx_firstBad_l12 K E  n12 v1 (0 : Int32) (-1 : Int32) (0 : Int32) (xS_whyThen σ (0 : Int32)) h)
theorem rx_firstBad {Z : AZ} {G : AG} {cc : ByteArray} {mL hh pc : Nat} {lv : List (Nat × Value)} {rest : List Value} {L : Nat → Nat} {σ : St} (K : AK Z G cc RX1 mL (rmH hh)) (hlt : 5 < hh) (d : decode cc pc = .ok (.invokevirtual 334, 3)) (hrest : (rest.map fun v => v.category).sum ≤ 8) {v1 : Int32} {P : Int32 → St → Prop} (h : sx_firstBad σ v1 P) (kk : ∀ (r : Int32) (σ' : St), P r σ' → AX Z 0 0 (pc + 3) lv (.int r :: rest) (xW G L σ')) : AX Z 0 0 pc lv (.int v1 :: .ref (L 0) :: rest) (xW G L σ) :=
  ax_callV (N0 := 1) (As := [.int v1]) K (mx_firstBad (sx_firstBad_ok h)) q627 q629 qs23 q117 q630 ⟨rfl, by decide, by decide, by decide⟩ rfl ⟨by show 5 + 1 + 1 ≤ hh + 1; omega, by show 8 + (5 + 11) + 60 * (5 + 1) ≤ 60 * (hh + 1); omega⟩ ⟨Nat.zero_le _, Nat.zero_le _⟩ rfl rfl rfl hrest d (fun r σ' hp => by obtain ⟨v, rfl, hp⟩ := hp; exact kk v σ' hp)
/-! x.game -/
set_option maxHeartbeats 4000000 in
theorem kx_game_j110 {Z : AZ} {G : AG} {L : Nat → Nat} {P : Int32 → St → Prop} (K : AK Z G cX1_game RX1 7 (rmH 5)) (E : AEi Z cX1_game .int (xW G L) 0 0 P) {K35 : Int32 → Int32 → Int32 → Int32 → Int32 → St → Prop} (hK35 : ∀ (v1 : Int32) (v2 : Int32) (v3 : Int32) (v4 : Int32) (v5 : Int32) (σ : St), K35 v1 v2 v3 v4 v5 σ → AX Z 0 0 35 [(0, .ref (L 0)), (1, .int v1), (2, .int v2), (3, .int v3), (4, .int v4), (5, .int v5)] [] (xW G L σ)) (v1 : Int32) (v2 : Int32) (v3 : Int32) (v4 : Int32) (v5 : Int32) (σ : St) (h : wx_game_j110 P K35 v1 v2 v3 v4 v5 σ) : AX Z 0 0 110 [(0, .ref (L 0)), (1, .int v1), (2, .int v2), (3, .int v3), (4, .int v4), (5, .int v5)] [] (xW G L σ) := by
  unfold wx_game_j110 at h
  refine ax_iinc (lv' := [(5, .int (v5 + (-1 : Int32))), (0, .ref (L 0)), (1, .int v1), (2, .int v2), (3, .int v3), (4, .int v4)]) (v := (v5 + (-1 : Int32))) K 5 dX1_game_110 rfl (by rfl) (by decide) rfl ?_
  refine ax_goto (tgt := 35) K dX1_game_113 (by decide) ?_
  exact ax_sub [1, 2, 3, 4, 5, 0] rfl (hK35 v1 v2 v3 v4 (v5 + (-1 : Int32)) σ h)
set_option maxHeartbeats 4000000 in
theorem kx_game_j108 {Z : AZ} {G : AG} {L : Nat → Nat} {P : Int32 → St → Prop} (K : AK Z G cX1_game RX1 7 (rmH 5)) (E : AEi Z cX1_game .int (xW G L) 0 0 P) {K35 : Int32 → Int32 → Int32 → Int32 → Int32 → St → Prop} (hK35 : ∀ (v1 : Int32) (v2 : Int32) (v3 : Int32) (v4 : Int32) (v5 : Int32) (σ : St), K35 v1 v2 v3 v4 v5 σ → AX Z 0 0 35 [(0, .ref (L 0)), (1, .int v1), (2, .int v2), (3, .int v3), (4, .int v4), (5, .int v5)] [] (xW G L σ)) (v1 : Int32) (v2 : Int32) (v3 : Int32) (v5 : Int32) (s0 : Int32) (σ : St) (h : wx_game_j108 P K35 v1 v2 v3 v5 s0 σ) : AX Z 0 0 108 [(0, .ref (L 0)), (1, .int v1), (2, .int v2), (3, .int v3), (5, .int v5)] [.int s0] (xW G L σ) := by
  unfold wx_game_j108 at h
  refine ax_istore (lv' := [(4, .int s0), (0, .ref (L 0)), (1, .int v1), (2, .int v2), (3, .int v3), (5, .int v5)]) K dX1_game_108 (by decide) rfl ?_
  exact ax_sub [1, 2, 3, 4, 0, 5] rfl (kx_game_j110 K E hK35 v1 v2 v3 s0 v5 σ h)
set_option maxHeartbeats 4000000 in
theorem kx_game_j106 {Z : AZ} {G : AG} {L : Nat → Nat} {P : Int32 → St → Prop} (K : AK Z G cX1_game RX1 7 (rmH 5)) (E : AEi Z cX1_game .int (xW G L) 0 0 P) {K35 : Int32 → Int32 → Int32 → Int32 → Int32 → St → Prop} (hK35 : ∀ (v1 : Int32) (v2 : Int32) (v3 : Int32) (v4 : Int32) (v5 : Int32) (σ : St), K35 v1 v2 v3 v4 v5 σ → AX Z 0 0 35 [(0, .ref (L 0)), (1, .int v1), (2, .int v2), (3, .int v3), (4, .int v4), (5, .int v5)] [] (xW G L σ)) (v1 : Int32) (v2 : Int32) (v3 : Int32) (v4 : Int32) (v5 : Int32) (σ : St) (h : wx_game_j106 P K35 v1 v2 v3 v4 v5 σ) : AX Z 0 0 106 [(0, .ref (L 0)), (1, .int v1), (2, .int v2), (3, .int v3), (4, .int v4), (5, .int v5)] [] (xW G L σ) := by
  unfold wx_game_j106 at h
  refine ax_iload K 4 rfl dX1_game_106 ?_
  exact ax_sub [0, 1, 2, 3, 5] rfl (kx_game_j108 K E hK35 v1 v2 v3 v5 v4 σ h)
set_option maxHeartbeats 4000000 in
theorem kx_game_l35 {Z : AZ} {G : AG} {L : Nat → Nat} {P : Int32 → St → Prop} (K : AK Z G cX1_game RX1 7 (rmH 5)) (E : AEi Z cX1_game .int (xW G L) 0 0 P) {K138 : Int32 → Int32 → St → Prop} (hK138 : ∀ (v3 : Int32) (s1 : Int32) (σ : St), K138 v3 s1 σ → AX Z 0 0 138 [(0, .ref (L 0)), (3, .int v3)] [.int s1, .ref (L 0)] (xW G L σ)) : ∀ (n : Nat) (v1 : Int32) (v2 : Int32) (v3 : Int32) (v4 : Int32) (v5 : Int32) (σ : St), wx_game_l35 P K138 n v1 v2 v3 v4 v5 σ → AX Z 0 0 35 [(0, .ref (L 0)), (1, .int v1), (2, .int v2), (3, .int v3), (4, .int v4), (5, .int v5)] [] (xW G L σ) := by
  intro n
  induction n with
  | zero => intro v1 v2 v3 v4 v5 σ h; exact False.elim h
  | succ n ih =>
    intro v1 v2 v3 v4 v5 σ h
    rw [wx_game_l35_s] at h
    refine ax_iload K 5 rfl dX1_game_35 ?_
    refine ax_if_lt (tgt := 116) K dX1_game_37 (by decide) (fun c37 => ?_) (fun c37 => ?_)
    · have h := ax_it h c37
      refine ax_aload_n K 0 rfl dX1_game_116 ?_
      refine ax_iconst (v := (0 : Int32)) K (by decide) dX1_game_117 ?_
      refine xp_rowMany K dX1_game_118 ?_
      refine ax_aload_n K 0 rfl dX1_game_121 ?_
      refine ax_aload_n K 0 rfl dX1_game_122 ?_
      refine xg_value K dX1_game_123 ?_
      refine ax_iload_n K 3 rfl dX1_game_126 ?_
      refine xl_value K h.1 dX1_game_127 ?_
      replace h := h.2
      refine ax_iconst (v := (1 : Int32)) K (by decide) dX1_game_128 ?_
      refine ax_icmp_ne (tgt := 137) K dX1_game_129 (by decide) (fun c129 => ?_) (fun c129 => ?_)
      · have h := ax_ie h c129
        refine ax_iconst (v := (-1 : Int32)) K (by decide) dX1_game_137 ?_
        exact ax_sub [0, 3] rfl (hK138 v3 (-1 : Int32) (xS_rowMany σ (0 : Int32)) h)
      · have h := ax_it h c129
        refine ax_iload K 4 rfl dX1_game_132 ?_
        refine ax_goto (tgt := 138) K dX1_game_134 (by decide) ?_
        exact ax_sub [0, 3] rfl (hK138 v3 v4 (xS_rowMany σ (0 : Int32)) h)
    · have h := ax_ie h c37
      refine ax_aload_n K 0 rfl dX1_game_40 ?_
      refine ax_iload_n K 1 rfl dX1_game_41 ?_
      refine ax_iload_n K 2 rfl dX1_game_42 ?_
      refine ax_iload K 5 rfl dX1_game_43 ?_
      refine rx_goesOn K (by decide) dX1_game_45 (Nat.le_of_ble_eq_true rfl) h (fun r45 σ45 h => ?_)
      refine ax_if_ne (tgt := 54) K dX1_game_48 (by decide) (fun c48 => ?_) (fun c48 => ?_)
      · have h := ax_ie h c48
        refine ax_iload_n K 1 rfl dX1_game_54 ?_
        refine ax_iconst (v := (1 : Int32)) K (by decide) dX1_game_55 ?_
        refine ax_iload K 5 rfl dX1_game_56 ?_
        refine ax_ishl K dX1_game_58 ?_
        refine ax_ior K dX1_game_59 ?_
        refine ax_iload K 5 rfl dX1_game_60 ?_
        refine rx_stateOf K (by decide) dX1_game_62 (Nat.le_of_ble_eq_true rfl) h (fun r62 h => ?_)
        refine ax_istore (lv' := [(6, .int r62), (0, .ref (L 0)), (1, .int v1), (2, .int v2), (3, .int v3), (4, .int v4), (5, .int v5)]) K dX1_game_65 (by decide) rfl ?_
        refine ax_aload_n K 1 rfl dX1_game_67 ?_
        refine xg_value K dX1_game_68 ?_
        refine ax_iload K 0 rfl dX1_game_71 ?_
        refine xl_value K h.1 dX1_game_73 ?_
        replace h := h.2
        refine ax_aload_n K 1 rfl dX1_game_74 ?_
        refine xg_value K dX1_game_75 ?_
        refine ax_iload_n K 4 rfl dX1_game_78 ?_
        refine xl_value K h.1 dX1_game_79 ?_
        replace h := h.2
        refine ax_icmp_eq (tgt := 106) K dX1_game_80 (by decide) (fun c80 => ?_) (fun c80 => ?_)
        · have h := ax_it h c80
          exact ax_sub [1, 2, 3, 4, 5, 6] rfl (kx_game_j106 K E ih v1 v2 v3 v4 v5 σ45 h)
        · have h := ax_ie h c80
          refine ax_iconst (v := (1 : Int32)) K (by decide) dX1_game_83 ?_
          refine ax_aload_n K 1 rfl dX1_game_84 ?_
          refine xg_length K dX1_game_85 ?_
          refine ax_iload K 0 rfl dX1_game_88 ?_
          refine xl_length K h.1 dX1_game_90 ?_
          replace h := h.2
          refine ax_iadd K dX1_game_91 ?_
          refine ax_aload_n K 1 rfl dX1_game_92 ?_
          refine xg_length K dX1_game_93 ?_
          refine ax_iload_n K 4 rfl dX1_game_96 ?_
          refine xl_length K h.1 dX1_game_97 ?_
          replace h := h.2
          refine ax_icmp_ne (tgt := 106) K dX1_game_98 (by decide) (fun c98 => ?_) (fun c98 => ?_)
          · have h := ax_ie h c98
            exact ax_sub [1, 2, 3, 4, 5, 6] rfl (kx_game_j106 K E ih v1 v2 v3 v4 v5 σ45 h)
          · have h := ax_it h c98
            refine ax_iload K 6 rfl dX1_game_101 ?_
            refine ax_goto (tgt := 108) K dX1_game_103 (by decide) ?_
            exact ax_sub [1, 2, 3, 4, 6] rfl (kx_game_j108 K E ih v1 v2 v3 v5 v5 σ45 h)
      · have h := ax_it h c48
        refine ax_goto (tgt := 110) K dX1_game_51 (by decide) ?_
        exact ax_sub [0, 1, 2, 3, 4, 5] rfl (kx_game_j110 K E ih v1 v2 v3 v4 v5 σ45 h)
set_option maxHeartbeats 4000000 in
theorem kx_game_j166 {Z : AZ} {G : AG} {L : Nat → Nat} {P : Int32 → St → Prop} (K : AK Z G cX1_game RX1 7 (rmH 5)) (E : AEi Z cX1_game .int (xW G L) 0 0 P) (s0 : Int32) (σ : St) (h : wx_game_j166 P  s0 σ) : AX Z 0 0 166 [(0, .ref (L 0))] [.int s0] (xW G L σ) := by
  unfold wx_game_j166 at h
  exact E _ _ _ _ dX1_game_166 rfl h
set_option maxHeartbeats 4000000 in
theorem kx_game_j138 {Z : AZ} {G : AG} {L : Nat → Nat} {P : Int32 → St → Prop} (K : AK Z G cX1_game RX1 7 (rmH 5)) (E : AEi Z cX1_game .int (xW G L) 0 0 P) (v3 : Int32) (s1 : Int32) (σ : St) (h : wx_game_j138 P  v3 s1 σ) : AX Z 0 0 138 [(0, .ref (L 0)), (3, .int v3)] [.int s1, .ref (L 0)] (xW G L σ) := by
  unfold wx_game_j138 at h
  refine rx_tells K (by decide) dX1_game_138 (Nat.le_of_ble_eq_true rfl) h (fun σ138 h => ?_)
  refine ax_aload_n K 0 rfl dX1_game_141 ?_
  refine ax_aload_n K 0 rfl dX1_game_142 ?_
  refine xg_length K dX1_game_143 ?_
  refine ax_iload_n K 1 rfl dX1_game_146 ?_
  refine xl_length K h.1 dX1_game_147 ?_
  replace h := h.2
  refine rx_tells K (by decide) dX1_game_148 (Nat.le_of_ble_eq_true rfl) h (fun σ148 h => ?_)
  refine ax_aload_n K 0 rfl dX1_game_151 ?_
  refine xg_value K dX1_game_152 ?_
  refine ax_iload_n K 1 rfl dX1_game_155 ?_
  refine xl_value K h.1 dX1_game_156 ?_
  replace h := h.2
  refine ax_iconst (v := (1 : Int32)) K (by decide) dX1_game_157 ?_
  refine ax_icmp_ne (tgt := 165) K dX1_game_158 (by decide) (fun c158 => ?_) (fun c158 => ?_)
  · have h := ax_ie h c158
    refine ax_iconst (v := (0 : Int32)) K (by decide) dX1_game_165 ?_
    exact ax_sub [0] rfl (kx_game_j166 K E  (0 : Int32) σ148 h)
  · have h := ax_it h c158
    refine ax_iconst (v := (1 : Int32)) K (by decide) dX1_game_161 ?_
    refine ax_goto (tgt := 166) K dX1_game_162 (by decide) ?_
    exact ax_sub [0] rfl (kx_game_j166 K E  (1 : Int32) σ148 h)
set_option maxHeartbeats 4000000 in
theorem mx_game {l : Launch} {G : AG} {L : Nat → Nat} {σ : St} {P : Int32 → St → Prop} (h : wx_game σ P) : CtW l G yX1_game cX1_game 7 (some .int) (rmH 5) [.ref (L 0)] (xW G L) σ (pI P) := by
  refine CtW.ofI (by decide) (Nat.le_of_ble_eq_true rfl) fun Z _ K E => ?_
  unfold wx_game at h
  show AX Z 0 0 0 [(0, .ref (L 0))] [] (xW G L σ)
  refine ax_aload_n K 0 rfl dX1_game_0 ?_
  refine rx_laysOut K (by decide) dX1_game_1 (Nat.le_of_ble_eq_true rfl) h (fun σ1 h => ?_)
  refine ax_aload_n K 0 rfl dX1_game_4 ?_
  refine rx_plays K (by decide) dX1_game_5 (Nat.le_of_ble_eq_true rfl) h (fun σ5 h => ?_)
  refine ax_aload_n K 0 rfl dX1_game_8 ?_
  refine rx_setNow K (by decide) dX1_game_9 (Nat.le_of_ble_eq_true rfl) h (fun r9 σ9 h => ?_)
  refine ax_istore_n (lv' := [(1, .int r9), (0, .ref (L 0))]) K dX1_game_12 (by decide) rfl ?_
  refine ax_aload_n K 1 rfl dX1_game_13 ?_
  refine rx_lastNow K (by decide) dX1_game_14 (Nat.le_of_ble_eq_true rfl) h (fun r14 σ14 h => ?_)
  refine ax_istore_n (lv' := [(2, .int r14), (1, .int r9), (0, .ref (L 0))]) K dX1_game_17 (by decide) rfl ?_
  refine ax_iload_n K 1 rfl dX1_game_18 ?_
  refine ax_iload_n K 0 rfl dX1_game_19 ?_
  refine rx_stateOf K (by decide) dX1_game_20 (Nat.le_of_ble_eq_true rfl) h (fun r20 h => ?_)
  refine ax_istore_n (lv' := [(3, .int r20), (2, .int r14), (1, .int r9), (0, .ref (L 0))]) K dX1_game_23 (by decide) rfl ?_
  refine ax_iconst (v := (-1 : Int32)) K (by decide) dX1_game_24 ?_
  refine ax_istore (lv' := [(4, .int (-1 : Int32)), (3, .int r20), (2, .int r14), (1, .int r9), (0, .ref (L 0))]) K dX1_game_25 (by decide) rfl ?_
  refine ax_aload_n K 4 rfl dX1_game_27 ?_
  refine xg_dishes K dX1_game_28 ?_
  refine ax_iconst (v := (1 : Int32)) K (by decide) dX1_game_31 ?_
  refine ax_isub K dX1_game_32 ?_
  refine ax_istore (lv' := [(5, .int ((xI_dishes σ14) - (1 : Int32))), (4, .int (-1 : Int32)), (3, .int r20), (2, .int r14), (1, .int r9), (0, .ref (L 0))]) K dX1_game_33 (by decide) rfl ?_
  exact ax_sub [5, 4, 3, 2, 1, 0] rfl (h.elim fun n35 h => kx_game_l35 K E (kx_game_j138 K E) n35 r9 r14 r20 (-1 : Int32) ((xI_dishes σ14) - (1 : Int32)) σ14 h)

/-! x.hearths -/
set_option maxHeartbeats 4000000 in
theorem kx_hearths_j76 {Z : AZ} {G : AG} {L : Nat → Nat} {P : Int32 → St → Prop} (K : AK Z G cX1_hearths RX1 6 (rmH 5)) (E : AEi Z cX1_hearths .int (xW G L) 0 0 P) {K27 : Int32 → Int32 → Int32 → Int32 → Int32 → St → Prop} (hK27 : ∀ (v1 : Int32) (v2 : Int32) (v3 : Int32) (v4 : Int32) (v5 : Int32) (σ : St), K27 v1 v2 v3 v4 v5 σ → AX Z 0 0 27 [(0, .ref (L 0)), (1, .int v1), (2, .int v2), (3, .int v3), (4, .int v4), (5, .int v5)] [] (xW G L σ)) (v1 : Int32) (v2 : Int32) (v3 : Int32) (v5 : Int32) (s0 : Int32) (s1 : Int32) (σ : St) (h : wx_hearths_j76 P K27 v1 v2 v3 v5 s0 s1 σ) : AX Z 0 0 76 [(0, .ref (L 0)), (1, .int v1), (2, .int v2), (3, .int v3), (5, .int v5)] [.int s1, .int s0] (xW G L σ) := by
  unfold wx_hearths_j76 at h
  refine ax_iadd K dX1_hearths_76 ?_
  refine ax_istore (lv' := [(4, .int (s0 + s1)), (0, .ref (L 0)), (1, .int v1), (2, .int v2), (3, .int v3), (5, .int v5)]) K dX1_hearths_77 (by decide) rfl ?_
  refine ax_iinc (lv' := [(5, .int (v5 + (1 : Int32))), (4, .int (s0 + s1)), (0, .ref (L 0)), (1, .int v1), (2, .int v2), (3, .int v3)]) (v := (v5 + (1 : Int32))) K 5 dX1_hearths_79 rfl (by rfl) (by decide) rfl ?_
  refine ax_goto (tgt := 27) K dX1_hearths_82 (by decide) ?_
  exact ax_sub [2, 3, 4, 5, 1, 0] rfl (hK27 v1 v2 v3 (s0 + s1) (v5 + (1 : Int32)) σ h)
set_option maxHeartbeats 4000000 in
theorem kx_hearths_j75 {Z : AZ} {G : AG} {L : Nat → Nat} {P : Int32 → St → Prop} (K : AK Z G cX1_hearths RX1 6 (rmH 5)) (E : AEi Z cX1_hearths .int (xW G L) 0 0 P) {K27 : Int32 → Int32 → Int32 → Int32 → Int32 → St → Prop} (hK27 : ∀ (v1 : Int32) (v2 : Int32) (v3 : Int32) (v4 : Int32) (v5 : Int32) (σ : St), K27 v1 v2 v3 v4 v5 σ → AX Z 0 0 27 [(0, .ref (L 0)), (1, .int v1), (2, .int v2), (3, .int v3), (4, .int v4), (5, .int v5)] [] (xW G L σ)) (v1 : Int32) (v2 : Int32) (v3 : Int32) (v5 : Int32) (s0 : Int32) (σ : St) (h : wx_hearths_j75 P K27 v1 v2 v3 v5 s0 σ) : AX Z 0 0 75 [(0, .ref (L 0)), (1, .int v1), (2, .int v2), (3, .int v3), (5, .int v5)] [.int s0] (xW G L σ) := by
  unfold wx_hearths_j75 at h
  refine ax_iconst (v := (0 : Int32)) K (by decide) dX1_hearths_75 ?_
  exact ax_sub [0, 1, 2, 3, 4] rfl (kx_hearths_j76 K E hK27 v1 v2 v3 v5 s0 (0 : Int32) σ h)
set_option maxHeartbeats 4000000 in
theorem kx_hearths_l27 {Z : AZ} {G : AG} {L : Nat → Nat} {P : Int32 → St → Prop} (K : AK Z G cX1_hearths RX1 6 (rmH 5)) (E : AEi Z cX1_hearths .int (xW G L) 0 0 P) {K15 : Int32 → Int32 → Int32 → St → Prop} (hK15 : ∀ (v1 : Int32) (v2 : Int32) (v3 : Int32) (σ : St), K15 v1 v2 v3 σ → AX Z 0 0 15 [(0, .ref (L 0)), (1, .int v1), (2, .int v2), (3, .int v3)] [] (xW G L σ)) : ∀ (n : Nat) (v1 : Int32) (v2 : Int32) (v3 : Int32) (v4 : Int32) (v5 : Int32) (σ : St), wx_hearths_l27 P K15 n v1 v2 v3 v4 v5 σ → AX Z 0 0 27 [(0, .ref (L 0)), (1, .int v1), (2, .int v2), (3, .int v3), (4, .int v4), (5, .int v5)] [] (xW G L σ) := by
  intro n
  induction n with
  | zero => intro v1 v2 v3 v4 v5 σ h; exact False.elim h
  | succ n ih =>
    intro v1 v2 v3 v4 v5 σ h
    rw [wx_hearths_l27_s] at h
    refine ax_iload K 5 rfl dX1_hearths_27 ?_
    refine ax_aload_n K 0 rfl dX1_hearths_29 ?_
    refine xg_menuMany K dX1_hearths_30 ?_
    refine ax_iload_n K 1 rfl dX1_hearths_33 ?_
    refine xl_menuMany K h.1 dX1_hearths_34 ?_
    replace h := h.2
    refine ax_icmp_ge (tgt := 85) K dX1_hearths_35 (by decide) (fun c35 => ?_) (fun c35 => ?_)
    · have h := ax_it h c35
      refine ax_iload_n K 2 rfl dX1_hearths_85 ?_
      refine ax_iload K 4 rfl dX1_hearths_86 ?_
      refine rx_max K (by decide) (Nat.le_of_ble_eq_true rfl) dX1_hearths_88 ?_
      refine ax_istore_n (lv' := [(2, .int (jmax v2 v4)), (0, .ref (L 0)), (1, .int v1), (3, .int v3), (4, .int v4), (5, .int v5)]) K dX1_hearths_91 (by decide) rfl ?_
      refine ax_iinc (lv' := [(3, .int (v3 + (1 : Int32))), (2, .int (jmax v2 v4)), (0, .ref (L 0)), (1, .int v1), (4, .int v4), (5, .int v5)]) (v := (v3 + (1 : Int32))) K 3 dX1_hearths_92 rfl (by rfl) (by decide) rfl ?_
      refine ax_goto (tgt := 15) K dX1_hearths_95 (by decide) ?_
      exact ax_sub [2, 3, 1, 0] rfl (hK15 v1 (jmax v2 v4) (v3 + (1 : Int32)) σ h)
    · have h := ax_ie h c35
      refine ax_iload K 4 rfl dX1_hearths_38 ?_
      refine ax_iload_n K 3 rfl dX1_hearths_40 ?_
      refine ax_bipush (v := (10 : Int32)) K (by decide) dX1_hearths_41 ?_
      refine ax_iload K 5 rfl dX1_hearths_43 ?_
      refine ax_iadd K dX1_hearths_45 ?_
      refine ax_aload_n K 0 rfl dX1_hearths_46 ?_
      refine xg_hours K dX1_hearths_47 ?_
      refine ax_aload_n K 0 rfl dX1_hearths_50 ?_
      refine ax_iload_n K 1 rfl dX1_hearths_51 ?_
      refine ax_iload K 5 rfl dX1_hearths_52 ?_
      refine rx_dishAt K (by decide) dX1_hearths_54 (Nat.le_of_ble_eq_true rfl) h (fun r54 σ54 h => ?_)
      refine xl_hours K h.1 dX1_hearths_57 ?_
      replace h := h.2
      refine ax_isub K dX1_hearths_58 ?_
      refine ax_icmp_lt (tgt := 75) K dX1_hearths_59 (by decide) (fun c59 => ?_) (fun c59 => ?_)
      · have h := ax_it h c59
        exact ax_sub [0, 1, 2, 3, 5] rfl (kx_hearths_j75 K E ih v1 v2 v3 v5 v4 σ54 h)
      · have h := ax_ie h c59
        refine ax_iload_n K 3 rfl dX1_hearths_62 ?_
        refine ax_bipush (v := (10 : Int32)) K (by decide) dX1_hearths_63 ?_
        refine ax_iload K 5 rfl dX1_hearths_65 ?_
        refine ax_iadd K dX1_hearths_67 ?_
        refine ax_icmp_ge (tgt := 75) K dX1_hearths_68 (by decide) (fun c68 => ?_) (fun c68 => ?_)
        · have h := ax_it h c68
          exact ax_sub [0, 1, 2, 3, 5] rfl (kx_hearths_j75 K E ih v1 v2 v3 v5 v4 σ54 h)
        · have h := ax_ie h c68
          refine ax_iconst (v := (1 : Int32)) K (by decide) dX1_hearths_71 ?_
          refine ax_goto (tgt := 76) K dX1_hearths_72 (by decide) ?_
          exact ax_sub [0, 1, 2, 3, 5] rfl (kx_hearths_j76 K E ih v1 v2 v3 v5 v4 (1 : Int32) σ54 h)
set_option maxHeartbeats 4000000 in
theorem kx_hearths_l15 {Z : AZ} {G : AG} {L : Nat → Nat} {P : Int32 → St → Prop} (K : AK Z G cX1_hearths RX1 6 (rmH 5)) (E : AEi Z cX1_hearths .int (xW G L) 0 0 P) {K105 : Int32 → Int32 → Int32 → St → Prop} (hK105 : ∀ (v1 : Int32) (v2 : Int32) (v3 : Int32) (σ : St), K105 v1 v2 v3 σ → AX Z 0 0 105 [(0, .ref (L 0)), (1, .int v1), (2, .int v2), (3, .int v3)] [] (xW G L σ)) : ∀ (n : Nat) (v1 : Int32) (v2 : Int32) (v3 : Int32) (σ : St), wx_hearths_l15 P K105 n v1 v2 v3 σ → AX Z 0 0 15 [(0, .ref (L 0)), (1, .int v1), (2, .int v2), (3, .int v3)] [] (xW G L σ) := by
  intro n
  induction n with
  | zero => intro v1 v2 v3 σ h; exact False.elim h
  | succ n ih =>
    intro v1 v2 v3 σ h
    rw [wx_hearths_l15_s] at h
    refine ax_iload_n K 3 rfl dX1_hearths_15 ?_
    refine ax_bipush (v := (20 : Int32)) K (by decide) dX1_hearths_16 ?_
    refine ax_icmp_ge (tgt := 98) K dX1_hearths_18 (by decide) (fun c18 => ?_) (fun c18 => ?_)
    · have h := ax_it h c18
      refine ax_aload_n K 0 rfl dX1_hearths_98 ?_
      refine ax_iconst (v := (0 : Int32)) K (by decide) dX1_hearths_99 ?_
      refine xp_rowMany K dX1_hearths_100 ?_
      refine ax_iconst (v := (0 : Int32)) K (by decide) dX1_hearths_103 ?_
      refine ax_istore_n (lv' := [(3, .int (0 : Int32)), (0, .ref (L 0)), (1, .int v1), (2, .int v2)]) K dX1_hearths_104 (by decide) rfl ?_
      exact ax_sub [1, 2, 3, 0] rfl (hK105 v1 v2 (0 : Int32) (xS_rowMany σ (0 : Int32)) h)
    · have h := ax_ie h c18
      refine ax_iconst (v := (0 : Int32)) K (by decide) dX1_hearths_21 ?_
      refine ax_istore (lv' := [(4, .int (0 : Int32)), (0, .ref (L 0)), (1, .int v1), (2, .int v2), (3, .int v3)]) K dX1_hearths_22 (by decide) rfl ?_
      refine ax_iconst (v := (0 : Int32)) K (by decide) dX1_hearths_24 ?_
      refine ax_istore (lv' := [(5, .int (0 : Int32)), (4, .int (0 : Int32)), (0, .ref (L 0)), (1, .int v1), (2, .int v2), (3, .int v3)]) K dX1_hearths_25 (by decide) rfl ?_
      exact ax_sub [2, 3, 4, 5, 1, 0] rfl (h.elim fun n27 h => kx_hearths_l27 K E ih n27 v1 v2 v3 (0 : Int32) (0 : Int32) σ h)
set_option maxHeartbeats 4000000 in
theorem kx_hearths_l105 {Z : AZ} {G : AG} {L : Nat → Nat} {P : Int32 → St → Prop} (K : AK Z G cX1_hearths RX1 6 (rmH 5)) (E : AEi Z cX1_hearths .int (xW G L) 0 0 P) : ∀ (n : Nat) (v1 : Int32) (v2 : Int32) (v3 : Int32) (σ : St), wx_hearths_l105 P  n v1 v2 v3 σ → AX Z 0 0 105 [(0, .ref (L 0)), (1, .int v1), (2, .int v2), (3, .int v3)] [] (xW G L σ) := by
  intro n
  induction n with
  | zero => intro v1 v2 v3 σ h; exact False.elim h
  | succ n ih =>
    intro v1 v2 v3 σ h
    rw [wx_hearths_l105_s] at h
    refine ax_iload_n K 3 rfl dX1_hearths_105 ?_
    refine ax_aload_n K 0 rfl dX1_hearths_106 ?_
    refine xg_menuMany K dX1_hearths_107 ?_
    refine ax_iload_n K 1 rfl dX1_hearths_110 ?_
    refine xl_menuMany K h.1 dX1_hearths_111 ?_
    replace h := h.2
    refine ax_icmp_ge (tgt := 141) K dX1_hearths_112 (by decide) (fun c112 => ?_) (fun c112 => ?_)
    · have h := ax_it h c112
      refine ax_iload_n K 2 rfl dX1_hearths_141 ?_
      exact E _ _ _ _ dX1_hearths_142 rfl h
    · have h := ax_ie h c112
      refine ax_aload_n K 0 rfl dX1_hearths_115 ?_
      refine ax_bipush (v := (10 : Int32)) K (by decide) dX1_hearths_116 ?_
      refine ax_iload_n K 3 rfl dX1_hearths_118 ?_
      refine ax_iadd K dX1_hearths_119 ?_
      refine ax_aload_n K 0 rfl dX1_hearths_120 ?_
      refine xg_hours K dX1_hearths_121 ?_
      refine ax_aload_n K 0 rfl dX1_hearths_124 ?_
      refine ax_iload_n K 1 rfl dX1_hearths_125 ?_
      refine ax_iload_n K 3 rfl dX1_hearths_126 ?_
      refine rx_dishAt K (by decide) dX1_hearths_127 (Nat.le_of_ble_eq_true rfl) h (fun r127 σ127 h => ?_)
      refine xl_hours K h.1 dX1_hearths_130 ?_
      replace h := h.2
      refine ax_isub K dX1_hearths_131 ?_
      refine rx_tells K (by decide) dX1_hearths_132 (Nat.le_of_ble_eq_true rfl) h (fun σ132 h => ?_)
      refine ax_iinc (lv' := [(3, .int (v3 + (1 : Int32))), (0, .ref (L 0)), (1, .int v1), (2, .int v2)]) (v := (v3 + (1 : Int32))) K 3 dX1_hearths_135 rfl (by rfl) (by decide) rfl ?_
      refine ax_goto (tgt := 105) K dX1_hearths_138 (by decide) ?_
      exact ax_sub [1, 2, 3, 0] rfl (ih v1 v2 (v3 + (1 : Int32)) σ132 h)
set_option maxHeartbeats 4000000 in
theorem mx_hearths {l : Launch} {G : AG} {L : Nat → Nat} {σ : St} {v1 : Int32} {P : Int32 → St → Prop} (h : wx_hearths σ v1 P) : CtW l G yX1_hearths cX1_hearths 6 (some .int) (rmH 5) [.ref (L 0), .int v1] (xW G L) σ (pI P) := by
  refine CtW.ofI (by decide) (Nat.le_of_ble_eq_true rfl) fun Z _ K E => ?_
  unfold wx_hearths at h
  show AX Z 0 0 0 [(0, .ref (L 0)), (1, .int v1)] [] (xW G L σ)
  refine ax_aload_n K 0 rfl dX1_hearths_0 ?_
  refine ax_iload_n K 1 rfl dX1_hearths_1 ?_
  refine rx_isWhole K (by decide) dX1_hearths_2 (Nat.le_of_ble_eq_true rfl) h (fun r2 σ2 h => ?_)
  refine ax_if_ne (tgt := 11) K dX1_hearths_5 (by decide) (fun c5 => ?_) (fun c5 => ?_)
  · have h := ax_ie h c5
    refine ax_iconst (v := (0 : Int32)) K (by decide) dX1_hearths_11 ?_
    refine ax_istore_n (lv' := [(2, .int (0 : Int32)), (0, .ref (L 0)), (1, .int v1)]) K dX1_hearths_12 (by decide) rfl ?_
    refine ax_iconst (v := (0 : Int32)) K (by decide) dX1_hearths_13 ?_
    refine ax_istore_n (lv' := [(3, .int (0 : Int32)), (2, .int (0 : Int32)), (0, .ref (L 0)), (1, .int v1)]) K dX1_hearths_14 (by decide) rfl ?_
    exact ax_sub [2, 3, 1, 0] rfl (h.elim fun n15 h => kx_hearths_l15 K E (fun v1 v2 v3 σ h => h.elim fun n105 h => kx_hearths_l105 K E  n105 v1 v2 v3 σ h) n15 v1 (0 : Int32) (0 : Int32) σ2 h)
  · have h := ax_it h c5
    refine ax_bipush (v := (-3 : Int32)) K (by decide) dX1_hearths_8 ?_
    exact E _ _ _ _ dX1_hearths_10 rfl h

/-! x.joined -/
set_option maxHeartbeats 4000000 in
theorem kx_joined_j16 {Z : AZ} {G : AG} {L : Nat → Nat} {P : Int32 → St → Prop} (K : AK Z G cX1_joined RX1 9 (rmH 5)) (E : AEi Z cX1_joined .int (xW G L) 0 0 P) (σ : St) (h : wx_joined_j16 P  σ) : AX Z 0 0 16 [(0, .ref (L 0))] [] (xW G L σ) := by
  unfold wx_joined_j16 at h
  refine ax_bipush (v := (-3 : Int32)) K (by decide) dX1_joined_16 ?_
  exact E _ _ _ _ dX1_joined_18 rfl h
set_option maxHeartbeats 4000000 in
theorem kx_joined_j127 {Z : AZ} {G : AG} {L : Nat → Nat} {P : Int32 → St → Prop} (K : AK Z G cX1_joined RX1 9 (rmH 5)) (E : AEi Z cX1_joined .int (xW G L) 0 0 P) {K34 : Int32 → Int32 → Int32 → Int32 → Int32 → Int32 → Int32 → St → Prop} (hK34 : ∀ (v1 : Int32) (v2 : Int32) (v3 : Int32) (v4 : Int32) (v5 : Int32) (v6 : Int32) (v7 : Int32) (σ : St), K34 v1 v2 v3 v4 v5 v6 v7 σ → AX Z 0 0 34 [(0, .ref (L 0)), (1, .int v1), (2, .int v2), (3, .int v3), (4, .int v4), (5, .int v5), (6, .int v6), (7, .int v7)] [] (xW G L σ)) (v1 : Int32) (v2 : Int32) (v3 : Int32) (v5 : Int32) (v7 : Int32) (v8 : Int32) (s0 : Int32) (σ : St) (h : wx_joined_j127 P K34 v1 v2 v3 v5 v7 v8 s0 σ) : AX Z 0 0 127 [(0, .ref (L 0)), (1, .int v1), (2, .int v2), (3, .int v3), (5, .int v5), (7, .int v7), (8, .int v8)] [.int s0] (xW G L σ) := by
  unfold wx_joined_j127 at h
  refine ax_istore (lv' := [(6, .int s0), (0, .ref (L 0)), (1, .int v1), (2, .int v2), (3, .int v3), (5, .int v5), (7, .int v7), (8, .int v8)]) K dX1_joined_127 (by decide) rfl ?_
  refine ax_iload K 7 rfl dX1_joined_129 ?_
  refine ax_istore (lv' := [(4, .int v8), (6, .int s0), (0, .ref (L 0)), (1, .int v1), (2, .int v2), (3, .int v3), (5, .int v5), (7, .int v7), (8, .int v8)]) K dX1_joined_131 (by decide) rfl ?_
  refine ax_iload_n K 5 rfl dX1_joined_133 ?_
  refine ax_iconst (v := (1 : Int32)) K (by decide) dX1_joined_134 ?_
  refine ax_iload K 8 rfl dX1_joined_135 ?_
  refine ax_ishl K dX1_joined_137 ?_
  refine ax_ior K dX1_joined_138 ?_
  refine ax_istore_n (lv' := [(3, .int (v3 ||| ((1 : Int32) <<< (v8 &&& 31)))), (4, .int v8), (6, .int s0), (0, .ref (L 0)), (1, .int v1), (2, .int v2), (5, .int v5), (7, .int v7), (8, .int v8)]) K dX1_joined_139 (by decide) rfl ?_
  refine ax_iinc (lv' := [(7, .int (v7 + (1 : Int32))), (3, .int (v3 ||| ((1 : Int32) <<< (v8 &&& 31)))), (4, .int v8), (6, .int s0), (0, .ref (L 0)), (1, .int v1), (2, .int v2), (5, .int v5), (8, .int v8)]) (v := (v7 + (1 : Int32))) K 7 dX1_joined_140 rfl (by rfl) (by decide) rfl ?_
  refine ax_goto (tgt := 34) K dX1_joined_143 (by decide) ?_
  exact ax_sub [4, 5, 6, 1, 2, 7, 3, 0] rfl (hK34 v1 v2 (v3 ||| ((1 : Int32) <<< (v8 &&& 31))) v8 v5 s0 (v7 + (1 : Int32)) σ h)
set_option maxHeartbeats 4000000 in
theorem kx_joined_j102 {Z : AZ} {G : AG} {L : Nat → Nat} {P : Int32 → St → Prop} (K : AK Z G cX1_joined RX1 9 (rmH 5)) (E : AEi Z cX1_joined .int (xW G L) 0 0 P) {K34 : Int32 → Int32 → Int32 → Int32 → Int32 → Int32 → Int32 → St → Prop} (hK34 : ∀ (v1 : Int32) (v2 : Int32) (v3 : Int32) (v4 : Int32) (v5 : Int32) (v6 : Int32) (v7 : Int32) (σ : St), K34 v1 v2 v3 v4 v5 v6 v7 σ → AX Z 0 0 34 [(0, .ref (L 0)), (1, .int v1), (2, .int v2), (3, .int v3), (4, .int v4), (5, .int v5), (6, .int v6), (7, .int v7)] [] (xW G L σ)) (v1 : Int32) (v2 : Int32) (v3 : Int32) (v4 : Int32) (v6 : Int32) (v7 : Int32) (s0 : Int32) (σ : St) (h : wx_joined_j102 P K34 v1 v2 v3 v4 v6 v7 s0 σ) : AX Z 0 0 102 [(0, .ref (L 0)), (1, .int v1), (2, .int v2), (3, .int v3), (4, .int v4), (6, .int v6), (7, .int v7)] [.int s0] (xW G L σ) := by
  unfold wx_joined_j102 at h
  refine ax_istore (lv' := [(8, .int s0), (0, .ref (L 0)), (1, .int v1), (2, .int v2), (3, .int v3), (4, .int v4), (6, .int v6), (7, .int v7)]) K dX1_joined_102 (by decide) rfl ?_
  refine ax_aload_n K 1 rfl dX1_joined_104 ?_
  refine ax_iload_n K 4 rfl dX1_joined_105 ?_
  refine ax_iload K 5 rfl dX1_joined_106 ?_
  refine ax_iload K 0 rfl dX1_joined_108 ?_
  refine rx_whyNot K (by decide) dX1_joined_110 (Nat.le_of_ble_eq_true rfl) h (fun r110 σ110 h => ?_)
  refine ax_istore (lv' := [(5, .int r110), (8, .int s0), (0, .ref (L 0)), (1, .int v1), (2, .int v2), (3, .int v3), (4, .int v4), (6, .int v6), (7, .int v7)]) K dX1_joined_113 (by decide) rfl ?_
  refine ax_iload K 0 rfl dX1_joined_115 ?_
  refine ax_if_ge (tgt := 125) K dX1_joined_117 (by decide) (fun c117 => ?_) (fun c117 => ?_)
  · have h := ax_it h c117
    refine ax_iload K 7 rfl dX1_joined_125 ?_
    exact ax_sub [2, 3, 4, 5, 0, 8, 1] rfl (kx_joined_j127 K E hK34 v1 v2 v3 r110 v7 s0 v6 σ110 h)
  · have h := ax_ie h c117
    refine ax_iload K 8 rfl dX1_joined_120 ?_
    refine ax_goto (tgt := 127) K dX1_joined_122 (by decide) ?_
    exact ax_sub [2, 3, 4, 5, 0, 8, 1] rfl (kx_joined_j127 K E hK34 v1 v2 v3 r110 v7 s0 v7 σ110 h)
set_option maxHeartbeats 4000000 in
theorem kx_joined_l34 {Z : AZ} {G : AG} {L : Nat → Nat} {P : Int32 → St → Prop} (K : AK Z G cX1_joined RX1 9 (rmH 5)) (E : AEi Z cX1_joined .int (xW G L) 0 0 P) {K146 : Int32 → Int32 → St → Prop} (hK146 : ∀ (v5 : Int32) (v6 : Int32) (σ : St), K146 v5 v6 σ → AX Z 0 0 146 [(0, .ref (L 0)), (5, .int v5), (6, .int v6)] [] (xW G L σ)) : ∀ (n : Nat) (v1 : Int32) (v2 : Int32) (v3 : Int32) (v4 : Int32) (v5 : Int32) (v6 : Int32) (v7 : Int32) (σ : St), wx_joined_l34 P K146 n v1 v2 v3 v4 v5 v6 v7 σ → AX Z 0 0 34 [(0, .ref (L 0)), (1, .int v1), (2, .int v2), (3, .int v3), (4, .int v4), (5, .int v5), (6, .int v6), (7, .int v7)] [] (xW G L σ) := by
  intro n
  induction n with
  | zero => intro v1 v2 v3 v4 v5 v6 v7 σ h; exact False.elim h
  | succ n ih =>
    intro v1 v2 v3 v4 v5 v6 v7 σ h
    rw [wx_joined_l34_s] at h
    refine ax_iload K 7 rfl dX1_joined_34 ?_
    refine ax_aload_n K 0 rfl dX1_joined_36 ?_
    refine xg_menuMany K dX1_joined_37 ?_
    refine ax_iload_n K 1 rfl dX1_joined_40 ?_
    refine xl_menuMany K h.1 dX1_joined_41 ?_
    replace h := h.2
    refine ax_aload_n K 0 rfl dX1_joined_42 ?_
    refine xg_menuMany K dX1_joined_43 ?_
    refine ax_iload_n K 2 rfl dX1_joined_46 ?_
    refine xl_menuMany K h.1 dX1_joined_47 ?_
    replace h := h.2
    refine ax_iadd K dX1_joined_48 ?_
    refine ax_icmp_ge (tgt := 146) K dX1_joined_49 (by decide) (fun c49 => ?_) (fun c49 => ?_)
    · have h := ax_it h c49
      exact ax_sub [0, 5, 6] rfl (hK146 v5 v6 σ h)
    · have h := ax_ie h c49
      refine ax_iload K 6 rfl dX1_joined_52 ?_
      refine ax_if_ge (tgt := 146) K dX1_joined_54 (by decide) (fun c54 => ?_) (fun c54 => ?_)
      · have h := ax_it h c54
        exact ax_sub [0, 5, 6] rfl (hK146 v5 v6 σ h)
      · have h := ax_ie h c54
        refine ax_iload K 7 rfl dX1_joined_57 ?_
        refine ax_aload_n K 0 rfl dX1_joined_59 ?_
        refine xg_menuMany K dX1_joined_60 ?_
        refine ax_iload_n K 1 rfl dX1_joined_63 ?_
        refine xl_menuMany K h.1 dX1_joined_64 ?_
        replace h := h.2
        refine ax_icmp_ge (tgt := 83) K dX1_joined_65 (by decide) (fun c65 => ?_) (fun c65 => ?_)
        · have h := ax_it h c65
          refine ax_aload_n K 0 rfl dX1_joined_83 ?_
          refine xg_menu K dX1_joined_84 ?_
          refine ax_bipush (v := (10 : Int32)) K (by decide) dX1_joined_87 ?_
          refine ax_iload_n K 2 rfl dX1_joined_89 ?_
          refine ax_imul K dX1_joined_90 ?_
          refine ax_iload K 7 rfl dX1_joined_91 ?_
          refine ax_iadd K dX1_joined_93 ?_
          refine ax_aload_n K 0 rfl dX1_joined_94 ?_
          refine xg_menuMany K dX1_joined_95 ?_
          refine ax_iload_n K 1 rfl dX1_joined_98 ?_
          refine xl_menuMany K h.1 dX1_joined_99 ?_
          replace h := h.2
          refine ax_isub K dX1_joined_100 ?_
          refine xl_menu K h.1 dX1_joined_101 ?_
          replace h := h.2
          exact ax_sub [0, 1, 2, 3, 4, 6, 7] rfl (kx_joined_j102 K E ih v1 v2 v3 v4 v6 v7 (xA_menu σ (((((10 : Int32) * v2) + v7) - (xA_menuMany σ (v1).toNatClampNeg))).toNatClampNeg) σ h)
        · have h := ax_ie h c65
          refine ax_aload_n K 0 rfl dX1_joined_68 ?_
          refine xg_menu K dX1_joined_69 ?_
          refine ax_bipush (v := (10 : Int32)) K (by decide) dX1_joined_72 ?_
          refine ax_iload_n K 1 rfl dX1_joined_74 ?_
          refine ax_imul K dX1_joined_75 ?_
          refine ax_iload K 7 rfl dX1_joined_76 ?_
          refine ax_iadd K dX1_joined_78 ?_
          refine xl_menu K h.1 dX1_joined_79 ?_
          replace h := h.2
          refine ax_goto (tgt := 102) K dX1_joined_80 (by decide) ?_
          exact ax_sub [0, 1, 2, 3, 4, 6, 7] rfl (kx_joined_j102 K E ih v1 v2 v3 v4 v6 v7 (xA_menu σ ((((10 : Int32) * v1) + v7)).toNatClampNeg) σ h)
set_option maxHeartbeats 4000000 in
theorem kx_joined_j146 {Z : AZ} {G : AG} {L : Nat → Nat} {P : Int32 → St → Prop} (K : AK Z G cX1_joined RX1 9 (rmH 5)) (E : AEi Z cX1_joined .int (xW G L) 0 0 P) (v5 : Int32) (v6 : Int32) (σ : St) (h : wx_joined_j146 P  v5 v6 σ) : AX Z 0 0 146 [(0, .ref (L 0)), (5, .int v5), (6, .int v6)] [] (xW G L σ) := by
  unfold wx_joined_j146 at h
  refine ax_aload_n K 0 rfl dX1_joined_146 ?_
  refine ax_iconst (v := (0 : Int32)) K (by decide) dX1_joined_147 ?_
  refine xp_rowMany K dX1_joined_148 ?_
  refine ax_aload_n K 0 rfl dX1_joined_151 ?_
  refine ax_iload K 1 rfl dX1_joined_152 ?_
  refine rx_tells K (by decide) dX1_joined_154 (Nat.le_of_ble_eq_true rfl) h (fun σ154 h => ?_)
  refine ax_iload K 2 rfl dX1_joined_157 ?_
  exact E _ _ _ _ dX1_joined_159 rfl h
set_option maxHeartbeats 4000000 in
theorem mx_joined {l : Launch} {G : AG} {L : Nat → Nat} {σ : St} {v1 : Int32} {v2 : Int32} {P : Int32 → St → Prop} (h : wx_joined σ v1 v2 P) : CtW l G yX1_joined cX1_joined 9 (some .int) (rmH 5) [.ref (L 0), .int v1, .int v2] (xW G L) σ (pI P) := by
  refine CtW.ofI (by decide) (Nat.le_of_ble_eq_true rfl) fun Z _ K E => ?_
  unfold wx_joined at h
  show AX Z 0 0 0 [(0, .ref (L 0)), (1, .int v1), (2, .int v2)] [] (xW G L σ)
  refine ax_aload_n K 0 rfl dX1_joined_0 ?_
  refine ax_iload_n K 1 rfl dX1_joined_1 ?_
  refine rx_isWhole K (by decide) dX1_joined_2 (Nat.le_of_ble_eq_true rfl) h (fun r2 σ2 h => ?_)
  refine ax_if_eq (tgt := 16) K dX1_joined_5 (by decide) (fun c5 => ?_) (fun c5 => ?_)
  · have h := ax_it h c5
    exact ax_sub [0] rfl (kx_joined_j16 K E  σ2 h)
  · have h := ax_ie h c5
    refine ax_aload_n K 0 rfl dX1_joined_8 ?_
    refine ax_iload_n K 2 rfl dX1_joined_9 ?_
    refine rx_isWhole K (by decide) dX1_joined_10 (Nat.le_of_ble_eq_true rfl) h (fun r10 σ10 h => ?_)
    refine ax_if_ne (tgt := 19) K dX1_joined_13 (by decide) (fun c13 => ?_) (fun c13 => ?_)
    · have h := ax_ie h c13
      refine ax_iconst (v := (0 : Int32)) K (by decide) dX1_joined_19 ?_
      refine ax_istore_n (lv' := [(3, .int (0 : Int32)), (0, .ref (L 0)), (1, .int v1), (2, .int v2)]) K dX1_joined_20 (by decide) rfl ?_
      refine ax_iconst (v := (-1 : Int32)) K (by decide) dX1_joined_21 ?_
      refine ax_istore (lv' := [(4, .int (-1 : Int32)), (3, .int (0 : Int32)), (0, .ref (L 0)), (1, .int v1), (2, .int v2)]) K dX1_joined_22 (by decide) rfl ?_
      refine ax_iconst (v := (0 : Int32)) K (by decide) dX1_joined_24 ?_
      refine ax_istore (lv' := [(5, .int (0 : Int32)), (4, .int (-1 : Int32)), (3, .int (0 : Int32)), (0, .ref (L 0)), (1, .int v1), (2, .int v2)]) K dX1_joined_25 (by decide) rfl ?_
      refine ax_bipush (v := (-2 : Int32)) K (by decide) dX1_joined_27 ?_
      refine ax_istore (lv' := [(6, .int (-2 : Int32)), (5, .int (0 : Int32)), (4, .int (-1 : Int32)), (3, .int (0 : Int32)), (0, .ref (L 0)), (1, .int v1), (2, .int v2)]) K dX1_joined_29 (by decide) rfl ?_
      refine ax_iconst (v := (0 : Int32)) K (by decide) dX1_joined_31 ?_
      refine ax_istore (lv' := [(7, .int (0 : Int32)), (6, .int (-2 : Int32)), (5, .int (0 : Int32)), (4, .int (-1 : Int32)), (3, .int (0 : Int32)), (0, .ref (L 0)), (1, .int v1), (2, .int v2)]) K dX1_joined_32 (by decide) rfl ?_
      exact ax_sub [5, 6, 7, 4, 3, 2, 1, 0] rfl (h.elim fun n34 h => kx_joined_l34 K E (kx_joined_j146 K E) n34 v1 v2 (0 : Int32) (-1 : Int32) (0 : Int32) (-2 : Int32) (0 : Int32) σ10 h)
    · have h := ax_it h c13
      exact ax_sub [0] rfl (kx_joined_j16 K E  σ10 h)

/-! x.kitchen -/
set_option maxHeartbeats 4000000 in
theorem kx_kitchen_j93 {Z : AZ} {G : AG} {L : Nat → Nat} {P : Int32 → St → Prop} (K : AK Z G cX1_kitchen RX1 7 (rmH 5)) (E : AEi Z cX1_kitchen .int (xW G L) 0 0 P) {K46 : Int32 → Int32 → Int32 → Int32 → St → Prop} (hK46 : ∀ (v1 : Int32) (v2 : Int32) (v3 : Int32) (v4 : Int32) (σ : St), K46 v1 v2 v3 v4 σ → AX Z 0 0 46 [(0, .ref (L 0)), (1, .int v1), (2, .int v2), (3, .int v3), (4, .int v4)] [] (xW G L σ)) (v1 : Int32) (v2 : Int32) (v3 : Int32) (s0 : Int32) (σ : St) (h : wx_kitchen_j93 P K46 v1 v2 v3 s0 σ) : AX Z 0 0 93 [(0, .ref (L 0)), (1, .int v1), (2, .int v2), (3, .int v3)] [.int s0] (xW G L σ) := by
  unfold wx_kitchen_j93 at h
  refine ax_istore (lv' := [(4, .int s0), (0, .ref (L 0)), (1, .int v1), (2, .int v2), (3, .int v3)]) K dX1_kitchen_93 (by decide) rfl ?_
  refine ax_goto (tgt := 46) K dX1_kitchen_95 (by decide) ?_
  exact ax_sub [1, 2, 3, 4, 0] rfl (hK46 v1 v2 v3 s0 σ h)
set_option maxHeartbeats 4000000 in
theorem kx_kitchen_j92 {Z : AZ} {G : AG} {L : Nat → Nat} {P : Int32 → St → Prop} (K : AK Z G cX1_kitchen RX1 7 (rmH 5)) (E : AEi Z cX1_kitchen .int (xW G L) 0 0 P) {K46 : Int32 → Int32 → Int32 → Int32 → St → Prop} (hK46 : ∀ (v1 : Int32) (v2 : Int32) (v3 : Int32) (v4 : Int32) (σ : St), K46 v1 v2 v3 v4 σ → AX Z 0 0 46 [(0, .ref (L 0)), (1, .int v1), (2, .int v2), (3, .int v3), (4, .int v4)] [] (xW G L σ)) (v1 : Int32) (v2 : Int32) (v3 : Int32) (σ : St) (h : wx_kitchen_j92 P K46 v1 v2 v3 σ) : AX Z 0 0 92 [(0, .ref (L 0)), (1, .int v1), (2, .int v2), (3, .int v3)] [] (xW G L σ) := by
  unfold wx_kitchen_j92 at h
  refine ax_iconst (v := (0 : Int32)) K (by decide) dX1_kitchen_92 ?_
  exact ax_sub [0, 1, 2, 3] rfl (kx_kitchen_j93 K E hK46 v1 v2 v3 (0 : Int32) σ h)
set_option maxHeartbeats 4000000 in
theorem kx_kitchen_j71 {Z : AZ} {G : AG} {L : Nat → Nat} {P : Int32 → St → Prop} (K : AK Z G cX1_kitchen RX1 7 (rmH 5)) (E : AEi Z cX1_kitchen .int (xW G L) 0 0 P) {K46 : Int32 → Int32 → Int32 → Int32 → St → Prop} (hK46 : ∀ (v1 : Int32) (v2 : Int32) (v3 : Int32) (v4 : Int32) (σ : St), K46 v1 v2 v3 v4 σ → AX Z 0 0 46 [(0, .ref (L 0)), (1, .int v1), (2, .int v2), (3, .int v3), (4, .int v4)] [] (xW G L σ)) (v1 : Int32) (v2 : Int32) (s0 : Int32) (σ : St) (h : wx_kitchen_j71 P K46 v1 v2 s0 σ) : AX Z 0 0 71 [(0, .ref (L 0)), (1, .int v1), (2, .int v2)] [.int s0] (xW G L σ) := by
  unfold wx_kitchen_j71 at h
  refine ax_istore_n (lv' := [(3, .int s0), (0, .ref (L 0)), (1, .int v1), (2, .int v2)]) K dX1_kitchen_71 (by decide) rfl ?_
  refine ax_iinc (lv' := [(2, .int (v2 + (1 : Int32))), (3, .int s0), (0, .ref (L 0)), (1, .int v1)]) (v := (v2 + (1 : Int32))) K 3 dX1_kitchen_72 rfl (by rfl) (by decide) rfl ?_
  refine ax_iload_n K 1 rfl dX1_kitchen_75 ?_
  refine ax_if_eq (tgt := 92) K dX1_kitchen_76 (by decide) (fun c76 => ?_) (fun c76 => ?_)
  · have h := ax_it h c76
    exact ax_sub [2, 3, 0, 1] rfl (kx_kitchen_j92 K E hK46 v1 (v2 + (1 : Int32)) s0 σ h)
  · have h := ax_ie h c76
    refine ax_aload_n K 2 rfl dX1_kitchen_79 ?_
    refine ax_bipush (v := (59 : Int32)) K (by decide) dX1_kitchen_80 ?_
    refine rx_takes K (by decide) dX1_kitchen_82 (Nat.le_of_ble_eq_true rfl) h (fun r82 σ82 h => ?_)
    refine ax_if_eq (tgt := 92) K dX1_kitchen_85 (by decide) (fun c85 => ?_) (fun c85 => ?_)
    · have h := ax_it h c85
      exact ax_sub [2, 3, 0, 1] rfl (kx_kitchen_j92 K E hK46 v1 (v2 + (1 : Int32)) s0 σ82 h)
    · have h := ax_ie h c85
      refine ax_iconst (v := (1 : Int32)) K (by decide) dX1_kitchen_88 ?_
      refine ax_goto (tgt := 93) K dX1_kitchen_89 (by decide) ?_
      exact ax_sub [2, 3, 0, 1] rfl (kx_kitchen_j93 K E hK46 v1 (v2 + (1 : Int32)) s0 (1 : Int32) σ82 h)
set_option maxHeartbeats 4000000 in
theorem kx_kitchen_l46 {Z : AZ} {G : AG} {L : Nat → Nat} {P : Int32 → St → Prop} (K : AK Z G cX1_kitchen RX1 7 (rmH 5)) (E : AEi Z cX1_kitchen .int (xW G L) 0 0 P) {K120 : Int32 → Int32 → St → Prop} (hK120 : ∀ (v2 : Int32) (v6 : Int32) (σ : St), K120 v2 v6 σ → AX Z 0 0 120 [(0, .ref (L 0)), (2, .int v2), (6, .int v6)] [] (xW G L σ)) : ∀ (n : Nat) (v1 : Int32) (v2 : Int32) (v3 : Int32) (v4 : Int32) (σ : St), wx_kitchen_l46 P K120 n v1 v2 v3 v4 σ → AX Z 0 0 46 [(0, .ref (L 0)), (1, .int v1), (2, .int v2), (3, .int v3), (4, .int v4)] [] (xW G L σ) := by
  intro n
  induction n with
  | zero => intro v1 v2 v3 v4 σ h; exact False.elim h
  | succ n ih =>
    intro v1 v2 v3 v4 σ h
    rw [wx_kitchen_l46_s] at h
    refine ax_iload K 4 rfl dX1_kitchen_46 ?_
    refine ax_if_eq (tgt := 98) K dX1_kitchen_48 (by decide) (fun c48 => ?_) (fun c48 => ?_)
    · have h := ax_it h c48
      refine ax_aload_n K 0 rfl dX1_kitchen_98 ?_
      refine ax_iload_n K 1 rfl dX1_kitchen_99 ?_
      refine ax_iload_n K 3 rfl dX1_kitchen_100 ?_
      refine rx_faultOf K (by decide) dX1_kitchen_101 (Nat.le_of_ble_eq_true rfl) h (fun r101 σ101 h => ?_)
      refine ax_istore (lv' := [(5, .int r101), (0, .ref (L 0)), (1, .int v1), (2, .int v2), (3, .int v3), (4, .int v4)]) K dX1_kitchen_104 (by decide) rfl ?_
      refine ax_iload K 0 rfl dX1_kitchen_106 ?_
      refine ax_if_ge (tgt := 114) K dX1_kitchen_108 (by decide) (fun c108 => ?_) (fun c108 => ?_)
      · have h := ax_it h c108
        refine ax_aload_n K 1 rfl dX1_kitchen_114 ?_
        refine xg_dishes K dX1_kitchen_115 ?_
        refine ax_istore (lv' := [(6, .int (xI_dishes σ101)), (5, .int r101), (0, .ref (L 0)), (1, .int v1), (2, .int v2), (3, .int v3), (4, .int v4)]) K dX1_kitchen_118 (by decide) rfl ?_
        exact ax_sub [2, 4, 0] rfl (hK120 v2 (xI_dishes σ101) σ101 h)
      · have h := ax_ie h c108
        refine ax_iload K 0 rfl dX1_kitchen_111 ?_
        exact E _ _ _ _ dX1_kitchen_113 rfl h
    · have h := ax_ie h c48
      refine ax_aload_n K 0 rfl dX1_kitchen_51 ?_
      refine ax_bipush (v := (71 : Int32)) K (by decide) dX1_kitchen_52 ?_
      refine rx_isAt K (by decide) dX1_kitchen_54 (Nat.le_of_ble_eq_true rfl) h (fun r54 σ54 h => ?_)
      refine ax_if_eq (tgt := 67) K dX1_kitchen_57 (by decide) (fun c57 => ?_) (fun c57 => ?_)
      · have h := ax_it h c57
        refine ax_aload_n K 0 rfl dX1_kitchen_67 ?_
        refine rx_readsDish K (by decide) dX1_kitchen_68 (Nat.le_of_ble_eq_true rfl) h (fun r68 σ68 h => ?_)
        exact ax_sub [0, 1, 2] rfl (kx_kitchen_j71 K E ih v1 v2 r68 σ68 h)
      · have h := ax_ie h c57
        refine ax_aload_n K 0 rfl dX1_kitchen_60 ?_
        refine rx_readsGuest K (by decide) dX1_kitchen_61 (Nat.le_of_ble_eq_true rfl) h (fun r61 σ61 h => ?_)
        refine ax_goto (tgt := 71) K dX1_kitchen_64 (by decide) ?_
        exact ax_sub [0, 1, 2] rfl (kx_kitchen_j71 K E ih v1 v2 r61 σ61 h)
set_option maxHeartbeats 4000000 in
theorem kx_kitchen_l120 {Z : AZ} {G : AG} {L : Nat → Nat} {P : Int32 → St → Prop} (K : AK Z G cX1_kitchen RX1 7 (rmH 5)) (E : AEi Z cX1_kitchen .int (xW G L) 0 0 P) {K183 : Int32 → Int32 → St → Prop} (hK183 : ∀ (v2 : Int32) (v6 : Int32) (σ : St), K183 v2 v6 σ → AX Z 0 0 183 [(0, .ref (L 0)), (2, .int v2), (6, .int v6)] [] (xW G L σ)) : ∀ (n : Nat) (v2 : Int32) (v6 : Int32) (σ : St), wx_kitchen_l120 P K183 n v2 v6 σ → AX Z 0 0 120 [(0, .ref (L 0)), (2, .int v2), (6, .int v6)] [] (xW G L σ) := by
  intro n
  induction n with
  | zero => intro v2 v6 σ h; exact False.elim h
  | succ n ih =>
    intro v2 v6 σ h
    rw [wx_kitchen_l120_s] at h
    refine ax_iload K 2 rfl dX1_kitchen_120 ?_
    refine ax_aload_n K 0 rfl dX1_kitchen_122 ?_
    refine xg_readDishes K dX1_kitchen_123 ?_
    refine ax_icmp_ge (tgt := 177) K dX1_kitchen_126 (by decide) (fun c126 => ?_) (fun c126 => ?_)
    · have h := ax_it h c126
      refine ax_aload_n K 0 rfl dX1_kitchen_177 ?_
      refine xg_guests K dX1_kitchen_178 ?_
      refine ax_istore (lv' := [(6, .int (xI_guests σ)), (0, .ref (L 0)), (2, .int v2)]) K dX1_kitchen_181 (by decide) rfl ?_
      exact ax_sub [1, 2, 0] rfl (hK183 v2 (xI_guests σ) σ h)
    · have h := ax_ie h c126
      refine ax_aload_n K 0 rfl dX1_kitchen_129 ?_
      refine xg_stuffs K dX1_kitchen_130 ?_
      refine ax_iload K 2 rfl dX1_kitchen_133 ?_
      refine ax_aload_n K 0 rfl dX1_kitchen_135 ?_
      refine xg_readStuffs K dX1_kitchen_136 ?_
      refine ax_iload K 2 rfl dX1_kitchen_139 ?_
      refine xl_readStuffs K h.1 dX1_kitchen_141 ?_
      replace h := h.2
      refine xs_stuffs K h.1 dX1_kitchen_142 ?_
      replace h := h.2
      refine ax_aload_n K 0 rfl dX1_kitchen_143 ?_
      refine xg_cost K dX1_kitchen_144 ?_
      refine ax_iload K 2 rfl dX1_kitchen_147 ?_
      refine ax_aload_n K 0 rfl dX1_kitchen_149 ?_
      refine xg_readCost K dX1_kitchen_150 ?_
      refine ax_iload K 2 rfl dX1_kitchen_153 ?_
      refine xl_readCost K h.1 dX1_kitchen_155 ?_
      replace h := h.2
      refine xs_cost K h.1 dX1_kitchen_156 ?_
      replace h := h.2
      refine ax_aload_n K 0 rfl dX1_kitchen_157 ?_
      refine xg_hours K dX1_kitchen_158 ?_
      refine ax_iload K 2 rfl dX1_kitchen_161 ?_
      refine ax_aload_n K 0 rfl dX1_kitchen_163 ?_
      refine xg_readHours K dX1_kitchen_164 ?_
      refine ax_iload K 2 rfl dX1_kitchen_167 ?_
      refine xl_readHours K h.1 dX1_kitchen_169 ?_
      replace h := h.2
      refine xs_hours K h.1 dX1_kitchen_170 ?_
      replace h := h.2
      refine ax_iinc (lv' := [(6, .int (v6 + (1 : Int32))), (0, .ref (L 0)), (2, .int v2)]) (v := (v6 + (1 : Int32))) K 2 dX1_kitchen_171 rfl (by rfl) (by decide) rfl ?_
      refine ax_goto (tgt := 120) K dX1_kitchen_174 (by decide) ?_
      exact ax_sub [1, 2, 0] rfl (ih v2 (v6 + (1 : Int32)) (xU_hours (xU_cost (xU_stuffs σ v6 (xA_readStuffs σ (v6).toNatClampNeg)) v6 (xA_readCost (xU_stuffs σ v6 (xA_readStuffs σ (v6).toNatClampNeg)) (v6).toNatClampNeg)) v6 (xA_readHours (xU_cost (xU_stuffs σ v6 (xA_readStuffs σ (v6).toNatClampNeg)) v6 (xA_readCost (xU_stuffs σ v6 (xA_readStuffs σ (v6).toNatClampNeg)) (v6).toNatClampNeg)) (v6).toNatClampNeg)) h)
set_option maxHeartbeats 4000000 in
theorem kx_kitchen_l183 {Z : AZ} {G : AG} {L : Nat → Nat} {P : Int32 → St → Prop} (K : AK Z G cX1_kitchen RX1 7 (rmH 5)) (E : AEi Z cX1_kitchen .int (xW G L) 0 0 P) : ∀ (n : Nat) (v2 : Int32) (v6 : Int32) (σ : St), wx_kitchen_l183 P  n v2 v6 σ → AX Z 0 0 183 [(0, .ref (L 0)), (2, .int v2), (6, .int v6)] [] (xW G L σ) := by
  intro n
  induction n with
  | zero => intro v2 v6 σ h; exact False.elim h
  | succ n ih =>
    intro v2 v6 σ h
    rw [wx_kitchen_l183_s] at h
    refine ax_iload K 2 rfl dX1_kitchen_183 ?_
    refine ax_aload_n K 0 rfl dX1_kitchen_185 ?_
    refine xg_readGuests K dX1_kitchen_186 ?_
    refine ax_icmp_ge (tgt := 226) K dX1_kitchen_189 (by decide) (fun c189 => ?_) (fun c189 => ?_)
    · have h := ax_it h c189
      refine ax_aload_n K 0 rfl dX1_kitchen_226 ?_
      refine ax_aload_n K 0 rfl dX1_kitchen_227 ?_
      refine xg_readDishes K dX1_kitchen_228 ?_
      refine xp_dishes K dX1_kitchen_231 ?_
      refine ax_aload_n K 0 rfl dX1_kitchen_234 ?_
      refine ax_aload_n K 0 rfl dX1_kitchen_235 ?_
      refine xg_readGuests K dX1_kitchen_236 ?_
      refine xp_guests K dX1_kitchen_239 ?_
      refine ax_aload_n K 0 rfl dX1_kitchen_242 ?_
      refine ax_aload_n K 0 rfl dX1_kitchen_243 ?_
      refine xg_readHot K dX1_kitchen_244 ?_
      refine xp_hot K dX1_kitchen_247 ?_
      refine ax_iload_n K 1 rfl dX1_kitchen_250 ?_
      exact E _ _ _ _ dX1_kitchen_251 rfl h
    · have h := ax_ie h c189
      refine ax_aload_n K 0 rfl dX1_kitchen_192 ?_
      refine xg_loves K dX1_kitchen_193 ?_
      refine ax_iload K 2 rfl dX1_kitchen_196 ?_
      refine ax_aload_n K 0 rfl dX1_kitchen_198 ?_
      refine xg_readLoves K dX1_kitchen_199 ?_
      refine ax_iload K 2 rfl dX1_kitchen_202 ?_
      refine xl_readLoves K h.1 dX1_kitchen_204 ?_
      replace h := h.2
      refine xs_loves K h.1 dX1_kitchen_205 ?_
      replace h := h.2
      refine ax_aload_n K 0 rfl dX1_kitchen_206 ?_
      refine xg_bars K dX1_kitchen_207 ?_
      refine ax_iload K 2 rfl dX1_kitchen_210 ?_
      refine ax_aload_n K 0 rfl dX1_kitchen_212 ?_
      refine xg_readBars K dX1_kitchen_213 ?_
      refine ax_iload K 2 rfl dX1_kitchen_216 ?_
      refine xl_readBars K h.1 dX1_kitchen_218 ?_
      replace h := h.2
      refine xs_bars K h.1 dX1_kitchen_219 ?_
      replace h := h.2
      refine ax_iinc (lv' := [(6, .int (v6 + (1 : Int32))), (0, .ref (L 0)), (2, .int v2)]) (v := (v6 + (1 : Int32))) K 2 dX1_kitchen_220 rfl (by rfl) (by decide) rfl ?_
      refine ax_goto (tgt := 183) K dX1_kitchen_223 (by decide) ?_
      exact ax_sub [1, 2, 0] rfl (ih v2 (v6 + (1 : Int32)) (xU_bars (xU_loves σ v6 (xA_readLoves σ (v6).toNatClampNeg)) v6 (xA_readBars (xU_loves σ v6 (xA_readLoves σ (v6).toNatClampNeg)) (v6).toNatClampNeg)) h)
set_option maxHeartbeats 4000000 in
theorem kx_kitchen_j44 {Z : AZ} {G : AG} {L : Nat → Nat} {P : Int32 → St → Prop} (K : AK Z G cX1_kitchen RX1 7 (rmH 5)) (E : AEi Z cX1_kitchen .int (xW G L) 0 0 P) (v1 : Int32) (v2 : Int32) (v3 : Int32) (s0 : Int32) (σ : St) (h : wx_kitchen_j44 P  v1 v2 v3 s0 σ) : AX Z 0 0 44 [(0, .ref (L 0)), (1, .int v1), (2, .int v2), (3, .int v3)] [.int s0] (xW G L σ) := by
  unfold wx_kitchen_j44 at h
  refine ax_istore (lv' := [(4, .int s0), (0, .ref (L 0)), (1, .int v1), (2, .int v2), (3, .int v3)]) K dX1_kitchen_44 (by decide) rfl ?_
  exact ax_sub [1, 2, 3, 4, 0] rfl (h.elim fun n46 h => kx_kitchen_l46 K E (fun v2 v6 σ h => h.elim fun n120 h => kx_kitchen_l120 K E (fun v2 v6 σ h => h.elim fun n183 h => kx_kitchen_l183 K E  n183 v2 v6 σ h) n120 v2 v6 σ h) n46 v1 v2 v3 s0 σ h)
set_option maxHeartbeats 4000000 in
theorem mx_kitchen {l : Launch} {G : AG} {L : Nat → Nat} {σ : St} {P : Int32 → St → Prop} (h : wx_kitchen σ P) : CtW l G yX1_kitchen cX1_kitchen 7 (some .int) (rmH 5) [.ref (L 0)] (xW G L) σ (pI P) := by
  refine CtW.ofI (by decide) (Nat.le_of_ble_eq_true rfl) fun Z _ K E => ?_
  unfold wx_kitchen at h
  show AX Z 0 0 0 [(0, .ref (L 0))] [] (xW G L σ)
  refine ax_aload_n K 0 rfl dX1_kitchen_0 ?_
  refine ax_bipush (v := (76 : Int32)) K (by decide) dX1_kitchen_1 ?_
  refine rx_begins K (by decide) dX1_kitchen_3 (Nat.le_of_ble_eq_true rfl) h (fun r3 σ3 h => ?_)
  refine ax_istore_n (lv' := [(1, .int r3), (0, .ref (L 0))]) K dX1_kitchen_6 (by decide) rfl ?_
  refine ax_aload_n K 1 rfl dX1_kitchen_7 ?_
  refine ax_aload_n K 1 rfl dX1_kitchen_8 ?_
  refine xg_dishes K dX1_kitchen_9 ?_
  refine xp_readDishes K dX1_kitchen_12 ?_
  refine ax_aload_n K 1 rfl dX1_kitchen_15 ?_
  refine ax_aload_n K 1 rfl dX1_kitchen_16 ?_
  refine xg_guests K dX1_kitchen_17 ?_
  refine xp_readGuests K dX1_kitchen_20 ?_
  refine ax_aload_n K 1 rfl dX1_kitchen_23 ?_
  refine ax_aload_n K 1 rfl dX1_kitchen_24 ?_
  refine xg_hot K dX1_kitchen_25 ?_
  refine xp_readHot K dX1_kitchen_28 ?_
  refine ax_iconst (v := (0 : Int32)) K (by decide) dX1_kitchen_31 ?_
  refine ax_istore_n (lv' := [(2, .int (0 : Int32)), (1, .int r3), (0, .ref (L 0))]) K dX1_kitchen_32 (by decide) rfl ?_
  refine ax_iconst (v := (1 : Int32)) K (by decide) dX1_kitchen_33 ?_
  refine ax_istore_n (lv' := [(3, .int (1 : Int32)), (2, .int (0 : Int32)), (1, .int r3), (0, .ref (L 0))]) K dX1_kitchen_34 (by decide) rfl ?_
  refine ax_iload_n K 2 rfl dX1_kitchen_35 ?_
  refine ax_if_le (tgt := 43) K dX1_kitchen_36 (by decide) (fun c36 => ?_) (fun c36 => ?_)
  · have h := ax_it h c36
    refine ax_iconst (v := (0 : Int32)) K (by decide) dX1_kitchen_43 ?_
    exact ax_sub [3, 2, 1, 0] rfl (kx_kitchen_j44 K E  r3 (0 : Int32) (1 : Int32) (0 : Int32) (xS_readHot (xS_readGuests (xS_readDishes σ3 (xI_dishes σ3)) (xI_guests (xS_readDishes σ3 (xI_dishes σ3)))) (xI_hot (xS_readGuests (xS_readDishes σ3 (xI_dishes σ3)) (xI_guests (xS_readDishes σ3 (xI_dishes σ3)))))) h)
  · have h := ax_ie h c36
    refine ax_iconst (v := (1 : Int32)) K (by decide) dX1_kitchen_39 ?_
    refine ax_goto (tgt := 44) K dX1_kitchen_40 (by decide) ?_
    exact ax_sub [3, 2, 1, 0] rfl (kx_kitchen_j44 K E  r3 (0 : Int32) (1 : Int32) (1 : Int32) (xS_readHot (xS_readGuests (xS_readDishes σ3 (xI_dishes σ3)) (xI_guests (xS_readDishes σ3 (xI_dishes σ3)))) (xI_hot (xS_readGuests (xS_readDishes σ3 (xI_dishes σ3)) (xI_guests (xS_readDishes σ3 (xI_dishes σ3)))))) h)

/-! x.late -/
set_option maxHeartbeats 4000000 in
theorem kx_late_l27 {Z : AZ} {G : AG} {L : Nat → Nat} {P : Int32 → St → Prop} (K : AK Z G cX1_late RX1 7 (rmH 5)) (E : AEi Z cX1_late .int (xW G L) 0 0 P) {K55 : Int32 → Int32 → Int32 → Int32 → St → Prop} (hK55 : ∀ (v1 : Int32) (v2 : Int32) (v3 : Int32) (v4 : Int32) (σ : St), K55 v1 v2 v3 v4 σ → AX Z 0 0 55 [(0, .ref (L 0)), (1, .int v1), (2, .int v2), (3, .int v3), (4, .int v4)] [] (xW G L σ)) : ∀ (n : Nat) (v1 : Int32) (v2 : Int32) (v3 : Int32) (σ : St), wx_late_l27 P K55 n v1 v2 v3 σ → AX Z 0 0 27 [(0, .ref (L 0)), (1, .int v1), (2, .int v2), (3, .int v3)] [] (xW G L σ) := by
  intro n
  induction n with
  | zero => intro v1 v2 v3 σ h; exact False.elim h
  | succ n ih =>
    intro v1 v2 v3 σ h
    rw [wx_late_l27_s] at h
    refine ax_iload_n K 3 rfl dX1_late_27 ?_
    refine ax_iload_n K 2 rfl dX1_late_28 ?_
    refine ax_icmp_ge (tgt := 45) K dX1_late_29 (by decide) (fun c29 => ?_) (fun c29 => ?_)
    · have h := ax_it h c29
      refine ax_iconst (v := (0 : Int32)) K (by decide) dX1_late_45 ?_
      refine ax_istore_n (lv' := [(3, .int (0 : Int32)), (0, .ref (L 0)), (1, .int v1), (2, .int v2)]) K dX1_late_46 (by decide) rfl ?_
      refine ax_aload_n K 1 rfl dX1_late_47 ?_
      refine ax_iconst (v := (0 : Int32)) K (by decide) dX1_late_48 ?_
      refine xp_rowMany K dX1_late_49 ?_
      refine ax_iconst (v := (0 : Int32)) K (by decide) dX1_late_52 ?_
      refine ax_istore (lv' := [(4, .int (0 : Int32)), (3, .int (0 : Int32)), (0, .ref (L 0)), (1, .int v1), (2, .int v2)]) K dX1_late_53 (by decide) rfl ?_
      exact ax_sub [2, 3, 4, 1, 0] rfl (hK55 v1 v2 (0 : Int32) (0 : Int32) (xS_rowMany σ (0 : Int32)) h)
    · have h := ax_ie h c29
      refine ax_aload_n K 0 rfl dX1_late_32 ?_
      refine xg_freeAt K dX1_late_33 ?_
      refine ax_iload_n K 3 rfl dX1_late_36 ?_
      refine ax_iconst (v := (0 : Int32)) K (by decide) dX1_late_37 ?_
      refine xs_freeAt K h.1 dX1_late_38 ?_
      replace h := h.2
      refine ax_iinc (lv' := [(3, .int (v3 + (1 : Int32))), (0, .ref (L 0)), (1, .int v1), (2, .int v2)]) (v := (v3 + (1 : Int32))) K 3 dX1_late_39 rfl (by rfl) (by decide) rfl ?_
      refine ax_goto (tgt := 27) K dX1_late_42 (by decide) ?_
      exact ax_sub [1, 2, 3, 0] rfl (ih v1 v2 (v3 + (1 : Int32)) (xU_freeAt σ v3 (0 : Int32)) h)
set_option maxHeartbeats 4000000 in
theorem kx_late_j102 {Z : AZ} {G : AG} {L : Nat → Nat} {P : Int32 → St → Prop} (K : AK Z G cX1_late RX1 7 (rmH 5)) (E : AEi Z cX1_late .int (xW G L) 0 0 P) {K72 : Int32 → Int32 → Int32 → Int32 → Int32 → Int32 → St → Prop} (hK72 : ∀ (v1 : Int32) (v2 : Int32) (v3 : Int32) (v4 : Int32) (v5 : Int32) (v6 : Int32) (σ : St), K72 v1 v2 v3 v4 v5 v6 σ → AX Z 0 0 72 [(0, .ref (L 0)), (1, .int v1), (2, .int v2), (3, .int v3), (4, .int v4), (5, .int v5), (6, .int v6)] [] (xW G L σ)) (v1 : Int32) (v2 : Int32) (v3 : Int32) (v4 : Int32) (v6 : Int32) (s0 : Int32) (σ : St) (h : wx_late_j102 P K72 v1 v2 v3 v4 v6 s0 σ) : AX Z 0 0 102 [(0, .ref (L 0)), (1, .int v1), (2, .int v2), (3, .int v3), (4, .int v4), (6, .int v6)] [.int s0] (xW G L σ) := by
  unfold wx_late_j102 at h
  refine ax_istore (lv' := [(5, .int s0), (0, .ref (L 0)), (1, .int v1), (2, .int v2), (3, .int v3), (4, .int v4), (6, .int v6)]) K dX1_late_102 (by decide) rfl ?_
  refine ax_iinc (lv' := [(6, .int (v6 + (1 : Int32))), (5, .int s0), (0, .ref (L 0)), (1, .int v1), (2, .int v2), (3, .int v3), (4, .int v4)]) (v := (v6 + (1 : Int32))) K 6 dX1_late_104 rfl (by rfl) (by decide) rfl ?_
  refine ax_goto (tgt := 72) K dX1_late_107 (by decide) ?_
  exact ax_sub [2, 3, 4, 5, 6, 1, 0] rfl (hK72 v1 v2 v3 v4 s0 (v6 + (1 : Int32)) σ h)
set_option maxHeartbeats 4000000 in
theorem kx_late_l72 {Z : AZ} {G : AG} {L : Nat → Nat} {P : Int32 → St → Prop} (K : AK Z G cX1_late RX1 7 (rmH 5)) (E : AEi Z cX1_late .int (xW G L) 0 0 P) {K55 : Int32 → Int32 → Int32 → Int32 → St → Prop} (hK55 : ∀ (v1 : Int32) (v2 : Int32) (v3 : Int32) (v4 : Int32) (σ : St), K55 v1 v2 v3 v4 σ → AX Z 0 0 55 [(0, .ref (L 0)), (1, .int v1), (2, .int v2), (3, .int v3), (4, .int v4)] [] (xW G L σ)) : ∀ (n : Nat) (v1 : Int32) (v2 : Int32) (v3 : Int32) (v4 : Int32) (v5 : Int32) (v6 : Int32) (σ : St), wx_late_l72 P K55 n v1 v2 v3 v4 v5 v6 σ → AX Z 0 0 72 [(0, .ref (L 0)), (1, .int v1), (2, .int v2), (3, .int v3), (4, .int v4), (5, .int v5), (6, .int v6)] [] (xW G L σ) := by
  intro n
  induction n with
  | zero => intro v1 v2 v3 v4 v5 v6 σ h; exact False.elim h
  | succ n ih =>
    intro v1 v2 v3 v4 v5 v6 σ h
    rw [wx_late_l72_s] at h
    refine ax_iload K 6 rfl dX1_late_72 ?_
    refine ax_iload_n K 2 rfl dX1_late_74 ?_
    refine ax_icmp_ge (tgt := 110) K dX1_late_75 (by decide) (fun c75 => ?_) (fun c75 => ?_)
    · have h := ax_it h c75
      refine ax_aload_n K 0 rfl dX1_late_110 ?_
      refine xg_freeAt K dX1_late_111 ?_
      refine ax_iload K 5 rfl dX1_late_114 ?_
      refine ax_dup2 K rfl rfl dX1_late_116 ?_
      refine xl_freeAt K h.1 dX1_late_117 ?_
      replace h := h.2
      refine ax_aload_n K 0 rfl dX1_late_118 ?_
      refine xg_hours K dX1_late_119 ?_
      refine ax_aload_n K 0 rfl dX1_late_122 ?_
      refine ax_iload_n K 1 rfl dX1_late_123 ?_
      refine ax_iload K 4 rfl dX1_late_124 ?_
      refine rx_dishAt K (by decide) dX1_late_126 (Nat.le_of_ble_eq_true rfl) h (fun r126 σ126 h => ?_)
      refine xl_hours K h.1 dX1_late_129 ?_
      replace h := h.2
      refine ax_iadd K dX1_late_130 ?_
      refine xs_freeAt K h.1 dX1_late_131 ?_
      replace h := h.2
      refine ax_aload_n K 0 rfl dX1_late_132 ?_
      refine ax_aload_n K 0 rfl dX1_late_133 ?_
      refine xg_freeAt K dX1_late_134 ?_
      refine ax_iload K 5 rfl dX1_late_137 ?_
      refine xl_freeAt K h.1 dX1_late_139 ?_
      replace h := h.2
      refine rx_tells K (by decide) dX1_late_140 (Nat.le_of_ble_eq_true rfl) h (fun σ140 h => ?_)
      refine ax_iload_n K 3 rfl dX1_late_143 ?_
      refine ax_aload_n K 0 rfl dX1_late_144 ?_
      refine xg_freeAt K dX1_late_145 ?_
      refine ax_iload K 5 rfl dX1_late_148 ?_
      refine xl_freeAt K h.1 dX1_late_150 ?_
      replace h := h.2
      refine ax_bipush (v := (10 : Int32)) K (by decide) dX1_late_151 ?_
      refine ax_isub K dX1_late_153 ?_
      refine ax_iload K 4 rfl dX1_late_154 ?_
      refine ax_isub K dX1_late_156 ?_
      refine rx_max K (by decide) (Nat.le_of_ble_eq_true rfl) dX1_late_157 ?_
      refine ax_istore_n (lv' := [(3, .int (jmax v3 (((xA_freeAt σ140 (v5).toNatClampNeg) - (10 : Int32)) - v4))), (0, .ref (L 0)), (1, .int v1), (2, .int v2), (4, .int v4), (5, .int v5), (6, .int v6)]) K dX1_late_160 (by decide) rfl ?_
      refine ax_iinc (lv' := [(4, .int (v4 + (1 : Int32))), (3, .int (jmax v3 (((xA_freeAt σ140 (v5).toNatClampNeg) - (10 : Int32)) - v4))), (0, .ref (L 0)), (1, .int v1), (2, .int v2), (5, .int v5), (6, .int v6)]) (v := (v4 + (1 : Int32))) K 4 dX1_late_161 rfl (by rfl) (by decide) rfl ?_
      refine ax_goto (tgt := 55) K dX1_late_164 (by decide) ?_
      exact ax_sub [2, 3, 4, 1, 0] rfl (hK55 v1 v2 (jmax v3 (((xA_freeAt σ140 (v5).toNatClampNeg) - (10 : Int32)) - v4)) (v4 + (1 : Int32)) σ140 h)
    · have h := ax_ie h c75
      refine ax_aload_n K 0 rfl dX1_late_78 ?_
      refine xg_freeAt K dX1_late_79 ?_
      refine ax_iload K 6 rfl dX1_late_82 ?_
      refine xl_freeAt K h.1 dX1_late_84 ?_
      replace h := h.2
      refine ax_aload_n K 0 rfl dX1_late_85 ?_
      refine xg_freeAt K dX1_late_86 ?_
      refine ax_iload K 5 rfl dX1_late_89 ?_
      refine xl_freeAt K h.1 dX1_late_91 ?_
      replace h := h.2
      refine ax_icmp_ge (tgt := 100) K dX1_late_92 (by decide) (fun c92 => ?_) (fun c92 => ?_)
      · have h := ax_it h c92
        refine ax_iload K 5 rfl dX1_late_100 ?_
        exact ax_sub [0, 1, 2, 3, 4, 6] rfl (kx_late_j102 K E ih v1 v2 v3 v4 v6 v5 σ h)
      · have h := ax_ie h c92
        refine ax_iload K 6 rfl dX1_late_95 ?_
        refine ax_goto (tgt := 102) K dX1_late_97 (by decide) ?_
        exact ax_sub [0, 1, 2, 3, 4, 6] rfl (kx_late_j102 K E ih v1 v2 v3 v4 v6 v6 σ h)
set_option maxHeartbeats 4000000 in
theorem kx_late_l55 {Z : AZ} {G : AG} {L : Nat → Nat} {P : Int32 → St → Prop} (K : AK Z G cX1_late RX1 7 (rmH 5)) (E : AEi Z cX1_late .int (xW G L) 0 0 P) : ∀ (n : Nat) (v1 : Int32) (v2 : Int32) (v3 : Int32) (v4 : Int32) (σ : St), wx_late_l55 P  n v1 v2 v3 v4 σ → AX Z 0 0 55 [(0, .ref (L 0)), (1, .int v1), (2, .int v2), (3, .int v3), (4, .int v4)] [] (xW G L σ) := by
  intro n
  induction n with
  | zero => intro v1 v2 v3 v4 σ h; exact False.elim h
  | succ n ih =>
    intro v1 v2 v3 v4 σ h
    rw [wx_late_l55_s] at h
    refine ax_iload K 4 rfl dX1_late_55 ?_
    refine ax_aload_n K 0 rfl dX1_late_57 ?_
    refine xg_menuMany K dX1_late_58 ?_
    refine ax_iload_n K 1 rfl dX1_late_61 ?_
    refine xl_menuMany K h.1 dX1_late_62 ?_
    replace h := h.2
    refine ax_icmp_ge (tgt := 167) K dX1_late_63 (by decide) (fun c63 => ?_) (fun c63 => ?_)
    · have h := ax_it h c63
      refine ax_iload_n K 3 rfl dX1_late_167 ?_
      exact E _ _ _ _ dX1_late_168 rfl h
    · have h := ax_ie h c63
      refine ax_iconst (v := (0 : Int32)) K (by decide) dX1_late_66 ?_
      refine ax_istore (lv' := [(5, .int (0 : Int32)), (0, .ref (L 0)), (1, .int v1), (2, .int v2), (3, .int v3), (4, .int v4)]) K dX1_late_67 (by decide) rfl ?_
      refine ax_iconst (v := (1 : Int32)) K (by decide) dX1_late_69 ?_
      refine ax_istore (lv' := [(6, .int (1 : Int32)), (5, .int (0 : Int32)), (0, .ref (L 0)), (1, .int v1), (2, .int v2), (3, .int v3), (4, .int v4)]) K dX1_late_70 (by decide) rfl ?_
      exact ax_sub [2, 3, 4, 5, 6, 1, 0] rfl (h.elim fun n72 h => kx_late_l72 K E ih n72 v1 v2 v3 v4 (0 : Int32) (1 : Int32) σ h)
set_option maxHeartbeats 4000000 in
theorem mx_late {l : Launch} {G : AG} {L : Nat → Nat} {σ : St} {v1 : Int32} {v2 : Int32} {P : Int32 → St → Prop} (h : wx_late σ v1 v2 P) : CtW l G yX1_late cX1_late 7 (some .int) (rmH 5) [.ref (L 0), .int v1, .int v2] (xW G L) σ (pI P) := by
  refine CtW.ofI (by decide) (Nat.le_of_ble_eq_true rfl) fun Z _ K E => ?_
  unfold wx_late at h
  show AX Z 0 0 0 [(0, .ref (L 0)), (1, .int v1), (2, .int v2)] [] (xW G L σ)
  refine ax_iload_n K 2 rfl dX1_late_0 ?_
  refine ax_i2l K dX1_late_1 ?_
  refine ax_lconst (v := (1 : Int64)) K (by decide) dX1_late_2 ?_
  refine ax_ldc2 (v := (9 : Int64)) K q534 dX1_late_3 ?_
  refine rx_in K (by decide) dX1_late_6 (Nat.le_of_ble_eq_true rfl) h (fun r6 h => ?_)
  refine ax_if_ne (tgt := 14) K dX1_late_9 (by decide) (fun c9 => ?_) (fun c9 => ?_)
  · have h := ax_ie h c9
    refine ax_aload_n K 0 rfl dX1_late_14 ?_
    refine ax_iload_n K 1 rfl dX1_late_15 ?_
    refine rx_isWhole K (by decide) dX1_late_16 (Nat.le_of_ble_eq_true rfl) h (fun r16 σ16 h => ?_)
    refine ax_if_ne (tgt := 25) K dX1_late_19 (by decide) (fun c19 => ?_) (fun c19 => ?_)
    · have h := ax_ie h c19
      refine ax_iconst (v := (0 : Int32)) K (by decide) dX1_late_25 ?_
      refine ax_istore_n (lv' := [(3, .int (0 : Int32)), (0, .ref (L 0)), (1, .int v1), (2, .int v2)]) K dX1_late_26 (by decide) rfl ?_
      exact ax_sub [1, 2, 3, 0] rfl (h.elim fun n27 h => kx_late_l27 K E (fun v1 v2 v3 v4 σ h => h.elim fun n55 h => kx_late_l55 K E  n55 v1 v2 v3 v4 σ h) n27 v1 v2 (0 : Int32) σ16 h)
    · have h := ax_it h c19
      refine ax_bipush (v := (-3 : Int32)) K (by decide) dX1_late_22 ?_
      exact E _ _ _ _ dX1_late_24 rfl h
  · have h := ax_it h c9
    refine ax_iconst (v := (-1 : Int32)) K (by decide) dX1_late_12 ?_
    exact E _ _ _ _ dX1_late_13 rfl h

/-! x.longest -/
set_option maxHeartbeats 4000000 in
theorem mx_longest {l : Launch} {G : AG} {L : Nat → Nat} {σ : St} {P : Int32 → St → Prop} (h : wx_longest σ P) : CtW l G yX1_longest cX1_longest 1 (some .int) (rmH 5) [.ref (L 0)] (xW G L) σ (pI P) := by
  refine CtW.ofI (by decide) (Nat.le_of_ble_eq_true rfl) fun Z _ K E => ?_
  unfold wx_longest at h
  show AX Z 0 0 0 [(0, .ref (L 0))] [] (xW G L σ)
  refine ax_aload_n K 0 rfl dX1_longest_0 ?_
  refine rx_laysOut K (by decide) dX1_longest_1 (Nat.le_of_ble_eq_true rfl) h (fun σ1 h => ?_)
  refine ax_aload_n K 0 rfl dX1_longest_4 ?_
  refine ax_iconst (v := (-1 : Int32)) K (by decide) dX1_longest_5 ?_
  refine ax_iconst (v := (0 : Int32)) K (by decide) dX1_longest_6 ?_
  refine rx_measures K (by decide) dX1_longest_7 (Nat.le_of_ble_eq_true rfl) h (fun σ7 h => ?_)
  refine ax_aload_n K 0 rfl dX1_longest_10 ?_
  refine ax_iconst (v := (0 : Int32)) K (by decide) dX1_longest_11 ?_
  refine xp_rowMany K dX1_longest_12 ?_
  refine ax_aload_n K 0 rfl dX1_longest_15 ?_
  refine ax_aload_n K 0 rfl dX1_longest_16 ?_
  refine rx_setNow K (by decide) dX1_longest_17 (Nat.le_of_ble_eq_true rfl) h (fun r17 σ17 h => ?_)
  refine ax_aload_n K 0 rfl dX1_longest_20 ?_
  refine rx_lastNow K (by decide) dX1_longest_21 (Nat.le_of_ble_eq_true rfl) h (fun r21 σ21 h => ?_)
  refine rx_tellsMost K (by decide) dX1_longest_24 (Nat.le_of_ble_eq_true rfl) h (fun σ24 h => ?_)
  refine ax_aload_n K 0 rfl dX1_longest_27 ?_
  refine xg_value K dX1_longest_28 ?_
  refine ax_aload_n K 0 rfl dX1_longest_31 ?_
  refine rx_setNow K (by decide) dX1_longest_32 (Nat.le_of_ble_eq_true rfl) h (fun r32 σ32 h => ?_)
  refine ax_aload_n K 0 rfl dX1_longest_35 ?_
  refine rx_lastNow K (by decide) dX1_longest_36 (Nat.le_of_ble_eq_true rfl) h (fun r36 σ36 h => ?_)
  refine rx_stateOf K (by decide) dX1_longest_39 (Nat.le_of_ble_eq_true rfl) h (fun r39 h => ?_)
  refine xl_value K h.1 dX1_longest_42 ?_
  replace h := h.2
  exact E _ _ _ _ dX1_longest_43 rfl h

/-! x.made -/
set_option maxHeartbeats 4000000 in
theorem kx_made_j68 {Z : AZ} {G : AG} {L : Nat → Nat} {P : Int32 → St → Prop} (K : AK Z G cX1_made RX1 3 (rmH 5)) (E : AEi Z cX1_made .int (xW G L) 0 0 P) {K30 : Int32 → Int32 → St → Prop} (hK30 : ∀ (v1 : Int32) (v2 : Int32) (σ : St), K30 v1 v2 σ → AX Z 0 0 30 [(0, .ref (L 0)), (1, .int v1), (2, .int v2)] [] (xW G L σ)) (v1 : Int32) (v2 : Int32) (σ : St) (h : wx_made_j68 P K30 v1 v2 σ) : AX Z 0 0 68 [(0, .ref (L 0)), (1, .int v1), (2, .int v2)] [] (xW G L σ) := by
  unfold wx_made_j68 at h
  refine ax_iinc (lv' := [(2, .int (v2 + (1 : Int32))), (0, .ref (L 0)), (1, .int v1)]) (v := (v2 + (1 : Int32))) K 2 dX1_made_68 rfl (by rfl) (by decide) rfl ?_
  refine ax_goto (tgt := 30) K dX1_made_71 (by decide) ?_
  exact ax_sub [1, 2, 0] rfl (hK30 v1 (v2 + (1 : Int32)) σ h)
set_option maxHeartbeats 4000000 in
theorem kx_made_l30 {Z : AZ} {G : AG} {L : Nat → Nat} {P : Int32 → St → Prop} (K : AK Z G cX1_made RX1 3 (rmH 5)) (E : AEi Z cX1_made .int (xW G L) 0 0 P) {K22 : Int32 → St → Prop} (hK22 : ∀ (v1 : Int32) (σ : St), K22 v1 σ → AX Z 0 0 22 [(0, .ref (L 0)), (1, .int v1)] [] (xW G L σ)) : ∀ (n : Nat) (v1 : Int32) (v2 : Int32) (σ : St), wx_made_l30 P K22 n v1 v2 σ → AX Z 0 0 30 [(0, .ref (L 0)), (1, .int v1), (2, .int v2)] [] (xW G L σ) := by
  intro n
  induction n with
  | zero => intro v1 v2 σ h; exact False.elim h
  | succ n ih =>
    intro v1 v2 σ h
    rw [wx_made_l30_s] at h
    refine ax_iload_n K 2 rfl dX1_made_30 ?_
    refine ax_sipush (v := (256 : Int32)) K (by decide) dX1_made_31 ?_
    refine ax_icmp_ge (tgt := 74) K dX1_made_34 (by decide) (fun c34 => ?_) (fun c34 => ?_)
    · have h := ax_it h c34
      refine ax_iinc (lv' := [(1, .int (v1 + (1 : Int32))), (0, .ref (L 0)), (2, .int v2)]) (v := (v1 + (1 : Int32))) K 1 dX1_made_74 rfl (by rfl) (by decide) rfl ?_
      refine ax_goto (tgt := 22) K dX1_made_77 (by decide) ?_
      exact ax_sub [1, 0] rfl (hK22 (v1 + (1 : Int32)) σ h)
    · have h := ax_ie h c34
      refine ax_iload_n K 2 rfl dX1_made_37 ?_
      refine rx_bitCount K (by decide) dX1_made_38 (Nat.le_of_ble_eq_true rfl) ?_
      refine ax_iload_n K 1 rfl dX1_made_41 ?_
      refine ax_icmp_ne (tgt := 68) K dX1_made_42 (by decide) (fun c42 => ?_) (fun c42 => ?_)
      · have h := ax_ie h c42
        exact ax_sub [0, 1, 2] rfl (kx_made_j68 K E ih v1 v2 σ h)
      · have h := ax_it h c42
        refine ax_aload_n K 0 rfl dX1_made_45 ?_
        refine ax_iload_n K 2 rfl dX1_made_46 ?_
        refine rx_joins K (by decide) dX1_made_47 (Nat.le_of_ble_eq_true rfl) h (fun r47 σ47 h => ?_)
        refine ax_if_ne (tgt := 56) K dX1_made_50 (by decide) (fun c50 => ?_) (fun c50 => ?_)
        · have h := ax_ie h c50
          refine ax_aload_n K 0 rfl dX1_made_56 ?_
          refine ax_iconst (v := (0 : Int32)) K (by decide) dX1_made_57 ?_
          refine xp_rowMany K dX1_made_58 ?_
          refine ax_aload_n K 0 rfl dX1_made_61 ?_
          refine ax_iload_n K 2 rfl dX1_made_62 ?_
          refine rx_tells K (by decide) dX1_made_63 (Nat.le_of_ble_eq_true rfl) h (fun σ63 h => ?_)
          refine ax_iload_n K 1 rfl dX1_made_66 ?_
          exact E _ _ _ _ dX1_made_67 rfl h
        · have h := ax_it h c50
          refine ax_goto (tgt := 68) K dX1_made_53 (by decide) ?_
          exact ax_sub [0, 1, 2] rfl (kx_made_j68 K E ih v1 v2 σ47 h)
set_option maxHeartbeats 4000000 in
theorem kx_made_l22 {Z : AZ} {G : AG} {L : Nat → Nat} {P : Int32 → St → Prop} (K : AK Z G cX1_made RX1 3 (rmH 5)) (E : AEi Z cX1_made .int (xW G L) 0 0 P) : ∀ (n : Nat) (v1 : Int32) (σ : St), wx_made_l22 P  n v1 σ → AX Z 0 0 22 [(0, .ref (L 0)), (1, .int v1)] [] (xW G L σ) := by
  intro n
  induction n with
  | zero => intro v1 σ h; exact False.elim h
  | succ n ih =>
    intro v1 σ h
    rw [wx_made_l22_s] at h
    refine ax_iload_n K 1 rfl dX1_made_22 ?_
    refine ax_bipush (v := (8 : Int32)) K (by decide) dX1_made_23 ?_
    refine ax_icmp_gt (tgt := 80) K dX1_made_25 (by decide) (fun c25 => ?_) (fun c25 => ?_)
    · have h := ax_it h c25
      refine ax_bipush (v := (-2 : Int32)) K (by decide) dX1_made_80 ?_
      exact E _ _ _ _ dX1_made_82 rfl h
    · have h := ax_ie h c25
      refine ax_iconst (v := (1 : Int32)) K (by decide) dX1_made_28 ?_
      refine ax_istore_n (lv' := [(2, .int (1 : Int32)), (0, .ref (L 0)), (1, .int v1)]) K dX1_made_29 (by decide) rfl ?_
      exact ax_sub [1, 2, 0] rfl (h.elim fun n30 h => kx_made_l30 K E ih n30 v1 (1 : Int32) σ h)
set_option maxHeartbeats 4000000 in
theorem mx_made {l : Launch} {G : AG} {L : Nat → Nat} {σ : St} {P : Int32 → St → Prop} (h : wx_made σ P) : CtW l G yX1_made cX1_made 3 (some .int) (rmH 5) [.ref (L 0)] (xW G L) σ (pI P) := by
  refine CtW.ofI (by decide) (Nat.le_of_ble_eq_true rfl) fun Z _ K E => ?_
  unfold wx_made at h
  show AX Z 0 0 0 [(0, .ref (L 0))] [] (xW G L σ)
  refine ax_aload_n K 0 rfl dX1_made_0 ?_
  refine ax_iconst (v := (0 : Int32)) K (by decide) dX1_made_1 ?_
  refine rx_joins K (by decide) dX1_made_2 (Nat.le_of_ble_eq_true rfl) h (fun r2 σ2 h => ?_)
  refine ax_if_eq (tgt := 20) K dX1_made_5 (by decide) (fun c5 => ?_) (fun c5 => ?_)
  · have h := ax_it h c5
    refine ax_iconst (v := (1 : Int32)) K (by decide) dX1_made_20 ?_
    refine ax_istore_n (lv' := [(1, .int (1 : Int32)), (0, .ref (L 0))]) K dX1_made_21 (by decide) rfl ?_
    exact ax_sub [1, 0] rfl (h.elim fun n22 h => kx_made_l22 K E  n22 (1 : Int32) σ2 h)
  · have h := ax_ie h c5
    refine ax_aload_n K 0 rfl dX1_made_8 ?_
    refine ax_iconst (v := (0 : Int32)) K (by decide) dX1_made_9 ?_
    refine xp_rowMany K dX1_made_10 ?_
    refine ax_aload_n K 0 rfl dX1_made_13 ?_
    refine ax_iconst (v := (0 : Int32)) K (by decide) dX1_made_14 ?_
    refine rx_tells K (by decide) dX1_made_15 (Nat.le_of_ble_eq_true rfl) h (fun σ15 h => ?_)
    refine ax_iconst (v := (0 : Int32)) K (by decide) dX1_made_18 ?_
    exact E _ _ _ _ dX1_made_19 rfl h

/-! x.mend -/
set_option maxHeartbeats 4000000 in
theorem kx_mend_j72 {Z : AZ} {G : AG} {L : Nat → Nat} {P : Int32 → St → Prop} (K : AK Z G cX1_mend RX1 9 (rmH 5)) (E : AEi Z cX1_mend .int (xW G L) 0 0 P) {K33 : Int32 → Int32 → Int32 → St → Prop} (hK33 : ∀ (v1 : Int32) (v2 : Int32) (v3 : Int32) (σ : St), K33 v1 v2 v3 σ → AX Z 0 0 33 [(0, .ref (L 0)), (1, .int v1), (2, .int v2), (3, .int v3)] [] (xW G L σ)) (v1 : Int32) (v2 : Int32) (v3 : Int32) (s1 : Int32) (s2 : Int32) (σ : St) (h : wx_mend_j72 P K33 v1 v2 v3 s1 s2 σ) : AX Z 0 0 72 [(0, .ref (L 0)), (1, .int v1), (2, .int v2), (3, .int v3)] [.int s2, .int s1, .ref (L 0)] (xW G L σ) := by
  unfold wx_mend_j72 at h
  refine ax_iand K dX1_mend_72 ?_
  refine xp_allowed K dX1_mend_73 ?_
  refine ax_iinc (lv' := [(3, .int (v3 + (1 : Int32))), (0, .ref (L 0)), (1, .int v1), (2, .int v2)]) (v := (v3 + (1 : Int32))) K 3 dX1_mend_76 rfl (by rfl) (by decide) rfl ?_
  refine ax_goto (tgt := 33) K dX1_mend_79 (by decide) ?_
  exact ax_sub [1, 2, 3, 0] rfl (hK33 v1 v2 (v3 + (1 : Int32)) (xS_allowed σ (s1 &&& s2)) h)
set_option maxHeartbeats 4000000 in
theorem kx_mend_j71 {Z : AZ} {G : AG} {L : Nat → Nat} {P : Int32 → St → Prop} (K : AK Z G cX1_mend RX1 9 (rmH 5)) (E : AEi Z cX1_mend .int (xW G L) 0 0 P) {K33 : Int32 → Int32 → Int32 → St → Prop} (hK33 : ∀ (v1 : Int32) (v2 : Int32) (v3 : Int32) (σ : St), K33 v1 v2 v3 σ → AX Z 0 0 33 [(0, .ref (L 0)), (1, .int v1), (2, .int v2), (3, .int v3)] [] (xW G L σ)) (v1 : Int32) (v2 : Int32) (v3 : Int32) (s1 : Int32) (σ : St) (h : wx_mend_j71 P K33 v1 v2 v3 s1 σ) : AX Z 0 0 71 [(0, .ref (L 0)), (1, .int v1), (2, .int v2), (3, .int v3)] [.int s1, .ref (L 0)] (xW G L σ) := by
  unfold wx_mend_j71 at h
  refine ax_iconst (v := (-1 : Int32)) K (by decide) dX1_mend_71 ?_
  exact ax_sub [0, 1, 2, 3] rfl (kx_mend_j72 K E hK33 v1 v2 v3 s1 (-1 : Int32) σ h)
set_option maxHeartbeats 4000000 in
theorem kx_mend_l33 {Z : AZ} {G : AG} {L : Nat → Nat} {P : Int32 → St → Prop} (K : AK Z G cX1_mend RX1 9 (rmH 5)) (E : AEi Z cX1_mend .int (xW G L) 0 0 P) {K99 : Int32 → Int32 → Int32 → St → Prop} (hK99 : ∀ (v1 : Int32) (v3 : Int32) (v4 : Int32) (σ : St), K99 v1 v3 v4 σ → AX Z 0 0 99 [(0, .ref (L 0)), (1, .int v1), (3, .int v3), (4, .int v4)] [] (xW G L σ)) : ∀ (n : Nat) (v1 : Int32) (v2 : Int32) (v3 : Int32) (σ : St), wx_mend_l33 P K99 n v1 v2 v3 σ → AX Z 0 0 33 [(0, .ref (L 0)), (1, .int v1), (2, .int v2), (3, .int v3)] [] (xW G L σ) := by
  intro n
  induction n with
  | zero => intro v1 v2 v3 σ h; exact False.elim h
  | succ n ih =>
    intro v1 v2 v3 σ h
    rw [wx_mend_l33_s] at h
    refine ax_iload_n K 3 rfl dX1_mend_33 ?_
    refine ax_aload_n K 0 rfl dX1_mend_34 ?_
    refine xg_dishes K dX1_mend_35 ?_
    refine ax_icmp_ge (tgt := 82) K dX1_mend_38 (by decide) (fun c38 => ?_) (fun c38 => ?_)
    · have h := ax_it h c38
      refine ax_aload_n K 0 rfl dX1_mend_82 ?_
      refine xg_menuMany K dX1_mend_83 ?_
      refine ax_iload_n K 1 rfl dX1_mend_86 ?_
      refine xl_menuMany K h.1 dX1_mend_87 ?_
      replace h := h.2
      refine ax_istore_n (lv' := [(3, .int (xA_menuMany σ (v1).toNatClampNeg)), (0, .ref (L 0)), (1, .int v1), (2, .int v2)]) K dX1_mend_88 (by decide) rfl ?_
      refine ax_iconst (v := (1 : Int32)) K (by decide) dX1_mend_89 ?_
      refine ax_aload_n K 1 rfl dX1_mend_90 ?_
      refine xg_dishes K dX1_mend_91 ?_
      refine ax_ishl K dX1_mend_94 ?_
      refine ax_iconst (v := (1 : Int32)) K (by decide) dX1_mend_95 ?_
      refine ax_isub K dX1_mend_96 ?_
      refine ax_istore (lv' := [(4, .int (((1 : Int32) <<< ((xI_dishes σ) &&& 31)) - (1 : Int32))), (3, .int (xA_menuMany σ (v1).toNatClampNeg)), (0, .ref (L 0)), (1, .int v1), (2, .int v2)]) K dX1_mend_97 (by decide) rfl ?_
      exact ax_sub [2, 3, 1, 0] rfl (hK99 v1 (xA_menuMany σ (v1).toNatClampNeg) (((1 : Int32) <<< ((xI_dishes σ) &&& 31)) - (1 : Int32)) σ h)
    · have h := ax_ie h c38
      refine ax_aload_n K 0 rfl dX1_mend_41 ?_
      refine ax_dup K rfl dX1_mend_42 ?_
      refine xg_allowed K dX1_mend_43 ?_
      refine ax_iload_n K 2 rfl dX1_mend_46 ?_
      refine ax_if_lt (tgt := 71) K dX1_mend_47 (by decide) (fun c47 => ?_) (fun c47 => ?_)
      · have h := ax_it h c47
        exact ax_sub [0, 1, 2, 3] rfl (kx_mend_j71 K E ih v1 v2 v3 (xI_allowed σ) σ h)
      · have h := ax_ie h c47
        refine ax_aload_n K 0 rfl dX1_mend_50 ?_
        refine xg_stuffs K dX1_mend_51 ?_
        refine ax_iload_n K 3 rfl dX1_mend_54 ?_
        refine xl_stuffs K h.1 dX1_mend_55 ?_
        replace h := h.2
        refine ax_iload_n K 2 rfl dX1_mend_56 ?_
        refine rx_has K (by decide) dX1_mend_57 (Nat.le_of_ble_eq_true rfl) h (fun r57 h => ?_)
        refine ax_if_eq (tgt := 71) K dX1_mend_60 (by decide) (fun c60 => ?_) (fun c60 => ?_)
        · have h := ax_it h c60
          exact ax_sub [0, 1, 2, 3] rfl (kx_mend_j71 K E ih v1 v2 v3 (xI_allowed σ) σ h)
        · have h := ax_ie h c60
          refine ax_iconst (v := (1 : Int32)) K (by decide) dX1_mend_63 ?_
          refine ax_iload_n K 3 rfl dX1_mend_64 ?_
          refine ax_ishl K dX1_mend_65 ?_
          refine ax_iconst (v := (-1 : Int32)) K (by decide) dX1_mend_66 ?_
          refine ax_ixor K dX1_mend_67 ?_
          refine ax_goto (tgt := 72) K dX1_mend_68 (by decide) ?_
          exact ax_sub [0, 1, 2, 3] rfl (kx_mend_j72 K E ih v1 v2 v3 (xI_allowed σ) (((1 : Int32) <<< (v3 &&& 31)) ^^^ (-1 : Int32)) σ h)
set_option maxHeartbeats 4000000 in
theorem kx_mend_j205 {Z : AZ} {G : AG} {L : Nat → Nat} {P : Int32 → St → Prop} (K : AK Z G cX1_mend RX1 9 (rmH 5)) (E : AEi Z cX1_mend .int (xW G L) 0 0 P) {K161 : Int32 → Int32 → Int32 → Int32 → Int32 → Int32 → Int32 → St → Prop} (hK161 : ∀ (v1 : Int32) (v3 : Int32) (v4 : Int32) (v5 : Int32) (v6 : Int32) (v7 : Int32) (v8 : Int32) (σ : St), K161 v1 v3 v4 v5 v6 v7 v8 σ → AX Z 0 0 161 [(0, .ref (L 0)), (1, .int v1), (3, .int v3), (4, .int v4), (5, .int v5), (6, .int v6), (7, .int v7), (8, .int v8)] [] (xW G L σ)) (v1 : Int32) (v3 : Int32) (v4 : Int32) (v5 : Int32) (v6 : Int32) (v7 : Int32) (v8 : Int32) (σ : St) (h : wx_mend_j205 P K161 v1 v3 v4 v5 v6 v7 v8 σ) : AX Z 0 0 205 [(0, .ref (L 0)), (1, .int v1), (3, .int v3), (4, .int v4), (5, .int v5), (6, .int v6), (7, .int v7), (8, .int v8)] [] (xW G L σ) := by
  unfold wx_mend_j205 at h
  refine ax_iinc (lv' := [(8, .int (v8 + (1 : Int32))), (0, .ref (L 0)), (1, .int v1), (3, .int v3), (4, .int v4), (5, .int v5), (6, .int v6), (7, .int v7)]) (v := (v8 + (1 : Int32))) K 7 dX1_mend_205 rfl (by rfl) (by decide) rfl ?_
  refine ax_goto (tgt := 161) K dX1_mend_208 (by decide) ?_
  exact ax_sub [1, 2, 3, 4, 5, 6, 7, 0] rfl (hK161 v1 v3 v4 v5 v6 v7 (v8 + (1 : Int32)) σ h)
set_option maxHeartbeats 4000000 in
theorem kx_mend_l161 {Z : AZ} {G : AG} {L : Nat → Nat} {P : Int32 → St → Prop} (K : AK Z G cX1_mend RX1 9 (rmH 5)) (E : AEi Z cX1_mend .int (xW G L) 0 0 P) {K211 : Int32 → Int32 → Int32 → Int32 → Int32 → Int32 → St → Prop} (hK211 : ∀ (v1 : Int32) (v3 : Int32) (v4 : Int32) (v5 : Int32) (v6 : Int32) (v7 : Int32) (σ : St), K211 v1 v3 v4 v5 v6 v7 σ → AX Z 0 0 211 [(0, .ref (L 0)), (1, .int v1), (3, .int v3), (4, .int v4), (5, .int v5), (6, .int v6), (7, .int v7)] [] (xW G L σ)) : ∀ (n : Nat) (v1 : Int32) (v3 : Int32) (v4 : Int32) (v5 : Int32) (v6 : Int32) (v7 : Int32) (v8 : Int32) (σ : St), wx_mend_l161 P K211 n v1 v3 v4 v5 v6 v7 v8 σ → AX Z 0 0 161 [(0, .ref (L 0)), (1, .int v1), (3, .int v3), (4, .int v4), (5, .int v5), (6, .int v6), (7, .int v7), (8, .int v8)] [] (xW G L σ) := by
  intro n
  induction n with
  | zero => intro v1 v3 v4 v5 v6 v7 v8 σ h; exact False.elim h
  | succ n ih =>
    intro v1 v3 v4 v5 v6 v7 v8 σ h
    rw [wx_mend_l161_s] at h
    refine ax_iload K 7 rfl dX1_mend_161 ?_
    refine ax_aload_n K 0 rfl dX1_mend_163 ?_
    refine xg_dishes K dX1_mend_164 ?_
    refine ax_icmp_ge (tgt := 211) K dX1_mend_167 (by decide) (fun c167 => ?_) (fun c167 => ?_)
    · have h := ax_it h c167
      exact ax_sub [0, 1, 2, 3, 4, 5, 6] rfl (hK211 v1 v3 v4 v5 v6 v7 σ h)
    · have h := ax_ie h c167
      refine ax_iload K 4 rfl dX1_mend_170 ?_
      refine ax_iload_n K 2 rfl dX1_mend_172 ?_
      refine ax_icmp_ge (tgt := 211) K dX1_mend_173 (by decide) (fun c173 => ?_) (fun c173 => ?_)
      · have h := ax_it h c173
        exact ax_sub [0, 1, 2, 3, 4, 5, 6] rfl (hK211 v1 v3 v4 v5 v6 v7 σ h)
      · have h := ax_ie h c173
        refine ax_aload_n K 0 rfl dX1_mend_176 ?_
        refine ax_iload K 3 rfl dX1_mend_177 ?_
        refine ax_iload K 5 rfl dX1_mend_179 ?_
        refine ax_iload K 7 rfl dX1_mend_181 ?_
        refine rx_goesOn K (by decide) dX1_mend_183 (Nat.le_of_ble_eq_true rfl) h (fun r183 σ183 h => ?_)
        refine ax_if_eq (tgt := 205) K dX1_mend_186 (by decide) (fun c186 => ?_) (fun c186 => ?_)
        · have h := ax_it h c186
          exact ax_sub [0, 1, 2, 3, 4, 5, 6, 7] rfl (kx_mend_j205 K E ih v1 v3 v4 v5 v6 v7 v8 σ183 h)
        · have h := ax_ie h c186
          refine ax_iload K 6 rfl dX1_mend_189 ?_
          refine ax_aload_n K 0 rfl dX1_mend_191 ?_
          refine ax_iload_n K 1 rfl dX1_mend_192 ?_
          refine ax_iload K 3 rfl dX1_mend_193 ?_
          refine ax_iload K 7 rfl dX1_mend_195 ?_
          refine rx_mendBy K (by decide) dX1_mend_197 (Nat.le_of_ble_eq_true rfl) h (fun r197 σ197 h => ?_)
          refine rx_min K (by decide) (Nat.le_of_ble_eq_true rfl) dX1_mend_200 ?_
          refine ax_istore (lv' := [(7, .int (jmin v7 r197)), (0, .ref (L 0)), (1, .int v1), (3, .int v3), (4, .int v4), (5, .int v5), (6, .int v6), (8, .int v8)]) K dX1_mend_203 (by decide) rfl ?_
          exact ax_sub [1, 2, 3, 4, 5, 6, 0, 7] rfl (kx_mend_j205 K E ih v1 v3 v4 v5 v6 (jmin v7 r197) v8 σ197 h)
set_option maxHeartbeats 4000000 in
theorem kx_mend_j225 {Z : AZ} {G : AG} {L : Nat → Nat} {P : Int32 → St → Prop} (K : AK Z G cX1_mend RX1 9 (rmH 5)) (E : AEi Z cX1_mend .int (xW G L) 0 0 P) {K114 : Int32 → Int32 → Int32 → Int32 → Int32 → St → Prop} (hK114 : ∀ (v1 : Int32) (v3 : Int32) (v4 : Int32) (v5 : Int32) (v6 : Int32) (σ : St), K114 v1 v3 v4 v5 v6 σ → AX Z 0 0 114 [(0, .ref (L 0)), (1, .int v1), (3, .int v3), (4, .int v4), (5, .int v5), (6, .int v6)] [] (xW G L σ)) (v1 : Int32) (v3 : Int32) (v4 : Int32) (v5 : Int32) (v6 : Int32) (σ : St) (h : wx_mend_j225 P K114 v1 v3 v4 v5 v6 σ) : AX Z 0 0 225 [(0, .ref (L 0)), (1, .int v1), (3, .int v3), (4, .int v4), (5, .int v5), (6, .int v6)] [] (xW G L σ) := by
  unfold wx_mend_j225 at h
  refine ax_iinc (lv' := [(6, .int (v6 + (1 : Int32))), (0, .ref (L 0)), (1, .int v1), (3, .int v3), (4, .int v4), (5, .int v5)]) (v := (v6 + (1 : Int32))) K 5 dX1_mend_225 rfl (by rfl) (by decide) rfl ?_
  refine ax_goto (tgt := 114) K dX1_mend_228 (by decide) ?_
  exact ax_sub [1, 2, 3, 4, 5, 0] rfl (hK114 v1 v3 v4 v5 (v6 + (1 : Int32)) σ h)
set_option maxHeartbeats 4000000 in
theorem kx_mend_j211 {Z : AZ} {G : AG} {L : Nat → Nat} {P : Int32 → St → Prop} (K : AK Z G cX1_mend RX1 9 (rmH 5)) (E : AEi Z cX1_mend .int (xW G L) 0 0 P) {K114 : Int32 → Int32 → Int32 → Int32 → Int32 → St → Prop} (hK114 : ∀ (v1 : Int32) (v3 : Int32) (v4 : Int32) (v5 : Int32) (v6 : Int32) (σ : St), K114 v1 v3 v4 v5 v6 σ → AX Z 0 0 114 [(0, .ref (L 0)), (1, .int v1), (3, .int v3), (4, .int v4), (5, .int v5), (6, .int v6)] [] (xW G L σ)) (v1 : Int32) (v3 : Int32) (v4 : Int32) (v5 : Int32) (v6 : Int32) (v7 : Int32) (σ : St) (h : wx_mend_j211 P K114 v1 v3 v4 v5 v6 v7 σ) : AX Z 0 0 211 [(0, .ref (L 0)), (1, .int v1), (3, .int v3), (4, .int v4), (5, .int v5), (6, .int v6), (7, .int v7)] [] (xW G L σ) := by
  unfold wx_mend_j211 at h
  refine ax_aload_n K 0 rfl dX1_mend_211 ?_
  refine xg_value K dX1_mend_212 ?_
  refine ax_iload K 3 rfl dX1_mend_215 ?_
  refine ax_iload K 5 rfl dX1_mend_217 ?_
  refine rx_stateOf K (by decide) dX1_mend_219 (Nat.le_of_ble_eq_true rfl) h (fun r219 h => ?_)
  refine ax_iload K 6 rfl dX1_mend_222 ?_
  refine xs_value K h.1 dX1_mend_224 ?_
  replace h := h.2
  exact ax_sub [0, 1, 2, 3, 4, 5] rfl (kx_mend_j225 K E hK114 v1 v3 v4 v5 v6 (xU_value σ r219 v7) h)
set_option maxHeartbeats 4000000 in
theorem kx_mend_j156 {Z : AZ} {G : AG} {L : Nat → Nat} {P : Int32 → St → Prop} (K : AK Z G cX1_mend RX1 9 (rmH 5)) (E : AEi Z cX1_mend .int (xW G L) 0 0 P) {K114 : Int32 → Int32 → Int32 → Int32 → Int32 → St → Prop} (hK114 : ∀ (v1 : Int32) (v3 : Int32) (v4 : Int32) (v5 : Int32) (v6 : Int32) (σ : St), K114 v1 v3 v4 v5 v6 σ → AX Z 0 0 114 [(0, .ref (L 0)), (1, .int v1), (3, .int v3), (4, .int v4), (5, .int v5), (6, .int v6)] [] (xW G L σ)) (v1 : Int32) (v3 : Int32) (v4 : Int32) (v5 : Int32) (v6 : Int32) (s0 : Int32) (σ : St) (h : wx_mend_j156 P K114 v1 v3 v4 v5 v6 s0 σ) : AX Z 0 0 156 [(0, .ref (L 0)), (1, .int v1), (3, .int v3), (4, .int v4), (5, .int v5), (6, .int v6)] [.int s0] (xW G L σ) := by
  unfold wx_mend_j156 at h
  refine ax_istore (lv' := [(7, .int s0), (0, .ref (L 0)), (1, .int v1), (3, .int v3), (4, .int v4), (5, .int v5), (6, .int v6)]) K dX1_mend_156 (by decide) rfl ?_
  refine ax_iconst (v := (0 : Int32)) K (by decide) dX1_mend_158 ?_
  refine ax_istore (lv' := [(8, .int (0 : Int32)), (7, .int s0), (0, .ref (L 0)), (1, .int v1), (3, .int v3), (4, .int v4), (5, .int v5), (6, .int v6)]) K dX1_mend_159 (by decide) rfl ?_
  exact ax_sub [2, 3, 4, 5, 6, 7, 1, 0] rfl (h.elim fun n161 h => kx_mend_l161 K E (kx_mend_j211 K E hK114) n161 v1 v3 v4 v5 v6 s0 (0 : Int32) σ h)
set_option maxHeartbeats 4000000 in
theorem kx_mend_l114 {Z : AZ} {G : AG} {L : Nat → Nat} {P : Int32 → St → Prop} (K : AK Z G cX1_mend RX1 9 (rmH 5)) (E : AEi Z cX1_mend .int (xW G L) 0 0 P) {K231 : Int32 → Int32 → Int32 → St → Prop} (hK231 : ∀ (v1 : Int32) (v3 : Int32) (v4 : Int32) (σ : St), K231 v1 v3 v4 σ → AX Z 0 0 231 [(0, .ref (L 0)), (1, .int v1), (3, .int v3), (4, .int v4)] [] (xW G L σ)) : ∀ (n : Nat) (v1 : Int32) (v3 : Int32) (v4 : Int32) (v5 : Int32) (v6 : Int32) (σ : St), wx_mend_l114 P K231 n v1 v3 v4 v5 v6 σ → AX Z 0 0 114 [(0, .ref (L 0)), (1, .int v1), (3, .int v3), (4, .int v4), (5, .int v5), (6, .int v6)] [] (xW G L σ) := by
  intro n
  induction n with
  | zero => intro v1 v3 v4 v5 v6 σ h; exact False.elim h
  | succ n ih =>
    intro v1 v3 v4 v5 v6 σ h
    rw [wx_mend_l114_s] at h
    refine ax_iload K 5 rfl dX1_mend_114 ?_
    refine ax_aload_n K 0 rfl dX1_mend_116 ?_
    refine xg_dishes K dX1_mend_117 ?_
    refine ax_icmp_ge (tgt := 231) K dX1_mend_120 (by decide) (fun c120 => ?_) (fun c120 => ?_)
    · have h := ax_it h c120
      exact ax_sub [0, 1, 2, 3] rfl (hK231 v1 v3 v4 σ h)
    · have h := ax_ie h c120
      refine ax_iload K 4 rfl dX1_mend_123 ?_
      refine ax_iload_n K 2 rfl dX1_mend_125 ?_
      refine ax_icmp_gt (tgt := 231) K dX1_mend_126 (by decide) (fun c126 => ?_) (fun c126 => ?_)
      · have h := ax_it h c126
        exact ax_sub [0, 1, 2, 3] rfl (hK231 v1 v3 v4 σ h)
      · have h := ax_ie h c126
        refine ax_aload_n K 0 rfl dX1_mend_129 ?_
        refine ax_iload K 3 rfl dX1_mend_130 ?_
        refine ax_iload K 5 rfl dX1_mend_132 ?_
        refine rx_isLastOf K (by decide) dX1_mend_134 (Nat.le_of_ble_eq_true rfl) h (fun r134 σ134 h => ?_)
        refine ax_if_ne (tgt := 143) K dX1_mend_137 (by decide) (fun c137 => ?_) (fun c137 => ?_)
        · have h := ax_ie h c137
          refine ax_iload K 4 rfl dX1_mend_143 ?_
          refine ax_iload_n K 2 rfl dX1_mend_145 ?_
          refine ax_icmp_ne (tgt := 153) K dX1_mend_146 (by decide) (fun c146 => ?_) (fun c146 => ?_)
          · have h := ax_ie h c146
            refine ax_ldcw (v := (1000000 : Int32)) K q717 dX1_mend_153 ?_
            exact ax_sub [0, 1, 2, 3, 4, 5] rfl (kx_mend_j156 K E ih v1 v3 v4 v5 v6 (1000000 : Int32) σ134 h)
          · have h := ax_it h c146
            refine ax_iconst (v := (0 : Int32)) K (by decide) dX1_mend_149 ?_
            refine ax_goto (tgt := 156) K dX1_mend_150 (by decide) ?_
            exact ax_sub [0, 1, 2, 3, 4, 5] rfl (kx_mend_j156 K E ih v1 v3 v4 v5 v6 (0 : Int32) σ134 h)
        · have h := ax_it h c137
          refine ax_goto (tgt := 225) K dX1_mend_140 (by decide) ?_
          exact ax_sub [0, 1, 2, 3, 4, 5] rfl (kx_mend_j225 K E ih v1 v3 v4 v5 v6 σ134 h)
set_option maxHeartbeats 4000000 in
theorem kx_mend_j231 {Z : AZ} {G : AG} {L : Nat → Nat} {P : Int32 → St → Prop} (K : AK Z G cX1_mend RX1 9 (rmH 5)) (E : AEi Z cX1_mend .int (xW G L) 0 0 P) {K99 : Int32 → Int32 → Int32 → St → Prop} (hK99 : ∀ (v1 : Int32) (v3 : Int32) (v4 : Int32) (σ : St), K99 v1 v3 v4 σ → AX Z 0 0 99 [(0, .ref (L 0)), (1, .int v1), (3, .int v3), (4, .int v4)] [] (xW G L σ)) (v1 : Int32) (v3 : Int32) (v4 : Int32) (σ : St) (h : wx_mend_j231 P K99 v1 v3 v4 σ) : AX Z 0 0 231 [(0, .ref (L 0)), (1, .int v1), (3, .int v3), (4, .int v4)] [] (xW G L σ) := by
  unfold wx_mend_j231 at h
  refine ax_iinc (lv' := [(4, .int (v4 + (-1 : Int32))), (0, .ref (L 0)), (1, .int v1), (3, .int v3)]) (v := (v4 + (-1 : Int32))) K 3 dX1_mend_231 rfl (by rfl) (by decide) rfl ?_
  refine ax_goto (tgt := 99) K dX1_mend_234 (by decide) ?_
  exact ax_sub [1, 2, 3, 0] rfl (hK99 v1 v3 (v4 + (-1 : Int32)) σ h)
set_option maxHeartbeats 4000000 in
theorem kx_mend_l99 {Z : AZ} {G : AG} {L : Nat → Nat} {P : Int32 → St → Prop} (K : AK Z G cX1_mend RX1 9 (rmH 5)) (E : AEi Z cX1_mend .int (xW G L) 0 0 P) {K274 : Int32 → Int32 → Int32 → Int32 → Int32 → Int32 → St → Prop} (hK274 : ∀ (v1 : Int32) (v3 : Int32) (v4 : Int32) (v5 : Int32) (v6 : Int32) (v7 : Int32) (σ : St), K274 v1 v3 v4 v5 v6 v7 σ → AX Z 0 0 274 [(0, .ref (L 0)), (1, .int v1), (3, .int v3), (4, .int v4), (5, .int v5), (6, .int v6), (7, .int v7)] [] (xW G L σ)) : ∀ (n : Nat) (v1 : Int32) (v3 : Int32) (v4 : Int32) (σ : St), wx_mend_l99 P K274 n v1 v3 v4 σ → AX Z 0 0 99 [(0, .ref (L 0)), (1, .int v1), (3, .int v3), (4, .int v4)] [] (xW G L σ) := by
  intro n
  induction n with
  | zero => intro v1 v3 v4 σ h; exact False.elim h
  | succ n ih =>
    intro v1 v3 v4 σ h
    rw [wx_mend_l99_s] at h
    refine ax_iload K 3 rfl dX1_mend_99 ?_
    refine ax_if_lt (tgt := 237) K dX1_mend_101 (by decide) (fun c101 => ?_) (fun c101 => ?_)
    · have h := ax_it h c101
      refine ax_aload_n K 0 rfl dX1_mend_237 ?_
      refine xg_value K dX1_mend_238 ?_
      refine ax_iconst (v := (0 : Int32)) K (by decide) dX1_mend_241 ?_
      refine ax_iconst (v := (-1 : Int32)) K (by decide) dX1_mend_242 ?_
      refine rx_stateOf K (by decide) dX1_mend_243 (Nat.le_of_ble_eq_true rfl) h (fun r243 h => ?_)
      refine xl_value K h.1 dX1_mend_246 ?_
      replace h := h.2
      refine ax_istore (lv' := [(4, .int (xA_value σ (r243).toNatClampNeg)), (0, .ref (L 0)), (1, .int v1), (3, .int v3)]) K dX1_mend_247 (by decide) rfl ?_
      refine ax_iload K 0 rfl dX1_mend_249 ?_
      refine ax_ldcw (v := (1000000 : Int32)) K q717 dX1_mend_251 ?_
      refine ax_icmp_lt (tgt := 260) K dX1_mend_254 (by decide) (fun c254 => ?_) (fun c254 => ?_)
      · have h := ax_it h c254
        refine ax_aload_n K 1 rfl dX1_mend_260 ?_
        refine ax_iconst (v := (0 : Int32)) K (by decide) dX1_mend_261 ?_
        refine xp_rowMany K dX1_mend_262 ?_
        refine ax_iconst (v := (0 : Int32)) K (by decide) dX1_mend_265 ?_
        refine ax_istore (lv' := [(5, .int (0 : Int32)), (4, .int (xA_value σ (r243).toNatClampNeg)), (0, .ref (L 0)), (1, .int v1), (3, .int v3)]) K dX1_mend_266 (by decide) rfl ?_
        refine ax_iconst (v := (-1 : Int32)) K (by decide) dX1_mend_268 ?_
        refine ax_istore (lv' := [(6, .int (-1 : Int32)), (5, .int (0 : Int32)), (4, .int (xA_value σ (r243).toNatClampNeg)), (0, .ref (L 0)), (1, .int v1), (3, .int v3)]) K dX1_mend_269 (by decide) rfl ?_
        refine ax_iconst (v := (0 : Int32)) K (by decide) dX1_mend_271 ?_
        refine ax_istore (lv' := [(7, .int (0 : Int32)), (6, .int (-1 : Int32)), (5, .int (0 : Int32)), (4, .int (xA_value σ (r243).toNatClampNeg)), (0, .ref (L 0)), (1, .int v1), (3, .int v3)]) K dX1_mend_272 (by decide) rfl ?_
        exact ax_sub [4, 5, 6, 3, 2, 1, 0] rfl (hK274 v1 v3 (xA_value σ (r243).toNatClampNeg) (0 : Int32) (-1 : Int32) (0 : Int32) (xS_rowMany σ (0 : Int32)) h)
      · have h := ax_ie h c254
        refine ax_bipush (v := (-2 : Int32)) K (by decide) dX1_mend_257 ?_
        exact E _ _ _ _ dX1_mend_259 rfl h
    · have h := ax_ie h c101
      refine ax_iload K 3 rfl dX1_mend_104 ?_
      refine rx_bitCount K (by decide) dX1_mend_106 (Nat.le_of_ble_eq_true rfl) ?_
      refine ax_istore (lv' := [(5, .int (bitC v4)), (0, .ref (L 0)), (1, .int v1), (3, .int v3), (4, .int v4)]) K dX1_mend_109 (by decide) rfl ?_
      refine ax_iconst (v := (-1 : Int32)) K (by decide) dX1_mend_111 ?_
      refine ax_istore (lv' := [(6, .int (-1 : Int32)), (5, .int (bitC v4)), (0, .ref (L 0)), (1, .int v1), (3, .int v3), (4, .int v4)]) K dX1_mend_112 (by decide) rfl ?_
      exact ax_sub [2, 3, 4, 5, 1, 0] rfl (h.elim fun n114 h => kx_mend_l114 K E (kx_mend_j231 K E ih) n114 v1 v3 v4 (bitC v4) (-1 : Int32) σ h)
set_option maxHeartbeats 4000000 in
theorem kx_mend_j320 {Z : AZ} {G : AG} {L : Nat → Nat} {P : Int32 → St → Prop} (K : AK Z G cX1_mend RX1 9 (rmH 5)) (E : AEi Z cX1_mend .int (xW G L) 0 0 P) {K283 : Int32 → Int32 → Int32 → Int32 → Int32 → Int32 → Int32 → St → Prop} (hK283 : ∀ (v1 : Int32) (v3 : Int32) (v4 : Int32) (v5 : Int32) (v6 : Int32) (v7 : Int32) (v8 : Int32) (σ : St), K283 v1 v3 v4 v5 v6 v7 v8 σ → AX Z 0 0 283 [(0, .ref (L 0)), (1, .int v1), (3, .int v3), (4, .int v4), (5, .int v5), (6, .int v6), (7, .int v7), (8, .int v8)] [] (xW G L σ)) (v1 : Int32) (v3 : Int32) (v4 : Int32) (v5 : Int32) (v6 : Int32) (v7 : Int32) (v8 : Int32) (σ : St) (h : wx_mend_j320 P K283 v1 v3 v4 v5 v6 v7 v8 σ) : AX Z 0 0 320 [(0, .ref (L 0)), (1, .int v1), (3, .int v3), (4, .int v4), (5, .int v5), (6, .int v6), (7, .int v7), (8, .int v8)] [] (xW G L σ) := by
  unfold wx_mend_j320 at h
  refine ax_iinc (lv' := [(8, .int (v8 + (1 : Int32))), (0, .ref (L 0)), (1, .int v1), (3, .int v3), (4, .int v4), (5, .int v5), (6, .int v6), (7, .int v7)]) (v := (v8 + (1 : Int32))) K 7 dX1_mend_320 rfl (by rfl) (by decide) rfl ?_
  refine ax_goto (tgt := 283) K dX1_mend_323 (by decide) ?_
  exact ax_sub [1, 2, 3, 4, 5, 6, 7, 0] rfl (hK283 v1 v3 v4 v5 v6 v7 (v8 + (1 : Int32)) σ h)
set_option maxHeartbeats 4000000 in
theorem kx_mend_l283 {Z : AZ} {G : AG} {L : Nat → Nat} {P : Int32 → St → Prop} (K : AK Z G cX1_mend RX1 9 (rmH 5)) (E : AEi Z cX1_mend .int (xW G L) 0 0 P) {K274 : Int32 → Int32 → Int32 → Int32 → Int32 → Int32 → St → Prop} (hK274 : ∀ (v1 : Int32) (v3 : Int32) (v4 : Int32) (v5 : Int32) (v6 : Int32) (v7 : Int32) (σ : St), K274 v1 v3 v4 v5 v6 v7 σ → AX Z 0 0 274 [(0, .ref (L 0)), (1, .int v1), (3, .int v3), (4, .int v4), (5, .int v5), (6, .int v6), (7, .int v7)] [] (xW G L σ)) : ∀ (n : Nat) (v1 : Int32) (v3 : Int32) (v4 : Int32) (v5 : Int32) (v6 : Int32) (v7 : Int32) (v8 : Int32) (σ : St), wx_mend_l283 P K274 n v1 v3 v4 v5 v6 v7 v8 σ → AX Z 0 0 283 [(0, .ref (L 0)), (1, .int v1), (3, .int v3), (4, .int v4), (5, .int v5), (6, .int v6), (7, .int v7), (8, .int v8)] [] (xW G L σ) := by
  intro n
  induction n with
  | zero => intro v1 v3 v4 v5 v6 v7 v8 σ h; exact False.elim h
  | succ n ih =>
    intro v1 v3 v4 v5 v6 v7 v8 σ h
    rw [wx_mend_l283_s] at h
    refine ax_aload_n K 0 rfl dX1_mend_283 ?_
    refine ax_iload K 4 rfl dX1_mend_284 ?_
    refine ax_iload K 5 rfl dX1_mend_286 ?_
    refine ax_iload K 7 rfl dX1_mend_288 ?_
    refine rx_goesOn K (by decide) dX1_mend_290 (Nat.le_of_ble_eq_true rfl) h (fun r290 σ290 h => ?_)
    refine ax_if_eq (tgt := 320) K dX1_mend_293 (by decide) (fun c293 => ?_) (fun c293 => ?_)
    · have h := ax_it h c293
      exact ax_sub [0, 1, 2, 3, 4, 5, 6, 7] rfl (kx_mend_j320 K E ih v1 v3 v4 v5 v6 v7 v8 σ290 h)
    · have h := ax_ie h c293
      refine ax_aload_n K 0 rfl dX1_mend_296 ?_
      refine ax_iload_n K 1 rfl dX1_mend_297 ?_
      refine ax_iload K 4 rfl dX1_mend_298 ?_
      refine ax_iload K 7 rfl dX1_mend_300 ?_
      refine rx_mendBy K (by decide) dX1_mend_302 (Nat.le_of_ble_eq_true rfl) h (fun r302 σ302 h => ?_)
      refine ax_aload_n K 0 rfl dX1_mend_305 ?_
      refine xg_value K dX1_mend_306 ?_
      refine ax_iload K 4 rfl dX1_mend_309 ?_
      refine ax_iload K 5 rfl dX1_mend_311 ?_
      refine rx_stateOf K (by decide) dX1_mend_313 (Nat.le_of_ble_eq_true rfl) h (fun r313 h => ?_)
      refine xl_value K h.1 dX1_mend_316 ?_
      replace h := h.2
      refine ax_icmp_eq (tgt := 326) K dX1_mend_317 (by decide) (fun c317 => ?_) (fun c317 => ?_)
      · have h := ax_it h c317
        refine ax_aload_n K 0 rfl dX1_mend_326 ?_
        refine ax_iload K 7 rfl dX1_mend_327 ?_
        refine rx_tells K (by decide) dX1_mend_329 (Nat.le_of_ble_eq_true rfl) h (fun σ329 h => ?_)
        refine ax_iload K 4 rfl dX1_mend_332 ?_
        refine ax_iconst (v := (1 : Int32)) K (by decide) dX1_mend_334 ?_
        refine ax_iload K 7 rfl dX1_mend_335 ?_
        refine ax_ishl K dX1_mend_337 ?_
        refine ax_ior K dX1_mend_338 ?_
        refine ax_istore (lv' := [(5, .int (v5 ||| ((1 : Int32) <<< (v8 &&& 31)))), (0, .ref (L 0)), (1, .int v1), (3, .int v3), (4, .int v4), (6, .int v6), (7, .int v7), (8, .int v8)]) K dX1_mend_339 (by decide) rfl ?_
        refine ax_iload K 7 rfl dX1_mend_341 ?_
        refine ax_istore (lv' := [(6, .int v8), (5, .int (v5 ||| ((1 : Int32) <<< (v8 &&& 31)))), (0, .ref (L 0)), (1, .int v1), (3, .int v3), (4, .int v4), (7, .int v7), (8, .int v8)]) K dX1_mend_343 (by decide) rfl ?_
        refine ax_iinc (lv' := [(7, .int (v7 + (1 : Int32))), (6, .int v8), (5, .int (v5 ||| ((1 : Int32) <<< (v8 &&& 31)))), (0, .ref (L 0)), (1, .int v1), (3, .int v3), (4, .int v4), (8, .int v8)]) (v := (v7 + (1 : Int32))) K 6 dX1_mend_345 rfl (by rfl) (by decide) rfl ?_
        refine ax_goto (tgt := 274) K dX1_mend_348 (by decide) ?_
        exact ax_sub [3, 4, 5, 6, 2, 1, 0] rfl (hK274 v1 v3 v4 (v5 ||| ((1 : Int32) <<< (v8 &&& 31))) v8 (v7 + (1 : Int32)) σ329 h)
      · have h := ax_ie h c317
        exact ax_sub [0, 1, 2, 3, 4, 5, 6, 7] rfl (kx_mend_j320 K E ih v1 v3 v4 v5 v6 v7 v8 σ302 h)
set_option maxHeartbeats 4000000 in
theorem kx_mend_l274 {Z : AZ} {G : AG} {L : Nat → Nat} {P : Int32 → St → Prop} (K : AK Z G cX1_mend RX1 9 (rmH 5)) (E : AEi Z cX1_mend .int (xW G L) 0 0 P) : ∀ (n : Nat) (v1 : Int32) (v3 : Int32) (v4 : Int32) (v5 : Int32) (v6 : Int32) (v7 : Int32) (σ : St), wx_mend_l274 P  n v1 v3 v4 v5 v6 v7 σ → AX Z 0 0 274 [(0, .ref (L 0)), (1, .int v1), (3, .int v3), (4, .int v4), (5, .int v5), (6, .int v6), (7, .int v7)] [] (xW G L σ) := by
  intro n
  induction n with
  | zero => intro v1 v3 v4 v5 v6 v7 σ h; exact False.elim h
  | succ n ih =>
    intro v1 v3 v4 v5 v6 v7 σ h
    rw [wx_mend_l274_s] at h
    refine ax_iload K 6 rfl dX1_mend_274 ?_
    refine ax_iload_n K 2 rfl dX1_mend_276 ?_
    refine ax_icmp_ge (tgt := 351) K dX1_mend_277 (by decide) (fun c277 => ?_) (fun c277 => ?_)
    · have h := ax_it h c277
      refine ax_iload K 3 rfl dX1_mend_351 ?_
      exact E _ _ _ _ dX1_mend_353 rfl h
    · have h := ax_ie h c277
      refine ax_iconst (v := (0 : Int32)) K (by decide) dX1_mend_280 ?_
      refine ax_istore (lv' := [(8, .int (0 : Int32)), (0, .ref (L 0)), (1, .int v1), (3, .int v3), (4, .int v4), (5, .int v5), (6, .int v6), (7, .int v7)]) K dX1_mend_281 (by decide) rfl ?_
      exact ax_sub [1, 2, 3, 4, 5, 6, 7, 0] rfl (h.elim fun n283 h => kx_mend_l283 K E ih n283 v1 v3 v4 v5 v6 v7 (0 : Int32) σ h)
set_option maxHeartbeats 4000000 in
theorem mx_mend {l : Launch} {G : AG} {L : Nat → Nat} {σ : St} {v1 : Int32} {v2 : Int32} {P : Int32 → St → Prop} (h : wx_mend σ v1 v2 P) : CtW l G yX1_mend cX1_mend 9 (some .int) (rmH 5) [.ref (L 0), .int v1, .int v2] (xW G L) σ (pI P) := by
  refine CtW.ofI (by decide) (Nat.le_of_ble_eq_true rfl) fun Z _ K E => ?_
  unfold wx_mend at h
  show AX Z 0 0 0 [(0, .ref (L 0)), (1, .int v1), (2, .int v2)] [] (xW G L σ)
  refine ax_iload_n K 2 rfl dX1_mend_0 ?_
  refine ax_i2l K dX1_mend_1 ?_
  refine ax_ldc2 (v := (-1 : Int64)) K q704 dX1_mend_2 ?_
  refine ax_ldc2 (v := (7 : Int64)) K q540 dX1_mend_5 ?_
  refine rx_in K (by decide) dX1_mend_8 (Nat.le_of_ble_eq_true rfl) h (fun r8 h => ?_)
  refine ax_if_ne (tgt := 16) K dX1_mend_11 (by decide) (fun c11 => ?_) (fun c11 => ?_)
  · have h := ax_ie h c11
    refine ax_aload_n K 0 rfl dX1_mend_16 ?_
    refine ax_iload_n K 1 rfl dX1_mend_17 ?_
    refine rx_isWhole K (by decide) dX1_mend_18 (Nat.le_of_ble_eq_true rfl) h (fun r18 σ18 h => ?_)
    refine ax_if_ne (tgt := 27) K dX1_mend_21 (by decide) (fun c21 => ?_) (fun c21 => ?_)
    · have h := ax_ie h c21
      refine ax_aload_n K 0 rfl dX1_mend_27 ?_
      refine rx_laysOut K (by decide) dX1_mend_28 (Nat.le_of_ble_eq_true rfl) h (fun σ28 h => ?_)
      refine ax_iconst (v := (0 : Int32)) K (by decide) dX1_mend_31 ?_
      refine ax_istore_n (lv' := [(3, .int (0 : Int32)), (0, .ref (L 0)), (1, .int v1), (2, .int v2)]) K dX1_mend_32 (by decide) rfl ?_
      exact ax_sub [1, 2, 3, 0] rfl (h.elim fun n33 h => kx_mend_l33 K E (fun v1 v3 v4 σ h => h.elim fun n99 h => kx_mend_l99 K E (fun v1 v3 v4 v5 v6 v7 σ h => h.elim fun n274 h => kx_mend_l274 K E  n274 v1 v3 v4 v5 v6 v7 σ h) n99 v1 v3 v4 σ h) n33 v1 v2 (0 : Int32) σ28 h)
    · have h := ax_it h c21
      refine ax_bipush (v := (-3 : Int32)) K (by decide) dX1_mend_24 ?_
      exact E _ _ _ _ dX1_mend_26 rfl h
  · have h := ax_it h c11
    refine ax_iconst (v := (-1 : Int32)) K (by decide) dX1_mend_14 ?_
    exact E _ _ _ _ dX1_mend_15 rfl h

/-! x.parts -/
set_option maxHeartbeats 4000000 in
theorem kx_parts_j45 {Z : AZ} {G : AG} {L : Nat → Nat} {P : Int32 → St → Prop} (K : AK Z G cX1_parts RX1 3 (rmH 5)) (E : AEi Z cX1_parts .int (xW G L) 0 0 P) {K9 : Int32 → Int32 → St → Prop} (hK9 : ∀ (v1 : Int32) (v2 : Int32) (σ : St), K9 v1 v2 σ → AX Z 0 0 9 [(0, .ref (L 0)), (1, .int v1), (2, .int v2)] [] (xW G L σ)) (v1 : Int32) (v2 : Int32) (σ : St) (h : wx_parts_j45 P K9 v1 v2 σ) : AX Z 0 0 45 [(0, .ref (L 0)), (1, .int v1), (2, .int v2)] [] (xW G L σ) := by
  unfold wx_parts_j45 at h
  refine ax_iinc (lv' := [(2, .int (v2 + (1 : Int32))), (0, .ref (L 0)), (1, .int v1)]) (v := (v2 + (1 : Int32))) K 2 dX1_parts_45 rfl (by rfl) (by decide) rfl ?_
  refine ax_goto (tgt := 9) K dX1_parts_48 (by decide) ?_
  exact ax_sub [1, 2, 0] rfl (hK9 v1 (v2 + (1 : Int32)) σ h)
set_option maxHeartbeats 4000000 in
theorem kx_parts_l9 {Z : AZ} {G : AG} {L : Nat → Nat} {P : Int32 → St → Prop} (K : AK Z G cX1_parts RX1 3 (rmH 5)) (E : AEi Z cX1_parts .int (xW G L) 0 0 P) : ∀ (n : Nat) (v1 : Int32) (v2 : Int32) (σ : St), wx_parts_l9 P  n v1 v2 σ → AX Z 0 0 9 [(0, .ref (L 0)), (1, .int v1), (2, .int v2)] [] (xW G L σ) := by
  intro n
  induction n with
  | zero => intro v1 v2 σ h; exact False.elim h
  | succ n ih =>
    intro v1 v2 σ h
    rw [wx_parts_l9_s] at h
    refine ax_iload_n K 2 rfl dX1_parts_9 ?_
    refine ax_aload_n K 0 rfl dX1_parts_10 ?_
    refine xg_dishes K dX1_parts_11 ?_
    refine ax_icmp_ge (tgt := 51) K dX1_parts_14 (by decide) (fun c14 => ?_) (fun c14 => ?_)
    · have h := ax_it h c14
      refine ax_aload_n K 0 rfl dX1_parts_51 ?_
      refine xg_rowMany K dX1_parts_52 ?_
      exact E _ _ _ _ dX1_parts_55 rfl h
    · have h := ax_ie h c14
      refine ax_iload_n K 1 rfl dX1_parts_17 ?_
      refine ax_iload_n K 2 rfl dX1_parts_18 ?_
      refine rx_has K (by decide) dX1_parts_19 (Nat.le_of_ble_eq_true rfl) h (fun r19 h => ?_)
      refine ax_if_eq (tgt := 28) K dX1_parts_22 (by decide) (fun c22 => ?_) (fun c22 => ?_)
      · have h := ax_it h c22
        refine ax_iload_n K 1 rfl dX1_parts_28 ?_
        refine ax_aload_n K 0 rfl dX1_parts_29 ?_
        refine ax_iload_n K 2 rfl dX1_parts_30 ?_
        refine rx_partOf K (by decide) dX1_parts_31 (Nat.le_of_ble_eq_true rfl) h (fun r31 σ31 h => ?_)
        refine ax_ior K dX1_parts_34 ?_
        refine ax_istore_n (lv' := [(1, .int (v1 ||| r31)), (0, .ref (L 0)), (2, .int v2)]) K dX1_parts_35 (by decide) rfl ?_
        refine ax_aload_n K 1 rfl dX1_parts_36 ?_
        refine ax_aload_n K 1 rfl dX1_parts_37 ?_
        refine ax_iload_n K 2 rfl dX1_parts_38 ?_
        refine rx_partOf K (by decide) dX1_parts_39 (Nat.le_of_ble_eq_true rfl) h (fun r39 σ39 h => ?_)
        refine rx_tells K (by decide) dX1_parts_42 (Nat.le_of_ble_eq_true rfl) h (fun σ42 h => ?_)
        exact ax_sub [1, 0, 2] rfl (kx_parts_j45 K E ih (v1 ||| r31) v2 σ42 h)
      · have h := ax_ie h c22
        refine ax_goto (tgt := 45) K dX1_parts_25 (by decide) ?_
        exact ax_sub [0, 1, 2] rfl (kx_parts_j45 K E ih v1 v2 σ h)
set_option maxHeartbeats 4000000 in
theorem mx_parts {l : Launch} {G : AG} {L : Nat → Nat} {σ : St} {P : Int32 → St → Prop} (h : wx_parts σ P) : CtW l G yX1_parts cX1_parts 3 (some .int) (rmH 5) [.ref (L 0)] (xW G L) σ (pI P) := by
  refine CtW.ofI (by decide) (Nat.le_of_ble_eq_true rfl) fun Z _ K E => ?_
  unfold wx_parts at h
  show AX Z 0 0 0 [(0, .ref (L 0))] [] (xW G L σ)
  refine ax_aload_n K 0 rfl dX1_parts_0 ?_
  refine ax_iconst (v := (0 : Int32)) K (by decide) dX1_parts_1 ?_
  refine xp_rowMany K dX1_parts_2 ?_
  refine ax_iconst (v := (0 : Int32)) K (by decide) dX1_parts_5 ?_
  refine ax_istore_n (lv' := [(1, .int (0 : Int32)), (0, .ref (L 0))]) K dX1_parts_6 (by decide) rfl ?_
  refine ax_iconst (v := (0 : Int32)) K (by decide) dX1_parts_7 ?_
  refine ax_istore_n (lv' := [(2, .int (0 : Int32)), (1, .int (0 : Int32)), (0, .ref (L 0))]) K dX1_parts_8 (by decide) rfl ?_
  exact ax_sub [2, 1, 0] rfl (h.elim fun n9 h => kx_parts_l9 K E  n9 (0 : Int32) (0 : Int32) (xS_rowMany σ (0 : Int32)) h)

/-! x.poison -/
set_option maxHeartbeats 4000000 in
theorem kx_poison_j76 {Z : AZ} {G : AG} {L : Nat → Nat} {P : Int32 → St → Prop} (K : AK Z G cX1_poison RX1 5 (rmH 5)) (E : AEi Z cX1_poison .int (xW G L) 0 0 P) {K38 : Int32 → Int32 → Int32 → Int32 → St → Prop} (hK38 : ∀ (v1 : Int32) (v2 : Int32) (v3 : Int32) (v4 : Int32) (σ : St), K38 v1 v2 v3 v4 σ → AX Z 0 0 38 [(0, .ref (L 0)), (1, .int v1), (2, .int v2), (3, .int v3), (4, .int v4)] [] (xW G L σ)) (v1 : Int32) (v2 : Int32) (v4 : Int32) (s0 : Int32) (s1 : Int32) (σ : St) (h : wx_poison_j76 P K38 v1 v2 v4 s0 s1 σ) : AX Z 0 0 76 [(0, .ref (L 0)), (1, .int v1), (2, .int v2), (4, .int v4)] [.int s1, .int s0] (xW G L σ) := by
  unfold wx_poison_j76 at h
  refine ax_iand K dX1_poison_76 ?_
  refine ax_istore_n (lv' := [(3, .int (s0 &&& s1)), (0, .ref (L 0)), (1, .int v1), (2, .int v2), (4, .int v4)]) K dX1_poison_77 (by decide) rfl ?_
  refine ax_iinc (lv' := [(4, .int (v4 + (1 : Int32))), (3, .int (s0 &&& s1)), (0, .ref (L 0)), (1, .int v1), (2, .int v2)]) (v := (v4 + (1 : Int32))) K 4 dX1_poison_78 rfl (by rfl) (by decide) rfl ?_
  refine ax_goto (tgt := 38) K dX1_poison_81 (by decide) ?_
  exact ax_sub [2, 3, 4, 1, 0] rfl (hK38 v1 v2 (s0 &&& s1) (v4 + (1 : Int32)) σ h)
set_option maxHeartbeats 4000000 in
theorem kx_poison_l38 {Z : AZ} {G : AG} {L : Nat → Nat} {P : Int32 → St → Prop} (K : AK Z G cX1_poison RX1 5 (rmH 5)) (E : AEi Z cX1_poison .int (xW G L) 0 0 P) : ∀ (n : Nat) (v1 : Int32) (v2 : Int32) (v3 : Int32) (v4 : Int32) (σ : St), wx_poison_l38 P  n v1 v2 v3 v4 σ → AX Z 0 0 38 [(0, .ref (L 0)), (1, .int v1), (2, .int v2), (3, .int v3), (4, .int v4)] [] (xW G L σ) := by
  intro n
  induction n with
  | zero => intro v1 v2 v3 v4 σ h; exact False.elim h
  | succ n ih =>
    intro v1 v2 v3 v4 σ h
    rw [wx_poison_l38_s] at h
    refine ax_iload K 4 rfl dX1_poison_38 ?_
    refine ax_aload_n K 0 rfl dX1_poison_40 ?_
    refine xg_guests K dX1_poison_41 ?_
    refine ax_icmp_ge (tgt := 84) K dX1_poison_44 (by decide) (fun c44 => ?_) (fun c44 => ?_)
    · have h := ax_it h c44
      refine ax_iload_n K 3 rfl dX1_poison_84 ?_
      exact E _ _ _ _ dX1_poison_85 rfl h
    · have h := ax_ie h c44
      refine ax_iload_n K 3 rfl dX1_poison_47 ?_
      refine ax_iload_n K 2 rfl dX1_poison_48 ?_
      refine ax_iload K 4 rfl dX1_poison_49 ?_
      refine rx_has K (by decide) dX1_poison_51 (Nat.le_of_ble_eq_true rfl) h (fun r51 h => ?_)
      refine ax_if_eq (tgt := 67) K dX1_poison_54 (by decide) (fun c54 => ?_) (fun c54 => ?_)
      · have h := ax_it h c54
        refine ax_aload_n K 0 rfl dX1_poison_67 ?_
        refine ax_iload_n K 1 rfl dX1_poison_68 ?_
        refine ax_iload K 4 rfl dX1_poison_69 ?_
        refine rx_eatenBy K (by decide) dX1_poison_71 (Nat.le_of_ble_eq_true rfl) h (fun r71 σ71 h => ?_)
        refine ax_iconst (v := (-1 : Int32)) K (by decide) dX1_poison_74 ?_
        refine ax_ixor K dX1_poison_75 ?_
        exact ax_sub [0, 1, 2, 4] rfl (kx_poison_j76 K E ih v1 v2 v4 v3 (r71 ^^^ (-1 : Int32)) σ71 h)
      · have h := ax_ie h c54
        refine ax_aload_n K 0 rfl dX1_poison_57 ?_
        refine ax_iload_n K 1 rfl dX1_poison_58 ?_
        refine ax_iload K 4 rfl dX1_poison_59 ?_
        refine rx_eatenBy K (by decide) dX1_poison_61 (Nat.le_of_ble_eq_true rfl) h (fun r61 σ61 h => ?_)
        refine ax_goto (tgt := 76) K dX1_poison_64 (by decide) ?_
        exact ax_sub [0, 1, 2, 4] rfl (kx_poison_j76 K E ih v1 v2 v4 v3 r61 σ61 h)
set_option maxHeartbeats 4000000 in
theorem mx_poison {l : Launch} {G : AG} {L : Nat → Nat} {σ : St} {v1 : Int32} {v2 : Int32} {P : Int32 → St → Prop} (h : wx_poison σ v1 v2 P) : CtW l G yX1_poison cX1_poison 5 (some .int) (rmH 5) [.ref (L 0), .int v1, .int v2] (xW G L) σ (pI P) := by
  refine CtW.ofI (by decide) (Nat.le_of_ble_eq_true rfl) fun Z _ K E => ?_
  unfold wx_poison at h
  show AX Z 0 0 0 [(0, .ref (L 0)), (1, .int v1), (2, .int v2)] [] (xW G L σ)
  refine ax_iload_n K 2 rfl dX1_poison_0 ?_
  refine ax_i2l K dX1_poison_1 ?_
  refine ax_lconst (v := (0 : Int64)) K (by decide) dX1_poison_2 ?_
  refine ax_iconst (v := (1 : Int32)) K (by decide) dX1_poison_3 ?_
  refine ax_aload_n K 0 rfl dX1_poison_4 ?_
  refine xg_guests K dX1_poison_5 ?_
  refine ax_ishl K dX1_poison_8 ?_
  refine ax_iconst (v := (1 : Int32)) K (by decide) dX1_poison_9 ?_
  refine ax_isub K dX1_poison_10 ?_
  refine ax_i2l K dX1_poison_11 ?_
  refine rx_in K (by decide) dX1_poison_12 (Nat.le_of_ble_eq_true rfl) h (fun r12 h => ?_)
  refine ax_if_ne (tgt := 20) K dX1_poison_15 (by decide) (fun c15 => ?_) (fun c15 => ?_)
  · have h := ax_ie h c15
    refine ax_aload_n K 0 rfl dX1_poison_20 ?_
    refine ax_iload_n K 1 rfl dX1_poison_21 ?_
    refine rx_isWhole K (by decide) dX1_poison_22 (Nat.le_of_ble_eq_true rfl) h (fun r22 σ22 h => ?_)
    refine ax_if_ne (tgt := 31) K dX1_poison_25 (by decide) (fun c25 => ?_) (fun c25 => ?_)
    · have h := ax_ie h c25
      refine ax_sipush (v := (255 : Int32)) K (by decide) dX1_poison_31 ?_
      refine ax_istore_n (lv' := [(3, .int (255 : Int32)), (0, .ref (L 0)), (1, .int v1), (2, .int v2)]) K dX1_poison_34 (by decide) rfl ?_
      refine ax_iconst (v := (0 : Int32)) K (by decide) dX1_poison_35 ?_
      refine ax_istore (lv' := [(4, .int (0 : Int32)), (3, .int (255 : Int32)), (0, .ref (L 0)), (1, .int v1), (2, .int v2)]) K dX1_poison_36 (by decide) rfl ?_
      exact ax_sub [2, 3, 4, 1, 0] rfl (h.elim fun n38 h => kx_poison_l38 K E  n38 v1 v2 (255 : Int32) (0 : Int32) σ22 h)
    · have h := ax_it h c25
      refine ax_bipush (v := (-3 : Int32)) K (by decide) dX1_poison_28 ?_
      exact E _ _ _ _ dX1_poison_30 rfl h
  · have h := ax_it h c15
    refine ax_iconst (v := (-1 : Int32)) K (by decide) dX1_poison_18 ?_
    exact E _ _ _ _ dX1_poison_19 rfl h

/-! x.round -/
set_option maxHeartbeats 4000000 in
theorem kx_round_j75 {Z : AZ} {G : AG} {L : Nat → Nat} {P : Int32 → St → Prop} (K : AK Z G cX1_round RX1 5 (rmH 5)) (E : AEi Z cX1_round .int (xW G L) 0 0 P) {K10 : Int32 → Int32 → Int32 → St → Prop} (hK10 : ∀ (v1 : Int32) (v2 : Int32) (v3 : Int32) (σ : St), K10 v1 v2 v3 σ → AX Z 0 0 10 [(0, .ref (L 0)), (1, .int v1), (2, .int v2), (3, .int v3)] [] (xW G L σ)) (v1 : Int32) (v2 : Int32) (v3 : Int32) (σ : St) (h : wx_round_j75 P K10 v1 v2 v3 σ) : AX Z 0 0 75 [(0, .ref (L 0)), (1, .int v1), (2, .int v2), (3, .int v3)] [] (xW G L σ) := by
  unfold wx_round_j75 at h
  refine ax_iinc (lv' := [(3, .int (v3 + (1 : Int32))), (0, .ref (L 0)), (1, .int v1), (2, .int v2)]) (v := (v3 + (1 : Int32))) K 3 dX1_round_75 rfl (by rfl) (by decide) rfl ?_
  refine ax_goto (tgt := 10) K dX1_round_78 (by decide) ?_
  exact ax_sub [1, 2, 3, 0] rfl (hK10 v1 v2 (v3 + (1 : Int32)) σ h)
set_option maxHeartbeats 4000000 in
theorem kx_round_j67 {Z : AZ} {G : AG} {L : Nat → Nat} {P : Int32 → St → Prop} (K : AK Z G cX1_round RX1 5 (rmH 5)) (E : AEi Z cX1_round .int (xW G L) 0 0 P) {K10 : Int32 → Int32 → Int32 → St → Prop} (hK10 : ∀ (v1 : Int32) (v2 : Int32) (v3 : Int32) (σ : St), K10 v1 v2 v3 σ → AX Z 0 0 10 [(0, .ref (L 0)), (1, .int v1), (2, .int v2), (3, .int v3)] [] (xW G L σ)) (v2 : Int32) (v3 : Int32) (v4 : Int32) (s0 : Int32) (σ : St) (h : wx_round_j67 P K10 v2 v3 v4 s0 σ) : AX Z 0 0 67 [(0, .ref (L 0)), (2, .int v2), (3, .int v3), (4, .int v4)] [.int s0] (xW G L σ) := by
  unfold wx_round_j67 at h
  refine ax_istore_n (lv' := [(1, .int s0), (0, .ref (L 0)), (2, .int v2), (3, .int v3), (4, .int v4)]) K dX1_round_67 (by decide) rfl ?_
  refine ax_iload_n K 2 rfl dX1_round_68 ?_
  refine ax_iload K 4 rfl dX1_round_69 ?_
  refine rx_max K (by decide) (Nat.le_of_ble_eq_true rfl) dX1_round_71 ?_
  refine ax_istore_n (lv' := [(2, .int (jmax v2 v4)), (1, .int s0), (0, .ref (L 0)), (3, .int v3), (4, .int v4)]) K dX1_round_74 (by decide) rfl ?_
  exact ax_sub [2, 1, 0, 3] rfl (kx_round_j75 K E hK10 s0 (jmax v2 v4) v3 σ h)
set_option maxHeartbeats 4000000 in
theorem kx_round_l10 {Z : AZ} {G : AG} {L : Nat → Nat} {P : Int32 → St → Prop} (K : AK Z G cX1_round RX1 5 (rmH 5)) (E : AEi Z cX1_round .int (xW G L) 0 0 P) : ∀ (n : Nat) (v1 : Int32) (v2 : Int32) (v3 : Int32) (σ : St), wx_round_l10 P  n v1 v2 v3 σ → AX Z 0 0 10 [(0, .ref (L 0)), (1, .int v1), (2, .int v2), (3, .int v3)] [] (xW G L σ) := by
  intro n
  induction n with
  | zero => intro v1 v2 v3 σ h; exact False.elim h
  | succ n ih =>
    intro v1 v2 v3 σ h
    rw [wx_round_l10_s] at h
    refine ax_iload_n K 3 rfl dX1_round_10 ?_
    refine ax_aload_n K 0 rfl dX1_round_11 ?_
    refine xg_dishes K dX1_round_12 ?_
    refine ax_icmp_ge (tgt := 81) K dX1_round_15 (by decide) (fun c15 => ?_) (fun c15 => ?_)
    · have h := ax_it h c15
      refine ax_iload_n K 1 rfl dX1_round_81 ?_
      refine ax_if_ge (tgt := 88) K dX1_round_82 (by decide) (fun c82 => ?_) (fun c82 => ?_)
      · have h := ax_it h c82
        refine ax_aload_n K 0 rfl dX1_round_88 ?_
        refine ax_aload_n K 0 rfl dX1_round_89 ?_
        refine ax_iload_n K 1 rfl dX1_round_90 ?_
        refine rx_pairsOf K (by decide) dX1_round_91 (Nat.le_of_ble_eq_true rfl) h (fun r91 σ91 h => ?_)
        refine ax_iconst (v := (3 : Int32)) K (by decide) dX1_round_94 ?_
        refine rx_measures K (by decide) dX1_round_95 (Nat.le_of_ble_eq_true rfl) h (fun σ95 h => ?_)
        refine ax_aload_n K 0 rfl dX1_round_98 ?_
        refine ax_iconst (v := (0 : Int32)) K (by decide) dX1_round_99 ?_
        refine xp_rowMany K dX1_round_100 ?_
        refine ax_aload_n K 0 rfl dX1_round_103 ?_
        refine ax_iload_n K 1 rfl dX1_round_104 ?_
        refine rx_tells K (by decide) dX1_round_105 (Nat.le_of_ble_eq_true rfl) h (fun σ105 h => ?_)
        refine ax_aload_n K 0 rfl dX1_round_108 ?_
        refine ax_iconst (v := (1 : Int32)) K (by decide) dX1_round_109 ?_
        refine ax_iload_n K 1 rfl dX1_round_110 ?_
        refine ax_ishl K dX1_round_111 ?_
        refine ax_iload_n K 1 rfl dX1_round_112 ?_
        refine rx_tellsMost K (by decide) dX1_round_113 (Nat.le_of_ble_eq_true rfl) h (fun σ113 h => ?_)
        refine ax_iload_n K 2 rfl dX1_round_116 ?_
        refine ax_iconst (v := (1 : Int32)) K (by decide) dX1_round_117 ?_
        refine ax_iadd K dX1_round_118 ?_
        exact E _ _ _ _ dX1_round_119 rfl h
      · have h := ax_ie h c82
        refine ax_bipush (v := (-2 : Int32)) K (by decide) dX1_round_85 ?_
        exact E _ _ _ _ dX1_round_87 rfl h
    · have h := ax_ie h c15
      refine ax_aload_n K 0 rfl dX1_round_18 ?_
      refine xg_fine K dX1_round_19 ?_
      refine ax_iconst (v := (1 : Int32)) K (by decide) dX1_round_22 ?_
      refine ax_iload_n K 3 rfl dX1_round_23 ?_
      refine ax_ishl K dX1_round_24 ?_
      refine xl_fine K h.1 dX1_round_25 ?_
      replace h := h.2
      refine ax_if_ne (tgt := 32) K dX1_round_26 (by decide) (fun c26 => ?_) (fun c26 => ?_)
      · have h := ax_ie h c26
        refine ax_aload_n K 0 rfl dX1_round_32 ?_
        refine ax_aload_n K 0 rfl dX1_round_33 ?_
        refine ax_iload_n K 3 rfl dX1_round_34 ?_
        refine rx_pairsOf K (by decide) dX1_round_35 (Nat.le_of_ble_eq_true rfl) h (fun r35 σ35 h => ?_)
        refine ax_iconst (v := (3 : Int32)) K (by decide) dX1_round_38 ?_
        refine rx_measures K (by decide) dX1_round_39 (Nat.le_of_ble_eq_true rfl) h (fun σ39 h => ?_)
        refine ax_aload_n K 0 rfl dX1_round_42 ?_
        refine xg_value K dX1_round_43 ?_
        refine ax_iconst (v := (1 : Int32)) K (by decide) dX1_round_46 ?_
        refine ax_iload_n K 3 rfl dX1_round_47 ?_
        refine ax_ishl K dX1_round_48 ?_
        refine ax_iload_n K 3 rfl dX1_round_49 ?_
        refine rx_stateOf K (by decide) dX1_round_50 (Nat.le_of_ble_eq_true rfl) h (fun r50 h => ?_)
        refine xl_value K h.1 dX1_round_53 ?_
        replace h := h.2
        refine ax_istore (lv' := [(4, .int (xA_value σ39 (r50).toNatClampNeg)), (0, .ref (L 0)), (1, .int v1), (2, .int v2), (3, .int v3)]) K dX1_round_54 (by decide) rfl ?_
        refine ax_iload K 0 rfl dX1_round_56 ?_
        refine ax_iload_n K 3 rfl dX1_round_58 ?_
        refine ax_icmp_le (tgt := 66) K dX1_round_59 (by decide) (fun c59 => ?_) (fun c59 => ?_)
        · have h := ax_it h c59
          refine ax_iload_n K 2 rfl dX1_round_66 ?_
          exact ax_sub [1, 3, 4, 0] rfl (kx_round_j67 K E ih v2 v3 (xA_value σ39 (r50).toNatClampNeg) v1 σ39 h)
        · have h := ax_ie h c59
          refine ax_iload_n K 4 rfl dX1_round_62 ?_
          refine ax_goto (tgt := 67) K dX1_round_63 (by decide) ?_
          exact ax_sub [1, 3, 4, 0] rfl (kx_round_j67 K E ih v2 v3 (xA_value σ39 (r50).toNatClampNeg) v3 σ39 h)
      · have h := ax_it h c26
        refine ax_goto (tgt := 75) K dX1_round_29 (by decide) ?_
        exact ax_sub [0, 1, 2, 3] rfl (kx_round_j75 K E ih v1 v2 v3 σ h)
set_option maxHeartbeats 4000000 in
theorem mx_round {l : Launch} {G : AG} {L : Nat → Nat} {σ : St} {P : Int32 → St → Prop} (h : wx_round σ P) : CtW l G yX1_round cX1_round 5 (some .int) (rmH 5) [.ref (L 0)] (xW G L) σ (pI P) := by
  refine CtW.ofI (by decide) (Nat.le_of_ble_eq_true rfl) fun Z _ K E => ?_
  unfold wx_round at h
  show AX Z 0 0 0 [(0, .ref (L 0))] [] (xW G L σ)
  refine ax_aload_n K 0 rfl dX1_round_0 ?_
  refine rx_laysOut K (by decide) dX1_round_1 (Nat.le_of_ble_eq_true rfl) h (fun σ1 h => ?_)
  refine ax_iconst (v := (-1 : Int32)) K (by decide) dX1_round_4 ?_
  refine ax_istore_n (lv' := [(1, .int (-1 : Int32)), (0, .ref (L 0))]) K dX1_round_5 (by decide) rfl ?_
  refine ax_iconst (v := (0 : Int32)) K (by decide) dX1_round_6 ?_
  refine ax_istore_n (lv' := [(2, .int (0 : Int32)), (1, .int (-1 : Int32)), (0, .ref (L 0))]) K dX1_round_7 (by decide) rfl ?_
  refine ax_iconst (v := (0 : Int32)) K (by decide) dX1_round_8 ?_
  refine ax_istore_n (lv' := [(3, .int (0 : Int32)), (2, .int (0 : Int32)), (1, .int (-1 : Int32)), (0, .ref (L 0))]) K dX1_round_9 (by decide) rfl ?_
  exact ax_sub [3, 2, 1, 0] rfl (h.elim fun n10 h => kx_round_l10 K E  n10 (-1 : Int32) (0 : Int32) (0 : Int32) σ1 h)

/-! x.serve -/
set_option maxHeartbeats 4000000 in
theorem mx_serve {l : Launch} {G : AG} {L : Nat → Nat} {σ : St} {v1 : Int32} {P : Int32 → St → Prop} (h : wx_serve σ v1 P) : CtW l G yX1_serve cX1_serve 3 (some .int) (rmH 5) [.ref (L 0), .int v1] (xW G L) σ (pI P) := by
  refine CtW.ofI (by decide) (Nat.le_of_ble_eq_true rfl) fun Z _ K E => ?_
  unfold wx_serve at h
  show AX Z 0 0 0 [(0, .ref (L 0)), (1, .int v1)] [] (xW G L σ)
  refine ax_aload_n K 0 rfl dX1_serve_0 ?_
  refine ax_iload_n K 1 rfl dX1_serve_1 ?_
  refine rx_isDish K (by decide) dX1_serve_2 (Nat.le_of_ble_eq_true rfl) h (fun r2 σ2 h => ?_)
  refine ax_if_ne (tgt := 10) K dX1_serve_5 (by decide) (fun c5 => ?_) (fun c5 => ?_)
  · have h := ax_ie h c5
    refine ax_aload_n K 0 rfl dX1_serve_10 ?_
    refine ax_aload_n K 0 rfl dX1_serve_11 ?_
    refine rx_setNow K (by decide) dX1_serve_12 (Nat.le_of_ble_eq_true rfl) h (fun r12 σ12 h => ?_)
    refine ax_aload_n K 0 rfl dX1_serve_15 ?_
    refine rx_lastNow K (by decide) dX1_serve_16 (Nat.le_of_ble_eq_true rfl) h (fun r16 σ16 h => ?_)
    refine ax_iload_n K 1 rfl dX1_serve_19 ?_
    refine rx_whyNot K (by decide) dX1_serve_20 (Nat.le_of_ble_eq_true rfl) h (fun r20 σ20 h => ?_)
    refine ax_istore_n (lv' := [(2, .int r20), (0, .ref (L 0)), (1, .int v1)]) K dX1_serve_23 (by decide) rfl ?_
    refine ax_iload_n K 0 rfl dX1_serve_24 ?_
    refine ax_if_ge (tgt := 30) K dX1_serve_25 (by decide) (fun c25 => ?_) (fun c25 => ?_)
    · have h := ax_it h c25
      refine ax_aload_n K 1 rfl dX1_serve_30 ?_
      refine xg_served K dX1_serve_31 ?_
      refine ax_aload_n K 1 rfl dX1_serve_34 ?_
      refine xg_servedMany K dX1_serve_35 ?_
      refine ax_iload_n K 2 rfl dX1_serve_38 ?_
      refine xs_served K h.1 dX1_serve_39 ?_
      replace h := h.2
      refine ax_aload_n K 1 rfl dX1_serve_40 ?_
      refine ax_dup K rfl dX1_serve_41 ?_
      refine xg_servedMany K dX1_serve_42 ?_
      refine ax_iconst (v := (1 : Int32)) K (by decide) dX1_serve_45 ?_
      refine ax_iadd K dX1_serve_46 ?_
      refine xp_servedMany K dX1_serve_47 ?_
      refine ax_aload_n K 1 rfl dX1_serve_50 ?_
      refine xg_servedMany K dX1_serve_51 ?_
      exact E _ _ _ _ dX1_serve_54 rfl h
    · have h := ax_ie h c25
      refine ax_iload_n K 0 rfl dX1_serve_28 ?_
      exact E _ _ _ _ dX1_serve_29 rfl h
  · have h := ax_it h c5
    refine ax_iconst (v := (-1 : Int32)) K (by decide) dX1_serve_8 ?_
    exact E _ _ _ _ dX1_serve_9 rfl h

/-! x.shortest -/
set_option maxHeartbeats 4000000 in
theorem mx_shortest {l : Launch} {G : AG} {L : Nat → Nat} {σ : St} {v1 : Int32} {v2 : Int32} {P : Int32 → St → Prop} (h : wx_shortest σ v1 v2 P) : CtW l G yX1_shortest cX1_shortest 4 (some .int) (rmH 5) [.ref (L 0), .int v1, .int v2] (xW G L) σ (pI P) := by
  refine CtW.ofI (by decide) (Nat.le_of_ble_eq_true rfl) fun Z _ K E => ?_
  unfold wx_shortest at h
  show AX Z 0 0 0 [(0, .ref (L 0)), (1, .int v1), (2, .int v2)] [] (xW G L σ)
  refine ax_aload_n K 0 rfl dX1_shortest_0 ?_
  refine ax_iload_n K 1 rfl dX1_shortest_1 ?_
  refine rx_isDish K (by decide) dX1_shortest_2 (Nat.le_of_ble_eq_true rfl) h (fun r2 σ2 h => ?_)
  refine ax_if_eq (tgt := 16) K dX1_shortest_5 (by decide) (fun c5 => ?_) (fun c5 => ?_)
  · have h := ax_it h c5
    refine ax_iconst (v := (-1 : Int32)) K (by decide) dX1_shortest_16 ?_
    exact E _ _ _ _ dX1_shortest_17 rfl h
  · have h := ax_ie h c5
    refine ax_aload_n K 0 rfl dX1_shortest_8 ?_
    refine ax_iload_n K 2 rfl dX1_shortest_9 ?_
    refine rx_isDish K (by decide) dX1_shortest_10 (Nat.le_of_ble_eq_true rfl) h (fun r10 σ10 h => ?_)
    refine ax_if_ne (tgt := 18) K dX1_shortest_13 (by decide) (fun c13 => ?_) (fun c13 => ?_)
    · have h := ax_ie h c13
      refine ax_aload_n K 0 rfl dX1_shortest_18 ?_
      refine rx_laysOut K (by decide) dX1_shortest_19 (Nat.le_of_ble_eq_true rfl) h (fun σ19 h => ?_)
      refine ax_aload_n K 0 rfl dX1_shortest_22 ?_
      refine xg_fine K dX1_shortest_23 ?_
      refine ax_iconst (v := (1 : Int32)) K (by decide) dX1_shortest_26 ?_
      refine ax_iload_n K 1 rfl dX1_shortest_27 ?_
      refine ax_ishl K dX1_shortest_28 ?_
      refine xl_fine K h.1 dX1_shortest_29 ?_
      replace h := h.2
      refine ax_if_ne (tgt := 36) K dX1_shortest_30 (by decide) (fun c30 => ?_) (fun c30 => ?_)
      · have h := ax_ie h c30
        refine ax_aload_n K 0 rfl dX1_shortest_36 ?_
        refine ax_iload_n K 2 rfl dX1_shortest_37 ?_
        refine rx_measuresLeast K (by decide) dX1_shortest_38 (Nat.le_of_ble_eq_true rfl) h (fun σ38 h => ?_)
        refine ax_aload_n K 0 rfl dX1_shortest_41 ?_
        refine xg_value K dX1_shortest_42 ?_
        refine ax_iconst (v := (1 : Int32)) K (by decide) dX1_shortest_45 ?_
        refine ax_iload_n K 1 rfl dX1_shortest_46 ?_
        refine ax_ishl K dX1_shortest_47 ?_
        refine ax_iload_n K 1 rfl dX1_shortest_48 ?_
        refine rx_stateOf K (by decide) dX1_shortest_49 (Nat.le_of_ble_eq_true rfl) h (fun r49 h => ?_)
        refine xl_value K h.1 dX1_shortest_52 ?_
        replace h := h.2
        refine ax_istore_n (lv' := [(3, .int (xA_value σ38 (r49).toNatClampNeg)), (0, .ref (L 0)), (1, .int v1), (2, .int v2)]) K dX1_shortest_53 (by decide) rfl ?_
        refine ax_iload_n K 0 rfl dX1_shortest_54 ?_
        refine ax_ldcw (v := (1000000 : Int32)) K q717 dX1_shortest_55 ?_
        refine ax_icmp_lt (tgt := 64) K dX1_shortest_58 (by decide) (fun c58 => ?_) (fun c58 => ?_)
        · have h := ax_it h c58
          refine ax_aload_n K 1 rfl dX1_shortest_64 ?_
          refine ax_iconst (v := (0 : Int32)) K (by decide) dX1_shortest_65 ?_
          refine xp_rowMany K dX1_shortest_66 ?_
          refine ax_aload_n K 1 rfl dX1_shortest_69 ?_
          refine ax_iload_n K 2 rfl dX1_shortest_70 ?_
          refine rx_tells K (by decide) dX1_shortest_71 (Nat.le_of_ble_eq_true rfl) h (fun σ71 h => ?_)
          refine ax_aload_n K 1 rfl dX1_shortest_74 ?_
          refine ax_iconst (v := (1 : Int32)) K (by decide) dX1_shortest_75 ?_
          refine ax_iload_n K 2 rfl dX1_shortest_76 ?_
          refine ax_ishl K dX1_shortest_77 ?_
          refine ax_iload_n K 2 rfl dX1_shortest_78 ?_
          refine rx_tellsMost K (by decide) dX1_shortest_79 (Nat.le_of_ble_eq_true rfl) h (fun σ79 h => ?_)
          refine ax_iload_n K 0 rfl dX1_shortest_82 ?_
          refine ax_iconst (v := (1 : Int32)) K (by decide) dX1_shortest_83 ?_
          refine ax_iadd K dX1_shortest_84 ?_
          exact E _ _ _ _ dX1_shortest_85 rfl h
        · have h := ax_ie h c58
          refine ax_bipush (v := (-2 : Int32)) K (by decide) dX1_shortest_61 ?_
          exact E _ _ _ _ dX1_shortest_63 rfl h
      · have h := ax_it h c30
        refine ax_bipush (v := (-2 : Int32)) K (by decide) dX1_shortest_33 ?_
        exact E _ _ _ _ dX1_shortest_35 rfl h
    · have h := ax_it h c13
      refine ax_iconst (v := (-1 : Int32)) K (by decide) dX1_shortest_16 ?_
      exact E _ _ _ _ dX1_shortest_17 rfl h

/-! x.shut -/
set_option maxHeartbeats 4000000 in
theorem kx_shut_j61 {Z : AZ} {G : AG} {L : Nat → Nat} {P : Int32 → St → Prop} (K : AK Z G cX1_shut RX1 4 (rmH 5)) (E : AEi Z cX1_shut .int (xW G L) 0 0 P) {K28 : Int32 → Int32 → Int32 → St → Prop} (hK28 : ∀ (v1 : Int32) (v2 : Int32) (v3 : Int32) (σ : St), K28 v1 v2 v3 σ → AX Z 0 0 28 [(0, .ref (L 0)), (1, .int v1), (2, .int v2), (3, .int v3)] [] (xW G L σ)) (v1 : Int32) (v3 : Int32) (s0 : Int32) (s1 : Int32) (σ : St) (h : wx_shut_j61 P K28 v1 v3 s0 s1 σ) : AX Z 0 0 61 [(0, .ref (L 0)), (1, .int v1), (3, .int v3)] [.int s1, .int s0] (xW G L σ) := by
  unfold wx_shut_j61 at h
  refine ax_ior K dX1_shut_61 ?_
  refine ax_istore_n (lv' := [(2, .int (s0 ||| s1)), (0, .ref (L 0)), (1, .int v1), (3, .int v3)]) K dX1_shut_62 (by decide) rfl ?_
  refine ax_iinc (lv' := [(3, .int (v3 + (1 : Int32))), (2, .int (s0 ||| s1)), (0, .ref (L 0)), (1, .int v1)]) (v := (v3 + (1 : Int32))) K 3 dX1_shut_63 rfl (by rfl) (by decide) rfl ?_
  refine ax_goto (tgt := 28) K dX1_shut_66 (by decide) ?_
  exact ax_sub [2, 3, 1, 0] rfl (hK28 v1 (s0 ||| s1) (v3 + (1 : Int32)) σ h)
set_option maxHeartbeats 4000000 in
theorem kx_shut_j60 {Z : AZ} {G : AG} {L : Nat → Nat} {P : Int32 → St → Prop} (K : AK Z G cX1_shut RX1 4 (rmH 5)) (E : AEi Z cX1_shut .int (xW G L) 0 0 P) {K28 : Int32 → Int32 → Int32 → St → Prop} (hK28 : ∀ (v1 : Int32) (v2 : Int32) (v3 : Int32) (σ : St), K28 v1 v2 v3 σ → AX Z 0 0 28 [(0, .ref (L 0)), (1, .int v1), (2, .int v2), (3, .int v3)] [] (xW G L σ)) (v1 : Int32) (v3 : Int32) (s0 : Int32) (σ : St) (h : wx_shut_j60 P K28 v1 v3 s0 σ) : AX Z 0 0 60 [(0, .ref (L 0)), (1, .int v1), (3, .int v3)] [.int s0] (xW G L σ) := by
  unfold wx_shut_j60 at h
  refine ax_iconst (v := (0 : Int32)) K (by decide) dX1_shut_60 ?_
  exact ax_sub [0, 1, 2] rfl (kx_shut_j61 K E hK28 v1 v3 s0 (0 : Int32) σ h)
set_option maxHeartbeats 4000000 in
theorem kx_shut_l28 {Z : AZ} {G : AG} {L : Nat → Nat} {P : Int32 → St → Prop} (K : AK Z G cX1_shut RX1 4 (rmH 5)) (E : AEi Z cX1_shut .int (xW G L) 0 0 P) : ∀ (n : Nat) (v1 : Int32) (v2 : Int32) (v3 : Int32) (σ : St), wx_shut_l28 P  n v1 v2 v3 σ → AX Z 0 0 28 [(0, .ref (L 0)), (1, .int v1), (2, .int v2), (3, .int v3)] [] (xW G L σ) := by
  intro n
  induction n with
  | zero => intro v1 v2 v3 σ h; exact False.elim h
  | succ n ih =>
    intro v1 v2 v3 σ h
    rw [wx_shut_l28_s] at h
    refine ax_iload_n K 3 rfl dX1_shut_28 ?_
    refine ax_iconst (v := (1 : Int32)) K (by decide) dX1_shut_29 ?_
    refine ax_aload_n K 0 rfl dX1_shut_30 ?_
    refine xg_dishes K dX1_shut_31 ?_
    refine ax_ishl K dX1_shut_34 ?_
    refine ax_icmp_ge (tgt := 69) K dX1_shut_35 (by decide) (fun c35 => ?_) (fun c35 => ?_)
    · have h := ax_it h c35
      refine ax_iconst (v := (1 : Int32)) K (by decide) dX1_shut_69 ?_
      refine ax_aload_n K 0 rfl dX1_shut_70 ?_
      refine xg_dishes K dX1_shut_71 ?_
      refine ax_ishl K dX1_shut_74 ?_
      refine ax_iconst (v := (1 : Int32)) K (by decide) dX1_shut_75 ?_
      refine ax_isub K dX1_shut_76 ?_
      refine ax_iload_n K 2 rfl dX1_shut_77 ?_
      refine ax_iconst (v := (-1 : Int32)) K (by decide) dX1_shut_78 ?_
      refine ax_ixor K dX1_shut_79 ?_
      refine ax_iand K dX1_shut_80 ?_
      exact E _ _ _ _ dX1_shut_81 rfl h
    · have h := ax_ie h c35
      refine ax_iload_n K 2 rfl dX1_shut_38 ?_
      refine ax_aload_n K 0 rfl dX1_shut_39 ?_
      refine xg_lasts K dX1_shut_40 ?_
      refine ax_iload_n K 3 rfl dX1_shut_43 ?_
      refine xl_lasts K h.1 dX1_shut_44 ?_
      replace h := h.2
      refine ax_if_eq (tgt := 60) K dX1_shut_45 (by decide) (fun c45 => ?_) (fun c45 => ?_)
      · have h := ax_it h c45
        exact ax_sub [0, 1, 3] rfl (kx_shut_j60 K E ih v1 v3 v2 σ h)
      · have h := ax_ie h c45
        refine ax_iload_n K 3 rfl dX1_shut_48 ?_
        refine rx_bitCount K (by decide) dX1_shut_49 (Nat.le_of_ble_eq_true rfl) ?_
        refine ax_iload_n K 1 rfl dX1_shut_52 ?_
        refine ax_icmp_le (tgt := 60) K dX1_shut_53 (by decide) (fun c53 => ?_) (fun c53 => ?_)
        · have h := ax_it h c53
          exact ax_sub [0, 1, 3] rfl (kx_shut_j60 K E ih v1 v3 v2 σ h)
        · have h := ax_ie h c53
          refine ax_iload_n K 3 rfl dX1_shut_56 ?_
          refine ax_goto (tgt := 61) K dX1_shut_57 (by decide) ?_
          exact ax_sub [0, 1, 3] rfl (kx_shut_j61 K E ih v1 v3 v2 v3 σ h)
set_option maxHeartbeats 4000000 in
theorem mx_shut {l : Launch} {G : AG} {L : Nat → Nat} {σ : St} {v1 : Int32} {P : Int32 → St → Prop} (h : wx_shut σ v1 P) : CtW l G yX1_shut cX1_shut 4 (some .int) (rmH 5) [.ref (L 0), .int v1] (xW G L) σ (pI P) := by
  refine CtW.ofI (by decide) (Nat.le_of_ble_eq_true rfl) fun Z _ K E => ?_
  unfold wx_shut at h
  show AX Z 0 0 0 [(0, .ref (L 0)), (1, .int v1)] [] (xW G L σ)
  refine ax_iload_n K 1 rfl dX1_shut_0 ?_
  refine ax_i2l K dX1_shut_1 ?_
  refine ax_lconst (v := (0 : Int64)) K (by decide) dX1_shut_2 ?_
  refine ax_ldc2 (v := (9 : Int64)) K q534 dX1_shut_3 ?_
  refine rx_in K (by decide) dX1_shut_6 (Nat.le_of_ble_eq_true rfl) h (fun r6 h => ?_)
  refine ax_if_ne (tgt := 14) K dX1_shut_9 (by decide) (fun c9 => ?_) (fun c9 => ?_)
  · have h := ax_ie h c9
    refine ax_aload_n K 0 rfl dX1_shut_14 ?_
    refine rx_laysOut K (by decide) dX1_shut_15 (Nat.le_of_ble_eq_true rfl) h (fun σ15 h => ?_)
    refine ax_aload_n K 0 rfl dX1_shut_18 ?_
    refine ax_iconst (v := (0 : Int32)) K (by decide) dX1_shut_19 ?_
    refine ax_iconst (v := (-1 : Int32)) K (by decide) dX1_shut_20 ?_
    refine rx_reaches K (by decide) dX1_shut_21 (Nat.le_of_ble_eq_true rfl) h (fun σ21 h => ?_)
    refine ax_iconst (v := (0 : Int32)) K (by decide) dX1_shut_24 ?_
    refine ax_istore_n (lv' := [(2, .int (0 : Int32)), (0, .ref (L 0)), (1, .int v1)]) K dX1_shut_25 (by decide) rfl ?_
    refine ax_iconst (v := (0 : Int32)) K (by decide) dX1_shut_26 ?_
    refine ax_istore_n (lv' := [(3, .int (0 : Int32)), (2, .int (0 : Int32)), (0, .ref (L 0)), (1, .int v1)]) K dX1_shut_27 (by decide) rfl ?_
    exact ax_sub [2, 3, 1, 0] rfl (h.elim fun n28 h => kx_shut_l28 K E  n28 v1 (0 : Int32) (0 : Int32) σ21 h)
  · have h := ax_it h c9
    refine ax_iconst (v := (-1 : Int32)) K (by decide) dX1_shut_12 ?_
    exact E _ _ _ _ dX1_shut_13 rfl h

/-! x.ways -/
set_option maxHeartbeats 4000000 in
theorem kx_ways_j133 {Z : AZ} {G : AG} {L : Nat → Nat} {P : Int64 → St → Prop} (K : AK Z G cX1_ways RX1 8 (rmH 5)) (E : AEl Z cX1_ways (xW G L) 0 0 P) {K83 : Int32 → Int32 → Int32 → Int64 → Int32 → St → Prop} (hK83 : ∀ (v2 : Int32) (v3 : Int32) (v4 : Int32) (v5 : Int64) (v7 : Int32) (σ : St), K83 v2 v3 v4 v5 v7 σ → AX Z 0 0 83 [(0, .ref (L 0)), (2, .int v2), (3, .int v3), (4, .int v4), (5, .long v5), (7, .int v7)] [] (xW G L σ)) (v2 : Int32) (v3 : Int32) (v4 : Int32) (v5 : Int64) (v7 : Int32) (σ : St) (h : wx_ways_j133 P K83 v2 v3 v4 v5 v7 σ) : AX Z 0 0 133 [(0, .ref (L 0)), (2, .int v2), (3, .int v3), (4, .int v4), (5, .long v5), (7, .int v7)] [] (xW G L σ) := by
  unfold wx_ways_j133 at h
  refine ax_iinc (lv' := [(7, .int (v7 + (1 : Int32))), (0, .ref (L 0)), (2, .int v2), (3, .int v3), (4, .int v4), (5, .long v5)]) (v := (v7 + (1 : Int32))) K 5 dX1_ways_133 rfl (by rfl) (by decide) rfl ?_
  refine ax_goto (tgt := 83) K dX1_ways_136 (by decide) ?_
  exact ax_sub [1, 2, 3, 4, 5, 0] rfl (hK83 v2 v3 v4 v5 (v7 + (1 : Int32)) σ h)
set_option maxHeartbeats 4000000 in
theorem kx_ways_l83 {Z : AZ} {G : AG} {L : Nat → Nat} {P : Int64 → St → Prop} (K : AK Z G cX1_ways RX1 8 (rmH 5)) (E : AEl Z cX1_ways (xW G L) 0 0 P) {K152 : Int32 → Int32 → Int32 → St → Prop} (hK152 : ∀ (v2 : Int32) (v3 : Int32) (v4 : Int32) (σ : St), K152 v2 v3 v4 σ → AX Z 0 0 152 [(0, .ref (L 0)), (2, .int v2), (3, .int v3), (4, .int v4)] [] (xW G L σ)) : ∀ (n : Nat) (v2 : Int32) (v3 : Int32) (v4 : Int32) (v5 : Int64) (v7 : Int32) (σ : St), wx_ways_l83 P K152 n v2 v3 v4 v5 v7 σ → AX Z 0 0 83 [(0, .ref (L 0)), (2, .int v2), (3, .int v3), (4, .int v4), (5, .long v5), (7, .int v7)] [] (xW G L σ) := by
  intro n
  induction n with
  | zero => intro v2 v3 v4 v5 v7 σ h; exact False.elim h
  | succ n ih =>
    intro v2 v3 v4 v5 v7 σ h
    rw [wx_ways_l83_s] at h
    refine ax_iload K 5 rfl dX1_ways_83 ?_
    refine ax_aload_n K 0 rfl dX1_ways_85 ?_
    refine xg_dishes K dX1_ways_86 ?_
    refine ax_icmp_ge (tgt := 139) K dX1_ways_89 (by decide) (fun c89 => ?_) (fun c89 => ?_)
    · have h := ax_it h c89
      refine ax_aload_n K 0 rfl dX1_ways_139 ?_
      refine xg_many K dX1_ways_140 ?_
      refine ax_iload_n K 2 rfl dX1_ways_143 ?_
      refine ax_iload K 3 rfl dX1_ways_144 ?_
      refine rx_stateOf K (by decide) dX1_ways_146 (Nat.le_of_ble_eq_true rfl) h (fun r146 h => ?_)
      refine ax_lload K 4 rfl dX1_ways_149 ?_
      refine xs_many K h.1 dX1_ways_151 ?_
      replace h := h.2
      exact ax_sub [0, 1, 2, 3] rfl (hK152 v2 v3 v4 (xU_many σ r146 v5) h)
    · have h := ax_ie h c89
      refine ax_iload_n K 2 rfl dX1_ways_92 ?_
      refine rx_bitCount K (by decide) dX1_ways_93 (Nat.le_of_ble_eq_true rfl) ?_
      refine ax_iload_n K 1 rfl dX1_ways_96 ?_
      refine ax_icmp_ge (tgt := 133) K dX1_ways_97 (by decide) (fun c97 => ?_) (fun c97 => ?_)
      · have h := ax_it h c97
        exact ax_sub [0, 1, 2, 3, 4, 5] rfl (kx_ways_j133 K E ih v2 v3 v4 v5 v7 σ h)
      · have h := ax_ie h c97
        refine ax_aload_n K 0 rfl dX1_ways_100 ?_
        refine ax_iload_n K 2 rfl dX1_ways_101 ?_
        refine ax_iload K 3 rfl dX1_ways_102 ?_
        refine ax_iload K 5 rfl dX1_ways_104 ?_
        refine rx_goesOn K (by decide) dX1_ways_106 (Nat.le_of_ble_eq_true rfl) h (fun r106 σ106 h => ?_)
        refine ax_if_eq (tgt := 133) K dX1_ways_109 (by decide) (fun c109 => ?_) (fun c109 => ?_)
        · have h := ax_it h c109
          exact ax_sub [0, 1, 2, 3, 4, 5] rfl (kx_ways_j133 K E ih v2 v3 v4 v5 v7 σ106 h)
        · have h := ax_ie h c109
          refine ax_lload K 4 rfl dX1_ways_112 ?_
          refine ax_aload_n K 0 rfl dX1_ways_114 ?_
          refine xg_many K dX1_ways_115 ?_
          refine ax_iload_n K 2 rfl dX1_ways_118 ?_
          refine ax_iconst (v := (1 : Int32)) K (by decide) dX1_ways_119 ?_
          refine ax_iload K 5 rfl dX1_ways_120 ?_
          refine ax_ishl K dX1_ways_122 ?_
          refine ax_ior K dX1_ways_123 ?_
          refine ax_iload K 5 rfl dX1_ways_124 ?_
          refine rx_stateOf K (by decide) dX1_ways_126 (Nat.le_of_ble_eq_true rfl) h (fun r126 h => ?_)
          refine xl_many K h.1 dX1_ways_129 ?_
          replace h := h.2
          refine ax_ladd K dX1_ways_130 ?_
          refine ax_lstore (lv' := [(5, .long (v5 + (xA_many σ106 (r126).toNatClampNeg))), (0, .ref (L 0)), (2, .int v2), (3, .int v3), (4, .int v4), (7, .int v7)]) K dX1_ways_131 (by decide) rfl ?_
          exact ax_sub [1, 2, 3, 4, 0, 5] rfl (kx_ways_j133 K E ih v2 v3 v4 (v5 + (xA_many σ106 (r126).toNatClampNeg)) v7 σ106 h)
set_option maxHeartbeats 4000000 in
theorem kx_ways_j152 {Z : AZ} {G : AG} {L : Nat → Nat} {P : Int64 → St → Prop} (K : AK Z G cX1_ways RX1 8 (rmH 5)) (E : AEl Z cX1_ways (xW G L) 0 0 P) {K43 : Int32 → Int32 → Int32 → St → Prop} (hK43 : ∀ (v2 : Int32) (v3 : Int32) (v4 : Int32) (σ : St), K43 v2 v3 v4 σ → AX Z 0 0 43 [(0, .ref (L 0)), (2, .int v2), (3, .int v3), (4, .int v4)] [] (xW G L σ)) (v2 : Int32) (v3 : Int32) (v4 : Int32) (σ : St) (h : wx_ways_j152 P K43 v2 v3 v4 σ) : AX Z 0 0 152 [(0, .ref (L 0)), (2, .int v2), (3, .int v3), (4, .int v4)] [] (xW G L σ) := by
  unfold wx_ways_j152 at h
  refine ax_iinc (lv' := [(4, .int (v4 + (1 : Int32))), (0, .ref (L 0)), (2, .int v2), (3, .int v3)]) (v := (v4 + (1 : Int32))) K 3 dX1_ways_152 rfl (by rfl) (by decide) rfl ?_
  refine ax_goto (tgt := 43) K dX1_ways_155 (by decide) ?_
  exact ax_sub [1, 2, 3, 0] rfl (hK43 v2 v3 (v4 + (1 : Int32)) σ h)
set_option maxHeartbeats 4000000 in
theorem kx_ways_j78 {Z : AZ} {G : AG} {L : Nat → Nat} {P : Int64 → St → Prop} (K : AK Z G cX1_ways RX1 8 (rmH 5)) (E : AEl Z cX1_ways (xW G L) 0 0 P) {K43 : Int32 → Int32 → Int32 → St → Prop} (hK43 : ∀ (v2 : Int32) (v3 : Int32) (v4 : Int32) (σ : St), K43 v2 v3 v4 σ → AX Z 0 0 43 [(0, .ref (L 0)), (2, .int v2), (3, .int v3), (4, .int v4)] [] (xW G L σ)) (v2 : Int32) (v3 : Int32) (v4 : Int32) (s0 : Int64) (σ : St) (h : wx_ways_j78 P K43 v2 v3 v4 s0 σ) : AX Z 0 0 78 [(0, .ref (L 0)), (2, .int v2), (3, .int v3), (4, .int v4)] [.long s0] (xW G L σ) := by
  unfold wx_ways_j78 at h
  refine ax_lstore (lv' := [(5, .long s0), (0, .ref (L 0)), (2, .int v2), (3, .int v3), (4, .int v4)]) K dX1_ways_78 (by decide) rfl ?_
  refine ax_iconst (v := (0 : Int32)) K (by decide) dX1_ways_80 ?_
  refine ax_istore (lv' := [(7, .int (0 : Int32)), (5, .long s0), (0, .ref (L 0)), (2, .int v2), (3, .int v3), (4, .int v4)]) K dX1_ways_81 (by decide) rfl ?_
  exact ax_sub [2, 3, 4, 5, 1, 0] rfl (h.elim fun n83 h => kx_ways_l83 K E (kx_ways_j152 K E hK43) n83 v2 v3 v4 s0 (0 : Int32) σ h)
set_option maxHeartbeats 4000000 in
theorem kx_ways_l43 {Z : AZ} {G : AG} {L : Nat → Nat} {P : Int64 → St → Prop} (K : AK Z G cX1_ways RX1 8 (rmH 5)) (E : AEl Z cX1_ways (xW G L) 0 0 P) {K36 : Int32 → Int32 → St → Prop} (hK36 : ∀ (v2 : Int32) (v3 : Int32) (σ : St), K36 v2 v3 σ → AX Z 0 0 36 [(0, .ref (L 0)), (2, .int v2), (3, .int v3)] [] (xW G L σ)) : ∀ (n : Nat) (v2 : Int32) (v3 : Int32) (v4 : Int32) (σ : St), wx_ways_l43 P K36 n v2 v3 v4 σ → AX Z 0 0 43 [(0, .ref (L 0)), (2, .int v2), (3, .int v3), (4, .int v4)] [] (xW G L σ) := by
  intro n
  induction n with
  | zero => intro v2 v3 v4 σ h; exact False.elim h
  | succ n ih =>
    intro v2 v3 v4 σ h
    rw [wx_ways_l43_s] at h
    refine ax_iload K 3 rfl dX1_ways_43 ?_
    refine ax_aload_n K 0 rfl dX1_ways_45 ?_
    refine xg_dishes K dX1_ways_46 ?_
    refine ax_icmp_ge (tgt := 158) K dX1_ways_49 (by decide) (fun c49 => ?_) (fun c49 => ?_)
    · have h := ax_it h c49
      refine ax_iinc (lv' := [(3, .int (v3 + (-1 : Int32))), (0, .ref (L 0)), (2, .int v2), (4, .int v4)]) (v := (v3 + (-1 : Int32))) K 2 dX1_ways_158 rfl (by rfl) (by decide) rfl ?_
      refine ax_goto (tgt := 36) K dX1_ways_161 (by decide) ?_
      exact ax_sub [1, 2, 0] rfl (hK36 v2 (v3 + (-1 : Int32)) σ h)
    · have h := ax_ie h c49
      refine ax_aload_n K 0 rfl dX1_ways_52 ?_
      refine ax_iload_n K 2 rfl dX1_ways_53 ?_
      refine ax_iload K 3 rfl dX1_ways_54 ?_
      refine rx_isLastOf K (by decide) dX1_ways_56 (Nat.le_of_ble_eq_true rfl) h (fun r56 σ56 h => ?_)
      refine ax_if_ne (tgt := 65) K dX1_ways_59 (by decide) (fun c59 => ?_) (fun c59 => ?_)
      · have h := ax_ie h c59
        refine ax_iload_n K 2 rfl dX1_ways_65 ?_
        refine rx_bitCount K (by decide) dX1_ways_66 (Nat.le_of_ble_eq_true rfl) ?_
        refine ax_iload_n K 1 rfl dX1_ways_69 ?_
        refine ax_icmp_ne (tgt := 77) K dX1_ways_70 (by decide) (fun c70 => ?_) (fun c70 => ?_)
        · have h := ax_ie h c70
          refine ax_lconst (v := (0 : Int64)) K (by decide) dX1_ways_77 ?_
          exact ax_sub [0, 1, 2, 3] rfl (kx_ways_j78 K E ih v2 v3 v4 (0 : Int64) σ56 h)
        · have h := ax_it h c70
          refine ax_lconst (v := (1 : Int64)) K (by decide) dX1_ways_73 ?_
          refine ax_goto (tgt := 78) K dX1_ways_74 (by decide) ?_
          exact ax_sub [0, 1, 2, 3] rfl (kx_ways_j78 K E ih v2 v3 v4 (1 : Int64) σ56 h)
      · have h := ax_it h c59
        refine ax_goto (tgt := 152) K dX1_ways_62 (by decide) ?_
        exact ax_sub [0, 1, 2, 3] rfl (kx_ways_j152 K E ih v2 v3 v4 σ56 h)
set_option maxHeartbeats 4000000 in
theorem kx_ways_l36 {Z : AZ} {G : AG} {L : Nat → Nat} {P : Int64 → St → Prop} (K : AK Z G cX1_ways RX1 8 (rmH 5)) (E : AEl Z cX1_ways (xW G L) 0 0 P) : ∀ (n : Nat) (v2 : Int32) (v3 : Int32) (σ : St), wx_ways_l36 P  n v2 v3 σ → AX Z 0 0 36 [(0, .ref (L 0)), (2, .int v2), (3, .int v3)] [] (xW G L σ) := by
  intro n
  induction n with
  | zero => intro v2 v3 σ h; exact False.elim h
  | succ n ih =>
    intro v2 v3 σ h
    rw [wx_ways_l36_s] at h
    refine ax_iload_n K 2 rfl dX1_ways_36 ?_
    refine ax_if_lt (tgt := 164) K dX1_ways_37 (by decide) (fun c37 => ?_) (fun c37 => ?_)
    · have h := ax_it h c37
      refine ax_aload_n K 0 rfl dX1_ways_164 ?_
      refine xg_many K dX1_ways_165 ?_
      refine ax_aload_n K 0 rfl dX1_ways_168 ?_
      refine rx_setNow K (by decide) dX1_ways_169 (Nat.le_of_ble_eq_true rfl) h (fun r169 σ169 h => ?_)
      refine ax_aload_n K 0 rfl dX1_ways_172 ?_
      refine rx_lastNow K (by decide) dX1_ways_173 (Nat.le_of_ble_eq_true rfl) h (fun r173 σ173 h => ?_)
      refine rx_stateOf K (by decide) dX1_ways_176 (Nat.le_of_ble_eq_true rfl) h (fun r176 h => ?_)
      refine xl_many K h.1 dX1_ways_179 ?_
      replace h := h.2
      exact E _ _ _ _ dX1_ways_180 h
    · have h := ax_ie h c37
      refine ax_iconst (v := (-1 : Int32)) K (by decide) dX1_ways_40 ?_
      refine ax_istore (lv' := [(4, .int (-1 : Int32)), (0, .ref (L 0)), (2, .int v2), (3, .int v3)]) K dX1_ways_41 (by decide) rfl ?_
      exact ax_sub [1, 2, 3, 0] rfl (h.elim fun n43 h => kx_ways_l43 K E ih n43 v2 v3 (-1 : Int32) σ h)
set_option maxHeartbeats 4000000 in
theorem mx_ways {l : Launch} {G : AG} {L : Nat → Nat} {σ : St} {v1 : Int32} {P : Int64 → St → Prop} (h : wx_ways σ v1 P) : CtW l G yX1_ways cX1_ways 8 (some .long) (rmH 5) [.ref (L 0), .int v1] (xW G L) σ (pL P) := by
  refine CtW.ofL (by decide) (Nat.le_of_ble_eq_true rfl) fun Z _ K E => ?_
  unfold wx_ways at h
  show AX Z 0 0 0 [(0, .ref (L 0)), (1, .int v1)] [] (xW G L σ)
  refine ax_iload_n K 1 rfl dX1_ways_0 ?_
  refine ax_i2l K dX1_ways_1 ?_
  refine ax_lconst (v := (0 : Int64)) K (by decide) dX1_ways_2 ?_
  refine ax_ldc2 (v := (10 : Int64)) K q703 dX1_ways_3 ?_
  refine rx_in K (by decide) dX1_ways_6 (Nat.le_of_ble_eq_true rfl) h (fun r6 h => ?_)
  refine ax_if_ne (tgt := 16) K dX1_ways_9 (by decide) (fun c9 => ?_) (fun c9 => ?_)
  · have h := ax_ie h c9
    refine ax_aload_n K 0 rfl dX1_ways_16 ?_
    refine rx_laysOut K (by decide) dX1_ways_17 (Nat.le_of_ble_eq_true rfl) h (fun σ17 h => ?_)
    refine ax_aload_n K 0 rfl dX1_ways_20 ?_
    refine xg_servedMany K dX1_ways_21 ?_
    refine ax_iload_n K 1 rfl dX1_ways_24 ?_
    refine ax_iadd K dX1_ways_25 ?_
    refine ax_istore_n (lv' := [(2, .int ((xI_servedMany σ17) + v1)), (0, .ref (L 0)), (1, .int v1)]) K dX1_ways_26 (by decide) rfl ?_
    refine ax_iconst (v := (1 : Int32)) K (by decide) dX1_ways_27 ?_
    refine ax_aload_n K 1 rfl dX1_ways_28 ?_
    refine xg_dishes K dX1_ways_29 ?_
    refine ax_ishl K dX1_ways_32 ?_
    refine ax_iconst (v := (1 : Int32)) K (by decide) dX1_ways_33 ?_
    refine ax_isub K dX1_ways_34 ?_
    refine ax_istore_n (lv' := [(3, .int (((1 : Int32) <<< ((xI_dishes σ17) &&& 31)) - (1 : Int32))), (2, .int ((xI_servedMany σ17) + v1)), (0, .ref (L 0)), (1, .int v1)]) K dX1_ways_35 (by decide) rfl ?_
    exact ax_sub [2, 1, 0] rfl (h.elim fun n36 h => kx_ways_l36 K E  n36 ((xI_servedMany σ17) + v1) (((1 : Int32) <<< ((xI_dishes σ17) &&& 31)) - (1 : Int32)) σ17 h)
  · have h := ax_it h c9
    refine ax_ldc2 (v := (-1 : Int64)) K q704 dX1_ways_12 ?_
    exact E _ _ _ _ dX1_ways_15 h

/-! x.cheap -/
set_option maxHeartbeats 4000000 in
theorem kx_cheap_j50 {Z : AZ} {G : AG} {L : Nat → Nat} {P : Int32 → St → Prop} (K : AK Z G cX1_cheap RX1 3 (rmH 6)) (E : AEi Z cX1_cheap .int (xW G L) 0 0 P) {K20 : Int32 → Int32 → St → Prop} (hK20 : ∀ (v1 : Int32) (v2 : Int32) (σ : St), K20 v1 v2 σ → AX Z 0 0 20 [(0, .ref (L 0)), (1, .int v1), (2, .int v2)] [] (xW G L σ)) (v1 : Int32) (v2 : Int32) (s1 : Int32) (s2 : Int32) (σ : St) (h : wx_cheap_j50 P K20 v1 v2 s1 s2 σ) : AX Z 0 0 50 [(0, .ref (L 0)), (1, .int v1), (2, .int v2)] [.int s2, .int s1, .ref (L 0)] (xW G L σ) := by
  unfold wx_cheap_j50 at h
  refine ax_iand K dX1_cheap_50 ?_
  refine xp_allowed K dX1_cheap_51 ?_
  refine ax_iinc (lv' := [(2, .int (v2 + (1 : Int32))), (0, .ref (L 0)), (1, .int v1)]) (v := (v2 + (1 : Int32))) K 2 dX1_cheap_54 rfl (by rfl) (by decide) rfl ?_
  refine ax_goto (tgt := 20) K dX1_cheap_57 (by decide) ?_
  exact ax_sub [1, 2, 0] rfl (hK20 v1 (v2 + (1 : Int32)) (xS_allowed σ (s1 &&& s2)) h)
set_option maxHeartbeats 4000000 in
theorem kx_cheap_l20 {Z : AZ} {G : AG} {L : Nat → Nat} {P : Int32 → St → Prop} (K : AK Z G cX1_cheap RX1 3 (rmH 6)) (E : AEi Z cX1_cheap .int (xW G L) 0 0 P) {K62 : Int32 → Int32 → St → Prop} (hK62 : ∀ (v1 : Int32) (v2 : Int32) (σ : St), K62 v1 v2 σ → AX Z 0 0 62 [(0, .ref (L 0)), (1, .int v1), (2, .int v2)] [] (xW G L σ)) : ∀ (n : Nat) (v1 : Int32) (v2 : Int32) (σ : St), wx_cheap_l20 P K62 n v1 v2 σ → AX Z 0 0 20 [(0, .ref (L 0)), (1, .int v1), (2, .int v2)] [] (xW G L σ) := by
  intro n
  induction n with
  | zero => intro v1 v2 σ h; exact False.elim h
  | succ n ih =>
    intro v1 v2 σ h
    rw [wx_cheap_l20_s] at h
    refine ax_iload_n K 2 rfl dX1_cheap_20 ?_
    refine ax_aload_n K 0 rfl dX1_cheap_21 ?_
    refine xg_dishes K dX1_cheap_22 ?_
    refine ax_icmp_ge (tgt := 60) K dX1_cheap_25 (by decide) (fun c25 => ?_) (fun c25 => ?_)
    · have h := ax_it h c25
      refine ax_iconst (v := (0 : Int32)) K (by decide) dX1_cheap_60 ?_
      refine ax_istore_n (lv' := [(2, .int (0 : Int32)), (0, .ref (L 0)), (1, .int v1)]) K dX1_cheap_61 (by decide) rfl ?_
      exact ax_sub [1, 2, 0] rfl (hK62 v1 (0 : Int32) σ h)
    · have h := ax_ie h c25
      refine ax_aload_n K 0 rfl dX1_cheap_28 ?_
      refine ax_dup K rfl dX1_cheap_29 ?_
      refine xg_allowed K dX1_cheap_30 ?_
      refine ax_aload_n K 0 rfl dX1_cheap_33 ?_
      refine ax_iload_n K 2 rfl dX1_cheap_34 ?_
      refine rx_hungryAt K (by decide) dX1_cheap_35 (Nat.le_of_ble_eq_true rfl) h (fun r35 σ35 h => ?_)
      refine ax_if_ne (tgt := 45) K dX1_cheap_38 (by decide) (fun c38 => ?_) (fun c38 => ?_)
      · have h := ax_ie h c38
        refine ax_iconst (v := (1 : Int32)) K (by decide) dX1_cheap_45 ?_
        refine ax_iload_n K 2 rfl dX1_cheap_46 ?_
        refine ax_ishl K dX1_cheap_47 ?_
        refine ax_iconst (v := (-1 : Int32)) K (by decide) dX1_cheap_48 ?_
        refine ax_ixor K dX1_cheap_49 ?_
        exact ax_sub [0, 1, 2] rfl (kx_cheap_j50 K E ih v1 v2 (xI_allowed σ) (((1 : Int32) <<< (v2 &&& 31)) ^^^ (-1 : Int32)) σ35 h)
      · have h := ax_it h c38
        refine ax_iconst (v := (-1 : Int32)) K (by decide) dX1_cheap_41 ?_
        refine ax_goto (tgt := 50) K dX1_cheap_42 (by decide) ?_
        exact ax_sub [0, 1, 2] rfl (kx_cheap_j50 K E ih v1 v2 (xI_allowed σ) (-1 : Int32) σ35 h)
set_option maxHeartbeats 4000000 in
theorem kx_cheap_l62 {Z : AZ} {G : AG} {L : Nat → Nat} {P : Int32 → St → Prop} (K : AK Z G cX1_cheap RX1 3 (rmH 6)) (E : AEi Z cX1_cheap .int (xW G L) 0 0 P) {K118 : Int32 → St → Prop} (hK118 : ∀ (s0 : Int32) (σ : St), K118 s0 σ → AX Z 0 0 118 [(0, .ref (L 0))] [.int s0] (xW G L σ)) : ∀ (n : Nat) (v1 : Int32) (v2 : Int32) (σ : St), wx_cheap_l62 P K118 n v1 v2 σ → AX Z 0 0 62 [(0, .ref (L 0)), (1, .int v1), (2, .int v2)] [] (xW G L σ) := by
  intro n
  induction n with
  | zero => intro v1 v2 σ h; exact False.elim h
  | succ n ih =>
    intro v1 v2 σ h
    rw [wx_cheap_l62_s] at h
    refine ax_iload_n K 2 rfl dX1_cheap_62 ?_
    refine ax_iconst (v := (1 : Int32)) K (by decide) dX1_cheap_63 ?_
    refine ax_aload_n K 0 rfl dX1_cheap_64 ?_
    refine xg_dishes K dX1_cheap_65 ?_
    refine ax_ishl K dX1_cheap_68 ?_
    refine ax_icmp_ge (tgt := 97) K dX1_cheap_69 (by decide) (fun c69 => ?_) (fun c69 => ?_)
    · have h := ax_it h c69
      refine ax_aload_n K 0 rfl dX1_cheap_97 ?_
      refine ax_iload_n K 1 rfl dX1_cheap_98 ?_
      refine ax_iconst (v := (0 : Int32)) K (by decide) dX1_cheap_99 ?_
      refine rx_bestSet K (by decide) dX1_cheap_100 (Nat.le_of_ble_eq_true rfl) h (fun r100 σ100 h => ?_)
      refine ax_istore_n (lv' := [(2, .int r100), (0, .ref (L 0)), (1, .int v1)]) K dX1_cheap_103 (by decide) rfl ?_
      refine ax_iload_n K 0 rfl dX1_cheap_104 ?_
      refine ax_ldcw (v := (-1000000 : Int32)) K q687 dX1_cheap_105 ?_
      refine ax_icmp_ne (tgt := 116) K dX1_cheap_108 (by decide) (fun c108 => ?_) (fun c108 => ?_)
      · have h := ax_ie h c108
        refine ax_iload_n K 0 rfl dX1_cheap_116 ?_
        refine ax_ineg K dX1_cheap_117 ?_
        exact ax_sub [1] rfl (hK118 ((-r100)) σ100 h)
      · have h := ax_it h c108
        refine ax_bipush (v := (-2 : Int32)) K (by decide) dX1_cheap_111 ?_
        refine ax_goto (tgt := 118) K dX1_cheap_113 (by decide) ?_
        exact ax_sub [1] rfl (hK118 (-2 : Int32) σ100 h)
    · have h := ax_ie h c69
      refine ax_aload_n K 0 rfl dX1_cheap_72 ?_
      refine xg_worth K dX1_cheap_73 ?_
      refine ax_iload_n K 2 rfl dX1_cheap_76 ?_
      refine ax_aload_n K 0 rfl dX1_cheap_77 ?_
      refine ax_iload_n K 2 rfl dX1_cheap_78 ?_
      refine ax_aload_n K 0 rfl dX1_cheap_79 ?_
      refine rx_setNow K (by decide) dX1_cheap_80 (Nat.le_of_ble_eq_true rfl) h (fun r80 σ80 h => ?_)
      refine ax_iconst (v := (-1 : Int32)) K (by decide) dX1_cheap_83 ?_
      refine ax_ixor K dX1_cheap_84 ?_
      refine ax_iand K dX1_cheap_85 ?_
      refine rx_costOf K (by decide) dX1_cheap_86 (Nat.le_of_ble_eq_true rfl) h (fun r86 σ86 h => ?_)
      refine ax_ineg K dX1_cheap_89 ?_
      refine xs_worth K h.1 dX1_cheap_90 ?_
      replace h := h.2
      refine ax_iinc (lv' := [(2, .int (v2 + (1 : Int32))), (0, .ref (L 0)), (1, .int v1)]) (v := (v2 + (1 : Int32))) K 2 dX1_cheap_91 rfl (by rfl) (by decide) rfl ?_
      refine ax_goto (tgt := 62) K dX1_cheap_94 (by decide) ?_
      exact ax_sub [1, 2, 0] rfl (ih v1 (v2 + (1 : Int32)) (xU_worth σ86 v2 ((-r86))) h)
set_option maxHeartbeats 4000000 in
theorem kx_cheap_j118 {Z : AZ} {G : AG} {L : Nat → Nat} {P : Int32 → St → Prop} (K : AK Z G cX1_cheap RX1 3 (rmH 6)) (E : AEi Z cX1_cheap .int (xW G L) 0 0 P) (s0 : Int32) (σ : St) (h : wx_cheap_j118 P  s0 σ) : AX Z 0 0 118 [(0, .ref (L 0))] [.int s0] (xW G L σ) := by
  unfold wx_cheap_j118 at h
  exact E _ _ _ _ dX1_cheap_118 rfl h
set_option maxHeartbeats 4000000 in
theorem mx_cheap {l : Launch} {G : AG} {L : Nat → Nat} {σ : St} {v1 : Int32} {P : Int32 → St → Prop} (h : wx_cheap σ v1 P) : CtW l G yX1_cheap cX1_cheap 3 (some .int) (rmH 6) [.ref (L 0), .int v1] (xW G L) σ (pI P) := by
  refine CtW.ofI (by decide) (Nat.le_of_ble_eq_true rfl) fun Z _ K E => ?_
  unfold wx_cheap at h
  show AX Z 0 0 0 [(0, .ref (L 0)), (1, .int v1)] [] (xW G L σ)
  refine ax_iload_n K 1 rfl dX1_cheap_0 ?_
  refine ax_i2l K dX1_cheap_1 ?_
  refine ax_lconst (v := (0 : Int64)) K (by decide) dX1_cheap_2 ?_
  refine ax_ldc2 (v := (10 : Int64)) K q703 dX1_cheap_3 ?_
  refine rx_in K (by decide) dX1_cheap_6 (Nat.le_of_ble_eq_true rfl) h (fun r6 h => ?_)
  refine ax_if_ne (tgt := 14) K dX1_cheap_9 (by decide) (fun c9 => ?_) (fun c9 => ?_)
  · have h := ax_ie h c9
    refine ax_aload_n K 0 rfl dX1_cheap_14 ?_
    refine rx_laysOut K (by decide) dX1_cheap_15 (Nat.le_of_ble_eq_true rfl) h (fun σ15 h => ?_)
    refine ax_iconst (v := (0 : Int32)) K (by decide) dX1_cheap_18 ?_
    refine ax_istore_n (lv' := [(2, .int (0 : Int32)), (0, .ref (L 0)), (1, .int v1)]) K dX1_cheap_19 (by decide) rfl ?_
    exact ax_sub [1, 2, 0] rfl (h.elim fun n20 h => kx_cheap_l20 K E (fun v1 v2 σ h => h.elim fun n62 h => kx_cheap_l62 K E (kx_cheap_j118 K E) n62 v1 v2 σ h) n20 v1 (0 : Int32) σ15 h)
  · have h := ax_it h c9
    refine ax_iconst (v := (-1 : Int32)) K (by decide) dX1_cheap_12 ?_
    exact E _ _ _ _ dX1_cheap_13 rfl h

/-! x.dear -/
set_option maxHeartbeats 4000000 in
theorem kx_dear_l20 {Z : AZ} {G : AG} {L : Nat → Nat} {P : Int32 → St → Prop} (K : AK Z G cX1_dear RX1 3 (rmH 6)) (E : AEi Z cX1_dear .int (xW G L) 0 0 P) {K74 : Int32 → St → Prop} (hK74 : ∀ (s0 : Int32) (σ : St), K74 s0 σ → AX Z 0 0 74 [(0, .ref (L 0))] [.int s0] (xW G L σ)) : ∀ (n : Nat) (v1 : Int32) (v2 : Int32) (σ : St), wx_dear_l20 P K74 n v1 v2 σ → AX Z 0 0 20 [(0, .ref (L 0)), (1, .int v1), (2, .int v2)] [] (xW G L σ) := by
  intro n
  induction n with
  | zero => intro v1 v2 σ h; exact False.elim h
  | succ n ih =>
    intro v1 v2 σ h
    rw [wx_dear_l20_s] at h
    refine ax_iload_n K 2 rfl dX1_dear_20 ?_
    refine ax_iconst (v := (1 : Int32)) K (by decide) dX1_dear_21 ?_
    refine ax_aload_n K 0 rfl dX1_dear_22 ?_
    refine xg_dishes K dX1_dear_23 ?_
    refine ax_ishl K dX1_dear_26 ?_
    refine ax_icmp_ge (tgt := 54) K dX1_dear_27 (by decide) (fun c27 => ?_) (fun c27 => ?_)
    · have h := ax_it h c27
      refine ax_aload_n K 0 rfl dX1_dear_54 ?_
      refine ax_iload_n K 1 rfl dX1_dear_55 ?_
      refine ax_iconst (v := (0 : Int32)) K (by decide) dX1_dear_56 ?_
      refine rx_bestSet K (by decide) dX1_dear_57 (Nat.le_of_ble_eq_true rfl) h (fun r57 σ57 h => ?_)
      refine ax_istore_n (lv' := [(2, .int r57), (0, .ref (L 0)), (1, .int v1)]) K dX1_dear_60 (by decide) rfl ?_
      refine ax_iload_n K 0 rfl dX1_dear_61 ?_
      refine ax_ldcw (v := (-1000000 : Int32)) K q687 dX1_dear_62 ?_
      refine ax_icmp_ne (tgt := 73) K dX1_dear_65 (by decide) (fun c65 => ?_) (fun c65 => ?_)
      · have h := ax_ie h c65
        refine ax_iload_n K 0 rfl dX1_dear_73 ?_
        exact ax_sub [1] rfl (hK74 r57 σ57 h)
      · have h := ax_it h c65
        refine ax_bipush (v := (-2 : Int32)) K (by decide) dX1_dear_68 ?_
        refine ax_goto (tgt := 74) K dX1_dear_70 (by decide) ?_
        exact ax_sub [1] rfl (hK74 (-2 : Int32) σ57 h)
    · have h := ax_ie h c27
      refine ax_aload_n K 0 rfl dX1_dear_30 ?_
      refine xg_worth K dX1_dear_31 ?_
      refine ax_iload_n K 2 rfl dX1_dear_34 ?_
      refine ax_aload_n K 0 rfl dX1_dear_35 ?_
      refine ax_iload_n K 2 rfl dX1_dear_36 ?_
      refine ax_aload_n K 0 rfl dX1_dear_37 ?_
      refine rx_setNow K (by decide) dX1_dear_38 (Nat.le_of_ble_eq_true rfl) h (fun r38 σ38 h => ?_)
      refine ax_iconst (v := (-1 : Int32)) K (by decide) dX1_dear_41 ?_
      refine ax_ixor K dX1_dear_42 ?_
      refine ax_iand K dX1_dear_43 ?_
      refine rx_costOf K (by decide) dX1_dear_44 (Nat.le_of_ble_eq_true rfl) h (fun r44 σ44 h => ?_)
      refine xs_worth K h.1 dX1_dear_47 ?_
      replace h := h.2
      refine ax_iinc (lv' := [(2, .int (v2 + (1 : Int32))), (0, .ref (L 0)), (1, .int v1)]) (v := (v2 + (1 : Int32))) K 2 dX1_dear_48 rfl (by rfl) (by decide) rfl ?_
      refine ax_goto (tgt := 20) K dX1_dear_51 (by decide) ?_
      exact ax_sub [1, 2, 0] rfl (ih v1 (v2 + (1 : Int32)) (xU_worth σ44 v2 r44) h)
set_option maxHeartbeats 4000000 in
theorem kx_dear_j74 {Z : AZ} {G : AG} {L : Nat → Nat} {P : Int32 → St → Prop} (K : AK Z G cX1_dear RX1 3 (rmH 6)) (E : AEi Z cX1_dear .int (xW G L) 0 0 P) (s0 : Int32) (σ : St) (h : wx_dear_j74 P  s0 σ) : AX Z 0 0 74 [(0, .ref (L 0))] [.int s0] (xW G L σ) := by
  unfold wx_dear_j74 at h
  exact E _ _ _ _ dX1_dear_74 rfl h
set_option maxHeartbeats 4000000 in
theorem mx_dear {l : Launch} {G : AG} {L : Nat → Nat} {σ : St} {v1 : Int32} {P : Int32 → St → Prop} (h : wx_dear σ v1 P) : CtW l G yX1_dear cX1_dear 3 (some .int) (rmH 6) [.ref (L 0), .int v1] (xW G L) σ (pI P) := by
  refine CtW.ofI (by decide) (Nat.le_of_ble_eq_true rfl) fun Z _ K E => ?_
  unfold wx_dear at h
  show AX Z 0 0 0 [(0, .ref (L 0)), (1, .int v1)] [] (xW G L σ)
  refine ax_iload_n K 1 rfl dX1_dear_0 ?_
  refine ax_i2l K dX1_dear_1 ?_
  refine ax_lconst (v := (0 : Int64)) K (by decide) dX1_dear_2 ?_
  refine ax_ldc2 (v := (10 : Int64)) K q703 dX1_dear_3 ?_
  refine rx_in K (by decide) dX1_dear_6 (Nat.le_of_ble_eq_true rfl) h (fun r6 h => ?_)
  refine ax_if_ne (tgt := 14) K dX1_dear_9 (by decide) (fun c9 => ?_) (fun c9 => ?_)
  · have h := ax_ie h c9
    refine ax_aload_n K 0 rfl dX1_dear_14 ?_
    refine rx_laysOut K (by decide) dX1_dear_15 (Nat.le_of_ble_eq_true rfl) h (fun σ15 h => ?_)
    refine ax_iconst (v := (0 : Int32)) K (by decide) dX1_dear_18 ?_
    refine ax_istore_n (lv' := [(2, .int (0 : Int32)), (0, .ref (L 0)), (1, .int v1)]) K dX1_dear_19 (by decide) rfl ?_
    exact ax_sub [1, 2, 0] rfl (h.elim fun n20 h => kx_dear_l20 K E (kx_dear_j74 K E) n20 v1 (0 : Int32) σ15 h)
  · have h := ax_it h c9
    refine ax_iconst (v := (-1 : Int32)) K (by decide) dX1_dear_12 ?_
    exact E _ _ _ _ dX1_dear_13 rfl h

/-! x.falls -/
set_option maxHeartbeats 4000000 in
theorem kx_falls_j66 {Z : AZ} {G : AG} {L : Nat → Nat} {P : Int32 → St → Prop} (K : AK Z G cX1_falls RX1 9 (rmH 6)) (E : AEi Z cX1_falls .int (xW G L) 0 0 P) {K32 : Int32 → Int32 → Int32 → Int32 → Int32 → St → Prop} (hK32 : ∀ (v1 : Int32) (v2 : Int32) (v3 : Int32) (v4 : Int32) (v5 : Int32) (σ : St), K32 v1 v2 v3 v4 v5 σ → AX Z 0 0 32 [(0, .ref (L 0)), (1, .int v1), (2, .int v2), (3, .int v3), (4, .int v4), (5, .int v5)] [] (xW G L σ)) (v1 : Int32) (v2 : Int32) (v3 : Int32) (v5 : Int32) (s0 : Int32) (s1 : Int32) (σ : St) (h : wx_falls_j66 P K32 v1 v2 v3 v5 s0 s1 σ) : AX Z 0 0 66 [(0, .ref (L 0)), (1, .int v1), (2, .int v2), (3, .int v3), (5, .int v5)] [.int s1, .int s0] (xW G L σ) := by
  unfold wx_falls_j66 at h
  refine ax_ior K dX1_falls_66 ?_
  refine ax_istore (lv' := [(4, .int (s0 ||| s1)), (0, .ref (L 0)), (1, .int v1), (2, .int v2), (3, .int v3), (5, .int v5)]) K dX1_falls_67 (by decide) rfl ?_
  refine ax_iinc (lv' := [(5, .int (v5 + (1 : Int32))), (4, .int (s0 ||| s1)), (0, .ref (L 0)), (1, .int v1), (2, .int v2), (3, .int v3)]) (v := (v5 + (1 : Int32))) K 5 dX1_falls_69 rfl (by rfl) (by decide) rfl ?_
  refine ax_goto (tgt := 32) K dX1_falls_72 (by decide) ?_
  exact ax_sub [2, 3, 4, 5, 1, 0] rfl (hK32 v1 v2 v3 (s0 ||| s1) (v5 + (1 : Int32)) σ h)
set_option maxHeartbeats 4000000 in
theorem kx_falls_j65 {Z : AZ} {G : AG} {L : Nat → Nat} {P : Int32 → St → Prop} (K : AK Z G cX1_falls RX1 9 (rmH 6)) (E : AEi Z cX1_falls .int (xW G L) 0 0 P) {K32 : Int32 → Int32 → Int32 → Int32 → Int32 → St → Prop} (hK32 : ∀ (v1 : Int32) (v2 : Int32) (v3 : Int32) (v4 : Int32) (v5 : Int32) (σ : St), K32 v1 v2 v3 v4 v5 σ → AX Z 0 0 32 [(0, .ref (L 0)), (1, .int v1), (2, .int v2), (3, .int v3), (4, .int v4), (5, .int v5)] [] (xW G L σ)) (v1 : Int32) (v2 : Int32) (v3 : Int32) (v5 : Int32) (s0 : Int32) (σ : St) (h : wx_falls_j65 P K32 v1 v2 v3 v5 s0 σ) : AX Z 0 0 65 [(0, .ref (L 0)), (1, .int v1), (2, .int v2), (3, .int v3), (5, .int v5)] [.int s0] (xW G L σ) := by
  unfold wx_falls_j65 at h
  refine ax_iconst (v := (0 : Int32)) K (by decide) dX1_falls_65 ?_
  exact ax_sub [0, 1, 2, 3, 4] rfl (kx_falls_j66 K E hK32 v1 v2 v3 v5 s0 (0 : Int32) σ h)
set_option maxHeartbeats 4000000 in
theorem kx_falls_l32 {Z : AZ} {G : AG} {L : Nat → Nat} {P : Int32 → St → Prop} (K : AK Z G cX1_falls RX1 9 (rmH 6)) (E : AEi Z cX1_falls .int (xW G L) 0 0 P) {K123 : Int32 → Int32 → Int32 → Int32 → Int32 → St → Prop} (hK123 : ∀ (v4 : Int32) (v5 : Int32) (v6 : Int32) (v7 : Int32) (v8 : Int32) (σ : St), K123 v4 v5 v6 v7 v8 σ → AX Z 0 0 123 [(0, .ref (L 0)), (4, .int v4), (5, .int v5), (6, .int v6), (7, .int v7), (8, .int v8)] [] (xW G L σ)) : ∀ (n : Nat) (v1 : Int32) (v2 : Int32) (v3 : Int32) (v4 : Int32) (v5 : Int32) (σ : St), wx_falls_l32 P K123 n v1 v2 v3 v4 v5 σ → AX Z 0 0 32 [(0, .ref (L 0)), (1, .int v1), (2, .int v2), (3, .int v3), (4, .int v4), (5, .int v5)] [] (xW G L σ) := by
  intro n
  induction n with
  | zero => intro v1 v2 v3 v4 v5 σ h; exact False.elim h
  | succ n ih =>
    intro v1 v2 v3 v4 v5 σ h
    rw [wx_falls_l32_s] at h
    refine ax_iload K 5 rfl dX1_falls_32 ?_
    refine ax_iconst (v := (3 : Int32)) K (by decide) dX1_falls_34 ?_
    refine ax_icmp_ge (tgt := 75) K dX1_falls_35 (by decide) (fun c35 => ?_) (fun c35 => ?_)
    · have h := ax_it h c35
      refine ax_aload_n K 0 rfl dX1_falls_75 ?_
      refine xg_law K dX1_falls_76 ?_
      refine ax_iconst (v := (0 : Int32)) K (by decide) dX1_falls_79 ?_
      refine xl_law K h.1 dX1_falls_80 ?_
      replace h := h.2
      refine ax_istore (lv' := [(5, .int (xA_law σ ((0 : Int32)).toNatClampNeg)), (0, .ref (L 0)), (1, .int v1), (2, .int v2), (3, .int v3), (4, .int v4)]) K dX1_falls_81 (by decide) rfl ?_
      refine ax_aload_n K 1 rfl dX1_falls_83 ?_
      refine xg_law K dX1_falls_84 ?_
      refine ax_iconst (v := (1 : Int32)) K (by decide) dX1_falls_87 ?_
      refine xl_law K h.1 dX1_falls_88 ?_
      replace h := h.2
      refine ax_istore (lv' := [(6, .int (xA_law σ ((1 : Int32)).toNatClampNeg)), (5, .int (xA_law σ ((0 : Int32)).toNatClampNeg)), (0, .ref (L 0)), (1, .int v1), (2, .int v2), (3, .int v3), (4, .int v4)]) K dX1_falls_89 (by decide) rfl ?_
      refine ax_aload_n K 2 rfl dX1_falls_91 ?_
      refine xg_law K dX1_falls_92 ?_
      refine ax_iconst (v := (2 : Int32)) K (by decide) dX1_falls_95 ?_
      refine xl_law K h.1 dX1_falls_96 ?_
      replace h := h.2
      refine ax_istore (lv' := [(7, .int (xA_law σ ((2 : Int32)).toNatClampNeg)), (6, .int (xA_law σ ((1 : Int32)).toNatClampNeg)), (5, .int (xA_law σ ((0 : Int32)).toNatClampNeg)), (0, .ref (L 0)), (1, .int v1), (2, .int v2), (3, .int v3), (4, .int v4)]) K dX1_falls_97 (by decide) rfl ?_
      refine ax_aload_n K 3 rfl dX1_falls_99 ?_
      refine xg_law K dX1_falls_100 ?_
      refine ax_iconst (v := (0 : Int32)) K (by decide) dX1_falls_103 ?_
      refine ax_iload_n K 4 rfl dX1_falls_104 ?_
      refine xs_law K h.1 dX1_falls_105 ?_
      replace h := h.2
      refine ax_aload_n K 3 rfl dX1_falls_106 ?_
      refine xg_law K dX1_falls_107 ?_
      refine ax_iconst (v := (1 : Int32)) K (by decide) dX1_falls_110 ?_
      refine ax_iload_n K 5 rfl dX1_falls_111 ?_
      refine xs_law K h.1 dX1_falls_112 ?_
      replace h := h.2
      refine ax_aload_n K 3 rfl dX1_falls_113 ?_
      refine xg_law K dX1_falls_114 ?_
      refine ax_iconst (v := (2 : Int32)) K (by decide) dX1_falls_117 ?_
      refine ax_iload_n K 6 rfl dX1_falls_118 ?_
      refine xs_law K h.1 dX1_falls_119 ?_
      replace h := h.2
      refine ax_iconst (v := (0 : Int32)) K (by decide) dX1_falls_120 ?_
      refine ax_istore (lv' := [(8, .int (0 : Int32)), (7, .int (xA_law σ ((2 : Int32)).toNatClampNeg)), (6, .int (xA_law σ ((1 : Int32)).toNatClampNeg)), (5, .int (xA_law σ ((0 : Int32)).toNatClampNeg)), (0, .ref (L 0)), (1, .int v1), (2, .int v2), (3, .int v3), (4, .int v4)]) K dX1_falls_121 (by decide) rfl ?_
      exact ax_sub [4, 8, 3, 2, 1, 0] rfl (hK123 v4 (xA_law σ ((0 : Int32)).toNatClampNeg) (xA_law σ ((1 : Int32)).toNatClampNeg) (xA_law σ ((2 : Int32)).toNatClampNeg) (0 : Int32) (xU_law (xU_law (xU_law σ (0 : Int32) v1) (1 : Int32) v2) (2 : Int32) v3) h)
    · have h := ax_ie h c35
      refine ax_iload K 4 rfl dX1_falls_38 ?_
      refine ax_aload_n K 0 rfl dX1_falls_40 ?_
      refine ax_iload K 5 rfl dX1_falls_41 ?_
      refine rx_isWhole K (by decide) dX1_falls_43 (Nat.le_of_ble_eq_true rfl) h (fun r43 σ43 h => ?_)
      refine ax_if_eq (tgt := 65) K dX1_falls_46 (by decide) (fun c46 => ?_) (fun c46 => ?_)
      · have h := ax_it h c46
        exact ax_sub [0, 1, 2, 3, 5] rfl (kx_falls_j65 K E ih v1 v2 v3 v5 v4 σ43 h)
      · have h := ax_ie h c46
        refine ax_aload_n K 0 rfl dX1_falls_49 ?_
        refine ax_iload K 5 rfl dX1_falls_50 ?_
        refine rx_firstBad K (by decide) dX1_falls_52 (Nat.le_of_ble_eq_true rfl) h (fun r52 σ52 h => ?_)
        refine ax_if_ge (tgt := 65) K dX1_falls_55 (by decide) (fun c55 => ?_) (fun c55 => ?_)
        · have h := ax_it h c55
          exact ax_sub [0, 1, 2, 3, 5] rfl (kx_falls_j65 K E ih v1 v2 v3 v5 v4 σ52 h)
        · have h := ax_ie h c55
          refine ax_iconst (v := (1 : Int32)) K (by decide) dX1_falls_58 ?_
          refine ax_iload K 5 rfl dX1_falls_59 ?_
          refine ax_ishl K dX1_falls_61 ?_
          refine ax_goto (tgt := 66) K dX1_falls_62 (by decide) ?_
          exact ax_sub [0, 1, 2, 3, 5] rfl (kx_falls_j66 K E ih v1 v2 v3 v5 v4 ((1 : Int32) <<< (v5 &&& 31)) σ52 h)
set_option maxHeartbeats 4000000 in
theorem kx_falls_j160 {Z : AZ} {G : AG} {L : Nat → Nat} {P : Int32 → St → Prop} (K : AK Z G cX1_falls RX1 9 (rmH 6)) (E : AEi Z cX1_falls .int (xW G L) 0 0 P) {K123 : Int32 → Int32 → Int32 → Int32 → Int32 → St → Prop} (hK123 : ∀ (v4 : Int32) (v5 : Int32) (v6 : Int32) (v7 : Int32) (v8 : Int32) (σ : St), K123 v4 v5 v6 v7 v8 σ → AX Z 0 0 123 [(0, .ref (L 0)), (4, .int v4), (5, .int v5), (6, .int v6), (7, .int v7), (8, .int v8)] [] (xW G L σ)) (v5 : Int32) (v6 : Int32) (v7 : Int32) (v8 : Int32) (s0 : Int32) (s1 : Int32) (σ : St) (h : wx_falls_j160 P K123 v5 v6 v7 v8 s0 s1 σ) : AX Z 0 0 160 [(0, .ref (L 0)), (5, .int v5), (6, .int v6), (7, .int v7), (8, .int v8)] [.int s1, .int s0] (xW G L σ) := by
  unfold wx_falls_j160 at h
  refine ax_iand K dX1_falls_160 ?_
  refine ax_istore (lv' := [(4, .int (s0 &&& s1)), (0, .ref (L 0)), (5, .int v5), (6, .int v6), (7, .int v7), (8, .int v8)]) K dX1_falls_161 (by decide) rfl ?_
  refine ax_iinc (lv' := [(8, .int (v8 + (1 : Int32))), (4, .int (s0 &&& s1)), (0, .ref (L 0)), (5, .int v5), (6, .int v6), (7, .int v7)]) (v := (v8 + (1 : Int32))) K 5 dX1_falls_163 rfl (by rfl) (by decide) rfl ?_
  refine ax_goto (tgt := 123) K dX1_falls_166 (by decide) ?_
  exact ax_sub [2, 1, 3, 4, 5, 0] rfl (hK123 (s0 &&& s1) v5 v6 v7 (v8 + (1 : Int32)) σ h)
set_option maxHeartbeats 4000000 in
theorem kx_falls_j159 {Z : AZ} {G : AG} {L : Nat → Nat} {P : Int32 → St → Prop} (K : AK Z G cX1_falls RX1 9 (rmH 6)) (E : AEi Z cX1_falls .int (xW G L) 0 0 P) {K123 : Int32 → Int32 → Int32 → Int32 → Int32 → St → Prop} (hK123 : ∀ (v4 : Int32) (v5 : Int32) (v6 : Int32) (v7 : Int32) (v8 : Int32) (σ : St), K123 v4 v5 v6 v7 v8 σ → AX Z 0 0 123 [(0, .ref (L 0)), (4, .int v4), (5, .int v5), (6, .int v6), (7, .int v7), (8, .int v8)] [] (xW G L σ)) (v5 : Int32) (v6 : Int32) (v7 : Int32) (v8 : Int32) (s0 : Int32) (σ : St) (h : wx_falls_j159 P K123 v5 v6 v7 v8 s0 σ) : AX Z 0 0 159 [(0, .ref (L 0)), (5, .int v5), (6, .int v6), (7, .int v7), (8, .int v8)] [.int s0] (xW G L σ) := by
  unfold wx_falls_j159 at h
  refine ax_iconst (v := (-1 : Int32)) K (by decide) dX1_falls_159 ?_
  exact ax_sub [0, 1, 2, 3, 4] rfl (kx_falls_j160 K E hK123 v5 v6 v7 v8 s0 (-1 : Int32) σ h)
set_option maxHeartbeats 4000000 in
theorem kx_falls_l123 {Z : AZ} {G : AG} {L : Nat → Nat} {P : Int32 → St → Prop} (K : AK Z G cX1_falls RX1 9 (rmH 6)) (E : AEi Z cX1_falls .int (xW G L) 0 0 P) : ∀ (n : Nat) (v4 : Int32) (v5 : Int32) (v6 : Int32) (v7 : Int32) (v8 : Int32) (σ : St), wx_falls_l123 P  n v4 v5 v6 v7 v8 σ → AX Z 0 0 123 [(0, .ref (L 0)), (4, .int v4), (5, .int v5), (6, .int v6), (7, .int v7), (8, .int v8)] [] (xW G L σ) := by
  intro n
  induction n with
  | zero => intro v4 v5 v6 v7 v8 σ h; exact False.elim h
  | succ n ih =>
    intro v4 v5 v6 v7 v8 σ h
    rw [wx_falls_l123_s] at h
    refine ax_iload K 5 rfl dX1_falls_123 ?_
    refine ax_iconst (v := (3 : Int32)) K (by decide) dX1_falls_125 ?_
    refine ax_icmp_ge (tgt := 169) K dX1_falls_126 (by decide) (fun c126 => ?_) (fun c126 => ?_)
    · have h := ax_it h c126
      refine ax_aload_n K 0 rfl dX1_falls_169 ?_
      refine xg_law K dX1_falls_170 ?_
      refine ax_iconst (v := (0 : Int32)) K (by decide) dX1_falls_173 ?_
      refine ax_iload K 2 rfl dX1_falls_174 ?_
      refine xs_law K h.1 dX1_falls_176 ?_
      replace h := h.2
      refine ax_aload_n K 0 rfl dX1_falls_177 ?_
      refine xg_law K dX1_falls_178 ?_
      refine ax_iconst (v := (1 : Int32)) K (by decide) dX1_falls_181 ?_
      refine ax_iload K 3 rfl dX1_falls_182 ?_
      refine xs_law K h.1 dX1_falls_184 ?_
      replace h := h.2
      refine ax_aload_n K 0 rfl dX1_falls_185 ?_
      refine xg_law K dX1_falls_186 ?_
      refine ax_iconst (v := (2 : Int32)) K (by decide) dX1_falls_189 ?_
      refine ax_iload K 4 rfl dX1_falls_190 ?_
      refine xs_law K h.1 dX1_falls_192 ?_
      replace h := h.2
      refine ax_iload K 1 rfl dX1_falls_193 ?_
      exact E _ _ _ _ dX1_falls_195 rfl h
    · have h := ax_ie h c126
      refine ax_iload K 1 rfl dX1_falls_129 ?_
      refine ax_iload K 1 rfl dX1_falls_131 ?_
      refine ax_iload K 5 rfl dX1_falls_133 ?_
      refine rx_has K (by decide) dX1_falls_135 (Nat.le_of_ble_eq_true rfl) h (fun r135 h => ?_)
      refine ax_if_eq (tgt := 159) K dX1_falls_138 (by decide) (fun c138 => ?_) (fun c138 => ?_)
      · have h := ax_it h c138
        exact ax_sub [0, 2, 3, 4, 5] rfl (kx_falls_j159 K E ih v5 v6 v7 v8 v4 σ h)
      · have h := ax_ie h c138
        refine ax_aload_n K 0 rfl dX1_falls_141 ?_
        refine ax_iload K 5 rfl dX1_falls_142 ?_
        refine rx_firstBad K (by decide) dX1_falls_144 (Nat.le_of_ble_eq_true rfl) h (fun r144 σ144 h => ?_)
        refine ax_if_ge (tgt := 159) K dX1_falls_147 (by decide) (fun c147 => ?_) (fun c147 => ?_)
        · have h := ax_it h c147
          exact ax_sub [0, 2, 3, 4, 5] rfl (kx_falls_j159 K E ih v5 v6 v7 v8 v4 σ144 h)
        · have h := ax_ie h c147
          refine ax_iconst (v := (1 : Int32)) K (by decide) dX1_falls_150 ?_
          refine ax_iload K 5 rfl dX1_falls_151 ?_
          refine ax_ishl K dX1_falls_153 ?_
          refine ax_iconst (v := (-1 : Int32)) K (by decide) dX1_falls_154 ?_
          refine ax_ixor K dX1_falls_155 ?_
          refine ax_goto (tgt := 160) K dX1_falls_156 (by decide) ?_
          exact ax_sub [0, 2, 3, 4, 5] rfl (kx_falls_j160 K E ih v5 v6 v7 v8 v4 (((1 : Int32) <<< (v8 &&& 31)) ^^^ (-1 : Int32)) σ144 h)
set_option maxHeartbeats 4000000 in
theorem mx_falls {l : Launch} {G : AG} {L : Nat → Nat} {σ : St} {v1 : Int32} {v2 : Int32} {v3 : Int32} {P : Int32 → St → Prop} (h : wx_falls σ v1 v2 v3 P) : CtW l G yX1_falls cX1_falls 9 (some .int) (rmH 6) [.ref (L 0), .int v1, .int v2, .int v3] (xW G L) σ (pI P) := by
  refine CtW.ofI (by decide) (Nat.le_of_ble_eq_true rfl) fun Z _ K E => ?_
  unfold wx_falls at h
  show AX Z 0 0 0 [(0, .ref (L 0)), (1, .int v1), (2, .int v2), (3, .int v3)] [] (xW G L σ)
  refine ax_iconst (v := (0 : Int32)) K (by decide) dX1_falls_0 ?_
  refine ax_iload_n K 1 rfl dX1_falls_1 ?_
  refine rx_isLaw K (by decide) dX1_falls_2 (Nat.le_of_ble_eq_true rfl) h (fun r2 h => ?_)
  refine ax_if_eq (tgt := 24) K dX1_falls_5 (by decide) (fun c5 => ?_) (fun c5 => ?_)
  · have h := ax_it h c5
    refine ax_iconst (v := (-1 : Int32)) K (by decide) dX1_falls_24 ?_
    exact E _ _ _ _ dX1_falls_25 rfl h
  · have h := ax_ie h c5
    refine ax_iconst (v := (1 : Int32)) K (by decide) dX1_falls_8 ?_
    refine ax_iload_n K 2 rfl dX1_falls_9 ?_
    refine rx_isLaw K (by decide) dX1_falls_10 (Nat.le_of_ble_eq_true rfl) h (fun r10 h => ?_)
    refine ax_if_eq (tgt := 24) K dX1_falls_13 (by decide) (fun c13 => ?_) (fun c13 => ?_)
    · have h := ax_it h c13
      refine ax_iconst (v := (-1 : Int32)) K (by decide) dX1_falls_24 ?_
      exact E _ _ _ _ dX1_falls_25 rfl h
    · have h := ax_ie h c13
      refine ax_iconst (v := (2 : Int32)) K (by decide) dX1_falls_16 ?_
      refine ax_iload_n K 3 rfl dX1_falls_17 ?_
      refine rx_isLaw K (by decide) dX1_falls_18 (Nat.le_of_ble_eq_true rfl) h (fun r18 h => ?_)
      refine ax_if_ne (tgt := 26) K dX1_falls_21 (by decide) (fun c21 => ?_) (fun c21 => ?_)
      · have h := ax_ie h c21
        refine ax_iconst (v := (0 : Int32)) K (by decide) dX1_falls_26 ?_
        refine ax_istore (lv' := [(4, .int (0 : Int32)), (0, .ref (L 0)), (1, .int v1), (2, .int v2), (3, .int v3)]) K dX1_falls_27 (by decide) rfl ?_
        refine ax_iconst (v := (0 : Int32)) K (by decide) dX1_falls_29 ?_
        refine ax_istore (lv' := [(5, .int (0 : Int32)), (4, .int (0 : Int32)), (0, .ref (L 0)), (1, .int v1), (2, .int v2), (3, .int v3)]) K dX1_falls_30 (by decide) rfl ?_
        exact ax_sub [2, 3, 4, 5, 1, 0] rfl (h.elim fun n32 h => kx_falls_l32 K E (fun v4 v5 v6 v7 v8 σ h => h.elim fun n123 h => kx_falls_l123 K E  n123 v4 v5 v6 v7 v8 σ h) n32 v1 v2 v3 (0 : Int32) (0 : Int32) σ h)
      · have h := ax_it h c21
        refine ax_iconst (v := (-1 : Int32)) K (by decide) dX1_falls_24 ?_
        exact E _ _ _ _ dX1_falls_25 rfl h

/-! x.fills -/
set_option maxHeartbeats 4000000 in
theorem kx_fills_j109 {Z : AZ} {G : AG} {L : Nat → Nat} {P : Int64 → St → Prop} (K : AK Z G cX1_fills RX1 8 (rmH 6)) (E : AEl Z cX1_fills (xW G L) 0 0 P) {K62 : Int32 → Int64 → Int32 → Int32 → Int32 → Int32 → St → Prop} (hK62 : ∀ (v1 : Int32) (v2 : Int64) (v4 : Int32) (v5 : Int32) (v6 : Int32) (v7 : Int32) (σ : St), K62 v1 v2 v4 v5 v6 v7 σ → AX Z 0 0 62 [(0, .ref (L 0)), (1, .int v1), (2, .long v2), (4, .int v4), (5, .int v5), (6, .int v6), (7, .int v7)] [] (xW G L σ)) (v1 : Int32) (v2 : Int64) (v4 : Int32) (v5 : Int32) (v6 : Int32) (v7 : Int32) (σ : St) (h : wx_fills_j109 P K62 v1 v2 v4 v5 v6 v7 σ) : AX Z 0 0 109 [(0, .ref (L 0)), (1, .int v1), (2, .long v2), (4, .int v4), (5, .int v5), (6, .int v6), (7, .int v7)] [] (xW G L σ) := by
  unfold wx_fills_j109 at h
  refine ax_iinc (lv' := [(7, .int (v7 + (1 : Int32))), (0, .ref (L 0)), (1, .int v1), (2, .long v2), (4, .int v4), (5, .int v5), (6, .int v6)]) (v := (v7 + (1 : Int32))) K 6 dX1_fills_109 rfl (by rfl) (by decide) rfl ?_
  refine ax_goto (tgt := 62) K dX1_fills_112 (by decide) ?_
  exact ax_sub [1, 2, 3, 4, 5, 6, 0] rfl (hK62 v1 v2 v4 v5 v6 (v7 + (1 : Int32)) σ h)
set_option maxHeartbeats 4000000 in
theorem kx_fills_l62 {Z : AZ} {G : AG} {L : Nat → Nat} {P : Int64 → St → Prop} (K : AK Z G cX1_fills RX1 8 (rmH 6)) (E : AEl Z cX1_fills (xW G L) 0 0 P) {K42 : Int32 → Int64 → Int32 → Int32 → Int32 → St → Prop} (hK42 : ∀ (v1 : Int32) (v2 : Int64) (v4 : Int32) (v5 : Int32) (v6 : Int32) (σ : St), K42 v1 v2 v4 v5 v6 σ → AX Z 0 0 42 [(0, .ref (L 0)), (1, .int v1), (2, .long v2), (4, .int v4), (5, .int v5), (6, .int v6)] [] (xW G L σ)) : ∀ (n : Nat) (v1 : Int32) (v2 : Int64) (v4 : Int32) (v5 : Int32) (v6 : Int32) (v7 : Int32) (σ : St), wx_fills_l62 P K42 n v1 v2 v4 v5 v6 v7 σ → AX Z 0 0 62 [(0, .ref (L 0)), (1, .int v1), (2, .long v2), (4, .int v4), (5, .int v5), (6, .int v6), (7, .int v7)] [] (xW G L σ) := by
  intro n
  induction n with
  | zero => intro v1 v2 v4 v5 v6 v7 σ h; exact False.elim h
  | succ n ih =>
    intro v1 v2 v4 v5 v6 v7 σ h
    rw [wx_fills_l62_s] at h
    refine ax_aload_n K 0 rfl dX1_fills_62 ?_
    refine ax_iload_n K 1 rfl dX1_fills_63 ?_
    refine ax_iload K 5 rfl dX1_fills_64 ?_
    refine ax_iload K 6 rfl dX1_fills_66 ?_
    refine rx_fits K (by decide) dX1_fills_68 (Nat.le_of_ble_eq_true rfl) h (fun r68 σ68 h => ?_)
    refine ax_if_eq (tgt := 109) K dX1_fills_71 (by decide) (fun c71 => ?_) (fun c71 => ?_)
    · have h := ax_it h c71
      exact ax_sub [0, 1, 2, 3, 4, 5, 6] rfl (kx_fills_j109 K E ih v1 v2 v4 v5 v6 v7 σ68 h)
    · have h := ax_ie h c71
      refine ax_aload_n K 0 rfl dX1_fills_74 ?_
      refine ax_iload K 3 rfl dX1_fills_75 ?_
      refine ax_iload K 4 rfl dX1_fills_77 ?_
      refine ax_iload K 6 rfl dX1_fills_79 ?_
      refine rx_goesOn K (by decide) dX1_fills_81 (Nat.le_of_ble_eq_true rfl) h (fun r81 σ81 h => ?_)
      refine ax_if_eq (tgt := 109) K dX1_fills_84 (by decide) (fun c84 => ?_) (fun c84 => ?_)
      · have h := ax_it h c84
        exact ax_sub [0, 1, 2, 3, 4, 5, 6] rfl (kx_fills_j109 K E ih v1 v2 v4 v5 v6 v7 σ81 h)
      · have h := ax_ie h c84
        refine ax_aload_n K 0 rfl dX1_fills_87 ?_
        refine xg_many K dX1_fills_88 ?_
        refine ax_iload K 3 rfl dX1_fills_91 ?_
        refine ax_iconst (v := (1 : Int32)) K (by decide) dX1_fills_93 ?_
        refine ax_iload K 6 rfl dX1_fills_94 ?_
        refine ax_ishl K dX1_fills_96 ?_
        refine ax_ior K dX1_fills_97 ?_
        refine ax_iload K 6 rfl dX1_fills_98 ?_
        refine rx_stateOf K (by decide) dX1_fills_100 (Nat.le_of_ble_eq_true rfl) h (fun r100 h => ?_)
        refine xl_many K h.1 dX1_fills_103 ?_
        replace h := h.2
        refine ax_lconst (v := (0 : Int64)) K (by decide) dX1_fills_104 ?_
        refine ax_lcmp K dX1_fills_105 ?_
        refine ax_if_ne (tgt := 115) K dX1_fills_106 (by decide) (fun c106 => ?_) (fun c106 => ?_)
        · have h := ax_ie h c106
          refine ax_aload_n K 0 rfl dX1_fills_115 ?_
          refine ax_iload K 6 rfl dX1_fills_116 ?_
          refine rx_tells K (by decide) dX1_fills_118 (Nat.le_of_ble_eq_true rfl) h (fun σ118 h => ?_)
          refine ax_iload K 3 rfl dX1_fills_121 ?_
          refine ax_iconst (v := (1 : Int32)) K (by decide) dX1_fills_123 ?_
          refine ax_iload K 6 rfl dX1_fills_124 ?_
          refine ax_ishl K dX1_fills_126 ?_
          refine ax_ior K dX1_fills_127 ?_
          refine ax_istore (lv' := [(4, .int (v4 ||| ((1 : Int32) <<< (v7 &&& 31)))), (0, .ref (L 0)), (1, .int v1), (2, .long v2), (5, .int v5), (6, .int v6), (7, .int v7)]) K dX1_fills_128 (by decide) rfl ?_
          refine ax_iload K 6 rfl dX1_fills_130 ?_
          refine ax_istore (lv' := [(5, .int v7), (4, .int (v4 ||| ((1 : Int32) <<< (v7 &&& 31)))), (0, .ref (L 0)), (1, .int v1), (2, .long v2), (6, .int v6), (7, .int v7)]) K dX1_fills_132 (by decide) rfl ?_
          refine ax_iinc (lv' := [(6, .int (v6 + (1 : Int32))), (5, .int v7), (4, .int (v4 ||| ((1 : Int32) <<< (v7 &&& 31)))), (0, .ref (L 0)), (1, .int v1), (2, .long v2), (7, .int v7)]) (v := (v6 + (1 : Int32))) K 5 dX1_fills_134 rfl (by rfl) (by decide) rfl ?_
          refine ax_goto (tgt := 42) K dX1_fills_137 (by decide) ?_
          exact ax_sub [3, 4, 5, 2, 1, 0] rfl (hK42 v1 v2 (v4 ||| ((1 : Int32) <<< (v7 &&& 31))) v7 (v6 + (1 : Int32)) σ118 h)
        · have h := ax_it h c106
          exact ax_sub [0, 1, 2, 3, 4, 5, 6] rfl (kx_fills_j109 K E ih v1 v2 v4 v5 v6 v7 σ81 h)
set_option maxHeartbeats 4000000 in
theorem kx_fills_l42 {Z : AZ} {G : AG} {L : Nat → Nat} {P : Int64 → St → Prop} (K : AK Z G cX1_fills RX1 8 (rmH 6)) (E : AEl Z cX1_fills (xW G L) 0 0 P) {K140 : Int64 → St → Prop} (hK140 : ∀ (v2 : Int64) (σ : St), K140 v2 σ → AX Z 0 0 140 [(0, .ref (L 0)), (2, .long v2)] [] (xW G L σ)) : ∀ (n : Nat) (v1 : Int32) (v2 : Int64) (v4 : Int32) (v5 : Int32) (v6 : Int32) (σ : St), wx_fills_l42 P K140 n v1 v2 v4 v5 v6 σ → AX Z 0 0 42 [(0, .ref (L 0)), (1, .int v1), (2, .long v2), (4, .int v4), (5, .int v5), (6, .int v6)] [] (xW G L σ) := by
  intro n
  induction n with
  | zero => intro v1 v2 v4 v5 v6 σ h; exact False.elim h
  | succ n ih =>
    intro v1 v2 v4 v5 v6 σ h
    rw [wx_fills_l42_s] at h
    refine ax_iload K 5 rfl dX1_fills_42 ?_
    refine ax_aload_n K 0 rfl dX1_fills_44 ?_
    refine xg_menuMany K dX1_fills_45 ?_
    refine ax_iload_n K 1 rfl dX1_fills_48 ?_
    refine xl_menuMany K h.1 dX1_fills_49 ?_
    replace h := h.2
    refine ax_icmp_ge (tgt := 140) K dX1_fills_50 (by decide) (fun c50 => ?_) (fun c50 => ?_)
    · have h := ax_it h c50
      exact ax_sub [0, 2] rfl (hK140 v2 σ h)
    · have h := ax_ie h c50
      refine ax_lload_n K 2 rfl dX1_fills_53 ?_
      refine ax_lconst (v := (0 : Int64)) K (by decide) dX1_fills_54 ?_
      refine ax_lcmp K dX1_fills_55 ?_
      refine ax_if_le (tgt := 140) K dX1_fills_56 (by decide) (fun c56 => ?_) (fun c56 => ?_)
      · have h := ax_it h c56
        exact ax_sub [0, 2] rfl (hK140 v2 σ h)
      · have h := ax_ie h c56
        refine ax_iconst (v := (0 : Int32)) K (by decide) dX1_fills_59 ?_
        refine ax_istore (lv' := [(7, .int (0 : Int32)), (0, .ref (L 0)), (1, .int v1), (2, .long v2), (4, .int v4), (5, .int v5), (6, .int v6)]) K dX1_fills_60 (by decide) rfl ?_
        exact ax_sub [1, 2, 3, 4, 5, 6, 0] rfl (h.elim fun n62 h => kx_fills_l62 K E ih n62 v1 v2 v4 v5 v6 (0 : Int32) σ h)
set_option maxHeartbeats 4000000 in
theorem kx_fills_j140 {Z : AZ} {G : AG} {L : Nat → Nat} {P : Int64 → St → Prop} (K : AK Z G cX1_fills RX1 8 (rmH 6)) (E : AEl Z cX1_fills (xW G L) 0 0 P) (v2 : Int64) (σ : St) (h : wx_fills_j140 P  v2 σ) : AX Z 0 0 140 [(0, .ref (L 0)), (2, .long v2)] [] (xW G L σ) := by
  unfold wx_fills_j140 at h
  refine ax_lload_n K 1 rfl dX1_fills_140 ?_
  exact E _ _ _ _ dX1_fills_141 h
set_option maxHeartbeats 4000000 in
theorem mx_fills {l : Launch} {G : AG} {L : Nat → Nat} {σ : St} {v1 : Int32} {P : Int64 → St → Prop} (h : wx_fills σ v1 P) : CtW l G yX1_fills cX1_fills 8 (some .long) (rmH 6) [.ref (L 0), .int v1] (xW G L) σ (pL P) := by
  refine CtW.ofL (by decide) (Nat.le_of_ble_eq_true rfl) fun Z _ K E => ?_
  unfold wx_fills at h
  show AX Z 0 0 0 [(0, .ref (L 0)), (1, .int v1)] [] (xW G L σ)
  refine ax_aload_n K 0 rfl dX1_fills_0 ?_
  refine ax_iload_n K 1 rfl dX1_fills_1 ?_
  refine rx_isLaid K (by decide) dX1_fills_2 (Nat.le_of_ble_eq_true rfl) h (fun r2 σ2 h => ?_)
  refine ax_if_ne (tgt := 12) K dX1_fills_5 (by decide) (fun c5 => ?_) (fun c5 => ?_)
  · have h := ax_ie h c5
    refine ax_aload_n K 0 rfl dX1_fills_12 ?_
    refine ax_iload_n K 1 rfl dX1_fills_13 ?_
    refine rx_countsFills K (by decide) dX1_fills_14 (Nat.le_of_ble_eq_true rfl) h (fun σ14 h => ?_)
    refine ax_aload_n K 0 rfl dX1_fills_17 ?_
    refine xg_many K dX1_fills_18 ?_
    refine ax_iconst (v := (0 : Int32)) K (by decide) dX1_fills_21 ?_
    refine ax_iconst (v := (-1 : Int32)) K (by decide) dX1_fills_22 ?_
    refine rx_stateOf K (by decide) dX1_fills_23 (Nat.le_of_ble_eq_true rfl) h (fun r23 h => ?_)
    refine xl_many K h.1 dX1_fills_26 ?_
    replace h := h.2
    refine ax_lstore_n (lv' := [(2, .long (xA_many σ14 (r23).toNatClampNeg)), (0, .ref (L 0)), (1, .int v1)]) K dX1_fills_27 (by decide) rfl ?_
    refine ax_aload_n K 1 rfl dX1_fills_28 ?_
    refine ax_iconst (v := (0 : Int32)) K (by decide) dX1_fills_29 ?_
    refine xp_rowMany K dX1_fills_30 ?_
    refine ax_iconst (v := (0 : Int32)) K (by decide) dX1_fills_33 ?_
    refine ax_istore (lv' := [(4, .int (0 : Int32)), (2, .long (xA_many σ14 (r23).toNatClampNeg)), (0, .ref (L 0)), (1, .int v1)]) K dX1_fills_34 (by decide) rfl ?_
    refine ax_iconst (v := (-1 : Int32)) K (by decide) dX1_fills_36 ?_
    refine ax_istore (lv' := [(5, .int (-1 : Int32)), (4, .int (0 : Int32)), (2, .long (xA_many σ14 (r23).toNatClampNeg)), (0, .ref (L 0)), (1, .int v1)]) K dX1_fills_37 (by decide) rfl ?_
    refine ax_iconst (v := (0 : Int32)) K (by decide) dX1_fills_39 ?_
    refine ax_istore (lv' := [(6, .int (0 : Int32)), (5, .int (-1 : Int32)), (4, .int (0 : Int32)), (2, .long (xA_many σ14 (r23).toNatClampNeg)), (0, .ref (L 0)), (1, .int v1)]) K dX1_fills_40 (by decide) rfl ?_
    exact ax_sub [4, 5, 3, 2, 1, 0] rfl (h.elim fun n42 h => kx_fills_l42 K E (kx_fills_j140 K E) n42 v1 (xA_many σ14 (r23).toNatClampNeg) (0 : Int32) (-1 : Int32) (0 : Int32) (xS_rowMany σ14 (0 : Int32)) h)
  · have h := ax_it h c5
    refine ax_ldc2 (v := (-3 : Int64)) K q850 dX1_fills_8 ?_
    exact E _ _ _ _ dX1_fills_11 h

/-! x.look -/
set_option maxHeartbeats 4000000 in
theorem kx_look_j41 {Z : AZ} {G : AG} {L : Nat → Nat} {P : Int32 → St → Prop} (K : AK Z G cX1_look RX1 6 (rmH 6)) (E : AEi Z cX1_look .int (xW G L) 0 0 P) {K25 : Int32 → Int32 → Int32 → Int32 → Int32 → St → Prop} (hK25 : ∀ (v1 : Int32) (v2 : Int32) (v3 : Int32) (v4 : Int32) (v5 : Int32) (σ : St), K25 v1 v2 v3 v4 v5 σ → AX Z 0 0 25 [(0, .ref (L 0)), (1, .int v1), (2, .int v2), (3, .int v3), (4, .int v4), (5, .int v5)] [] (xW G L σ)) (v1 : Int32) (v2 : Int32) (v3 : Int32) (v4 : Int32) (v5 : Int32) (s0 : Int32) (s1 : Int32) (σ : St) (h : wx_look_j41 P K25 v1 v2 v3 v4 v5 s0 s1 σ) : AX Z 0 0 41 [(0, .ref (L 0)), (1, .int v1), (2, .int v2), (3, .int v3), (4, .int v4), (5, .int v5)] [.int s1, .int s0] (xW G L σ) := by
  unfold wx_look_j41 at h
  refine ax_icmp_ge (tgt := 81) K dX1_look_41 (by decide) (fun c41 => ?_) (fun c41 => ?_)
  · have h := ax_it h c41
    refine ax_aload_n K 0 rfl dX1_look_81 ?_
    refine ax_iconst (v := (0 : Int32)) K (by decide) dX1_look_82 ?_
    refine xp_rowMany K dX1_look_83 ?_
    refine ax_aload_n K 0 rfl dX1_look_86 ?_
    refine ax_aload_n K 0 rfl dX1_look_87 ?_
    refine xg_whyThen K dX1_look_88 ?_
    refine rx_tells K (by decide) dX1_look_91 (Nat.le_of_ble_eq_true rfl) h (fun σ91 h => ?_)
    refine ax_aload_n K 0 rfl dX1_look_94 ?_
    refine ax_iload_n K 3 rfl dX1_look_95 ?_
    refine rx_tells K (by decide) dX1_look_96 (Nat.le_of_ble_eq_true rfl) h (fun σ96 h => ?_)
    refine ax_aload_n K 0 rfl dX1_look_99 ?_
    refine ax_iload K 4 rfl dX1_look_100 ?_
    refine rx_tells K (by decide) dX1_look_102 (Nat.le_of_ble_eq_true rfl) h (fun σ102 h => ?_)
    refine ax_iload_n K 2 rfl dX1_look_105 ?_
    exact E _ _ _ _ dX1_look_106 rfl h
  · have h := ax_ie h c41
    refine ax_iload_n K 3 rfl dX1_look_44 ?_
    refine ax_aload_n K 0 rfl dX1_look_45 ?_
    refine xg_cost K dX1_look_46 ?_
    refine ax_aload_n K 0 rfl dX1_look_49 ?_
    refine ax_iload_n K 1 rfl dX1_look_50 ?_
    refine ax_iload K 5 rfl dX1_look_51 ?_
    refine rx_dishAt K (by decide) dX1_look_53 (Nat.le_of_ble_eq_true rfl) h (fun r53 σ53 h => ?_)
    refine xl_cost K h.1 dX1_look_56 ?_
    replace h := h.2
    refine ax_iadd K dX1_look_57 ?_
    refine ax_istore_n (lv' := [(3, .int (v3 + (xA_cost σ53 (r53).toNatClampNeg))), (0, .ref (L 0)), (1, .int v1), (2, .int v2), (4, .int v4), (5, .int v5)]) K dX1_look_58 (by decide) rfl ?_
    refine ax_iload K 4 rfl dX1_look_59 ?_
    refine ax_aload_n K 1 rfl dX1_look_61 ?_
    refine ax_aload_n K 1 rfl dX1_look_62 ?_
    refine ax_iload_n K 2 rfl dX1_look_63 ?_
    refine ax_iload K 5 rfl dX1_look_64 ?_
    refine rx_dishAt K (by decide) dX1_look_66 (Nat.le_of_ble_eq_true rfl) h (fun r66 σ66 h => ?_)
    refine rx_hungryAt K (by decide) dX1_look_69 (Nat.le_of_ble_eq_true rfl) h (fun r69 σ69 h => ?_)
    refine ax_ior K dX1_look_72 ?_
    refine ax_istore (lv' := [(4, .int (v4 ||| r69)), (3, .int (v3 + (xA_cost σ53 (r53).toNatClampNeg))), (0, .ref (L 0)), (1, .int v1), (2, .int v2), (5, .int v5)]) K dX1_look_73 (by decide) rfl ?_
    refine ax_iinc (lv' := [(5, .int (v5 + (1 : Int32))), (4, .int (v4 ||| r69)), (3, .int (v3 + (xA_cost σ53 (r53).toNatClampNeg))), (0, .ref (L 0)), (1, .int v1), (2, .int v2)]) (v := (v5 + (1 : Int32))) K 5 dX1_look_75 rfl (by rfl) (by decide) rfl ?_
    refine ax_goto (tgt := 25) K dX1_look_78 (by decide) ?_
    exact ax_sub [3, 4, 5, 2, 1, 0] rfl (hK25 v1 v2 (v3 + (xA_cost σ53 (r53).toNatClampNeg)) (v4 ||| r69) (v5 + (1 : Int32)) σ69 h)
set_option maxHeartbeats 4000000 in
theorem kx_look_l25 {Z : AZ} {G : AG} {L : Nat → Nat} {P : Int32 → St → Prop} (K : AK Z G cX1_look RX1 6 (rmH 6)) (E : AEi Z cX1_look .int (xW G L) 0 0 P) : ∀ (n : Nat) (v1 : Int32) (v2 : Int32) (v3 : Int32) (v4 : Int32) (v5 : Int32) (σ : St), wx_look_l25 P  n v1 v2 v3 v4 v5 σ → AX Z 0 0 25 [(0, .ref (L 0)), (1, .int v1), (2, .int v2), (3, .int v3), (4, .int v4), (5, .int v5)] [] (xW G L σ) := by
  intro n
  induction n with
  | zero => intro v1 v2 v3 v4 v5 σ h; exact False.elim h
  | succ n ih =>
    intro v1 v2 v3 v4 v5 σ h
    rw [wx_look_l25_s] at h
    refine ax_iload K 5 rfl dX1_look_25 ?_
    refine ax_iload_n K 2 rfl dX1_look_27 ?_
    refine ax_if_ge (tgt := 40) K dX1_look_28 (by decide) (fun c28 => ?_) (fun c28 => ?_)
    · have h := ax_it h c28
      refine ax_iload_n K 2 rfl dX1_look_40 ?_
      exact ax_sub [0, 1, 2, 3, 4, 5] rfl (kx_look_j41 K E ih v1 v2 v3 v4 v5 v5 v2 σ h)
    · have h := ax_ie h c28
      refine ax_aload_n K 0 rfl dX1_look_31 ?_
      refine xg_menuMany K dX1_look_32 ?_
      refine ax_iload_n K 1 rfl dX1_look_35 ?_
      refine xl_menuMany K h.1 dX1_look_36 ?_
      replace h := h.2
      refine ax_goto (tgt := 41) K dX1_look_37 (by decide) ?_
      exact ax_sub [0, 1, 2, 3, 4, 5] rfl (kx_look_j41 K E ih v1 v2 v3 v4 v5 v5 (xA_menuMany σ (v1).toNatClampNeg) σ h)
set_option maxHeartbeats 4000000 in
theorem mx_look {l : Launch} {G : AG} {L : Nat → Nat} {σ : St} {v1 : Int32} {P : Int32 → St → Prop} (h : wx_look σ v1 P) : CtW l G yX1_look cX1_look 6 (some .int) (rmH 6) [.ref (L 0), .int v1] (xW G L) σ (pI P) := by
  refine CtW.ofI (by decide) (Nat.le_of_ble_eq_true rfl) fun Z _ K E => ?_
  unfold wx_look at h
  show AX Z 0 0 0 [(0, .ref (L 0)), (1, .int v1)] [] (xW G L σ)
  refine ax_aload_n K 0 rfl dX1_look_0 ?_
  refine ax_iload_n K 1 rfl dX1_look_1 ?_
  refine rx_isLaid K (by decide) dX1_look_2 (Nat.le_of_ble_eq_true rfl) h (fun r2 σ2 h => ?_)
  refine ax_if_ne (tgt := 11) K dX1_look_5 (by decide) (fun c5 => ?_) (fun c5 => ?_)
  · have h := ax_ie h c5
    refine ax_aload_n K 0 rfl dX1_look_11 ?_
    refine ax_iload_n K 1 rfl dX1_look_12 ?_
    refine rx_firstBad K (by decide) dX1_look_13 (Nat.le_of_ble_eq_true rfl) h (fun r13 σ13 h => ?_)
    refine ax_istore_n (lv' := [(2, .int r13), (0, .ref (L 0)), (1, .int v1)]) K dX1_look_16 (by decide) rfl ?_
    refine ax_iconst (v := (0 : Int32)) K (by decide) dX1_look_17 ?_
    refine ax_istore_n (lv' := [(3, .int (0 : Int32)), (2, .int r13), (0, .ref (L 0)), (1, .int v1)]) K dX1_look_18 (by decide) rfl ?_
    refine ax_iconst (v := (0 : Int32)) K (by decide) dX1_look_19 ?_
    refine ax_istore (lv' := [(4, .int (0 : Int32)), (3, .int (0 : Int32)), (2, .int r13), (0, .ref (L 0)), (1, .int v1)]) K dX1_look_20 (by decide) rfl ?_
    refine ax_iconst (v := (0 : Int32)) K (by decide) dX1_look_22 ?_
    refine ax_istore (lv' := [(5, .int (0 : Int32)), (4, .int (0 : Int32)), (3, .int (0 : Int32)), (2, .int r13), (0, .ref (L 0)), (1, .int v1)]) K dX1_look_23 (by decide) rfl ?_
    exact ax_sub [4, 5, 3, 2, 1, 0] rfl (h.elim fun n25 h => kx_look_l25 K E  n25 v1 r13 (0 : Int32) (0 : Int32) (0 : Int32) σ13 h)
  · have h := ax_it h c5
    refine ax_bipush (v := (-3 : Int32)) K (by decide) dX1_look_8 ?_
    exact E _ _ _ _ dX1_look_10 rfl h

/-! x.sure -/
set_option maxHeartbeats 4000000 in
theorem kx_sure_j26 {Z : AZ} {G : AG} {L : Nat → Nat} {P : Int32 → St → Prop} (K : AK Z G cX1_sure RX1 6 (rmH 6)) (E : AEi Z cX1_sure .int (xW G L) 0 0 P) (σ : St) (h : wx_sure_j26 P  σ) : AX Z 0 0 26 [(0, .ref (L 0))] [] (xW G L σ) := by
  unfold wx_sure_j26 at h
  refine ax_bipush (v := (-3 : Int32)) K (by decide) dX1_sure_26 ?_
  exact E _ _ _ _ dX1_sure_28 rfl h
set_option maxHeartbeats 4000000 in
theorem kx_sure_j136 {Z : AZ} {G : AG} {L : Nat → Nat} {P : Int32 → St → Prop} (K : AK Z G cX1_sure RX1 6 (rmH 6)) (E : AEi Z cX1_sure .int (xW G L) 0 0 P) {K75 : Int32 → Int32 → Int32 → Int32 → St → Prop} (hK75 : ∀ (v2 : Int32) (v3 : Int32) (v4 : Int32) (v5 : Int32) (σ : St), K75 v2 v3 v4 v5 σ → AX Z 0 0 75 [(0, .ref (L 0)), (2, .int v2), (3, .int v3), (4, .int v4), (5, .int v5)] [] (xW G L σ)) (v2 : Int32) (v4 : Int32) (v5 : Int32) (s0 : Int32) (s1 : Int32) (σ : St) (h : wx_sure_j136 P K75 v2 v4 v5 s0 s1 σ) : AX Z 0 0 136 [(0, .ref (L 0)), (2, .int v2), (4, .int v4), (5, .int v5)] [.int s1, .int s0] (xW G L σ) := by
  unfold wx_sure_j136 at h
  refine ax_ior K dX1_sure_136 ?_
  refine ax_istore_n (lv' := [(3, .int (s0 ||| s1)), (0, .ref (L 0)), (2, .int v2), (4, .int v4), (5, .int v5)]) K dX1_sure_137 (by decide) rfl ?_
  refine ax_iinc (lv' := [(5, .int (v5 + (1 : Int32))), (3, .int (s0 ||| s1)), (0, .ref (L 0)), (2, .int v2), (4, .int v4)]) (v := (v5 + (1 : Int32))) K 4 dX1_sure_138 rfl (by rfl) (by decide) rfl ?_
  refine ax_goto (tgt := 75) K dX1_sure_141 (by decide) ?_
  exact ax_sub [2, 3, 1, 4, 0] rfl (hK75 v2 (s0 ||| s1) v4 (v5 + (1 : Int32)) σ h)
set_option maxHeartbeats 4000000 in
theorem kx_sure_j135 {Z : AZ} {G : AG} {L : Nat → Nat} {P : Int32 → St → Prop} (K : AK Z G cX1_sure RX1 6 (rmH 6)) (E : AEi Z cX1_sure .int (xW G L) 0 0 P) {K75 : Int32 → Int32 → Int32 → Int32 → St → Prop} (hK75 : ∀ (v2 : Int32) (v3 : Int32) (v4 : Int32) (v5 : Int32) (σ : St), K75 v2 v3 v4 v5 σ → AX Z 0 0 75 [(0, .ref (L 0)), (2, .int v2), (3, .int v3), (4, .int v4), (5, .int v5)] [] (xW G L σ)) (v2 : Int32) (v4 : Int32) (v5 : Int32) (s0 : Int32) (σ : St) (h : wx_sure_j135 P K75 v2 v4 v5 s0 σ) : AX Z 0 0 135 [(0, .ref (L 0)), (2, .int v2), (4, .int v4), (5, .int v5)] [.int s0] (xW G L σ) := by
  unfold wx_sure_j135 at h
  refine ax_iconst (v := (0 : Int32)) K (by decide) dX1_sure_135 ?_
  exact ax_sub [0, 1, 2, 3] rfl (kx_sure_j136 K E hK75 v2 v4 v5 s0 (0 : Int32) σ h)
set_option maxHeartbeats 4000000 in
theorem kx_sure_l75 {Z : AZ} {G : AG} {L : Nat → Nat} {P : Int32 → St → Prop} (K : AK Z G cX1_sure RX1 6 (rmH 6)) (E : AEi Z cX1_sure .int (xW G L) 0 0 P) {K144 : Int32 → Int32 → Int32 → St → Prop} (hK144 : ∀ (v2 : Int32) (v3 : Int32) (v4 : Int32) (σ : St), K144 v2 v3 v4 σ → AX Z 0 0 144 [(0, .ref (L 0)), (2, .int v2), (3, .int v3), (4, .int v4)] [] (xW G L σ)) : ∀ (n : Nat) (v2 : Int32) (v3 : Int32) (v4 : Int32) (v5 : Int32) (σ : St), wx_sure_l75 P K144 n v2 v3 v4 v5 σ → AX Z 0 0 75 [(0, .ref (L 0)), (2, .int v2), (3, .int v3), (4, .int v4), (5, .int v5)] [] (xW G L σ) := by
  intro n
  induction n with
  | zero => intro v2 v3 v4 v5 σ h; exact False.elim h
  | succ n ih =>
    intro v2 v3 v4 v5 σ h
    rw [wx_sure_l75_s] at h
    refine ax_iload K 4 rfl dX1_sure_75 ?_
    refine ax_aload_n K 0 rfl dX1_sure_77 ?_
    refine xg_dishes K dX1_sure_78 ?_
    refine ax_icmp_ge (tgt := 144) K dX1_sure_81 (by decide) (fun c81 => ?_) (fun c81 => ?_)
    · have h := ax_it h c81
      exact ax_sub [0, 1, 2, 3] rfl (hK144 v2 v3 v4 σ h)
    · have h := ax_ie h c81
      refine ax_iload K 3 rfl dX1_sure_84 ?_
      refine rx_bitCount K (by decide) dX1_sure_86 (Nat.le_of_ble_eq_true rfl) ?_
      refine ax_iload_n K 1 rfl dX1_sure_89 ?_
      refine ax_iconst (v := (1 : Int32)) K (by decide) dX1_sure_90 ?_
      refine ax_iadd K dX1_sure_91 ?_
      refine ax_icmp_ne (tgt := 144) K dX1_sure_92 (by decide) (fun c92 => ?_) (fun c92 => ?_)
      · have h := ax_ie h c92
        exact ax_sub [0, 1, 2, 3] rfl (hK144 v2 v3 v4 σ h)
      · have h := ax_it h c92
        refine ax_iload_n K 2 rfl dX1_sure_95 ?_
        refine ax_aload_n K 0 rfl dX1_sure_96 ?_
        refine xg_lasts K dX1_sure_97 ?_
        refine ax_iload K 3 rfl dX1_sure_100 ?_
        refine xl_lasts K h.1 dX1_sure_102 ?_
        replace h := h.2
        refine ax_iload K 4 rfl dX1_sure_103 ?_
        refine rx_has K (by decide) dX1_sure_105 (Nat.le_of_ble_eq_true rfl) h (fun r105 h => ?_)
        refine ax_if_eq (tgt := 135) K dX1_sure_108 (by decide) (fun c108 => ?_) (fun c108 => ?_)
        · have h := ax_it h c108
          exact ax_sub [0, 1, 3, 4] rfl (kx_sure_j135 K E ih v2 v4 v5 v3 σ h)
        · have h := ax_ie h c108
          refine ax_aload_n K 0 rfl dX1_sure_111 ?_
          refine xg_many K dX1_sure_112 ?_
          refine ax_iload K 3 rfl dX1_sure_115 ?_
          refine ax_iload K 4 rfl dX1_sure_117 ?_
          refine rx_stateOf K (by decide) dX1_sure_119 (Nat.le_of_ble_eq_true rfl) h (fun r119 h => ?_)
          refine xl_many K h.1 dX1_sure_122 ?_
          replace h := h.2
          refine ax_lconst (v := (0 : Int64)) K (by decide) dX1_sure_123 ?_
          refine ax_lcmp K dX1_sure_124 ?_
          refine ax_if_le (tgt := 135) K dX1_sure_125 (by decide) (fun c125 => ?_) (fun c125 => ?_)
          · have h := ax_it h c125
            exact ax_sub [0, 1, 3, 4] rfl (kx_sure_j135 K E ih v2 v4 v5 v3 σ h)
          · have h := ax_ie h c125
            refine ax_iconst (v := (1 : Int32)) K (by decide) dX1_sure_128 ?_
            refine ax_iload K 4 rfl dX1_sure_129 ?_
            refine ax_ishl K dX1_sure_131 ?_
            refine ax_goto (tgt := 136) K dX1_sure_132 (by decide) ?_
            exact ax_sub [0, 1, 3, 4] rfl (kx_sure_j136 K E ih v2 v4 v5 v3 ((1 : Int32) <<< (v5 &&& 31)) σ h)
set_option maxHeartbeats 4000000 in
theorem kx_sure_j144 {Z : AZ} {G : AG} {L : Nat → Nat} {P : Int32 → St → Prop} (K : AK Z G cX1_sure RX1 6 (rmH 6)) (E : AEi Z cX1_sure .int (xW G L) 0 0 P) {K61 : Int32 → Int32 → Int32 → St → Prop} (hK61 : ∀ (v2 : Int32) (v3 : Int32) (v4 : Int32) (σ : St), K61 v2 v3 v4 σ → AX Z 0 0 61 [(0, .ref (L 0)), (2, .int v2), (3, .int v3), (4, .int v4)] [] (xW G L σ)) (v2 : Int32) (v3 : Int32) (v4 : Int32) (σ : St) (h : wx_sure_j144 P K61 v2 v3 v4 σ) : AX Z 0 0 144 [(0, .ref (L 0)), (2, .int v2), (3, .int v3), (4, .int v4)] [] (xW G L σ) := by
  unfold wx_sure_j144 at h
  refine ax_iinc (lv' := [(4, .int (v4 + (1 : Int32))), (0, .ref (L 0)), (2, .int v2), (3, .int v3)]) (v := (v4 + (1 : Int32))) K 3 dX1_sure_144 rfl (by rfl) (by decide) rfl ?_
  refine ax_goto (tgt := 61) K dX1_sure_147 (by decide) ?_
  exact ax_sub [1, 2, 3, 0] rfl (hK61 v2 v3 (v4 + (1 : Int32)) σ h)
set_option maxHeartbeats 4000000 in
theorem kx_sure_l61 {Z : AZ} {G : AG} {L : Nat → Nat} {P : Int32 → St → Prop} (K : AK Z G cX1_sure RX1 6 (rmH 6)) (E : AEi Z cX1_sure .int (xW G L) 0 0 P) {K163 : Int32 → St → Prop} (hK163 : ∀ (s0 : Int32) (σ : St), K163 s0 σ → AX Z 0 0 163 [(0, .ref (L 0))] [.int s0] (xW G L σ)) : ∀ (n : Nat) (v2 : Int32) (v3 : Int32) (v4 : Int32) (σ : St), wx_sure_l61 P K163 n v2 v3 v4 σ → AX Z 0 0 61 [(0, .ref (L 0)), (2, .int v2), (3, .int v3), (4, .int v4)] [] (xW G L σ) := by
  intro n
  induction n with
  | zero => intro v2 v3 v4 σ h; exact False.elim h
  | succ n ih =>
    intro v2 v3 v4 σ h
    rw [wx_sure_l61_s] at h
    refine ax_iload K 3 rfl dX1_sure_61 ?_
    refine ax_iconst (v := (1 : Int32)) K (by decide) dX1_sure_63 ?_
    refine ax_aload_n K 0 rfl dX1_sure_64 ?_
    refine xg_dishes K dX1_sure_65 ?_
    refine ax_ishl K dX1_sure_68 ?_
    refine ax_icmp_ge (tgt := 150) K dX1_sure_69 (by decide) (fun c69 => ?_) (fun c69 => ?_)
    · have h := ax_it h c69
      refine ax_iload_n K 2 rfl dX1_sure_150 ?_
      refine rx_bitCount K (by decide) dX1_sure_151 (Nat.le_of_ble_eq_true rfl) ?_
      refine ax_iconst (v := (1 : Int32)) K (by decide) dX1_sure_154 ?_
      refine ax_icmp_ne (tgt := 162) K dX1_sure_155 (by decide) (fun c155 => ?_) (fun c155 => ?_)
      · have h := ax_ie h c155
        refine ax_iconst (v := (0 : Int32)) K (by decide) dX1_sure_162 ?_
        exact ax_sub [0] rfl (hK163 (0 : Int32) σ h)
      · have h := ax_it h c155
        refine ax_iload_n K 2 rfl dX1_sure_158 ?_
        refine ax_goto (tgt := 163) K dX1_sure_159 (by decide) ?_
        exact ax_sub [0] rfl (hK163 v3 σ h)
    · have h := ax_ie h c69
      refine ax_iconst (v := (0 : Int32)) K (by decide) dX1_sure_72 ?_
      refine ax_istore (lv' := [(5, .int (0 : Int32)), (0, .ref (L 0)), (2, .int v2), (3, .int v3), (4, .int v4)]) K dX1_sure_73 (by decide) rfl ?_
      exact ax_sub [1, 2, 3, 4, 0] rfl (h.elim fun n75 h => kx_sure_l75 K E (kx_sure_j144 K E ih) n75 v2 v3 v4 (0 : Int32) σ h)
set_option maxHeartbeats 4000000 in
theorem kx_sure_j163 {Z : AZ} {G : AG} {L : Nat → Nat} {P : Int32 → St → Prop} (K : AK Z G cX1_sure RX1 6 (rmH 6)) (E : AEi Z cX1_sure .int (xW G L) 0 0 P) (s0 : Int32) (σ : St) (h : wx_sure_j163 P  s0 σ) : AX Z 0 0 163 [(0, .ref (L 0))] [.int s0] (xW G L σ) := by
  unfold wx_sure_j163 at h
  exact E _ _ _ _ dX1_sure_163 rfl h
set_option maxHeartbeats 4000000 in
theorem mx_sure {l : Launch} {G : AG} {L : Nat → Nat} {σ : St} {v1 : Int32} {v2 : Int32} {P : Int32 → St → Prop} (h : wx_sure σ v1 v2 P) : CtW l G yX1_sure cX1_sure 6 (some .int) (rmH 6) [.ref (L 0), .int v1, .int v2] (xW G L) σ (pI P) := by
  refine CtW.ofI (by decide) (Nat.le_of_ble_eq_true rfl) fun Z _ K E => ?_
  unfold wx_sure at h
  show AX Z 0 0 0 [(0, .ref (L 0)), (1, .int v1), (2, .int v2)] [] (xW G L σ)
  refine ax_aload_n K 0 rfl dX1_sure_0 ?_
  refine ax_iload_n K 1 rfl dX1_sure_1 ?_
  refine rx_isLaid K (by decide) dX1_sure_2 (Nat.le_of_ble_eq_true rfl) h (fun r2 σ2 h => ?_)
  refine ax_if_eq (tgt := 26) K dX1_sure_5 (by decide) (fun c5 => ?_) (fun c5 => ?_)
  · have h := ax_it h c5
    exact ax_sub [0] rfl (kx_sure_j26 K E  σ2 h)
  · have h := ax_ie h c5
    refine ax_iload_n K 2 rfl dX1_sure_8 ?_
    refine ax_i2l K dX1_sure_9 ?_
    refine ax_lconst (v := (0 : Int64)) K (by decide) dX1_sure_10 ?_
    refine ax_aload_n K 0 rfl dX1_sure_11 ?_
    refine xg_menuMany K dX1_sure_12 ?_
    refine ax_iload_n K 1 rfl dX1_sure_15 ?_
    refine xl_menuMany K h.1 dX1_sure_16 ?_
    replace h := h.2
    refine ax_iconst (v := (1 : Int32)) K (by decide) dX1_sure_17 ?_
    refine ax_isub K dX1_sure_18 ?_
    refine ax_i2l K dX1_sure_19 ?_
    refine rx_in K (by decide) dX1_sure_20 (Nat.le_of_ble_eq_true rfl) h (fun r20 h => ?_)
    refine ax_if_ne (tgt := 29) K dX1_sure_23 (by decide) (fun c23 => ?_) (fun c23 => ?_)
    · have h := ax_ie h c23
      refine ax_aload_n K 0 rfl dX1_sure_29 ?_
      refine ax_iload_n K 1 rfl dX1_sure_30 ?_
      refine rx_countsFills K (by decide) dX1_sure_31 (Nat.le_of_ble_eq_true rfl) h (fun σ31 h => ?_)
      refine ax_aload_n K 0 rfl dX1_sure_34 ?_
      refine xg_many K dX1_sure_35 ?_
      refine ax_iconst (v := (0 : Int32)) K (by decide) dX1_sure_38 ?_
      refine ax_iconst (v := (-1 : Int32)) K (by decide) dX1_sure_39 ?_
      refine rx_stateOf K (by decide) dX1_sure_40 (Nat.le_of_ble_eq_true rfl) h (fun r40 h => ?_)
      refine xl_many K h.1 dX1_sure_43 ?_
      replace h := h.2
      refine ax_lconst (v := (0 : Int64)) K (by decide) dX1_sure_44 ?_
      refine ax_lcmp K dX1_sure_45 ?_
      refine ax_if_ne (tgt := 51) K dX1_sure_46 (by decide) (fun c46 => ?_) (fun c46 => ?_)
      · have h := ax_ie h c46
        refine ax_aload_n K 0 rfl dX1_sure_51 ?_
        refine ax_iload_n K 1 rfl dX1_sure_52 ?_
        refine rx_reachesBy K (by decide) dX1_sure_53 (Nat.le_of_ble_eq_true rfl) h (fun σ53 h => ?_)
        refine ax_iconst (v := (0 : Int32)) K (by decide) dX1_sure_56 ?_
        refine ax_istore_n (lv' := [(3, .int (0 : Int32)), (0, .ref (L 0)), (1, .int v1), (2, .int v2)]) K dX1_sure_57 (by decide) rfl ?_
        refine ax_iconst (v := (0 : Int32)) K (by decide) dX1_sure_58 ?_
        refine ax_istore (lv' := [(4, .int (0 : Int32)), (3, .int (0 : Int32)), (0, .ref (L 0)), (1, .int v1), (2, .int v2)]) K dX1_sure_59 (by decide) rfl ?_
        exact ax_sub [2, 4, 1, 0] rfl (h.elim fun n61 h => kx_sure_l61 K E (kx_sure_j163 K E) n61 v2 (0 : Int32) (0 : Int32) σ53 h)
      · have h := ax_it h c46
        refine ax_iconst (v := (0 : Int32)) K (by decide) dX1_sure_49 ?_
        exact E _ _ _ _ dX1_sure_50 rfl h
    · have h := ax_it h c23
      exact ax_sub [0] rfl (kx_sure_j26 K E  σ2 h)

/-! x.eats -/
set_option maxHeartbeats 4000000 in
theorem kx_eats_j85 {Z : AZ} {G : AG} {L : Nat → Nat} {P : Int32 → St → Prop} (K : AK Z G cX1_eats RX1 6 (rmH 61)) (E : AEi Z cX1_eats .int (xW G L) 0 0 P) {K29 : Int32 → Int32 → Int32 → Int32 → Int32 → St → Prop} (hK29 : ∀ (v1 : Int32) (v2 : Int32) (v3 : Int32) (v4 : Int32) (v5 : Int32) (σ : St), K29 v1 v2 v3 v4 v5 σ → AX Z 0 0 29 [(0, .ref (L 0)), (1, .int v1), (2, .int v2), (3, .int v3), (4, .int v4), (5, .int v5)] [] (xW G L σ)) (v1 : Int32) (v2 : Int32) (v3 : Int32) (v4 : Int32) (v5 : Int32) (σ : St) (h : wx_eats_j85 P K29 v1 v2 v3 v4 v5 σ) : AX Z 0 0 85 [(0, .ref (L 0)), (1, .int v1), (2, .int v2), (3, .int v3), (4, .int v4), (5, .int v5)] [] (xW G L σ) := by
  unfold wx_eats_j85 at h
  refine ax_iinc (lv' := [(5, .int (v5 + (1 : Int32))), (0, .ref (L 0)), (1, .int v1), (2, .int v2), (3, .int v3), (4, .int v4)]) (v := (v5 + (1 : Int32))) K 5 dX1_eats_85 rfl (by rfl) (by decide) rfl ?_
  refine ax_goto (tgt := 29) K dX1_eats_88 (by decide) ?_
  exact ax_sub [1, 2, 3, 4, 5, 0] rfl (hK29 v1 v2 v3 v4 (v5 + (1 : Int32)) σ h)
set_option maxHeartbeats 4000000 in
theorem kx_eats_l29 {Z : AZ} {G : AG} {L : Nat → Nat} {P : Int32 → St → Prop} (K : AK Z G cX1_eats RX1 6 (rmH 61)) (E : AEi Z cX1_eats .int (xW G L) 0 0 P) : ∀ (n : Nat) (v1 : Int32) (v2 : Int32) (v3 : Int32) (v4 : Int32) (v5 : Int32) (σ : St), wx_eats_l29 P  n v1 v2 v3 v4 v5 σ → AX Z 0 0 29 [(0, .ref (L 0)), (1, .int v1), (2, .int v2), (3, .int v3), (4, .int v4), (5, .int v5)] [] (xW G L σ) := by
  intro n
  induction n with
  | zero => intro v1 v2 v3 v4 v5 σ h; exact False.elim h
  | succ n ih =>
    intro v1 v2 v3 v4 v5 σ h
    rw [wx_eats_l29_s] at h
    refine ax_iload K 5 rfl dX1_eats_29 ?_
    refine ax_aload_n K 0 rfl dX1_eats_31 ?_
    refine xg_menuMany K dX1_eats_32 ?_
    refine ax_iload_n K 1 rfl dX1_eats_35 ?_
    refine xl_menuMany K h.1 dX1_eats_36 ?_
    replace h := h.2
    refine ax_icmp_ge (tgt := 91) K dX1_eats_37 (by decide) (fun c37 => ?_) (fun c37 => ?_)
    · have h := ax_it h c37
      refine ax_aload_n K 0 rfl dX1_eats_91 ?_
      refine ax_iconst (v := (0 : Int32)) K (by decide) dX1_eats_92 ?_
      refine xp_rowMany K dX1_eats_93 ?_
      refine ax_aload_n K 0 rfl dX1_eats_96 ?_
      refine ax_iload_n K 3 rfl dX1_eats_97 ?_
      refine rx_tells K (by decide) dX1_eats_98 (Nat.le_of_ble_eq_true rfl) h (fun σ98 h => ?_)
      refine ax_aload_n K 0 rfl dX1_eats_101 ?_
      refine ax_aload_n K 0 rfl dX1_eats_102 ?_
      refine ax_iload_n K 1 rfl dX1_eats_103 ?_
      refine ax_iload_n K 2 rfl dX1_eats_104 ?_
      refine rx_eatenBy K (by decide) dX1_eats_105 (Nat.le_of_ble_eq_true rfl) h (fun r105 σ105 h => ?_)
      refine rx_tells K (by decide) dX1_eats_108 (Nat.le_of_ble_eq_true rfl) h (fun σ108 h => ?_)
      refine ax_aload_n K 0 rfl dX1_eats_111 ?_
      refine ax_iload K 4 rfl dX1_eats_112 ?_
      refine rx_tells K (by decide) dX1_eats_114 (Nat.le_of_ble_eq_true rfl) h (fun σ114 h => ?_)
      refine ax_iload_n K 3 rfl dX1_eats_117 ?_
      refine rx_bitCount K (by decide) dX1_eats_118 (Nat.le_of_ble_eq_true rfl) ?_
      exact E _ _ _ _ dX1_eats_121 rfl h
    · have h := ax_ie h c37
      refine ax_aload_n K 0 rfl dX1_eats_40 ?_
      refine ax_aload_n K 0 rfl dX1_eats_41 ?_
      refine ax_iload_n K 1 rfl dX1_eats_42 ?_
      refine ax_iload K 5 rfl dX1_eats_43 ?_
      refine rx_dishAt K (by decide) dX1_eats_45 (Nat.le_of_ble_eq_true rfl) h (fun r45 σ45 h => ?_)
      refine rx_hungryAt K (by decide) dX1_eats_48 (Nat.le_of_ble_eq_true rfl) h (fun r48 σ48 h => ?_)
      refine ax_iload_n K 2 rfl dX1_eats_51 ?_
      refine rx_has K (by decide) dX1_eats_52 (Nat.le_of_ble_eq_true rfl) h (fun r52 h => ?_)
      refine ax_if_eq (tgt := 61) K dX1_eats_55 (by decide) (fun c55 => ?_) (fun c55 => ?_)
      · have h := ax_it h c55
        refine ax_iload_n K 3 rfl dX1_eats_61 ?_
        refine ax_iconst (v := (1 : Int32)) K (by decide) dX1_eats_62 ?_
        refine ax_iload K 5 rfl dX1_eats_63 ?_
        refine ax_ishl K dX1_eats_65 ?_
        refine ax_ior K dX1_eats_66 ?_
        refine ax_istore_n (lv' := [(3, .int (v3 ||| ((1 : Int32) <<< (v5 &&& 31)))), (0, .ref (L 0)), (1, .int v1), (2, .int v2), (4, .int v4), (5, .int v5)]) K dX1_eats_67 (by decide) rfl ?_
        refine ax_iload K 4 rfl dX1_eats_68 ?_
        refine ax_aload_n K 1 rfl dX1_eats_70 ?_
        refine ax_iload_n K 3 rfl dX1_eats_71 ?_
        refine ax_aload_n K 1 rfl dX1_eats_72 ?_
        refine ax_iload_n K 2 rfl dX1_eats_73 ?_
        refine ax_iload K 5 rfl dX1_eats_74 ?_
        refine rx_dishAt K (by decide) dX1_eats_76 (Nat.le_of_ble_eq_true rfl) h (fun r76 σ76 h => ?_)
        refine rx_joyOf K (by decide) dX1_eats_79 (Nat.le_of_ble_eq_true rfl) h (fun r79 σ79 h => ?_)
        refine ax_iadd K dX1_eats_82 ?_
        refine ax_istore (lv' := [(4, .int (v4 + r79)), (3, .int (v3 ||| ((1 : Int32) <<< (v5 &&& 31)))), (0, .ref (L 0)), (1, .int v1), (2, .int v2), (5, .int v5)]) K dX1_eats_83 (by decide) rfl ?_
        exact ax_sub [2, 3, 4, 1, 0, 5] rfl (kx_eats_j85 K E ih v1 v2 (v3 ||| ((1 : Int32) <<< (v5 &&& 31))) (v4 + r79) v5 σ79 h)
      · have h := ax_ie h c55
        refine ax_goto (tgt := 85) K dX1_eats_58 (by decide) ?_
        exact ax_sub [0, 1, 2, 3, 4, 5] rfl (kx_eats_j85 K E ih v1 v2 v3 v4 v5 σ48 h)
set_option maxHeartbeats 4000000 in
theorem mx_eats {l : Launch} {G : AG} {L : Nat → Nat} {σ : St} {v1 : Int32} {v2 : Int32} {P : Int32 → St → Prop} (h : wx_eats σ v1 v2 P) : CtW l G yX1_eats cX1_eats 6 (some .int) (rmH 61) [.ref (L 0), .int v1, .int v2] (xW G L) σ (pI P) := by
  refine CtW.ofI (by decide) (Nat.le_of_ble_eq_true rfl) fun Z _ K E => ?_
  unfold wx_eats at h
  show AX Z 0 0 0 [(0, .ref (L 0)), (1, .int v1), (2, .int v2)] [] (xW G L σ)
  refine ax_aload_n K 0 rfl dX1_eats_0 ?_
  refine ax_iload_n K 2 rfl dX1_eats_1 ?_
  refine rx_isGuest K (by decide) dX1_eats_2 (Nat.le_of_ble_eq_true rfl) h (fun r2 σ2 h => ?_)
  refine ax_if_ne (tgt := 10) K dX1_eats_5 (by decide) (fun c5 => ?_) (fun c5 => ?_)
  · have h := ax_ie h c5
    refine ax_aload_n K 0 rfl dX1_eats_10 ?_
    refine ax_iload_n K 1 rfl dX1_eats_11 ?_
    refine rx_isWhole K (by decide) dX1_eats_12 (Nat.le_of_ble_eq_true rfl) h (fun r12 σ12 h => ?_)
    refine ax_if_ne (tgt := 21) K dX1_eats_15 (by decide) (fun c15 => ?_) (fun c15 => ?_)
    · have h := ax_ie h c15
      refine ax_iconst (v := (0 : Int32)) K (by decide) dX1_eats_21 ?_
      refine ax_istore_n (lv' := [(3, .int (0 : Int32)), (0, .ref (L 0)), (1, .int v1), (2, .int v2)]) K dX1_eats_22 (by decide) rfl ?_
      refine ax_iconst (v := (0 : Int32)) K (by decide) dX1_eats_23 ?_
      refine ax_istore (lv' := [(4, .int (0 : Int32)), (3, .int (0 : Int32)), (0, .ref (L 0)), (1, .int v1), (2, .int v2)]) K dX1_eats_24 (by decide) rfl ?_
      refine ax_iconst (v := (0 : Int32)) K (by decide) dX1_eats_26 ?_
      refine ax_istore (lv' := [(5, .int (0 : Int32)), (4, .int (0 : Int32)), (3, .int (0 : Int32)), (0, .ref (L 0)), (1, .int v1), (2, .int v2)]) K dX1_eats_27 (by decide) rfl ?_
      exact ax_sub [3, 4, 5, 2, 1, 0] rfl (h.elim fun n29 h => kx_eats_l29 K E  n29 v1 v2 (0 : Int32) (0 : Int32) (0 : Int32) σ12 h)
    · have h := ax_it h c15
      refine ax_bipush (v := (-3 : Int32)) K (by decide) dX1_eats_18 ?_
      exact E _ _ _ _ dX1_eats_20 rfl h
  · have h := ax_it h c5
    refine ax_iconst (v := (-1 : Int32)) K (by decide) dX1_eats_8 ?_
    exact E _ _ _ _ dX1_eats_9 rfl h

/-! x.joyIn -/
set_option maxHeartbeats 4000000 in
theorem kx_joyIn_j35 {Z : AZ} {G : AG} {L : Nat → Nat} {P : Int32 → St → Prop} (K : AK Z G cX1_joyIn RX1 5 (rmH 61)) (E : AEi Z cX1_joyIn .int (xW G L) 0 0 P) {K5 : Int32 → Int32 → Int32 → Int32 → St → Prop} (hK5 : ∀ (v1 : Int32) (v2 : Int32) (v3 : Int32) (v4 : Int32) (σ : St), K5 v1 v2 v3 v4 σ → AX Z 0 0 5 [(0, .ref (L 0)), (1, .int v1), (2, .int v2), (3, .int v3), (4, .int v4)] [] (xW G L σ)) (v1 : Int32) (v2 : Int32) (v4 : Int32) (s0 : Int32) (s1 : Int32) (σ : St) (h : wx_joyIn_j35 P K5 v1 v2 v4 s0 s1 σ) : AX Z 0 0 35 [(0, .ref (L 0)), (1, .int v1), (2, .int v2), (4, .int v4)] [.int s1, .int s0] (xW G L σ) := by
  unfold wx_joyIn_j35 at h
  refine ax_iadd K dX1_joyIn_35 ?_
  refine ax_istore_n (lv' := [(3, .int (s0 + s1)), (0, .ref (L 0)), (1, .int v1), (2, .int v2), (4, .int v4)]) K dX1_joyIn_36 (by decide) rfl ?_
  refine ax_iinc (lv' := [(4, .int (v4 + (1 : Int32))), (3, .int (s0 + s1)), (0, .ref (L 0)), (1, .int v1), (2, .int v2)]) (v := (v4 + (1 : Int32))) K 4 dX1_joyIn_37 rfl (by rfl) (by decide) rfl ?_
  refine ax_goto (tgt := 5) K dX1_joyIn_40 (by decide) ?_
  exact ax_sub [2, 3, 4, 1, 0] rfl (hK5 v1 v2 (s0 + s1) (v4 + (1 : Int32)) σ h)
set_option maxHeartbeats 4000000 in
theorem kx_joyIn_l5 {Z : AZ} {G : AG} {L : Nat → Nat} {P : Int32 → St → Prop} (K : AK Z G cX1_joyIn RX1 5 (rmH 61)) (E : AEi Z cX1_joyIn .int (xW G L) 0 0 P) : ∀ (n : Nat) (v1 : Int32) (v2 : Int32) (v3 : Int32) (v4 : Int32) (σ : St), wx_joyIn_l5 P  n v1 v2 v3 v4 σ → AX Z 0 0 5 [(0, .ref (L 0)), (1, .int v1), (2, .int v2), (3, .int v3), (4, .int v4)] [] (xW G L σ) := by
  intro n
  induction n with
  | zero => intro v1 v2 v3 v4 σ h; exact False.elim h
  | succ n ih =>
    intro v1 v2 v3 v4 σ h
    rw [wx_joyIn_l5_s] at h
    refine ax_iload K 4 rfl dX1_joyIn_5 ?_
    refine ax_aload_n K 0 rfl dX1_joyIn_7 ?_
    refine xg_dishes K dX1_joyIn_8 ?_
    refine ax_icmp_ge (tgt := 43) K dX1_joyIn_11 (by decide) (fun c11 => ?_) (fun c11 => ?_)
    · have h := ax_it h c11
      refine ax_iload_n K 3 rfl dX1_joyIn_43 ?_
      exact E _ _ _ _ dX1_joyIn_44 rfl h
    · have h := ax_ie h c11
      refine ax_iload_n K 3 rfl dX1_joyIn_14 ?_
      refine ax_iload_n K 2 rfl dX1_joyIn_15 ?_
      refine ax_iload K 4 rfl dX1_joyIn_16 ?_
      refine rx_has K (by decide) dX1_joyIn_18 (Nat.le_of_ble_eq_true rfl) h (fun r18 h => ?_)
      refine ax_if_eq (tgt := 34) K dX1_joyIn_21 (by decide) (fun c21 => ?_) (fun c21 => ?_)
      · have h := ax_it h c21
        refine ax_iconst (v := (0 : Int32)) K (by decide) dX1_joyIn_34 ?_
        exact ax_sub [0, 1, 2, 4] rfl (kx_joyIn_j35 K E ih v1 v2 v4 v3 (0 : Int32) σ h)
      · have h := ax_ie h c21
        refine ax_aload_n K 0 rfl dX1_joyIn_24 ?_
        refine ax_iload_n K 1 rfl dX1_joyIn_25 ?_
        refine ax_iload K 4 rfl dX1_joyIn_26 ?_
        refine rx_joyOf K (by decide) dX1_joyIn_28 (Nat.le_of_ble_eq_true rfl) h (fun r28 σ28 h => ?_)
        refine ax_goto (tgt := 35) K dX1_joyIn_31 (by decide) ?_
        exact ax_sub [0, 1, 2, 4] rfl (kx_joyIn_j35 K E ih v1 v2 v4 v3 r28 σ28 h)
set_option maxHeartbeats 4000000 in
theorem mx_joyIn {l : Launch} {G : AG} {L : Nat → Nat} {σ : St} {v1 : Int32} {v2 : Int32} {P : Int32 → St → Prop} (h : wx_joyIn σ v1 v2 P) : CtW l G yX1_joyIn cX1_joyIn 5 (some .int) (rmH 61) [.ref (L 0), .int v1, .int v2] (xW G L) σ (pI P) := by
  refine CtW.ofI (by decide) (Nat.le_of_ble_eq_true rfl) fun Z _ K E => ?_
  unfold wx_joyIn at h
  show AX Z 0 0 0 [(0, .ref (L 0)), (1, .int v1), (2, .int v2)] [] (xW G L σ)
  refine ax_iconst (v := (0 : Int32)) K (by decide) dX1_joyIn_0 ?_
  refine ax_istore_n (lv' := [(3, .int (0 : Int32)), (0, .ref (L 0)), (1, .int v1), (2, .int v2)]) K dX1_joyIn_1 (by decide) rfl ?_
  refine ax_iconst (v := (0 : Int32)) K (by decide) dX1_joyIn_2 ?_
  refine ax_istore (lv' := [(4, .int (0 : Int32)), (3, .int (0 : Int32)), (0, .ref (L 0)), (1, .int v1), (2, .int v2)]) K dX1_joyIn_3 (by decide) rfl ?_
  exact ax_sub [2, 3, 4, 1, 0] rfl (h.elim fun n5 h => kx_joyIn_l5 K E  n5 v1 v2 (0 : Int32) (0 : Int32) σ h)
theorem rx_joyIn {Z : AZ} {G : AG} {cc : ByteArray} {mL hh pc : Nat} {lv : List (Nat × Value)} {rest : List Value} {L : Nat → Nat} {σ : St} (K : AK Z G cc RX1 mL (rmH hh)) (hlt : 61 < hh) (d : decode cc pc = .ok (.invokevirtual 399, 3)) (hrest : (rest.map fun v => v.category).sum ≤ 8) {v1 : Int32} {v2 : Int32} {P : Int32 → St → Prop} (h : sx_joyIn σ v1 v2 P) (kk : ∀ (r : Int32) (σ' : St), P r σ' → AX Z 0 0 (pc + 3) lv (.int r :: rest) (xW G L σ')) : AX Z 0 0 pc lv (.int v2 :: .int v1 :: .ref (L 0) :: rest) (xW G L σ) :=
  ax_callV (N0 := 2) (As := [.int v1, .int v2]) K (mx_joyIn (sx_joyIn_ok h)) q767 q769 qs41 q117 q770 ⟨rfl, by decide, by decide, by decide⟩ rfl ⟨by show 61 + 1 + 1 ≤ hh + 1; omega, by show 8 + (5 + 11) + 60 * (61 + 1) ≤ 60 * (hh + 1); omega⟩ ⟨Nat.zero_le _, Nat.zero_le _⟩ rfl rfl rfl hrest d (fun r σ' hp => by obtain ⟨v, rfl, hp⟩ := hp; exact kk v σ' hp)
/-! x.joyOfAll -/
set_option maxHeartbeats 4000000 in
theorem kx_joyOfAll_l4 {Z : AZ} {G : AG} {L : Nat → Nat} {P : Int32 → St → Prop} (K : AK Z G cX1_joyOfAll RX1 4 (rmH 61)) (E : AEi Z cX1_joyOfAll .int (xW G L) 0 0 P) : ∀ (n : Nat) (v1 : Int32) (v2 : Int32) (v3 : Int32) (σ : St), wx_joyOfAll_l4 P  n v1 v2 v3 σ → AX Z 0 0 4 [(0, .ref (L 0)), (1, .int v1), (2, .int v2), (3, .int v3)] [] (xW G L σ) := by
  intro n
  induction n with
  | zero => intro v1 v2 v3 σ h; exact False.elim h
  | succ n ih =>
    intro v1 v2 v3 σ h
    rw [wx_joyOfAll_l4_s] at h
    refine ax_iload_n K 3 rfl dX1_joyOfAll_4 ?_
    refine ax_aload_n K 0 rfl dX1_joyOfAll_5 ?_
    refine xg_guests K dX1_joyOfAll_6 ?_
    refine ax_icmp_ge (tgt := 27) K dX1_joyOfAll_9 (by decide) (fun c9 => ?_) (fun c9 => ?_)
    · have h := ax_it h c9
      refine ax_iload_n K 2 rfl dX1_joyOfAll_27 ?_
      exact E _ _ _ _ dX1_joyOfAll_28 rfl h
    · have h := ax_ie h c9
      refine ax_iload_n K 2 rfl dX1_joyOfAll_12 ?_
      refine ax_aload_n K 0 rfl dX1_joyOfAll_13 ?_
      refine ax_iload_n K 3 rfl dX1_joyOfAll_14 ?_
      refine ax_iload_n K 1 rfl dX1_joyOfAll_15 ?_
      refine rx_joyOf K (by decide) dX1_joyOfAll_16 (Nat.le_of_ble_eq_true rfl) h (fun r16 σ16 h => ?_)
      refine ax_iadd K dX1_joyOfAll_19 ?_
      refine ax_istore_n (lv' := [(2, .int (v2 + r16)), (0, .ref (L 0)), (1, .int v1), (3, .int v3)]) K dX1_joyOfAll_20 (by decide) rfl ?_
      refine ax_iinc (lv' := [(3, .int (v3 + (1 : Int32))), (2, .int (v2 + r16)), (0, .ref (L 0)), (1, .int v1)]) (v := (v3 + (1 : Int32))) K 3 dX1_joyOfAll_21 rfl (by rfl) (by decide) rfl ?_
      refine ax_goto (tgt := 4) K dX1_joyOfAll_24 (by decide) ?_
      exact ax_sub [2, 3, 1, 0] rfl (ih v1 (v2 + r16) (v3 + (1 : Int32)) σ16 h)
set_option maxHeartbeats 4000000 in
theorem mx_joyOfAll {l : Launch} {G : AG} {L : Nat → Nat} {σ : St} {v1 : Int32} {P : Int32 → St → Prop} (h : wx_joyOfAll σ v1 P) : CtW l G yX1_joyOfAll cX1_joyOfAll 4 (some .int) (rmH 61) [.ref (L 0), .int v1] (xW G L) σ (pI P) := by
  refine CtW.ofI (by decide) (Nat.le_of_ble_eq_true rfl) fun Z _ K E => ?_
  unfold wx_joyOfAll at h
  show AX Z 0 0 0 [(0, .ref (L 0)), (1, .int v1)] [] (xW G L σ)
  refine ax_iconst (v := (0 : Int32)) K (by decide) dX1_joyOfAll_0 ?_
  refine ax_istore_n (lv' := [(2, .int (0 : Int32)), (0, .ref (L 0)), (1, .int v1)]) K dX1_joyOfAll_1 (by decide) rfl ?_
  refine ax_iconst (v := (0 : Int32)) K (by decide) dX1_joyOfAll_2 ?_
  refine ax_istore_n (lv' := [(3, .int (0 : Int32)), (2, .int (0 : Int32)), (0, .ref (L 0)), (1, .int v1)]) K dX1_joyOfAll_3 (by decide) rfl ?_
  exact ax_sub [2, 3, 1, 0] rfl (h.elim fun n4 h => kx_joyOfAll_l4 K E  n4 v1 (0 : Int32) (0 : Int32) σ h)
theorem rx_joyOfAll {Z : AZ} {G : AG} {cc : ByteArray} {mL hh pc : Nat} {lv : List (Nat × Value)} {rest : List Value} {L : Nat → Nat} {σ : St} (K : AK Z G cc RX1 mL (rmH hh)) (hlt : 61 < hh) (d : decode cc pc = .ok (.invokevirtual 263, 3)) (hrest : (rest.map fun v => v.category).sum ≤ 8) {v1 : Int32} {P : Int32 → St → Prop} (h : sx_joyOfAll σ v1 P) (kk : ∀ (r : Int32) (σ' : St), P r σ' → AX Z 0 0 (pc + 3) lv (.int r :: rest) (xW G L σ')) : AX Z 0 0 pc lv (.int v1 :: .ref (L 0) :: rest) (xW G L σ) :=
  ax_callV (N0 := 1) (As := [.int v1]) K (mx_joyOfAll (sx_joyOfAll_ok h)) q834 q836 qs48 q117 q837 ⟨rfl, by decide, by decide, by decide⟩ rfl ⟨by show 61 + 1 + 1 ≤ hh + 1; omega, by show 8 + (4 + 11) + 60 * (61 + 1) ≤ 60 * (hh + 1); omega⟩ ⟨Nat.zero_le _, Nat.zero_le _⟩ rfl rfl rfl hrest d (fun r σ' hp => by obtain ⟨v, rfl, hp⟩ := hp; exact kk v σ' hp)
/-! x.best -/
set_option maxHeartbeats 4000000 in
theorem kx_best_l43 {Z : AZ} {G : AG} {L : Nat → Nat} {P : Int32 → St → Prop} (K : AK Z G cX1_best RX1 7 (rmH 62)) (E : AEi Z cX1_best .int (xW G L) 0 0 P) {K94 : Int32 → Int32 → Int32 → Int32 → Int32 → St → Prop} (hK94 : ∀ (v1 : Int32) (v2 : Int32) (v3 : Int32) (s1 : Int32) (s2 : Int32) (σ : St), K94 v1 v2 v3 s1 s2 σ → AX Z 0 0 94 [(0, .ref (L 0)), (1, .int v1), (2, .int v2), (3, .int v3)] [.int s2, .int s1, .ref (L 23)] (xW G L σ)) : ∀ (n : Nat) (v1 : Int32) (v2 : Int32) (v3 : Int32) (v4 : Int32) (v5 : Int32) (v6 : Int32) (σ : St), wx_best_l43 P K94 n v1 v2 v3 v4 v5 v6 σ → AX Z 0 0 43 [(0, .ref (L 0)), (1, .int v1), (2, .int v2), (3, .int v3), (4, .int v4), (5, .int v5), (6, .int v6)] [] (xW G L σ) := by
  intro n
  induction n with
  | zero => intro v1 v2 v3 v4 v5 v6 σ h; exact False.elim h
  | succ n ih =>
    intro v1 v2 v3 v4 v5 v6 σ h
    rw [wx_best_l43_s] at h
    refine ax_iload K 6 rfl dX1_best_43 ?_
    refine ax_aload_n K 0 rfl dX1_best_45 ?_
    refine xg_guests K dX1_best_46 ?_
    refine ax_icmp_ge (tgt := 71) K dX1_best_49 (by decide) (fun c49 => ?_) (fun c49 => ?_)
    · have h := ax_it h c49
      refine ax_aload_n K 0 rfl dX1_best_71 ?_
      refine xg_worth K dX1_best_72 ?_
      refine ax_iload_n K 3 rfl dX1_best_75 ?_
      refine ax_aload_n K 0 rfl dX1_best_76 ?_
      refine ax_iload K 4 rfl dX1_best_77 ?_
      refine rx_costOf K (by decide) dX1_best_79 (Nat.le_of_ble_eq_true rfl) h (fun r79 σ79 h => ?_)
      refine ax_iload_n K 2 rfl dX1_best_82 ?_
      refine ax_icmp_gt (tgt := 91) K dX1_best_83 (by decide) (fun c83 => ?_) (fun c83 => ?_)
      · have h := ax_it h c83
        refine ax_ldcw (v := (-1000000 : Int32)) K q687 dX1_best_91 ?_
        exact ax_sub [0, 1, 2, 3] rfl (hK94 v1 v2 v3 v3 (-1000000 : Int32) σ79 h)
      · have h := ax_ie h c83
        refine ax_iload K 5 rfl dX1_best_86 ?_
        refine ax_goto (tgt := 94) K dX1_best_88 (by decide) ?_
        exact ax_sub [0, 1, 2, 3] rfl (hK94 v1 v2 v3 v3 v5 σ79 h)
    · have h := ax_ie h c49
      refine ax_iload K 5 rfl dX1_best_52 ?_
      refine ax_aload_n K 0 rfl dX1_best_54 ?_
      refine ax_iload K 6 rfl dX1_best_55 ?_
      refine ax_iload K 4 rfl dX1_best_57 ?_
      refine rx_joyIn K (by decide) dX1_best_59 (Nat.le_of_ble_eq_true rfl) h (fun r59 σ59 h => ?_)
      refine ax_iadd K dX1_best_62 ?_
      refine ax_istore (lv' := [(5, .int (v5 + r59)), (0, .ref (L 0)), (1, .int v1), (2, .int v2), (3, .int v3), (4, .int v4), (6, .int v6)]) K dX1_best_63 (by decide) rfl ?_
      refine ax_iinc (lv' := [(6, .int (v6 + (1 : Int32))), (5, .int (v5 + r59)), (0, .ref (L 0)), (1, .int v1), (2, .int v2), (3, .int v3), (4, .int v4)]) (v := (v6 + (1 : Int32))) K 6 dX1_best_65 rfl (by rfl) (by decide) rfl ?_
      refine ax_goto (tgt := 43) K dX1_best_68 (by decide) ?_
      exact ax_sub [2, 3, 4, 5, 6, 1, 0] rfl (ih v1 v2 v3 v4 (v5 + r59) (v6 + (1 : Int32)) σ59 h)
set_option maxHeartbeats 4000000 in
theorem kx_best_j94 {Z : AZ} {G : AG} {L : Nat → Nat} {P : Int32 → St → Prop} (K : AK Z G cX1_best RX1 7 (rmH 62)) (E : AEi Z cX1_best .int (xW G L) 0 0 P) {K17 : Int32 → Int32 → Int32 → St → Prop} (hK17 : ∀ (v1 : Int32) (v2 : Int32) (v3 : Int32) (σ : St), K17 v1 v2 v3 σ → AX Z 0 0 17 [(0, .ref (L 0)), (1, .int v1), (2, .int v2), (3, .int v3)] [] (xW G L σ)) (v1 : Int32) (v2 : Int32) (v3 : Int32) (s1 : Int32) (s2 : Int32) (σ : St) (h : wx_best_j94 P K17 v1 v2 v3 s1 s2 σ) : AX Z 0 0 94 [(0, .ref (L 0)), (1, .int v1), (2, .int v2), (3, .int v3)] [.int s2, .int s1, .ref (L 23)] (xW G L σ) := by
  unfold wx_best_j94 at h
  refine xs_worth K h.1 dX1_best_94 ?_
  replace h := h.2
  refine ax_iinc (lv' := [(3, .int (v3 + (1 : Int32))), (0, .ref (L 0)), (1, .int v1), (2, .int v2)]) (v := (v3 + (1 : Int32))) K 3 dX1_best_95 rfl (by rfl) (by decide) rfl ?_
  refine ax_goto (tgt := 17) K dX1_best_98 (by decide) ?_
  exact ax_sub [1, 2, 3, 0] rfl (hK17 v1 v2 (v3 + (1 : Int32)) (xU_worth σ s1 s2) h)
set_option maxHeartbeats 4000000 in
theorem kx_best_l17 {Z : AZ} {G : AG} {L : Nat → Nat} {P : Int32 → St → Prop} (K : AK Z G cX1_best RX1 7 (rmH 62)) (E : AEi Z cX1_best .int (xW G L) 0 0 P) {K119 : Int32 → St → Prop} (hK119 : ∀ (s0 : Int32) (σ : St), K119 s0 σ → AX Z 0 0 119 [(0, .ref (L 0))] [.int s0] (xW G L σ)) : ∀ (n : Nat) (v1 : Int32) (v2 : Int32) (v3 : Int32) (σ : St), wx_best_l17 P K119 n v1 v2 v3 σ → AX Z 0 0 17 [(0, .ref (L 0)), (1, .int v1), (2, .int v2), (3, .int v3)] [] (xW G L σ) := by
  intro n
  induction n with
  | zero => intro v1 v2 v3 σ h; exact False.elim h
  | succ n ih =>
    intro v1 v2 v3 σ h
    rw [wx_best_l17_s] at h
    refine ax_iload_n K 3 rfl dX1_best_17 ?_
    refine ax_iconst (v := (1 : Int32)) K (by decide) dX1_best_18 ?_
    refine ax_aload_n K 0 rfl dX1_best_19 ?_
    refine xg_dishes K dX1_best_20 ?_
    refine ax_ishl K dX1_best_23 ?_
    refine ax_icmp_ge (tgt := 101) K dX1_best_24 (by decide) (fun c24 => ?_) (fun c24 => ?_)
    · have h := ax_it h c24
      refine ax_aload_n K 0 rfl dX1_best_101 ?_
      refine ax_iload_n K 1 rfl dX1_best_102 ?_
      refine ax_iconst (v := (1 : Int32)) K (by decide) dX1_best_103 ?_
      refine rx_bestSet K (by decide) dX1_best_104 (Nat.le_of_ble_eq_true rfl) h (fun r104 σ104 h => ?_)
      refine ax_ldcw (v := (-1000000 : Int32)) K q687 dX1_best_107 ?_
      refine ax_icmp_ne (tgt := 118) K dX1_best_110 (by decide) (fun c110 => ?_) (fun c110 => ?_)
      · have h := ax_ie h c110
        refine ax_iconst (v := (1 : Int32)) K (by decide) dX1_best_118 ?_
        exact ax_sub [0] rfl (hK119 (1 : Int32) σ104 h)
      · have h := ax_it h c110
        refine ax_bipush (v := (-2 : Int32)) K (by decide) dX1_best_113 ?_
        refine ax_goto (tgt := 119) K dX1_best_115 (by decide) ?_
        exact ax_sub [0] rfl (hK119 (-2 : Int32) σ104 h)
    · have h := ax_ie h c24
      refine ax_iload_n K 3 rfl dX1_best_27 ?_
      refine ax_aload_n K 0 rfl dX1_best_28 ?_
      refine rx_setNow K (by decide) dX1_best_29 (Nat.le_of_ble_eq_true rfl) h (fun r29 σ29 h => ?_)
      refine ax_iconst (v := (-1 : Int32)) K (by decide) dX1_best_32 ?_
      refine ax_ixor K dX1_best_33 ?_
      refine ax_iand K dX1_best_34 ?_
      refine ax_istore (lv' := [(4, .int (v3 &&& (r29 ^^^ (-1 : Int32)))), (0, .ref (L 0)), (1, .int v1), (2, .int v2), (3, .int v3)]) K dX1_best_35 (by decide) rfl ?_
      refine ax_iconst (v := (0 : Int32)) K (by decide) dX1_best_37 ?_
      refine ax_istore (lv' := [(5, .int (0 : Int32)), (4, .int (v3 &&& (r29 ^^^ (-1 : Int32)))), (0, .ref (L 0)), (1, .int v1), (2, .int v2), (3, .int v3)]) K dX1_best_38 (by decide) rfl ?_
      refine ax_iconst (v := (0 : Int32)) K (by decide) dX1_best_40 ?_
      refine ax_istore (lv' := [(6, .int (0 : Int32)), (5, .int (0 : Int32)), (4, .int (v3 &&& (r29 ^^^ (-1 : Int32)))), (0, .ref (L 0)), (1, .int v1), (2, .int v2), (3, .int v3)]) K dX1_best_41 (by decide) rfl ?_
      exact ax_sub [3, 4, 5, 6, 2, 1, 0] rfl (h.elim fun n43 h => kx_best_l43 K E (kx_best_j94 K E ih) n43 v1 v2 v3 (v3 &&& (r29 ^^^ (-1 : Int32))) (0 : Int32) (0 : Int32) σ29 h)
set_option maxHeartbeats 4000000 in
theorem kx_best_j119 {Z : AZ} {G : AG} {L : Nat → Nat} {P : Int32 → St → Prop} (K : AK Z G cX1_best RX1 7 (rmH 62)) (E : AEi Z cX1_best .int (xW G L) 0 0 P) (s0 : Int32) (σ : St) (h : wx_best_j119 P  s0 σ) : AX Z 0 0 119 [(0, .ref (L 0))] [.int s0] (xW G L σ) := by
  unfold wx_best_j119 at h
  exact E _ _ _ _ dX1_best_119 rfl h
set_option maxHeartbeats 4000000 in
theorem mx_best {l : Launch} {G : AG} {L : Nat → Nat} {σ : St} {v1 : Int32} {v2 : Int32} {P : Int32 → St → Prop} (h : wx_best σ v1 v2 P) : CtW l G yX1_best cX1_best 7 (some .int) (rmH 62) [.ref (L 0), .int v1, .int v2] (xW G L) σ (pI P) := by
  refine CtW.ofI (by decide) (Nat.le_of_ble_eq_true rfl) fun Z _ K E => ?_
  unfold wx_best at h
  show AX Z 0 0 0 [(0, .ref (L 0)), (1, .int v1), (2, .int v2)] [] (xW G L σ)
  refine ax_aload_n K 0 rfl dX1_best_0 ?_
  refine ax_iload_n K 1 rfl dX1_best_1 ?_
  refine ax_iload_n K 2 rfl dX1_best_2 ?_
  refine rx_isPurse K (by decide) dX1_best_3 (Nat.le_of_ble_eq_true rfl) h (fun r3 σ3 h => ?_)
  refine ax_if_ne (tgt := 11) K dX1_best_6 (by decide) (fun c6 => ?_) (fun c6 => ?_)
  · have h := ax_ie h c6
    refine ax_aload_n K 0 rfl dX1_best_11 ?_
    refine rx_laysOut K (by decide) dX1_best_12 (Nat.le_of_ble_eq_true rfl) h (fun σ12 h => ?_)
    refine ax_iconst (v := (0 : Int32)) K (by decide) dX1_best_15 ?_
    refine ax_istore_n (lv' := [(3, .int (0 : Int32)), (0, .ref (L 0)), (1, .int v1), (2, .int v2)]) K dX1_best_16 (by decide) rfl ?_
    exact ax_sub [1, 2, 3, 0] rfl (h.elim fun n17 h => kx_best_l17 K E (kx_best_j119 K E) n17 v1 v2 (0 : Int32) σ12 h)
  · have h := ax_it h c6
    refine ax_iconst (v := (-1 : Int32)) K (by decide) dX1_best_9 ?_
    exact E _ _ _ _ dX1_best_10 rfl h

