/-! m.joy -/
set_option maxHeartbeats 4000000 in
theorem km_joy_j34 {Z : AZ} {G : AG} {L : Nat → Nat} {P : Int32 → St → Prop} (K : AK Z G cX2_joy RX2 3 (rmH 174)) (E : AEi Z cX2_joy .int (mW G L) 0 0 P) (s0 : Int32) (σ : St) (h : wm_joy_j34 P  s0 σ) : AX Z 0 0 34 [(0, .ref (L 0))] [.int s0] (mW G L σ) := by
  unfold wm_joy_j34 at h
  exact E _ _ _ _ dX2_joy_34 rfl h
set_option maxHeartbeats 4000000 in
theorem km_joy_j30 {Z : AZ} {G : AG} {L : Nat → Nat} {P : Int32 → St → Prop} (K : AK Z G cX2_joy RX2 3 (rmH 174)) (E : AEi Z cX2_joy .int (mW G L) 0 0 P) (σ : St) (h : wm_joy_j30 P  σ) : AX Z 0 0 30 [(0, .ref (L 0))] [] (mW G L σ) := by
  unfold wm_joy_j30 at h
  refine ax_aload_n K 0 rfl dX2_joy_30 ?_
  refine rm_lost K (by decide) dX2_joy_31 (Nat.le_of_ble_eq_true rfl) h (fun r31 σ31 h => ?_)
  exact ax_sub [0] rfl (km_joy_j34 K E  r31 σ31 h)
set_option maxHeartbeats 4000000 in
theorem mm_joy {l : Launch} {G : AG} {L : Nat → Nat} {σ : St} {v1 : Int32} {v2 : Int32} {P : Int32 → St → Prop} (h : wm_joy σ v1 v2 P) : CtW l G yX2_joy cX2_joy 3 (some .int) (rmH 174) [.ref (L 0), .int v1, .int v2] (mW G L) σ (pI P) := by
  refine CtW.ofI (by decide) (Nat.le_of_ble_eq_true rfl) fun Z _ K E => ?_
  unfold wm_joy at h
  show AX Z 0 0 0 [(0, .ref (L 0)), (1, .int v1), (2, .int v2)] [] (mW G L σ)
  refine ax_aload_n K 0 rfl dX2_joy_0 ?_
  refine ax_iconst (v := (0 : Int32)) K (by decide) dX2_joy_1 ?_
  refine mp_thrown K dX2_joy_2 ?_
  refine ax_aload_n K 0 rfl dX2_joy_5 ?_
  refine ax_iload_n K 1 rfl dX2_joy_6 ?_
  refine rm_isGuest K (by decide) dX2_joy_7 (Nat.le_of_ble_eq_true rfl) h (fun r7 σ7 h => ?_)
  refine ax_if_eq (tgt := 30) K dX2_joy_10 (by decide) (fun c10 => ?_) (fun c10 => ?_)
  · have h := ax_it h c10
    exact ax_sub [0] rfl (km_joy_j30 K E  σ7 h)
  · have h := ax_ie h c10
    refine ax_aload_n K 0 rfl dX2_joy_13 ?_
    refine ax_iload_n K 2 rfl dX2_joy_14 ?_
    refine rm_isDish K (by decide) dX2_joy_15 (Nat.le_of_ble_eq_true rfl) h (fun r15 σ15 h => ?_)
    refine ax_if_eq (tgt := 30) K dX2_joy_18 (by decide) (fun c18 => ?_) (fun c18 => ?_)
    · have h := ax_it h c18
      exact ax_sub [0] rfl (km_joy_j30 K E  σ15 h)
    · have h := ax_ie h c18
      refine ax_aload_n K 0 rfl dX2_joy_21 ?_
      refine ax_iload_n K 1 rfl dX2_joy_22 ?_
      refine ax_iload_n K 2 rfl dX2_joy_23 ?_
      refine rm_joyOf K (by decide) dX2_joy_24 (Nat.le_of_ble_eq_true rfl) h (fun r24 σ24 h => ?_)
      refine ax_goto (tgt := 34) K dX2_joy_27 (by decide) ?_
      exact ax_sub [0] rfl (km_joy_j34 K E  r24 σ24 h)

/-! m.joyIn -/
set_option maxHeartbeats 4000000 in
theorem km_joyIn_j35 {Z : AZ} {G : AG} {L : Nat → Nat} {P : Int32 → St → Prop} (K : AK Z G cX2_joyIn RX2 5 (rmH 174)) (E : AEi Z cX2_joyIn .int (mW G L) 0 0 P) {K5 : Int32 → Int32 → Int32 → Int32 → St → Prop} (hK5 : ∀ (v1 : Int32) (v2 : Int32) (v3 : Int32) (v4 : Int32) (σ : St), K5 v1 v2 v3 v4 σ → AX Z 0 0 5 [(0, .ref (L 0)), (1, .int v1), (2, .int v2), (3, .int v3), (4, .int v4)] [] (mW G L σ)) (v1 : Int32) (v2 : Int32) (v4 : Int32) (s0 : Int32) (s1 : Int32) (σ : St) (h : wm_joyIn_j35 P K5 v1 v2 v4 s0 s1 σ) : AX Z 0 0 35 [(0, .ref (L 0)), (1, .int v1), (2, .int v2), (4, .int v4)] [.int s1, .int s0] (mW G L σ) := by
  unfold wm_joyIn_j35 at h
  refine ax_iadd K dX2_joyIn_35 ?_
  refine ax_istore_n (lv' := [(3, .int (s0 + s1)), (0, .ref (L 0)), (1, .int v1), (2, .int v2), (4, .int v4)]) K dX2_joyIn_36 (by decide) rfl ?_
  refine ax_iinc (lv' := [(4, .int (v4 + (1 : Int32))), (3, .int (s0 + s1)), (0, .ref (L 0)), (1, .int v1), (2, .int v2)]) (v := (v4 + (1 : Int32))) K 4 dX2_joyIn_37 rfl (by rfl) (by decide) rfl ?_
  refine ax_goto (tgt := 5) K dX2_joyIn_40 (by decide) ?_
  exact ax_sub [2, 3, 4, 1, 0] rfl (hK5 v1 v2 (s0 + s1) (v4 + (1 : Int32)) σ h)
set_option maxHeartbeats 4000000 in
theorem km_joyIn_l5 {Z : AZ} {G : AG} {L : Nat → Nat} {P : Int32 → St → Prop} (K : AK Z G cX2_joyIn RX2 5 (rmH 174)) (E : AEi Z cX2_joyIn .int (mW G L) 0 0 P) : ∀ (n : Nat) (v1 : Int32) (v2 : Int32) (v3 : Int32) (v4 : Int32) (σ : St), wm_joyIn_l5 P  n v1 v2 v3 v4 σ → AX Z 0 0 5 [(0, .ref (L 0)), (1, .int v1), (2, .int v2), (3, .int v3), (4, .int v4)] [] (mW G L σ) := by
  intro n
  induction n with
  | zero => intro v1 v2 v3 v4 σ h; exact False.elim h
  | succ n ih =>
    intro v1 v2 v3 v4 σ h
    rw [wm_joyIn_l5_s] at h
    refine ax_iload K 4 rfl dX2_joyIn_5 ?_
    refine ax_aload_n K 0 rfl dX2_joyIn_7 ?_
    refine mg_dishes K dX2_joyIn_8 ?_
    refine ax_icmp_ge (tgt := 43) K dX2_joyIn_11 (by decide) (fun c11 => ?_) (fun c11 => ?_)
    · have h := ax_it h c11
      refine ax_iload_n K 3 rfl dX2_joyIn_43 ?_
      exact E _ _ _ _ dX2_joyIn_44 rfl h
    · have h := ax_ie h c11
      refine ax_iload_n K 3 rfl dX2_joyIn_14 ?_
      refine ax_iload_n K 1 rfl dX2_joyIn_15 ?_
      refine ax_iload K 4 rfl dX2_joyIn_16 ?_
      refine rm_has K (by decide) dX2_joyIn_18 (Nat.le_of_ble_eq_true rfl) h (fun r18 h => ?_)
      refine ax_if_eq (tgt := 34) K dX2_joyIn_21 (by decide) (fun c21 => ?_) (fun c21 => ?_)
      · have h := ax_it h c21
        refine ax_iconst (v := (0 : Int32)) K (by decide) dX2_joyIn_34 ?_
        exact ax_sub [0, 1, 2, 4] rfl (km_joyIn_j35 K E ih v1 v2 v4 v3 (0 : Int32) σ h)
      · have h := ax_ie h c21
        refine ax_aload_n K 0 rfl dX2_joyIn_24 ?_
        refine ax_iload_n K 2 rfl dX2_joyIn_25 ?_
        refine ax_iload K 4 rfl dX2_joyIn_26 ?_
        refine rm_joyOf K (by decide) dX2_joyIn_28 (Nat.le_of_ble_eq_true rfl) h (fun r28 σ28 h => ?_)
        refine ax_goto (tgt := 35) K dX2_joyIn_31 (by decide) ?_
        exact ax_sub [0, 1, 2, 4] rfl (km_joyIn_j35 K E ih v1 v2 v4 v3 r28 σ28 h)
set_option maxHeartbeats 4000000 in
theorem mm_joyIn {l : Launch} {G : AG} {L : Nat → Nat} {σ : St} {v1 : Int32} {v2 : Int32} {P : Int32 → St → Prop} (h : wm_joyIn σ v1 v2 P) : CtW l G yX2_joyIn cX2_joyIn 5 (some .int) (rmH 174) [.ref (L 0), .int v1, .int v2] (mW G L) σ (pI P) := by
  refine CtW.ofI (by decide) (Nat.le_of_ble_eq_true rfl) fun Z _ K E => ?_
  unfold wm_joyIn at h
  show AX Z 0 0 0 [(0, .ref (L 0)), (1, .int v1), (2, .int v2)] [] (mW G L σ)
  refine ax_iconst (v := (0 : Int32)) K (by decide) dX2_joyIn_0 ?_
  refine ax_istore_n (lv' := [(3, .int (0 : Int32)), (0, .ref (L 0)), (1, .int v1), (2, .int v2)]) K dX2_joyIn_1 (by decide) rfl ?_
  refine ax_iconst (v := (0 : Int32)) K (by decide) dX2_joyIn_2 ?_
  refine ax_istore (lv' := [(4, .int (0 : Int32)), (3, .int (0 : Int32)), (0, .ref (L 0)), (1, .int v1), (2, .int v2)]) K dX2_joyIn_3 (by decide) rfl ?_
  exact ax_sub [2, 3, 4, 1, 0] rfl (h.elim fun n5 h => km_joyIn_l5 K E  n5 v1 v2 (0 : Int32) (0 : Int32) σ h)
theorem rm_joyIn {Z : AZ} {G : AG} {cc : ByteArray} {mL hh pc : Nat} {lv : List (Nat × Value)} {rest : List Value} {L : Nat → Nat} {σ : St} (K : AK Z G cc RX2 mL (rmH hh)) (hlt : 174 < hh) (d : decode cc pc = .ok (.invokevirtual 342, 3)) (hrest : (rest.map fun v => v.category).sum ≤ 8) {v1 : Int32} {v2 : Int32} {P : Int32 → St → Prop} (h : sm_joyIn σ v1 v2 P) (kk : ∀ (r : Int32) (σ' : St), P r σ' → AX Z 0 0 (pc + 3) lv (.int r :: rest) (mW G L σ')) : AX Z 0 0 pc lv (.int v2 :: .int v1 :: .ref (L 0) :: rest) (mW G L σ) :=
  ax_callV (N0 := 2) (As := [.int v1, .int v2]) K (mm_joyIn (sm_joyIn_ok h)) q1508 q1510 qs105 q118 q1511 ⟨rfl, by decide, by decide, by decide⟩ rfl ⟨by show 174 + 1 + 1 ≤ hh + 1; omega, by show 8 + (5 + 11) + 60 * (174 + 1) ≤ 60 * (hh + 1); omega⟩ ⟨Nat.zero_le _, Nat.zero_le _⟩ rfl rfl rfl hrest d (fun r σ' hp => by obtain ⟨v, rfl, hp⟩ := hp; exact kk v σ' hp)
/-! m.joyOfAll -/
set_option maxHeartbeats 4000000 in
theorem km_joyOfAll_l4 {Z : AZ} {G : AG} {L : Nat → Nat} {P : Int32 → St → Prop} (K : AK Z G cX2_joyOfAll RX2 4 (rmH 174)) (E : AEi Z cX2_joyOfAll .int (mW G L) 0 0 P) : ∀ (n : Nat) (v1 : Int32) (v2 : Int32) (v3 : Int32) (σ : St), wm_joyOfAll_l4 P  n v1 v2 v3 σ → AX Z 0 0 4 [(0, .ref (L 0)), (1, .int v1), (2, .int v2), (3, .int v3)] [] (mW G L σ) := by
  intro n
  induction n with
  | zero => intro v1 v2 v3 σ h; exact False.elim h
  | succ n ih =>
    intro v1 v2 v3 σ h
    rw [wm_joyOfAll_l4_s] at h
    refine ax_iload_n K 3 rfl dX2_joyOfAll_4 ?_
    refine ax_aload_n K 0 rfl dX2_joyOfAll_5 ?_
    refine mg_guests K dX2_joyOfAll_6 ?_
    refine ax_icmp_ge (tgt := 27) K dX2_joyOfAll_9 (by decide) (fun c9 => ?_) (fun c9 => ?_)
    · have h := ax_it h c9
      refine ax_iload_n K 2 rfl dX2_joyOfAll_27 ?_
      exact E _ _ _ _ dX2_joyOfAll_28 rfl h
    · have h := ax_ie h c9
      refine ax_iload_n K 2 rfl dX2_joyOfAll_12 ?_
      refine ax_aload_n K 0 rfl dX2_joyOfAll_13 ?_
      refine ax_iload_n K 3 rfl dX2_joyOfAll_14 ?_
      refine ax_iload_n K 1 rfl dX2_joyOfAll_15 ?_
      refine rm_joyOf K (by decide) dX2_joyOfAll_16 (Nat.le_of_ble_eq_true rfl) h (fun r16 σ16 h => ?_)
      refine ax_iadd K dX2_joyOfAll_19 ?_
      refine ax_istore_n (lv' := [(2, .int (v2 + r16)), (0, .ref (L 0)), (1, .int v1), (3, .int v3)]) K dX2_joyOfAll_20 (by decide) rfl ?_
      refine ax_iinc (lv' := [(3, .int (v3 + (1 : Int32))), (2, .int (v2 + r16)), (0, .ref (L 0)), (1, .int v1)]) (v := (v3 + (1 : Int32))) K 3 dX2_joyOfAll_21 rfl (by rfl) (by decide) rfl ?_
      refine ax_goto (tgt := 4) K dX2_joyOfAll_24 (by decide) ?_
      exact ax_sub [2, 3, 1, 0] rfl (ih v1 (v2 + r16) (v3 + (1 : Int32)) σ16 h)
set_option maxHeartbeats 4000000 in
theorem mm_joyOfAll {l : Launch} {G : AG} {L : Nat → Nat} {σ : St} {v1 : Int32} {P : Int32 → St → Prop} (h : wm_joyOfAll σ v1 P) : CtW l G yX2_joyOfAll cX2_joyOfAll 4 (some .int) (rmH 174) [.ref (L 0), .int v1] (mW G L) σ (pI P) := by
  refine CtW.ofI (by decide) (Nat.le_of_ble_eq_true rfl) fun Z _ K E => ?_
  unfold wm_joyOfAll at h
  show AX Z 0 0 0 [(0, .ref (L 0)), (1, .int v1)] [] (mW G L σ)
  refine ax_iconst (v := (0 : Int32)) K (by decide) dX2_joyOfAll_0 ?_
  refine ax_istore_n (lv' := [(2, .int (0 : Int32)), (0, .ref (L 0)), (1, .int v1)]) K dX2_joyOfAll_1 (by decide) rfl ?_
  refine ax_iconst (v := (0 : Int32)) K (by decide) dX2_joyOfAll_2 ?_
  refine ax_istore_n (lv' := [(3, .int (0 : Int32)), (2, .int (0 : Int32)), (0, .ref (L 0)), (1, .int v1)]) K dX2_joyOfAll_3 (by decide) rfl ?_
  exact ax_sub [2, 3, 1, 0] rfl (h.elim fun n4 h => km_joyOfAll_l4 K E  n4 v1 (0 : Int32) (0 : Int32) σ h)
theorem rm_joyOfAll {Z : AZ} {G : AG} {cc : ByteArray} {mL hh pc : Nat} {lv : List (Nat × Value)} {rest : List Value} {L : Nat → Nat} {σ : St} (K : AK Z G cc RX2 mL (rmH hh)) (hlt : 174 < hh) (d : decode cc pc = .ok (.invokevirtual 227, 3)) (hrest : (rest.map fun v => v.category).sum ≤ 8) {v1 : Int32} {P : Int32 → St → Prop} (h : sm_joyOfAll σ v1 P) (kk : ∀ (r : Int32) (σ' : St), P r σ' → AX Z 0 0 (pc + 3) lv (.int r :: rest) (mW G L σ')) : AX Z 0 0 pc lv (.int v1 :: .ref (L 0) :: rest) (mW G L σ) :=
  ax_callV (N0 := 1) (As := [.int v1]) K (mm_joyOfAll (sm_joyOfAll_ok h)) q1271 q1273 qs76 q118 q1274 ⟨rfl, by decide, by decide, by decide⟩ rfl ⟨by show 174 + 1 + 1 ≤ hh + 1; omega, by show 8 + (4 + 11) + 60 * (174 + 1) ≤ 60 * (hh + 1); omega⟩ ⟨Nat.zero_le _, Nat.zero_le _⟩ rfl rfl rfl hrest d (fun r σ' hp => by obtain ⟨v, rfl, hp⟩ := hp; exact kk v σ' hp)
/-! m.dish -/
set_option maxHeartbeats 4000000 in
theorem km_dish_j22 {Z : AZ} {G : AG} {L : Nat → Nat} {P : Int32 → St → Prop} (K : AK Z G cX2_dish RX2 5 (rmH 175)) (E : AEi Z cX2_dish .int (mW G L) 0 0 P) (σ : St) (h : wm_dish_j22 P  σ) : AX Z 0 0 22 [(0, .ref (L 0))] [] (mW G L σ) := by
  unfold wm_dish_j22 at h
  refine ax_aload_n K 0 rfl dX2_dish_22 ?_
  refine rm_lost K (by decide) dX2_dish_23 (Nat.le_of_ble_eq_true rfl) h (fun r23 σ23 h => ?_)
  exact E _ _ _ _ dX2_dish_26 rfl h
set_option maxHeartbeats 4000000 in
theorem km_dish_j57 {Z : AZ} {G : AG} {L : Nat → Nat} {P : Int32 → St → Prop} (K : AK Z G cX2_dish RX2 5 (rmH 175)) (E : AEi Z cX2_dish .int (mW G L) 0 0 P) {K32 : Int32 → Int32 → Int32 → Int32 → St → Prop} (hK32 : ∀ (v1 : Int32) (v2 : Int32) (v3 : Int32) (v4 : Int32) (σ : St), K32 v1 v2 v3 v4 σ → AX Z 0 0 32 [(0, .ref (L 0)), (1, .int v1), (2, .int v2), (3, .int v3), (4, .int v4)] [] (mW G L σ)) (v1 : Int32) (v2 : Int32) (v4 : Int32) (s0 : Int32) (s1 : Int32) (σ : St) (h : wm_dish_j57 P K32 v1 v2 v4 s0 s1 σ) : AX Z 0 0 57 [(0, .ref (L 0)), (1, .int v1), (2, .int v2), (4, .int v4)] [.int s1, .int s0] (mW G L σ) := by
  unfold wm_dish_j57 at h
  refine ax_iadd K dX2_dish_57 ?_
  refine ax_istore_n (lv' := [(3, .int (s0 + s1)), (0, .ref (L 0)), (1, .int v1), (2, .int v2), (4, .int v4)]) K dX2_dish_58 (by decide) rfl ?_
  refine ax_iinc (lv' := [(4, .int (v4 + (1 : Int32))), (3, .int (s0 + s1)), (0, .ref (L 0)), (1, .int v1), (2, .int v2)]) (v := (v4 + (1 : Int32))) K 4 dX2_dish_59 rfl (by rfl) (by decide) rfl ?_
  refine ax_goto (tgt := 32) K dX2_dish_62 (by decide) ?_
  exact ax_sub [2, 3, 4, 1, 0] rfl (hK32 v1 v2 (s0 + s1) (v4 + (1 : Int32)) σ h)
set_option maxHeartbeats 4000000 in
theorem km_dish_l32 {Z : AZ} {G : AG} {L : Nat → Nat} {P : Int32 → St → Prop} (K : AK Z G cX2_dish RX2 5 (rmH 175)) (E : AEi Z cX2_dish .int (mW G L) 0 0 P) {K142 : Int32 → St → Prop} (hK142 : ∀ (s0 : Int32) (σ : St), K142 s0 σ → AX Z 0 0 142 [(0, .ref (L 0))] [.int s0] (mW G L σ)) : ∀ (n : Nat) (v1 : Int32) (v2 : Int32) (v3 : Int32) (v4 : Int32) (σ : St), wm_dish_l32 P K142 n v1 v2 v3 v4 σ → AX Z 0 0 32 [(0, .ref (L 0)), (1, .int v1), (2, .int v2), (3, .int v3), (4, .int v4)] [] (mW G L σ) := by
  intro n
  induction n with
  | zero => intro v1 v2 v3 v4 σ h; exact False.elim h
  | succ n ih =>
    intro v1 v2 v3 v4 σ h
    rw [wm_dish_l32_s] at h
    refine ax_iload K 4 rfl dX2_dish_32 ?_
    refine ax_aload_n K 0 rfl dX2_dish_34 ?_
    refine mg_guests K dX2_dish_35 ?_
    refine ax_icmp_ge (tgt := 65) K dX2_dish_38 (by decide) (fun c38 => ?_) (fun c38 => ?_)
    · have h := ax_it h c38
      refine ax_iload_n K 2 rfl dX2_dish_65 ?_
      refine ax_if_ne (tgt := 78) K dX2_dish_66 (by decide) (fun c66 => ?_) (fun c66 => ?_)
      · have h := ax_ie h c66
        refine ax_iload_n K 2 rfl dX2_dish_78 ?_
        refine ax_iconst (v := (1 : Int32)) K (by decide) dX2_dish_79 ?_
        refine ax_icmp_ne (tgt := 92) K dX2_dish_80 (by decide) (fun c80 => ?_) (fun c80 => ?_)
        · have h := ax_ie h c80
          refine ax_iload_n K 2 rfl dX2_dish_92 ?_
          refine ax_iconst (v := (2 : Int32)) K (by decide) dX2_dish_93 ?_
          refine ax_icmp_ne (tgt := 114) K dX2_dish_94 (by decide) (fun c94 => ?_) (fun c94 => ?_)
          · have h := ax_ie h c94
            refine ax_iload_n K 2 rfl dX2_dish_114 ?_
            refine ax_iconst (v := (3 : Int32)) K (by decide) dX2_dish_115 ?_
            refine ax_icmp_ne (tgt := 128) K dX2_dish_116 (by decide) (fun c116 => ?_) (fun c116 => ?_)
            · have h := ax_ie h c116
              refine ax_iload_n K 2 rfl dX2_dish_128 ?_
              refine ax_iconst (v := (4 : Int32)) K (by decide) dX2_dish_129 ?_
              refine ax_icmp_ne (tgt := 141) K dX2_dish_130 (by decide) (fun c130 => ?_) (fun c130 => ?_)
              · have h := ax_ie h c130
                refine ax_iload_n K 3 rfl dX2_dish_141 ?_
                exact ax_sub [0] rfl (hK142 v3 σ h)
              · have h := ax_it h c130
                refine ax_aload_n K 0 rfl dX2_dish_133 ?_
                refine ax_iload_n K 1 rfl dX2_dish_134 ?_
                refine rm_joyOfAll K (by decide) dX2_dish_135 (Nat.le_of_ble_eq_true rfl) h (fun r135 σ135 h => ?_)
                refine ax_goto (tgt := 142) K dX2_dish_138 (by decide) ?_
                exact ax_sub [0] rfl (hK142 r135 σ135 h)
            · have h := ax_it h c116
              refine ax_aload_n K 0 rfl dX2_dish_119 ?_
              refine mg_hours K dX2_dish_120 ?_
              refine ax_iload_n K 1 rfl dX2_dish_123 ?_
              refine ml_hours K h.1 dX2_dish_124 ?_
              replace h := h.2
              refine ax_goto (tgt := 142) K dX2_dish_125 (by decide) ?_
              exact ax_sub [0] rfl (hK142 (mA_hours σ (v1).toNatClampNeg) σ h)
          · have h := ax_it h c94
            refine ax_aload_n K 0 rfl dX2_dish_97 ?_
            refine mg_isHot K dX2_dish_98 ?_
            refine ax_iload_n K 1 rfl dX2_dish_101 ?_
            refine ml_isHot K h.1 dX2_dish_102 ?_
            replace h := h.2
            refine ax_if_eq (tgt := 110) K dX2_dish_103 (by decide) (fun c103 => ?_) (fun c103 => ?_)
            · have h := ax_it h c103
              refine ax_iconst (v := (0 : Int32)) K (by decide) dX2_dish_110 ?_
              refine ax_goto (tgt := 142) K dX2_dish_111 (by decide) ?_
              exact ax_sub [0] rfl (hK142 (0 : Int32) σ h)
            · have h := ax_ie h c103
              refine ax_iconst (v := (1 : Int32)) K (by decide) dX2_dish_106 ?_
              refine ax_goto (tgt := 142) K dX2_dish_107 (by decide) ?_
              exact ax_sub [0] rfl (hK142 (1 : Int32) σ h)
        · have h := ax_it h c80
          refine ax_aload_n K 0 rfl dX2_dish_83 ?_
          refine mg_cost K dX2_dish_84 ?_
          refine ax_iload_n K 1 rfl dX2_dish_87 ?_
          refine ml_cost K h.1 dX2_dish_88 ?_
          replace h := h.2
          refine ax_goto (tgt := 142) K dX2_dish_89 (by decide) ?_
          exact ax_sub [0] rfl (hK142 (mA_cost σ (v1).toNatClampNeg) σ h)
      · have h := ax_it h c66
        refine ax_aload_n K 0 rfl dX2_dish_69 ?_
        refine mg_stuffs K dX2_dish_70 ?_
        refine ax_iload_n K 1 rfl dX2_dish_73 ?_
        refine ml_stuffs K h.1 dX2_dish_74 ?_
        replace h := h.2
        refine ax_goto (tgt := 142) K dX2_dish_75 (by decide) ?_
        exact ax_sub [0] rfl (hK142 (mA_stuffs σ (v1).toNatClampNeg) σ h)
    · have h := ax_ie h c38
      refine ax_iload_n K 3 rfl dX2_dish_41 ?_
      refine ax_aload_n K 0 rfl dX2_dish_42 ?_
      refine ax_iload K 4 rfl dX2_dish_43 ?_
      refine ax_iload_n K 1 rfl dX2_dish_45 ?_
      refine rm_isHungry K (by decide) dX2_dish_46 (Nat.le_of_ble_eq_true rfl) h (fun r46 σ46 h => ?_)
      refine ax_if_eq (tgt := 56) K dX2_dish_49 (by decide) (fun c49 => ?_) (fun c49 => ?_)
      · have h := ax_it h c49
        refine ax_iconst (v := (0 : Int32)) K (by decide) dX2_dish_56 ?_
        exact ax_sub [0, 1, 2, 4] rfl (km_dish_j57 K E ih v1 v2 v4 v3 (0 : Int32) σ46 h)
      · have h := ax_ie h c49
        refine ax_iconst (v := (1 : Int32)) K (by decide) dX2_dish_52 ?_
        refine ax_goto (tgt := 57) K dX2_dish_53 (by decide) ?_
        exact ax_sub [0, 1, 2, 4] rfl (km_dish_j57 K E ih v1 v2 v4 v3 (1 : Int32) σ46 h)
set_option maxHeartbeats 4000000 in
theorem km_dish_j142 {Z : AZ} {G : AG} {L : Nat → Nat} {P : Int32 → St → Prop} (K : AK Z G cX2_dish RX2 5 (rmH 175)) (E : AEi Z cX2_dish .int (mW G L) 0 0 P) (s0 : Int32) (σ : St) (h : wm_dish_j142 P  s0 σ) : AX Z 0 0 142 [(0, .ref (L 0))] [.int s0] (mW G L σ) := by
  unfold wm_dish_j142 at h
  exact E _ _ _ _ dX2_dish_142 rfl h
set_option maxHeartbeats 4000000 in
theorem mm_dish {l : Launch} {G : AG} {L : Nat → Nat} {σ : St} {v1 : Int32} {v2 : Int32} {P : Int32 → St → Prop} (h : wm_dish σ v1 v2 P) : CtW l G yX2_dish cX2_dish 5 (some .int) (rmH 175) [.ref (L 0), .int v1, .int v2] (mW G L) σ (pI P) := by
  refine CtW.ofI (by decide) (Nat.le_of_ble_eq_true rfl) fun Z _ K E => ?_
  unfold wm_dish at h
  show AX Z 0 0 0 [(0, .ref (L 0)), (1, .int v1), (2, .int v2)] [] (mW G L σ)
  refine ax_aload_n K 0 rfl dX2_dish_0 ?_
  refine ax_iconst (v := (0 : Int32)) K (by decide) dX2_dish_1 ?_
  refine mp_thrown K dX2_dish_2 ?_
  refine ax_aload_n K 0 rfl dX2_dish_5 ?_
  refine ax_iload_n K 1 rfl dX2_dish_6 ?_
  refine rm_isDish K (by decide) dX2_dish_7 (Nat.le_of_ble_eq_true rfl) h (fun r7 σ7 h => ?_)
  refine ax_if_eq (tgt := 22) K dX2_dish_10 (by decide) (fun c10 => ?_) (fun c10 => ?_)
  · have h := ax_it h c10
    exact ax_sub [0] rfl (km_dish_j22 K E  σ7 h)
  · have h := ax_ie h c10
    refine ax_iload_n K 2 rfl dX2_dish_13 ?_
    refine ax_iconst (v := (0 : Int32)) K (by decide) dX2_dish_14 ?_
    refine ax_iconst (v := (5 : Int32)) K (by decide) dX2_dish_15 ?_
    refine rm_in K (by decide) dX2_dish_16 (Nat.le_of_ble_eq_true rfl) h (fun r16 h => ?_)
    refine ax_if_ne (tgt := 27) K dX2_dish_19 (by decide) (fun c19 => ?_) (fun c19 => ?_)
    · have h := ax_ie h c19
      refine ax_iconst (v := (0 : Int32)) K (by decide) dX2_dish_27 ?_
      refine ax_istore_n (lv' := [(3, .int (0 : Int32)), (0, .ref (L 0)), (1, .int v1), (2, .int v2)]) K dX2_dish_28 (by decide) rfl ?_
      refine ax_iconst (v := (0 : Int32)) K (by decide) dX2_dish_29 ?_
      refine ax_istore (lv' := [(4, .int (0 : Int32)), (3, .int (0 : Int32)), (0, .ref (L 0)), (1, .int v1), (2, .int v2)]) K dX2_dish_30 (by decide) rfl ?_
      exact ax_sub [2, 3, 4, 1, 0] rfl (h.elim fun n32 h => km_dish_l32 K E (km_dish_j142 K E) n32 v1 v2 (0 : Int32) (0 : Int32) σ7 h)
    · have h := ax_it h c19
      exact ax_sub [0] rfl (km_dish_j22 K E  σ7 h)

/-! m.findGreedy -/
set_option maxHeartbeats 4000000 in
theorem km_findGreedy_j110 {Z : AZ} {G : AG} {L : Nat → Nat} {P : St → Prop} (K : AK Z G cX2_findGreedy RX2 13 (rmH 175)) (E : AEv Z cX2_findGreedy (mW G L) 0 0 P) {K21 : Int32 → Int32 → Int32 → Int32 → Int32 → Int32 → Int32 → Int32 → St → Prop} (hK21 : ∀ (v1 : Int32) (v2 : Int32) (v3 : Int32) (v4 : Int32) (v5 : Int32) (v6 : Int32) (v7 : Int32) (v8 : Int32) (σ : St), K21 v1 v2 v3 v4 v5 v6 v7 v8 σ → AX Z 0 0 21 [(0, .ref (L 0)), (1, .int v1), (2, .int v2), (3, .int v3), (4, .int v4), (5, .int v5), (6, .int v6), (7, .int v7), (8, .int v8)] [] (mW G L σ)) (v1 : Int32) (v2 : Int32) (v3 : Int32) (v4 : Int32) (v5 : Int32) (v6 : Int32) (v7 : Int32) (v8 : Int32) (σ : St) (h : wm_findGreedy_j110 P K21 v1 v2 v3 v4 v5 v6 v7 v8 σ) : AX Z 0 0 110 [(0, .ref (L 0)), (1, .int v1), (2, .int v2), (3, .int v3), (4, .int v4), (5, .int v5), (6, .int v6), (7, .int v7), (8, .int v8)] [] (mW G L σ) := by
  unfold wm_findGreedy_j110 at h
  refine ax_iinc (lv' := [(8, .int (v8 + (1 : Int32))), (0, .ref (L 0)), (1, .int v1), (2, .int v2), (3, .int v3), (4, .int v4), (5, .int v5), (6, .int v6), (7, .int v7)]) (v := (v8 + (1 : Int32))) K 8 dX2_findGreedy_110 rfl (by rfl) (by decide) rfl ?_
  refine ax_goto (tgt := 21) K dX2_findGreedy_113 (by decide) ?_
  exact ax_sub [1, 2, 3, 4, 5, 6, 7, 8, 0] rfl (hK21 v1 v2 v3 v4 v5 v6 v7 (v8 + (1 : Int32)) σ h)
set_option maxHeartbeats 4000000 in
theorem km_findGreedy_j102 {Z : AZ} {G : AG} {L : Nat → Nat} {P : St → Prop} (K : AK Z G cX2_findGreedy RX2 13 (rmH 175)) (E : AEv Z cX2_findGreedy (mW G L) 0 0 P) {K21 : Int32 → Int32 → Int32 → Int32 → Int32 → Int32 → Int32 → Int32 → St → Prop} (hK21 : ∀ (v1 : Int32) (v2 : Int32) (v3 : Int32) (v4 : Int32) (v5 : Int32) (v6 : Int32) (v7 : Int32) (v8 : Int32) (σ : St), K21 v1 v2 v3 v4 v5 v6 v7 v8 σ → AX Z 0 0 21 [(0, .ref (L 0)), (1, .int v1), (2, .int v2), (3, .int v3), (4, .int v4), (5, .int v5), (6, .int v6), (7, .int v7), (8, .int v8)] [] (mW G L σ)) (v1 : Int32) (v2 : Int32) (v3 : Int32) (v6 : Int32) (v7 : Int32) (v8 : Int32) (v9 : Int32) (σ : St) (h : wm_findGreedy_j102 P K21 v1 v2 v3 v6 v7 v8 v9 σ) : AX Z 0 0 102 [(0, .ref (L 0)), (1, .int v1), (2, .int v2), (3, .int v3), (6, .int v6), (7, .int v7), (8, .int v8), (9, .int v9)] [] (mW G L σ) := by
  unfold wm_findGreedy_j102 at h
  refine ax_iload K 6 rfl dX2_findGreedy_102 ?_
  refine ax_istore (lv' := [(4, .int v8), (0, .ref (L 0)), (1, .int v1), (2, .int v2), (3, .int v3), (6, .int v6), (7, .int v7), (8, .int v8), (9, .int v9)]) K dX2_findGreedy_104 (by decide) rfl ?_
  refine ax_iload K 8 rfl dX2_findGreedy_106 ?_
  refine ax_istore (lv' := [(5, .int v9), (4, .int v8), (0, .ref (L 0)), (1, .int v1), (2, .int v2), (3, .int v3), (6, .int v6), (7, .int v7), (8, .int v8), (9, .int v9)]) K dX2_findGreedy_108 (by decide) rfl ?_
  exact ax_sub [2, 3, 4, 5, 1, 0, 6, 7, 8] rfl (km_findGreedy_j110 K E hK21 v1 v2 v3 v8 v9 v6 v7 v8 σ h)
set_option maxHeartbeats 4000000 in
theorem km_findGreedy_j76 {Z : AZ} {G : AG} {L : Nat → Nat} {P : St → Prop} (K : AK Z G cX2_findGreedy RX2 13 (rmH 175)) (E : AEv Z cX2_findGreedy (mW G L) 0 0 P) {K21 : Int32 → Int32 → Int32 → Int32 → Int32 → Int32 → Int32 → Int32 → St → Prop} (hK21 : ∀ (v1 : Int32) (v2 : Int32) (v3 : Int32) (v4 : Int32) (v5 : Int32) (v6 : Int32) (v7 : Int32) (v8 : Int32) (σ : St), K21 v1 v2 v3 v4 v5 v6 v7 v8 σ → AX Z 0 0 21 [(0, .ref (L 0)), (1, .int v1), (2, .int v2), (3, .int v3), (4, .int v4), (5, .int v5), (6, .int v6), (7, .int v7), (8, .int v8)] [] (mW G L σ)) (v1 : Int32) (v2 : Int32) (v3 : Int32) (v4 : Int32) (v5 : Int32) (v6 : Int32) (v8 : Int32) (s0 : Int32) (σ : St) (h : wm_findGreedy_j76 P K21 v1 v2 v3 v4 v5 v6 v8 s0 σ) : AX Z 0 0 76 [(0, .ref (L 0)), (1, .int v1), (2, .int v2), (3, .int v3), (4, .int v4), (5, .int v5), (6, .int v6), (8, .int v8)] [.int s0] (mW G L σ) := by
  unfold wm_findGreedy_j76 at h
  refine ax_istore (lv' := [(7, .int s0), (0, .ref (L 0)), (1, .int v1), (2, .int v2), (3, .int v3), (4, .int v4), (5, .int v5), (6, .int v6), (8, .int v8)]) K dX2_findGreedy_76 (by decide) rfl ?_
  refine ax_aload_n K 1 rfl dX2_findGreedy_78 ?_
  refine ax_iload K 8 rfl dX2_findGreedy_79 ?_
  refine rm_joyOfAll K (by decide) dX2_findGreedy_81 (Nat.le_of_ble_eq_true rfl) h (fun r81 σ81 h => ?_)
  refine ax_istore (lv' := [(9, .int r81), (7, .int s0), (0, .ref (L 0)), (1, .int v1), (2, .int v2), (3, .int v3), (4, .int v4), (5, .int v5), (6, .int v6), (8, .int v8)]) K dX2_findGreedy_84 (by decide) rfl ?_
  refine ax_iload K 6 rfl dX2_findGreedy_86 ?_
  refine ax_iconst (v := (-1 : Int32)) K (by decide) dX2_findGreedy_88 ?_
  refine ax_icmp_eq (tgt := 102) K dX2_findGreedy_89 (by decide) (fun c89 => ?_) (fun c89 => ?_)
  · have h := ax_it h c89
    exact ax_sub [2, 3, 4, 5, 8, 1, 9, 0] rfl (km_findGreedy_j102 K E hK21 v1 v2 v3 v6 s0 v8 r81 σ81 h)
  · have h := ax_ie h c89
    refine ax_iload K 0 rfl dX2_findGreedy_92 ?_
    refine ax_iload K 7 rfl dX2_findGreedy_94 ?_
    refine ax_icmp_gt (tgt := 102) K dX2_findGreedy_96 (by decide) (fun c96 => ?_) (fun c96 => ?_)
    · have h := ax_it h c96
      exact ax_sub [2, 3, 4, 5, 8, 1, 9, 0] rfl (km_findGreedy_j102 K E hK21 v1 v2 v3 v6 s0 v8 r81 σ81 h)
    · have h := ax_ie h c96
      refine ax_goto (tgt := 110) K dX2_findGreedy_99 (by decide) ?_
      exact ax_sub [2, 3, 4, 5, 6, 7, 8, 1, 9] rfl (km_findGreedy_j110 K E hK21 v1 v2 v3 v4 v5 v6 s0 v8 σ81 h)
set_option maxHeartbeats 4000000 in
theorem km_findGreedy_j71 {Z : AZ} {G : AG} {L : Nat → Nat} {P : St → Prop} (K : AK Z G cX2_findGreedy RX2 13 (rmH 175)) (E : AEv Z cX2_findGreedy (mW G L) 0 0 P) {K21 : Int32 → Int32 → Int32 → Int32 → Int32 → Int32 → Int32 → Int32 → St → Prop} (hK21 : ∀ (v1 : Int32) (v2 : Int32) (v3 : Int32) (v4 : Int32) (v5 : Int32) (v6 : Int32) (v7 : Int32) (v8 : Int32) (σ : St), K21 v1 v2 v3 v4 v5 v6 v7 v8 σ → AX Z 0 0 21 [(0, .ref (L 0)), (1, .int v1), (2, .int v2), (3, .int v3), (4, .int v4), (5, .int v5), (6, .int v6), (7, .int v7), (8, .int v8)] [] (mW G L σ)) (v1 : Int32) (v2 : Int32) (v3 : Int32) (v4 : Int32) (v5 : Int32) (v6 : Int32) (v8 : Int32) (σ : St) (h : wm_findGreedy_j71 P K21 v1 v2 v3 v4 v5 v6 v8 σ) : AX Z 0 0 71 [(0, .ref (L 0)), (1, .int v1), (2, .int v2), (3, .int v3), (4, .int v4), (5, .int v5), (6, .int v6), (8, .int v8)] [] (mW G L σ) := by
  unfold wm_findGreedy_j71 at h
  refine ax_iconst (v := (1 : Int32)) K (by decide) dX2_findGreedy_71 ?_
  refine ax_goto (tgt := 76) K dX2_findGreedy_72 (by decide) ?_
  exact ax_sub [0, 1, 2, 3, 4, 5, 6, 7] rfl (km_findGreedy_j76 K E hK21 v1 v2 v3 v4 v5 v6 v8 (1 : Int32) σ h)
set_option maxHeartbeats 4000000 in
theorem km_findGreedy_l21 {Z : AZ} {G : AG} {L : Nat → Nat} {P : St → Prop} (K : AK Z G cX2_findGreedy RX2 13 (rmH 175)) (E : AEv Z cX2_findGreedy (mW G L) 0 0 P) {K141 : Int32 → Int32 → Int32 → Int32 → Int32 → Int32 → Int32 → St → Prop} (hK141 : ∀ (v1 : Int32) (v2 : Int32) (v3 : Int32) (v4 : Int32) (v6 : Int32) (v7 : Int32) (s0 : Int32) (σ : St), K141 v1 v2 v3 v4 v6 v7 s0 σ → AX Z 0 0 141 [(0, .ref (L 0)), (1, .int v1), (2, .int v2), (3, .int v3), (4, .int v4), (6, .int v6), (7, .int v7)] [.int s0] (mW G L σ)) : ∀ (n : Nat) (v1 : Int32) (v2 : Int32) (v3 : Int32) (v4 : Int32) (v5 : Int32) (v6 : Int32) (v7 : Int32) (v8 : Int32) (σ : St), wm_findGreedy_l21 P K141 n v1 v2 v3 v4 v5 v6 v7 v8 σ → AX Z 0 0 21 [(0, .ref (L 0)), (1, .int v1), (2, .int v2), (3, .int v3), (4, .int v4), (5, .int v5), (6, .int v6), (7, .int v7), (8, .int v8)] [] (mW G L σ) := by
  intro n
  induction n with
  | zero => intro v1 v2 v3 v4 v5 v6 v7 v8 σ h; exact False.elim h
  | succ n ih =>
    intro v1 v2 v3 v4 v5 v6 v7 v8 σ h
    rw [wm_findGreedy_l21_s] at h
    refine ax_iload K 8 rfl dX2_findGreedy_21 ?_
    refine ax_aload_n K 0 rfl dX2_findGreedy_23 ?_
    refine mg_dishes K dX2_findGreedy_24 ?_
    refine ax_icmp_ge (tgt := 116) K dX2_findGreedy_27 (by decide) (fun c27 => ?_) (fun c27 => ?_)
    · have h := ax_it h c27
      refine ax_iload K 4 rfl dX2_findGreedy_116 ?_
      refine ax_iconst (v := (-1 : Int32)) K (by decide) dX2_findGreedy_118 ?_
      refine ax_icmp_ne (tgt := 126) K dX2_findGreedy_119 (by decide) (fun c119 => ?_) (fun c119 => ?_)
      · have h := ax_ie h c119
        refine ax_sipush (v := (11264 : Int32)) K (by decide) dX2_findGreedy_126 ?_
        refine ax_iload_n K 1 rfl dX2_findGreedy_129 ?_
        refine ax_iconst (v := (1 : Int32)) K (by decide) dX2_findGreedy_130 ?_
        refine ax_iload K 4 rfl dX2_findGreedy_131 ?_
        refine ax_ishl K dX2_findGreedy_133 ?_
        refine ax_ior K dX2_findGreedy_134 ?_
        refine ax_iload K 4 rfl dX2_findGreedy_135 ?_
        refine rm_place K (by decide) dX2_findGreedy_137 (Nat.le_of_ble_eq_true rfl) h (fun r137 h => ?_)
        refine ax_iadd K dX2_findGreedy_140 ?_
        exact ax_sub [0, 1, 2, 3, 4, 6, 7] rfl (hK141 v1 v2 v3 v4 v6 v7 ((11264 : Int32) + r137) σ h)
      · have h := ax_it h c119
        refine ax_iconst (v := (0 : Int32)) K (by decide) dX2_findGreedy_122 ?_
        refine ax_goto (tgt := 141) K dX2_findGreedy_123 (by decide) ?_
        exact ax_sub [0, 1, 2, 3, 4, 6, 7] rfl (hK141 v1 v2 v3 v4 v6 v7 (0 : Int32) σ h)
    · have h := ax_ie h c27
      refine ax_aload_n K 0 rfl dX2_findGreedy_30 ?_
      refine ax_iload_n K 1 rfl dX2_findGreedy_31 ?_
      refine ax_iload_n K 2 rfl dX2_findGreedy_32 ?_
      refine ax_iload K 8 rfl dX2_findGreedy_33 ?_
      refine rm_may K (by decide) dX2_findGreedy_35 (Nat.le_of_ble_eq_true rfl) h (fun r35 σ35 h => ?_)
      refine ax_if_ne (tgt := 44) K dX2_findGreedy_38 (by decide) (fun c38 => ?_) (fun c38 => ?_)
      · have h := ax_ie h c38
        refine ax_iconst (v := (1 : Int32)) K (by decide) dX2_findGreedy_44 ?_
        refine ax_istore (lv' := [(6, .int (1 : Int32)), (0, .ref (L 0)), (1, .int v1), (2, .int v2), (3, .int v3), (4, .int v4), (5, .int v5), (7, .int v7), (8, .int v8)]) K dX2_findGreedy_45 (by decide) rfl ?_
        refine ax_iload K 7 rfl dX2_findGreedy_47 ?_
        refine ax_if_ne (tgt := 71) K dX2_findGreedy_49 (by decide) (fun c49 => ?_) (fun c49 => ?_)
        · have h := ax_ie h c49
          exact ax_sub [1, 2, 3, 4, 5, 6, 0, 8] rfl (km_findGreedy_j71 K E ih v1 v2 v3 v4 v5 (1 : Int32) v8 σ35 h)
        · have h := ax_it h c49
          refine ax_aload_n K 1 rfl dX2_findGreedy_52 ?_
          refine mg_isShamed K dX2_findGreedy_53 ?_
          refine ax_iload_n K 2 rfl dX2_findGreedy_56 ?_
          refine ax_iconst (v := (1 : Int32)) K (by decide) dX2_findGreedy_57 ?_
          refine ax_iload K 8 rfl dX2_findGreedy_58 ?_
          refine ax_ishl K dX2_findGreedy_60 ?_
          refine ax_ior K dX2_findGreedy_61 ?_
          refine ax_iload K 8 rfl dX2_findGreedy_62 ?_
          refine rm_place K (by decide) dX2_findGreedy_64 (Nat.le_of_ble_eq_true rfl) h (fun r64 h => ?_)
          refine ml_isShamed K h.1 dX2_findGreedy_67 ?_
          replace h := h.2
          refine ax_if_eq (tgt := 75) K dX2_findGreedy_68 (by decide) (fun c68 => ?_) (fun c68 => ?_)
          · have h := ax_it h c68
            refine ax_iconst (v := (0 : Int32)) K (by decide) dX2_findGreedy_75 ?_
            exact ax_sub [1, 2, 3, 4, 5, 6, 0, 8] rfl (km_findGreedy_j76 K E ih v1 v2 v3 v4 v5 (1 : Int32) v8 (0 : Int32) σ35 h)
          · have h := ax_ie h c68
            exact ax_sub [1, 2, 3, 4, 5, 6, 0, 8] rfl (km_findGreedy_j71 K E ih v1 v2 v3 v4 v5 (1 : Int32) v8 σ35 h)
      · have h := ax_it h c38
        refine ax_goto (tgt := 110) K dX2_findGreedy_41 (by decide) ?_
        exact ax_sub [0, 1, 2, 3, 4, 5, 6, 7, 8] rfl (km_findGreedy_j110 K E ih v1 v2 v3 v4 v5 v6 v7 v8 σ35 h)
set_option maxHeartbeats 4000000 in
theorem km_findGreedy_j330 {Z : AZ} {G : AG} {L : Nat → Nat} {P : St → Prop} (K : AK Z G cX2_findGreedy RX2 13 (rmH 175)) (E : AEv Z cX2_findGreedy (mW G L) 0 0 P) {K229 : Int32 → Int32 → Int32 → Int32 → Int32 → Int32 → Int32 → St → Prop} (hK229 : ∀ (v1 : Int32) (v2 : Int32) (v3 : Int32) (v7 : Int32) (v9 : Int32) (v10 : Int32) (v11 : Int32) (σ : St), K229 v1 v2 v3 v7 v9 v10 v11 σ → AX Z 0 0 229 [(0, .ref (L 0)), (1, .int v1), (2, .int v2), (3, .int v3), (7, .int v7), (9, .int v9), (10, .int v10), (11, .int v11)] [] (mW G L σ)) (v1 : Int32) (v2 : Int32) (v3 : Int32) (v7 : Int32) (v9 : Int32) (v10 : Int32) (v11 : Int32) (σ : St) (h : wm_findGreedy_j330 P K229 v1 v2 v3 v7 v9 v10 v11 σ) : AX Z 0 0 330 [(0, .ref (L 0)), (1, .int v1), (2, .int v2), (3, .int v3), (7, .int v7), (9, .int v9), (10, .int v10), (11, .int v11)] [] (mW G L σ) := by
  unfold wm_findGreedy_j330 at h
  refine ax_iinc (lv' := [(11, .int (v11 + (1 : Int32))), (0, .ref (L 0)), (1, .int v1), (2, .int v2), (3, .int v3), (7, .int v7), (9, .int v9), (10, .int v10)]) (v := (v11 + (1 : Int32))) K 7 dX2_findGreedy_330 rfl (by rfl) (by decide) rfl ?_
  refine ax_goto (tgt := 229) K dX2_findGreedy_333 (by decide) ?_
  exact ax_sub [1, 2, 3, 4, 5, 6, 7, 0] rfl (hK229 v1 v2 v3 v7 v9 v10 (v11 + (1 : Int32)) σ h)
set_option maxHeartbeats 4000000 in
theorem km_findGreedy_j325 {Z : AZ} {G : AG} {L : Nat → Nat} {P : St → Prop} (K : AK Z G cX2_findGreedy RX2 13 (rmH 175)) (E : AEv Z cX2_findGreedy (mW G L) 0 0 P) {K229 : Int32 → Int32 → Int32 → Int32 → Int32 → Int32 → Int32 → St → Prop} (hK229 : ∀ (v1 : Int32) (v2 : Int32) (v3 : Int32) (v7 : Int32) (v9 : Int32) (v10 : Int32) (v11 : Int32) (σ : St), K229 v1 v2 v3 v7 v9 v10 v11 σ → AX Z 0 0 229 [(0, .ref (L 0)), (1, .int v1), (2, .int v2), (3, .int v3), (7, .int v7), (9, .int v9), (10, .int v10), (11, .int v11)] [] (mW G L σ)) (v1 : Int32) (v2 : Int32) (v3 : Int32) (v7 : Int32) (v11 : Int32) (s0 : Int32) (σ : St) (h : wm_findGreedy_j325 P K229 v1 v2 v3 v7 v11 s0 σ) : AX Z 0 0 325 [(0, .ref (L 0)), (1, .int v1), (2, .int v2), (3, .int v3), (7, .int v7), (11, .int v11)] [.int s0] (mW G L σ) := by
  unfold wm_findGreedy_j325 at h
  refine ax_istore (lv' := [(9, .int s0), (0, .ref (L 0)), (1, .int v1), (2, .int v2), (3, .int v3), (7, .int v7), (11, .int v11)]) K dX2_findGreedy_325 (by decide) rfl ?_
  refine ax_iconst (v := (0 : Int32)) K (by decide) dX2_findGreedy_327 ?_
  refine ax_istore (lv' := [(10, .int (0 : Int32)), (9, .int s0), (0, .ref (L 0)), (1, .int v1), (2, .int v2), (3, .int v3), (7, .int v7), (11, .int v11)]) K dX2_findGreedy_328 (by decide) rfl ?_
  exact ax_sub [2, 3, 4, 5, 6, 1, 0, 7] rfl (km_findGreedy_j330 K E hK229 v1 v2 v3 v7 s0 (0 : Int32) v11 σ h)
set_option maxHeartbeats 4000000 in
theorem km_findGreedy_l229 {Z : AZ} {G : AG} {L : Nat → Nat} {P : St → Prop} (K : AK Z G cX2_findGreedy RX2 13 (rmH 175)) (E : AEv Z cX2_findGreedy (mW G L) 0 0 P) : ∀ (n : Nat) (v1 : Int32) (v2 : Int32) (v3 : Int32) (v7 : Int32) (v9 : Int32) (v10 : Int32) (v11 : Int32) (σ : St), wm_findGreedy_l229 P  n v1 v2 v3 v7 v9 v10 v11 σ → AX Z 0 0 229 [(0, .ref (L 0)), (1, .int v1), (2, .int v2), (3, .int v3), (7, .int v7), (9, .int v9), (10, .int v10), (11, .int v11)] [] (mW G L σ) := by
  intro n
  induction n with
  | zero => intro v1 v2 v3 v7 v9 v10 v11 σ h; exact False.elim h
  | succ n ih =>
    intro v1 v2 v3 v7 v9 v10 v11 σ h
    rw [wm_findGreedy_l229_s] at h
    refine ax_iload K 7 rfl dX2_findGreedy_229 ?_
    refine ax_aload_n K 0 rfl dX2_findGreedy_231 ?_
    refine mg_dishes K dX2_findGreedy_232 ?_
    refine ax_icmp_ge (tgt := 336) K dX2_findGreedy_235 (by decide) (fun c235 => ?_) (fun c235 => ?_)
    · have h := ax_it h c235
      refine ax_aload_n K 0 rfl dX2_findGreedy_336 ?_
      refine mg_moreOf K dX2_findGreedy_337 ?_
      refine ax_sipush (v := (11264 : Int32)) K (by decide) dX2_findGreedy_340 ?_
      refine ax_iload_n K 3 rfl dX2_findGreedy_343 ?_
      refine ax_iadd K dX2_findGreedy_344 ?_
      refine ax_iload K 5 rfl dX2_findGreedy_345 ?_
      refine ms_moreOf K h.1 dX2_findGreedy_347 ?_
      replace h := h.2
      exact E _ _ _ dX2_findGreedy_348 h
    · have h := ax_ie h c235
      refine ax_aload_n K 0 rfl dX2_findGreedy_238 ?_
      refine ax_iload_n K 1 rfl dX2_findGreedy_239 ?_
      refine ax_iload_n K 2 rfl dX2_findGreedy_240 ?_
      refine ax_iload K 7 rfl dX2_findGreedy_241 ?_
      refine rm_may K (by decide) dX2_findGreedy_243 (Nat.le_of_ble_eq_true rfl) h (fun r243 σ243 h => ?_)
      refine ax_if_eq (tgt := 330) K dX2_findGreedy_246 (by decide) (fun c246 => ?_) (fun c246 => ?_)
      · have h := ax_it h c246
        exact ax_sub [0, 1, 2, 3, 4, 5, 6, 7] rfl (km_findGreedy_j330 K E ih v1 v2 v3 v7 v9 v10 v11 σ243 h)
      · have h := ax_ie h c246
        refine ax_iload K 4 rfl dX2_findGreedy_249 ?_
        refine ax_aload_n K 0 rfl dX2_findGreedy_251 ?_
        refine mg_isShamed K dX2_findGreedy_252 ?_
        refine ax_iload_n K 1 rfl dX2_findGreedy_255 ?_
        refine ax_iconst (v := (1 : Int32)) K (by decide) dX2_findGreedy_256 ?_
        refine ax_iload K 7 rfl dX2_findGreedy_257 ?_
        refine ax_ishl K dX2_findGreedy_259 ?_
        refine ax_ior K dX2_findGreedy_260 ?_
        refine ax_iload K 7 rfl dX2_findGreedy_261 ?_
        refine rm_place K (by decide) dX2_findGreedy_263 (Nat.le_of_ble_eq_true rfl) h (fun r263 h => ?_)
        refine ml_isShamed K h.1 dX2_findGreedy_266 ?_
        replace h := h.2
        refine ax_icmp_eq (tgt := 273) K dX2_findGreedy_267 (by decide) (fun c267 => ?_) (fun c267 => ?_)
        · have h := ax_it h c267
          refine ax_aload_n K 0 rfl dX2_findGreedy_273 ?_
          refine mg_moreOf K dX2_findGreedy_274 ?_
          refine ax_iload_n K 1 rfl dX2_findGreedy_277 ?_
          refine ax_iconst (v := (1 : Int32)) K (by decide) dX2_findGreedy_278 ?_
          refine ax_iload K 7 rfl dX2_findGreedy_279 ?_
          refine ax_ishl K dX2_findGreedy_281 ?_
          refine ax_ior K dX2_findGreedy_282 ?_
          refine ax_iload K 7 rfl dX2_findGreedy_283 ?_
          refine rm_place K (by decide) dX2_findGreedy_285 (Nat.le_of_ble_eq_true rfl) h (fun r285 h => ?_)
          refine ml_moreOf K h.1 dX2_findGreedy_288 ?_
          replace h := h.2
          refine ax_iconst (v := (1 : Int32)) K (by decide) dX2_findGreedy_289 ?_
          refine ax_iadd K dX2_findGreedy_290 ?_
          refine ax_istore (lv' := [(12, .int ((mA_moreOf σ243 (r285).toNatClampNeg) + (1 : Int32))), (0, .ref (L 0)), (1, .int v1), (2, .int v2), (3, .int v3), (7, .int v7), (9, .int v9), (10, .int v10), (11, .int v11)]) K dX2_findGreedy_291 (by decide) rfl ?_
          refine ax_iload K 7 rfl dX2_findGreedy_293 ?_
          refine ax_if_eq (tgt := 303) K dX2_findGreedy_295 (by decide) (fun c295 => ?_) (fun c295 => ?_)
          · have h := ax_it h c295
            refine ax_iload K 5 rfl dX2_findGreedy_303 ?_
            refine ax_if_eq (tgt := 318) K dX2_findGreedy_305 (by decide) (fun c305 => ?_) (fun c305 => ?_)
            · have h := ax_it h c305
              refine ax_iload K 6 rfl dX2_findGreedy_318 ?_
              refine ax_iload K 0 rfl dX2_findGreedy_320 ?_
              refine rm_max K (by decide) (Nat.le_of_ble_eq_true rfl) dX2_findGreedy_322 ?_
              exact ax_sub [1, 2, 3, 4, 5, 8] rfl (km_findGreedy_j325 K E ih v1 v2 v3 v7 v11 (jmax v9 ((mA_moreOf σ243 (r285).toNatClampNeg) + (1 : Int32))) σ243 h)
            · have h := ax_ie h c305
              refine ax_iload K 6 rfl dX2_findGreedy_308 ?_
              refine ax_iload K 0 rfl dX2_findGreedy_310 ?_
              refine rm_min K (by decide) (Nat.le_of_ble_eq_true rfl) dX2_findGreedy_312 ?_
              refine ax_goto (tgt := 325) K dX2_findGreedy_315 (by decide) ?_
              exact ax_sub [1, 2, 3, 4, 5, 8] rfl (km_findGreedy_j325 K E ih v1 v2 v3 v7 v11 (jmin v9 ((mA_moreOf σ243 (r285).toNatClampNeg) + (1 : Int32))) σ243 h)
          · have h := ax_ie h c295
            refine ax_iload K 0 rfl dX2_findGreedy_298 ?_
            refine ax_goto (tgt := 325) K dX2_findGreedy_300 (by decide) ?_
            exact ax_sub [1, 2, 3, 4, 5, 8] rfl (km_findGreedy_j325 K E ih v1 v2 v3 v7 v11 ((mA_moreOf σ243 (r285).toNatClampNeg) + (1 : Int32)) σ243 h)
        · have h := ax_ie h c267
          refine ax_goto (tgt := 330) K dX2_findGreedy_270 (by decide) ?_
          exact ax_sub [0, 1, 2, 3, 4, 5, 6, 7] rfl (km_findGreedy_j330 K E ih v1 v2 v3 v7 v9 v10 v11 σ243 h)
set_option maxHeartbeats 4000000 in
theorem km_findGreedy_j219 {Z : AZ} {G : AG} {L : Nat → Nat} {P : St → Prop} (K : AK Z G cX2_findGreedy RX2 13 (rmH 175)) (E : AEv Z cX2_findGreedy (mW G L) 0 0 P) (v1 : Int32) (v2 : Int32) (v3 : Int32) (v7 : Int32) (s1 : Int32) (s2 : Int32) (σ : St) (h : wm_findGreedy_j219 P  v1 v2 v3 v7 s1 s2 σ) : AX Z 0 0 219 [(0, .ref (L 0)), (1, .int v1), (2, .int v2), (3, .int v3), (7, .int v7)] [.int s2, .int s1, .ref (L 21)] (mW G L σ) := by
  unfold wm_findGreedy_j219 at h
  refine ms_isShamed K h.1 dX2_findGreedy_219 ?_
  replace h := h.2
  refine ax_iconst (v := (0 : Int32)) K (by decide) dX2_findGreedy_220 ?_
  refine ax_istore (lv' := [(9, .int (0 : Int32)), (0, .ref (L 0)), (1, .int v1), (2, .int v2), (3, .int v3), (7, .int v7)]) K dX2_findGreedy_221 (by decide) rfl ?_
  refine ax_iconst (v := (1 : Int32)) K (by decide) dX2_findGreedy_223 ?_
  refine ax_istore (lv' := [(10, .int (1 : Int32)), (9, .int (0 : Int32)), (0, .ref (L 0)), (1, .int v1), (2, .int v2), (3, .int v3), (7, .int v7)]) K dX2_findGreedy_224 (by decide) rfl ?_
  refine ax_iconst (v := (0 : Int32)) K (by decide) dX2_findGreedy_226 ?_
  refine ax_istore (lv' := [(11, .int (0 : Int32)), (10, .int (1 : Int32)), (9, .int (0 : Int32)), (0, .ref (L 0)), (1, .int v1), (2, .int v2), (3, .int v3), (7, .int v7)]) K dX2_findGreedy_227 (by decide) rfl ?_
  exact ax_sub [3, 4, 5, 6, 7, 2, 1, 0] rfl (h.elim fun n229 h => km_findGreedy_l229 K E  n229 v1 v2 v3 v7 (0 : Int32) (1 : Int32) (0 : Int32) (mU_isShamed σ s1 (vp_nar .boolean s2)) h)
set_option maxHeartbeats 4000000 in
theorem km_findGreedy_j218 {Z : AZ} {G : AG} {L : Nat → Nat} {P : St → Prop} (K : AK Z G cX2_findGreedy RX2 13 (rmH 175)) (E : AEv Z cX2_findGreedy (mW G L) 0 0 P) (v1 : Int32) (v2 : Int32) (v3 : Int32) (v7 : Int32) (s1 : Int32) (σ : St) (h : wm_findGreedy_j218 P  v1 v2 v3 v7 s1 σ) : AX Z 0 0 218 [(0, .ref (L 0)), (1, .int v1), (2, .int v2), (3, .int v3), (7, .int v7)] [.int s1, .ref (L 21)] (mW G L σ) := by
  unfold wm_findGreedy_j218 at h
  refine ax_iconst (v := (0 : Int32)) K (by decide) dX2_findGreedy_218 ?_
  exact ax_sub [0, 1, 2, 3, 4] rfl (km_findGreedy_j219 K E  v1 v2 v3 v7 s1 (0 : Int32) σ h)
set_option maxHeartbeats 4000000 in
theorem km_findGreedy_j194 {Z : AZ} {G : AG} {L : Nat → Nat} {P : St → Prop} (K : AK Z G cX2_findGreedy RX2 13 (rmH 175)) (E : AEv Z cX2_findGreedy (mW G L) 0 0 P) (v1 : Int32) (v2 : Int32) (v3 : Int32) (v6 : Int32) (v7 : Int32) (s1 : Int32) (s2 : Int32) (σ : St) (h : wm_findGreedy_j194 P  v1 v2 v3 v6 v7 s1 s2 σ) : AX Z 0 0 194 [(0, .ref (L 0)), (1, .int v1), (2, .int v2), (3, .int v3), (6, .int v6), (7, .int v7)] [.int s2, .int s1, .ref (L 22)] (mW G L σ) := by
  unfold wm_findGreedy_j194 at h
  refine ms_moreOf K h.1 dX2_findGreedy_194 ?_
  replace h := h.2
  refine ax_aload_n K 0 rfl dX2_findGreedy_195 ?_
  refine mg_isShamed K dX2_findGreedy_196 ?_
  refine ax_sipush (v := (11264 : Int32)) K (by decide) dX2_findGreedy_199 ?_
  refine ax_iload_n K 3 rfl dX2_findGreedy_202 ?_
  refine ax_iadd K dX2_findGreedy_203 ?_
  refine ax_iload K 4 rfl dX2_findGreedy_204 ?_
  refine ax_if_eq (tgt := 218) K dX2_findGreedy_206 (by decide) (fun c206 => ?_) (fun c206 => ?_)
  · have h := ax_it h c206
    exact ax_sub [0, 1, 2, 3, 5] rfl (km_findGreedy_j218 K E  v1 v2 v3 v7 ((11264 : Int32) + v3) (mU_moreOf σ s1 s2) h)
  · have h := ax_ie h c206
    refine ax_iload K 5 rfl dX2_findGreedy_209 ?_
    refine ax_if_eq (tgt := 218) K dX2_findGreedy_211 (by decide) (fun c211 => ?_) (fun c211 => ?_)
    · have h := ax_it h c211
      exact ax_sub [0, 1, 2, 3, 5] rfl (km_findGreedy_j218 K E  v1 v2 v3 v7 ((11264 : Int32) + v3) (mU_moreOf σ s1 s2) h)
    · have h := ax_ie h c211
      refine ax_iconst (v := (1 : Int32)) K (by decide) dX2_findGreedy_214 ?_
      refine ax_goto (tgt := 219) K dX2_findGreedy_215 (by decide) ?_
      exact ax_sub [0, 1, 2, 3, 5] rfl (km_findGreedy_j219 K E  v1 v2 v3 v7 ((11264 : Int32) + v3) (1 : Int32) (mU_moreOf σ s1 s2) h)
set_option maxHeartbeats 4000000 in
theorem km_findGreedy_j169 {Z : AZ} {G : AG} {L : Nat → Nat} {P : St → Prop} (K : AK Z G cX2_findGreedy RX2 13 (rmH 175)) (E : AEv Z cX2_findGreedy (mW G L) 0 0 P) (v1 : Int32) (v2 : Int32) (v3 : Int32) (v4 : Int32) (v6 : Int32) (v7 : Int32) (v8 : Int32) (s1 : Int32) (s2 : Int32) (σ : St) (h : wm_findGreedy_j169 P  v1 v2 v3 v4 v6 v7 v8 s1 s2 σ) : AX Z 0 0 169 [(0, .ref (L 0)), (1, .int v1), (2, .int v2), (3, .int v3), (4, .int v4), (6, .int v6), (7, .int v7), (8, .int v8)] [.int s2, .int s1, .ref (L 21)] (mW G L σ) := by
  unfold wm_findGreedy_j169 at h
  refine ms_isShamed K h.1 dX2_findGreedy_169 ?_
  replace h := h.2
  refine ax_aload_n K 0 rfl dX2_findGreedy_170 ?_
  refine mg_moreOf K dX2_findGreedy_171 ?_
  refine ax_iload_n K 3 rfl dX2_findGreedy_174 ?_
  refine ax_iload K 4 rfl dX2_findGreedy_175 ?_
  refine ax_iconst (v := (-1 : Int32)) K (by decide) dX2_findGreedy_177 ?_
  refine ax_icmp_ne (tgt := 185) K dX2_findGreedy_178 (by decide) (fun c178 => ?_) (fun c178 => ?_)
  · have h := ax_ie h c178
    refine ax_aload_n K 0 rfl dX2_findGreedy_185 ?_
    refine mg_moreOf K dX2_findGreedy_186 ?_
    refine ax_iload K 7 rfl dX2_findGreedy_189 ?_
    refine ml_moreOf K h.1 dX2_findGreedy_191 ?_
    replace h := h.2
    refine ax_iconst (v := (1 : Int32)) K (by decide) dX2_findGreedy_192 ?_
    refine ax_iadd K dX2_findGreedy_193 ?_
    exact ax_sub [0, 1, 2, 3, 5, 6] rfl (km_findGreedy_j194 K E  v1 v2 v3 v6 v7 v3 ((mA_moreOf (mU_isShamed σ s1 (vp_nar .boolean s2)) (v8).toNatClampNeg) + (1 : Int32)) (mU_isShamed σ s1 (vp_nar .boolean s2)) h)
  · have h := ax_it h c178
    refine ax_iconst (v := (0 : Int32)) K (by decide) dX2_findGreedy_181 ?_
    refine ax_goto (tgt := 194) K dX2_findGreedy_182 (by decide) ?_
    exact ax_sub [0, 1, 2, 3, 5, 6] rfl (km_findGreedy_j194 K E  v1 v2 v3 v6 v7 v3 (0 : Int32) (mU_isShamed σ s1 (vp_nar .boolean s2)) h)
set_option maxHeartbeats 4000000 in
theorem km_findGreedy_j164 {Z : AZ} {G : AG} {L : Nat → Nat} {P : St → Prop} (K : AK Z G cX2_findGreedy RX2 13 (rmH 175)) (E : AEv Z cX2_findGreedy (mW G L) 0 0 P) (v1 : Int32) (v2 : Int32) (v3 : Int32) (v4 : Int32) (v6 : Int32) (v7 : Int32) (v8 : Int32) (s1 : Int32) (σ : St) (h : wm_findGreedy_j164 P  v1 v2 v3 v4 v6 v7 v8 s1 σ) : AX Z 0 0 164 [(0, .ref (L 0)), (1, .int v1), (2, .int v2), (3, .int v3), (4, .int v4), (6, .int v6), (7, .int v7), (8, .int v8)] [.int s1, .ref (L 21)] (mW G L σ) := by
  unfold wm_findGreedy_j164 at h
  refine ax_iconst (v := (1 : Int32)) K (by decide) dX2_findGreedy_164 ?_
  refine ax_goto (tgt := 169) K dX2_findGreedy_165 (by decide) ?_
  exact ax_sub [0, 1, 2, 3, 4, 5, 6, 7] rfl (km_findGreedy_j169 K E  v1 v2 v3 v4 v6 v7 v8 s1 (1 : Int32) σ h)
set_option maxHeartbeats 4000000 in
theorem km_findGreedy_j141 {Z : AZ} {G : AG} {L : Nat → Nat} {P : St → Prop} (K : AK Z G cX2_findGreedy RX2 13 (rmH 175)) (E : AEv Z cX2_findGreedy (mW G L) 0 0 P) (v1 : Int32) (v2 : Int32) (v3 : Int32) (v4 : Int32) (v6 : Int32) (v7 : Int32) (s0 : Int32) (σ : St) (h : wm_findGreedy_j141 P  v1 v2 v3 v4 v6 v7 s0 σ) : AX Z 0 0 141 [(0, .ref (L 0)), (1, .int v1), (2, .int v2), (3, .int v3), (4, .int v4), (6, .int v6), (7, .int v7)] [.int s0] (mW G L σ) := by
  unfold wm_findGreedy_j141 at h
  refine ax_istore (lv' := [(8, .int s0), (0, .ref (L 0)), (1, .int v1), (2, .int v2), (3, .int v3), (4, .int v4), (6, .int v6), (7, .int v7)]) K dX2_findGreedy_141 (by decide) rfl ?_
  refine ax_aload_n K 1 rfl dX2_findGreedy_143 ?_
  refine mg_isShamed K dX2_findGreedy_144 ?_
  refine ax_iload_n K 4 rfl dX2_findGreedy_147 ?_
  refine ax_iload K 5 rfl dX2_findGreedy_148 ?_
  refine ax_iconst (v := (-1 : Int32)) K (by decide) dX2_findGreedy_150 ?_
  refine ax_icmp_eq (tgt := 164) K dX2_findGreedy_151 (by decide) (fun c151 => ?_) (fun c151 => ?_)
  · have h := ax_it h c151
    exact ax_sub [1, 2, 3, 4, 5, 6, 7, 0] rfl (km_findGreedy_j164 K E  v1 v2 v3 v4 v6 v7 s0 v3 σ h)
  · have h := ax_ie h c151
    refine ax_aload_n K 1 rfl dX2_findGreedy_154 ?_
    refine mg_isShamed K dX2_findGreedy_155 ?_
    refine ax_iload K 0 rfl dX2_findGreedy_158 ?_
    refine ml_isShamed K h.1 dX2_findGreedy_160 ?_
    replace h := h.2
    refine ax_if_eq (tgt := 168) K dX2_findGreedy_161 (by decide) (fun c161 => ?_) (fun c161 => ?_)
    · have h := ax_it h c161
      refine ax_iconst (v := (0 : Int32)) K (by decide) dX2_findGreedy_168 ?_
      exact ax_sub [1, 2, 3, 4, 5, 6, 7, 0] rfl (km_findGreedy_j169 K E  v1 v2 v3 v4 v6 v7 s0 v3 (0 : Int32) σ h)
    · have h := ax_ie h c161
      exact ax_sub [1, 2, 3, 4, 5, 6, 7, 0] rfl (km_findGreedy_j164 K E  v1 v2 v3 v4 v6 v7 s0 v3 σ h)
set_option maxHeartbeats 4000000 in
theorem mm_findGreedy {l : Launch} {G : AG} {L : Nat → Nat} {σ : St} {v1 : Int32} {v2 : Int32} {P : St → Prop} (h : wm_findGreedy σ v1 v2 P) : CtW l G yX2_findGreedy cX2_findGreedy 13 none (rmH 175) [.ref (L 0), .int v1, .int v2] (mW G L) σ (pV P) := by
  refine CtW.ofV (by decide) (Nat.le_of_ble_eq_true rfl) fun Z _ K E => ?_
  unfold wm_findGreedy at h
  show AX Z 0 0 0 [(0, .ref (L 0)), (1, .int v1), (2, .int v2)] [] (mW G L σ)
  refine ax_iload_n K 1 rfl dX2_findGreedy_0 ?_
  refine ax_iload_n K 2 rfl dX2_findGreedy_1 ?_
  refine rm_place K (by decide) dX2_findGreedy_2 (Nat.le_of_ble_eq_true rfl) h (fun r2 h => ?_)
  refine ax_istore_n (lv' := [(3, .int r2), (0, .ref (L 0)), (1, .int v1), (2, .int v2)]) K dX2_findGreedy_5 (by decide) rfl ?_
  refine ax_iconst (v := (-1 : Int32)) K (by decide) dX2_findGreedy_6 ?_
  refine ax_istore (lv' := [(4, .int (-1 : Int32)), (3, .int r2), (0, .ref (L 0)), (1, .int v1), (2, .int v2)]) K dX2_findGreedy_7 (by decide) rfl ?_
  refine ax_iconst (v := (0 : Int32)) K (by decide) dX2_findGreedy_9 ?_
  refine ax_istore (lv' := [(5, .int (0 : Int32)), (4, .int (-1 : Int32)), (3, .int r2), (0, .ref (L 0)), (1, .int v1), (2, .int v2)]) K dX2_findGreedy_10 (by decide) rfl ?_
  refine ax_iconst (v := (0 : Int32)) K (by decide) dX2_findGreedy_12 ?_
  refine ax_istore (lv' := [(6, .int (0 : Int32)), (5, .int (0 : Int32)), (4, .int (-1 : Int32)), (3, .int r2), (0, .ref (L 0)), (1, .int v1), (2, .int v2)]) K dX2_findGreedy_13 (by decide) rfl ?_
  refine ax_iconst (v := (0 : Int32)) K (by decide) dX2_findGreedy_15 ?_
  refine ax_istore (lv' := [(7, .int (0 : Int32)), (6, .int (0 : Int32)), (5, .int (0 : Int32)), (4, .int (-1 : Int32)), (3, .int r2), (0, .ref (L 0)), (1, .int v1), (2, .int v2)]) K dX2_findGreedy_16 (by decide) rfl ?_
  refine ax_iconst (v := (0 : Int32)) K (by decide) dX2_findGreedy_18 ?_
  refine ax_istore (lv' := [(8, .int (0 : Int32)), (7, .int (0 : Int32)), (6, .int (0 : Int32)), (5, .int (0 : Int32)), (4, .int (-1 : Int32)), (3, .int r2), (0, .ref (L 0)), (1, .int v1), (2, .int v2)]) K dX2_findGreedy_19 (by decide) rfl ?_
  exact ax_sub [6, 7, 8, 5, 4, 3, 2, 1, 0] rfl (h.elim fun n21 h => km_findGreedy_l21 K E (km_findGreedy_j141 K E) n21 v1 v2 r2 (-1 : Int32) (0 : Int32) (0 : Int32) (0 : Int32) (0 : Int32) σ h)
theorem rm_findGreedy {Z : AZ} {G : AG} {cc : ByteArray} {mL hh pc : Nat} {lv : List (Nat × Value)} {rest : List Value} {L : Nat → Nat} {σ : St} (K : AK Z G cc RX2 mL (rmH hh)) (hlt : 175 < hh) (d : decode cc pc = .ok (.invokevirtual 372, 3)) (hrest : (rest.map fun v => v.category).sum ≤ 8) {v1 : Int32} {v2 : Int32} {P : St → Prop} (h : sm_findGreedy σ v1 v2 P) (kk : ∀ (σ' : St), P σ' → AX Z 0 0 (pc + 3) lv (rest) (mW G L σ')) : AX Z 0 0 pc lv (.int v2 :: .int v1 :: .ref (L 0) :: rest) (mW G L σ) :=
  ax_callV (N0 := 2) (As := [.int v1, .int v2]) K (mm_findGreedy (sm_findGreedy_ok h)) q1547 q1549 qs109 q118 q1550 ⟨rfl, by decide, by decide, by decide⟩ rfl ⟨by show 175 + 1 + 1 ≤ hh + 1; omega, by show 8 + (13 + 11) + 60 * (175 + 1) ≤ 60 * (hh + 1); omega⟩ ⟨Nat.zero_le _, Nat.zero_le _⟩ rfl rfl rfl hrest d (fun r σ' hp => by obtain ⟨rfl, hp⟩ := hp; exact kk σ' hp)
/-! m.scoreOf -/
set_option maxHeartbeats 4000000 in
theorem km_scoreOf_l33 {Z : AZ} {G : AG} {L : Nat → Nat} {P : Int32 → St → Prop} (K : AK Z G cX2_scoreOf RX2 7 (rmH 175)) (E : AEi Z cX2_scoreOf .int (mW G L) 0 0 P) {K81 : Int32 → St → Prop} (hK81 : ∀ (s0 : Int32) (σ : St), K81 s0 σ → AX Z 0 0 81 [(0, .ref (L 0))] [.int s0] (mW G L σ)) : ∀ (n : Nat) (v1 : Int32) (v2 : Int32) (v3 : Int32) (v4 : Int32) (v5 : Int32) (σ : St), wm_scoreOf_l33 P K81 n v1 v2 v3 v4 v5 σ → AX Z 0 0 33 [(0, .ref (L 0)), (1, .int v1), (2, .int v2), (3, .int v3), (4, .int v4), (5, .int v5)] [] (mW G L σ) := by
  intro n
  induction n with
  | zero => intro v1 v2 v3 v4 v5 σ h; exact False.elim h
  | succ n ih =>
    intro v1 v2 v3 v4 v5 σ h
    rw [wm_scoreOf_l33_s] at h
    refine ax_iload K 5 rfl dX2_scoreOf_33 ?_
    refine ax_aload_n K 0 rfl dX2_scoreOf_35 ?_
    refine mg_guests K dX2_scoreOf_36 ?_
    refine ax_icmp_ge (tgt := 71) K dX2_scoreOf_39 (by decide) (fun c39 => ?_) (fun c39 => ?_)
    · have h := ax_it h c39
      refine ax_iload_n K 2 rfl dX2_scoreOf_71 ?_
      refine ax_if_ne (tgt := 79) K dX2_scoreOf_72 (by decide) (fun c72 => ?_) (fun c72 => ?_)
      · have h := ax_ie h c72
        refine ax_iload K 4 rfl dX2_scoreOf_79 ?_
        exact ax_sub [0] rfl (hK81 v4 σ h)
      · have h := ax_it h c72
        refine ax_iload_n K 3 rfl dX2_scoreOf_75 ?_
        refine ax_goto (tgt := 81) K dX2_scoreOf_76 (by decide) ?_
        exact ax_sub [0] rfl (hK81 v3 σ h)
    · have h := ax_ie h c39
      refine ax_aload_n K 0 rfl dX2_scoreOf_42 ?_
      refine ax_iload_n K 1 rfl dX2_scoreOf_43 ?_
      refine ax_iload K 5 rfl dX2_scoreOf_44 ?_
      refine rm_joyIn K (by decide) dX2_scoreOf_46 (Nat.le_of_ble_eq_true rfl) h (fun r46 σ46 h => ?_)
      refine ax_istore (lv' := [(6, .int r46), (0, .ref (L 0)), (1, .int v1), (2, .int v2), (3, .int v3), (4, .int v4), (5, .int v5)]) K dX2_scoreOf_49 (by decide) rfl ?_
      refine ax_iload_n K 4 rfl dX2_scoreOf_51 ?_
      refine ax_iload K 0 rfl dX2_scoreOf_52 ?_
      refine ax_iadd K dX2_scoreOf_54 ?_
      refine ax_istore_n (lv' := [(3, .int (v3 + r46)), (6, .int r46), (0, .ref (L 0)), (1, .int v1), (2, .int v2), (4, .int v4), (5, .int v5)]) K dX2_scoreOf_55 (by decide) rfl ?_
      refine ax_iload K 5 rfl dX2_scoreOf_56 ?_
      refine ax_iload K 1 rfl dX2_scoreOf_58 ?_
      refine rm_min K (by decide) (Nat.le_of_ble_eq_true rfl) dX2_scoreOf_60 ?_
      refine ax_istore (lv' := [(4, .int (jmin v4 r46)), (3, .int (v3 + r46)), (6, .int r46), (0, .ref (L 0)), (1, .int v1), (2, .int v2), (5, .int v5)]) K dX2_scoreOf_63 (by decide) rfl ?_
      refine ax_iinc (lv' := [(5, .int (v5 + (1 : Int32))), (4, .int (jmin v4 r46)), (3, .int (v3 + r46)), (6, .int r46), (0, .ref (L 0)), (1, .int v1), (2, .int v2)]) (v := (v5 + (1 : Int32))) K 6 dX2_scoreOf_65 rfl (by rfl) (by decide) rfl ?_
      refine ax_goto (tgt := 33) K dX2_scoreOf_68 (by decide) ?_
      exact ax_sub [4, 5, 6, 2, 1, 0] rfl (ih v1 v2 (v3 + r46) (jmin v4 r46) (v5 + (1 : Int32)) σ46 h)
set_option maxHeartbeats 4000000 in
theorem km_scoreOf_j81 {Z : AZ} {G : AG} {L : Nat → Nat} {P : Int32 → St → Prop} (K : AK Z G cX2_scoreOf RX2 7 (rmH 175)) (E : AEi Z cX2_scoreOf .int (mW G L) 0 0 P) (s0 : Int32) (σ : St) (h : wm_scoreOf_j81 P  s0 σ) : AX Z 0 0 81 [(0, .ref (L 0))] [.int s0] (mW G L σ) := by
  unfold wm_scoreOf_j81 at h
  exact E _ _ _ _ dX2_scoreOf_81 rfl h
set_option maxHeartbeats 4000000 in
theorem mm_scoreOf {l : Launch} {G : AG} {L : Nat → Nat} {σ : St} {v1 : Int32} {v2 : Int32} {P : Int32 → St → Prop} (h : wm_scoreOf σ v1 v2 P) : CtW l G yX2_scoreOf cX2_scoreOf 7 (some .int) (rmH 175) [.ref (L 0), .int v1, .int v2] (mW G L) σ (pI P) := by
  refine CtW.ofI (by decide) (Nat.le_of_ble_eq_true rfl) fun Z _ K E => ?_
  unfold wm_scoreOf at h
  show AX Z 0 0 0 [(0, .ref (L 0)), (1, .int v1), (2, .int v2)] [] (mW G L σ)
  refine ax_iload_n K 2 rfl dX2_scoreOf_0 ?_
  refine ax_iconst (v := (2 : Int32)) K (by decide) dX2_scoreOf_1 ?_
  refine ax_icmp_ne (tgt := 12) K dX2_scoreOf_2 (by decide) (fun c2 => ?_) (fun c2 => ?_)
  · have h := ax_ie h c2
    refine ax_iload_n K 2 rfl dX2_scoreOf_12 ?_
    refine ax_iconst (v := (3 : Int32)) K (by decide) dX2_scoreOf_13 ?_
    refine ax_icmp_ne (tgt := 23) K dX2_scoreOf_14 (by decide) (fun c14 => ?_) (fun c14 => ?_)
    · have h := ax_ie h c14
      refine ax_iconst (v := (0 : Int32)) K (by decide) dX2_scoreOf_23 ?_
      refine ax_istore_n (lv' := [(3, .int (0 : Int32)), (0, .ref (L 0)), (1, .int v1), (2, .int v2)]) K dX2_scoreOf_24 (by decide) rfl ?_
      refine ax_ldcw (v := (1000000 : Int32)) K q1507 dX2_scoreOf_25 ?_
      refine ax_istore (lv' := [(4, .int (1000000 : Int32)), (3, .int (0 : Int32)), (0, .ref (L 0)), (1, .int v1), (2, .int v2)]) K dX2_scoreOf_28 (by decide) rfl ?_
      refine ax_iconst (v := (0 : Int32)) K (by decide) dX2_scoreOf_30 ?_
      refine ax_istore (lv' := [(5, .int (0 : Int32)), (4, .int (1000000 : Int32)), (3, .int (0 : Int32)), (0, .ref (L 0)), (1, .int v1), (2, .int v2)]) K dX2_scoreOf_31 (by decide) rfl ?_
      exact ax_sub [3, 4, 5, 2, 1, 0] rfl (h.elim fun n33 h => km_scoreOf_l33 K E (km_scoreOf_j81 K E) n33 v1 v2 (0 : Int32) (1000000 : Int32) (0 : Int32) σ h)
    · have h := ax_it h c14
      refine ax_aload_n K 0 rfl dX2_scoreOf_17 ?_
      refine ax_iload_n K 1 rfl dX2_scoreOf_18 ?_
      refine rm_costIn K (by decide) dX2_scoreOf_19 (Nat.le_of_ble_eq_true rfl) h (fun r19 σ19 h => ?_)
      exact E _ _ _ _ dX2_scoreOf_22 rfl h
  · have h := ax_it h c2
    refine ax_aload_n K 0 rfl dX2_scoreOf_5 ?_
    refine ax_iload_n K 1 rfl dX2_scoreOf_6 ?_
    refine rm_costIn K (by decide) dX2_scoreOf_7 (Nat.le_of_ble_eq_true rfl) h (fun r7 σ7 h => ?_)
    refine ax_ineg K dX2_scoreOf_10 ?_
    exact E _ _ _ _ dX2_scoreOf_11 rfl h
theorem rm_scoreOf {Z : AZ} {G : AG} {cc : ByteArray} {mL hh pc : Nat} {lv : List (Nat × Value)} {rest : List Value} {L : Nat → Nat} {σ : St} (K : AK Z G cc RX2 mL (rmH hh)) (hlt : 175 < hh) (d : decode cc pc = .ok (.invokevirtual 346, 3)) (hrest : (rest.map fun v => v.category).sum ≤ 8) {v1 : Int32} {v2 : Int32} {P : Int32 → St → Prop} (h : sm_scoreOf σ v1 v2 P) (kk : ∀ (r : Int32) (σ' : St), P r σ' → AX Z 0 0 (pc + 3) lv (.int r :: rest) (mW G L σ')) : AX Z 0 0 pc lv (.int v2 :: .int v1 :: .ref (L 0) :: rest) (mW G L σ) :=
  ax_callV (N0 := 2) (As := [.int v1, .int v2]) K (mm_scoreOf (sm_scoreOf_ok h)) q1503 q1505 qs104 q118 q1506 ⟨rfl, by decide, by decide, by decide⟩ rfl ⟨by show 175 + 1 + 1 ≤ hh + 1; omega, by show 8 + (7 + 11) + 60 * (175 + 1) ≤ 60 * (hh + 1); omega⟩ ⟨Nat.zero_le _, Nat.zero_le _⟩ rfl rfl rfl hrest d (fun r σ' hp => by obtain ⟨v, rfl, hp⟩ := hp; exact kk v σ' hp)
/-! m.findBest -/
set_option maxHeartbeats 4000000 in
theorem km_findBest_j95 {Z : AZ} {G : AG} {L : Nat → Nat} {P : Int32 → St → Prop} (K : AK Z G cX2_findBest RX2 10 (rmH 176)) (E : AEi Z cX2_findBest .boolean (mW G L) 0 0 P) {K49 : Int32 → Int32 → Int32 → Int32 → Int32 → Int32 → Int32 → Int32 → Int32 → St → Prop} (hK49 : ∀ (v1 : Int32) (v2 : Int32) (v3 : Int32) (v4 : Int32) (v5 : Int32) (v6 : Int32) (v7 : Int32) (v8 : Int32) (v9 : Int32) (σ : St), K49 v1 v2 v3 v4 v5 v6 v7 v8 v9 σ → AX Z 0 0 49 [(0, .ref (L 0)), (1, .int v1), (2, .int v2), (3, .int v3), (4, .int v4), (5, .int v5), (6, .int v6), (7, .int v7), (8, .int v8), (9, .int v9)] [] (mW G L σ)) (v1 : Int32) (v2 : Int32) (v3 : Int32) (v4 : Int32) (v5 : Int32) (v6 : Int32) (v7 : Int32) (v9 : Int32) (s0 : Int32) (σ : St) (h : wm_findBest_j95 P K49 v1 v2 v3 v4 v5 v6 v7 v9 s0 σ) : AX Z 0 0 95 [(0, .ref (L 0)), (1, .int v1), (2, .int v2), (3, .int v3), (4, .int v4), (5, .int v5), (6, .int v6), (7, .int v7), (9, .int v9)] [.int s0] (mW G L σ) := by
  unfold wm_findBest_j95 at h
  refine ax_istore (lv' := [(8, .int s0), (0, .ref (L 0)), (1, .int v1), (2, .int v2), (3, .int v3), (4, .int v4), (5, .int v5), (6, .int v6), (7, .int v7), (9, .int v9)]) K dX2_findBest_95 (by decide) rfl ?_
  refine ax_iinc (lv' := [(9, .int (v9 + (1 : Int32))), (8, .int s0), (0, .ref (L 0)), (1, .int v1), (2, .int v2), (3, .int v3), (4, .int v4), (5, .int v5), (6, .int v6), (7, .int v7)]) (v := (v9 + (1 : Int32))) K 9 dX2_findBest_97 rfl (by rfl) (by decide) rfl ?_
  refine ax_goto (tgt := 49) K dX2_findBest_100 (by decide) ?_
  exact ax_sub [2, 3, 4, 5, 6, 7, 8, 9, 1, 0] rfl (hK49 v1 v2 v3 v4 v5 v6 v7 s0 (v9 + (1 : Int32)) σ h)
set_option maxHeartbeats 4000000 in
theorem km_findBest_j90 {Z : AZ} {G : AG} {L : Nat → Nat} {P : Int32 → St → Prop} (K : AK Z G cX2_findBest RX2 10 (rmH 176)) (E : AEi Z cX2_findBest .boolean (mW G L) 0 0 P) {K49 : Int32 → Int32 → Int32 → Int32 → Int32 → Int32 → Int32 → Int32 → Int32 → St → Prop} (hK49 : ∀ (v1 : Int32) (v2 : Int32) (v3 : Int32) (v4 : Int32) (v5 : Int32) (v6 : Int32) (v7 : Int32) (v8 : Int32) (v9 : Int32) (σ : St), K49 v1 v2 v3 v4 v5 v6 v7 v8 v9 σ → AX Z 0 0 49 [(0, .ref (L 0)), (1, .int v1), (2, .int v2), (3, .int v3), (4, .int v4), (5, .int v5), (6, .int v6), (7, .int v7), (8, .int v8), (9, .int v9)] [] (mW G L σ)) (v1 : Int32) (v2 : Int32) (v3 : Int32) (v4 : Int32) (v5 : Int32) (v6 : Int32) (v7 : Int32) (v9 : Int32) (σ : St) (h : wm_findBest_j90 P K49 v1 v2 v3 v4 v5 v6 v7 v9 σ) : AX Z 0 0 90 [(0, .ref (L 0)), (1, .int v1), (2, .int v2), (3, .int v3), (4, .int v4), (5, .int v5), (6, .int v6), (7, .int v7), (9, .int v9)] [] (mW G L σ) := by
  unfold wm_findBest_j90 at h
  refine ax_iconst (v := (1 : Int32)) K (by decide) dX2_findBest_90 ?_
  refine ax_goto (tgt := 95) K dX2_findBest_91 (by decide) ?_
  exact ax_sub [0, 1, 2, 3, 4, 5, 6, 7, 8] rfl (km_findBest_j95 K E hK49 v1 v2 v3 v4 v5 v6 v7 v9 (1 : Int32) σ h)
set_option maxHeartbeats 4000000 in
theorem km_findBest_j94 {Z : AZ} {G : AG} {L : Nat → Nat} {P : Int32 → St → Prop} (K : AK Z G cX2_findBest RX2 10 (rmH 176)) (E : AEi Z cX2_findBest .boolean (mW G L) 0 0 P) {K49 : Int32 → Int32 → Int32 → Int32 → Int32 → Int32 → Int32 → Int32 → Int32 → St → Prop} (hK49 : ∀ (v1 : Int32) (v2 : Int32) (v3 : Int32) (v4 : Int32) (v5 : Int32) (v6 : Int32) (v7 : Int32) (v8 : Int32) (v9 : Int32) (σ : St), K49 v1 v2 v3 v4 v5 v6 v7 v8 v9 σ → AX Z 0 0 49 [(0, .ref (L 0)), (1, .int v1), (2, .int v2), (3, .int v3), (4, .int v4), (5, .int v5), (6, .int v6), (7, .int v7), (8, .int v8), (9, .int v9)] [] (mW G L σ)) (v1 : Int32) (v2 : Int32) (v3 : Int32) (v4 : Int32) (v5 : Int32) (v6 : Int32) (v7 : Int32) (v9 : Int32) (σ : St) (h : wm_findBest_j94 P K49 v1 v2 v3 v4 v5 v6 v7 v9 σ) : AX Z 0 0 94 [(0, .ref (L 0)), (1, .int v1), (2, .int v2), (3, .int v3), (4, .int v4), (5, .int v5), (6, .int v6), (7, .int v7), (9, .int v9)] [] (mW G L σ) := by
  unfold wm_findBest_j94 at h
  refine ax_iconst (v := (0 : Int32)) K (by decide) dX2_findBest_94 ?_
  exact ax_sub [0, 1, 2, 3, 4, 5, 6, 7, 8] rfl (km_findBest_j95 K E hK49 v1 v2 v3 v4 v5 v6 v7 v9 (0 : Int32) σ h)
set_option maxHeartbeats 4000000 in
theorem km_findBest_l49 {Z : AZ} {G : AG} {L : Nat → Nat} {P : Int32 → St → Prop} (K : AK Z G cX2_findBest RX2 10 (rmH 176)) (E : AEi Z cX2_findBest .boolean (mW G L) 0 0 P) {K177 : Int32 → Int32 → Int32 → Int32 → Int32 → Int32 → St → Prop} (hK177 : ∀ (v1 : Int32) (v2 : Int32) (v3 : Int32) (v4 : Int32) (v5 : Int32) (v7 : Int32) (σ : St), K177 v1 v2 v3 v4 v5 v7 σ → AX Z 0 0 177 [(0, .ref (L 0)), (1, .int v1), (2, .int v2), (3, .int v3), (4, .int v4), (5, .int v5), (7, .int v7)] [] (mW G L σ)) {K188 : Int32 → Int32 → Int32 → Int32 → Int32 → Int32 → St → Prop} (hK188 : ∀ (v1 : Int32) (v2 : Int32) (v3 : Int32) (v4 : Int32) (v5 : Int32) (v7 : Int32) (σ : St), K188 v1 v2 v3 v4 v5 v7 σ → AX Z 0 0 188 [(0, .ref (L 0)), (1, .int v1), (2, .int v2), (3, .int v3), (4, .int v4), (5, .int v5), (7, .int v7)] [] (mW G L σ)) {K191 : Int32 → Int32 → Int32 → Int32 → Int32 → Int32 → Int32 → St → Prop} (hK191 : ∀ (v1 : Int32) (v2 : Int32) (v3 : Int32) (v4 : Int32) (v5 : Int32) (v6 : Int32) (v7 : Int32) (σ : St), K191 v1 v2 v3 v4 v5 v6 v7 σ → AX Z 0 0 191 [(0, .ref (L 0)), (1, .int v1), (2, .int v2), (3, .int v3), (4, .int v4), (5, .int v5), (6, .int v6), (7, .int v7)] [] (mW G L σ)) : ∀ (n : Nat) (v1 : Int32) (v2 : Int32) (v3 : Int32) (v4 : Int32) (v5 : Int32) (v6 : Int32) (v7 : Int32) (v8 : Int32) (v9 : Int32) (σ : St), wm_findBest_l49 P K177 K188 K191 n v1 v2 v3 v4 v5 v6 v7 v8 v9 σ → AX Z 0 0 49 [(0, .ref (L 0)), (1, .int v1), (2, .int v2), (3, .int v3), (4, .int v4), (5, .int v5), (6, .int v6), (7, .int v7), (8, .int v8), (9, .int v9)] [] (mW G L σ) := by
  intro n
  induction n with
  | zero => intro v1 v2 v3 v4 v5 v6 v7 v8 v9 σ h; exact False.elim h
  | succ n ih =>
    intro v1 v2 v3 v4 v5 v6 v7 v8 v9 σ h
    rw [wm_findBest_l49_s] at h
    refine ax_iload K 9 rfl dX2_findBest_49 ?_
    refine ax_aload_n K 0 rfl dX2_findBest_51 ?_
    refine mg_dishes K dX2_findBest_52 ?_
    refine ax_icmp_ge (tgt := 103) K dX2_findBest_55 (by decide) (fun c55 => ?_) (fun c55 => ?_)
    · have h := ax_it h c55
      refine ax_iload K 7 rfl dX2_findBest_103 ?_
      refine ax_iload K 5 rfl dX2_findBest_105 ?_
      refine ax_iconst (v := (-1 : Int32)) K (by decide) dX2_findBest_107 ?_
      refine ax_ixor K dX2_findBest_108 ?_
      refine ax_iand K dX2_findBest_109 ?_
      refine ax_istore (lv' := [(9, .int (v7 &&& (v5 ^^^ (-1 : Int32)))), (0, .ref (L 0)), (1, .int v1), (2, .int v2), (3, .int v3), (4, .int v4), (5, .int v5), (6, .int v6), (7, .int v7), (8, .int v8)]) K dX2_findBest_110 (by decide) rfl ?_
      refine ax_iload K 9 rfl dX2_findBest_112 ?_
      refine ax_if_eq (tgt := 191) K dX2_findBest_114 (by decide) (fun c114 => ?_) (fun c114 => ?_)
      · have h := ax_it h c114
        exact ax_sub [1, 2, 3, 4, 5, 6, 7, 8] rfl (hK191 v1 v2 v3 v4 v5 v6 v7 σ h)
      · have h := ax_ie h c114
        refine ax_iload K 8 rfl dX2_findBest_117 ?_
        refine rm_bitCount K (by decide) dX2_findBest_119 (Nat.le_of_ble_eq_true rfl) ?_
        refine ax_aload_n K 1 rfl dX2_findBest_122 ?_
        refine mg_servedMany K dX2_findBest_123 ?_
        refine ax_iload_n K 2 rfl dX2_findBest_126 ?_
        refine ax_iadd K dX2_findBest_127 ?_
        refine ax_icmp_ne (tgt := 191) K dX2_findBest_128 (by decide) (fun c128 => ?_) (fun c128 => ?_)
        · have h := ax_ie h c128
          exact ax_sub [1, 2, 3, 4, 5, 6, 7, 8] rfl (hK191 v1 v2 v3 v4 v5 v6 v7 σ h)
        · have h := ax_it h c128
          refine ax_aload_n K 1 rfl dX2_findBest_131 ?_
          refine ax_iload K 0 rfl dX2_findBest_132 ?_
          refine rm_costIn K (by decide) dX2_findBest_134 (Nat.le_of_ble_eq_true rfl) h (fun r134 σ134 h => ?_)
          refine ax_iload_n K 3 rfl dX2_findBest_137 ?_
          refine ax_icmp_le (tgt := 144) K dX2_findBest_138 (by decide) (fun c138 => ?_) (fun c138 => ?_)
          · have h := ax_it h c138
            refine ax_aload_n K 1 rfl dX2_findBest_144 ?_
            refine mg_scores K dX2_findBest_145 ?_
            refine ax_iload K 8 rfl dX2_findBest_148 ?_
            refine ax_aload_n K 1 rfl dX2_findBest_150 ?_
            refine ax_iload K 0 rfl dX2_findBest_151 ?_
            refine ax_iload_n K 4 rfl dX2_findBest_153 ?_
            refine rm_scoreOf K (by decide) dX2_findBest_154 (Nat.le_of_ble_eq_true rfl) h (fun r154 σ154 h => ?_)
            refine ms_scores K h.1 dX2_findBest_157 ?_
            replace h := h.2
            refine ax_iload K 7 rfl dX2_findBest_158 ?_
            refine ax_if_eq (tgt := 177) K dX2_findBest_160 (by decide) (fun c160 => ?_) (fun c160 => ?_)
            · have h := ax_it h c160
              exact ax_sub [1, 2, 3, 4, 5, 6, 8] rfl (hK177 v1 v2 v3 v4 v5 v7 (mU_scores σ154 v7 r154) h)
            · have h := ax_ie h c160
              refine ax_aload_n K 1 rfl dX2_findBest_163 ?_
              refine mg_scores K dX2_findBest_164 ?_
              refine ax_iload K 8 rfl dX2_findBest_167 ?_
              refine ml_scores K h.1 dX2_findBest_169 ?_
              replace h := h.2
              refine ax_aload_n K 1 rfl dX2_findBest_170 ?_
              refine mg_bestScore K dX2_findBest_171 ?_
              refine ax_icmp_le (tgt := 188) K dX2_findBest_174 (by decide) (fun c174 => ?_) (fun c174 => ?_)
              · have h := ax_it h c174
                exact ax_sub [1, 2, 3, 4, 5, 6, 8] rfl (hK188 v1 v2 v3 v4 v5 v7 (mU_scores σ154 v7 r154) h)
              · have h := ax_ie h c174
                exact ax_sub [1, 2, 3, 4, 5, 6, 8] rfl (hK177 v1 v2 v3 v4 v5 v7 (mU_scores σ154 v7 r154) h)
          · have h := ax_ie h c138
            refine ax_goto (tgt := 191) K dX2_findBest_141 (by decide) ?_
            exact ax_sub [1, 2, 3, 4, 5, 6, 7, 8] rfl (hK191 v1 v2 v3 v4 v5 v6 v7 σ134 h)
    · have h := ax_ie h c55
      refine ax_iload K 8 rfl dX2_findBest_58 ?_
      refine ax_if_ne (tgt := 90) K dX2_findBest_60 (by decide) (fun c60 => ?_) (fun c60 => ?_)
      · have h := ax_ie h c60
        exact ax_sub [0, 1, 2, 3, 4, 5, 6, 7, 9] rfl (km_findBest_j90 K E ih v1 v2 v3 v4 v5 v6 v7 v9 σ h)
      · have h := ax_it h c60
        refine ax_iload K 7 rfl dX2_findBest_63 ?_
        refine ax_iload K 9 rfl dX2_findBest_65 ?_
        refine rm_isState K (by decide) dX2_findBest_67 (Nat.le_of_ble_eq_true rfl) h (fun r67 h => ?_)
        refine ax_if_eq (tgt := 94) K dX2_findBest_70 (by decide) (fun c70 => ?_) (fun c70 => ?_)
        · have h := ax_it h c70
          exact ax_sub [0, 1, 2, 3, 4, 5, 6, 7, 9] rfl (km_findBest_j94 K E ih v1 v2 v3 v4 v5 v6 v7 v9 σ h)
        · have h := ax_ie h c70
          refine ax_aload_n K 0 rfl dX2_findBest_73 ?_
          refine mg_rows K dX2_findBest_74 ?_
          refine ax_iload K 7 rfl dX2_findBest_77 ?_
          refine ax_iload K 9 rfl dX2_findBest_79 ?_
          refine rm_place K (by decide) dX2_findBest_81 (Nat.le_of_ble_eq_true rfl) h (fun r81 h => ?_)
          refine ml_rows K h.1 dX2_findBest_84 ?_
          replace h := h.2
          refine ax_lconst (v := (0 : Int64)) K (by decide) dX2_findBest_85 ?_
          refine ax_lcmp K dX2_findBest_86 ?_
          refine ax_if_le (tgt := 94) K dX2_findBest_87 (by decide) (fun c87 => ?_) (fun c87 => ?_)
          · have h := ax_it h c87
            exact ax_sub [0, 1, 2, 3, 4, 5, 6, 7, 9] rfl (km_findBest_j94 K E ih v1 v2 v3 v4 v5 v6 v7 v9 σ h)
          · have h := ax_ie h c87
            exact ax_sub [0, 1, 2, 3, 4, 5, 6, 7, 9] rfl (km_findBest_j90 K E ih v1 v2 v3 v4 v5 v6 v7 v9 σ h)
set_option maxHeartbeats 4000000 in
theorem km_findBest_j191 {Z : AZ} {G : AG} {L : Nat → Nat} {P : Int32 → St → Prop} (K : AK Z G cX2_findBest RX2 10 (rmH 176)) (E : AEi Z cX2_findBest .boolean (mW G L) 0 0 P) {K24 : Int32 → Int32 → Int32 → Int32 → Int32 → Int32 → Int32 → St → Prop} (hK24 : ∀ (v1 : Int32) (v2 : Int32) (v3 : Int32) (v4 : Int32) (v5 : Int32) (v6 : Int32) (v7 : Int32) (σ : St), K24 v1 v2 v3 v4 v5 v6 v7 σ → AX Z 0 0 24 [(0, .ref (L 0)), (1, .int v1), (2, .int v2), (3, .int v3), (4, .int v4), (5, .int v5), (6, .int v6), (7, .int v7)] [] (mW G L σ)) (v1 : Int32) (v2 : Int32) (v3 : Int32) (v4 : Int32) (v5 : Int32) (v6 : Int32) (v7 : Int32) (σ : St) (h : wm_findBest_j191 P K24 v1 v2 v3 v4 v5 v6 v7 σ) : AX Z 0 0 191 [(0, .ref (L 0)), (1, .int v1), (2, .int v2), (3, .int v3), (4, .int v4), (5, .int v5), (6, .int v6), (7, .int v7)] [] (mW G L σ) := by
  unfold wm_findBest_j191 at h
  refine ax_iinc (lv' := [(7, .int (v7 + (1 : Int32))), (0, .ref (L 0)), (1, .int v1), (2, .int v2), (3, .int v3), (4, .int v4), (5, .int v5), (6, .int v6)]) (v := (v7 + (1 : Int32))) K 7 dX2_findBest_191 rfl (by rfl) (by decide) rfl ?_
  refine ax_goto (tgt := 24) K dX2_findBest_194 (by decide) ?_
  exact ax_sub [1, 2, 3, 4, 5, 6, 7, 0] rfl (hK24 v1 v2 v3 v4 v5 v6 (v7 + (1 : Int32)) σ h)
set_option maxHeartbeats 4000000 in
theorem km_findBest_j188 {Z : AZ} {G : AG} {L : Nat → Nat} {P : Int32 → St → Prop} (K : AK Z G cX2_findBest RX2 10 (rmH 176)) (E : AEi Z cX2_findBest .boolean (mW G L) 0 0 P) {K24 : Int32 → Int32 → Int32 → Int32 → Int32 → Int32 → Int32 → St → Prop} (hK24 : ∀ (v1 : Int32) (v2 : Int32) (v3 : Int32) (v4 : Int32) (v5 : Int32) (v6 : Int32) (v7 : Int32) (σ : St), K24 v1 v2 v3 v4 v5 v6 v7 σ → AX Z 0 0 24 [(0, .ref (L 0)), (1, .int v1), (2, .int v2), (3, .int v3), (4, .int v4), (5, .int v5), (6, .int v6), (7, .int v7)] [] (mW G L σ)) (v1 : Int32) (v2 : Int32) (v3 : Int32) (v4 : Int32) (v5 : Int32) (v7 : Int32) (σ : St) (h : wm_findBest_j188 P K24 v1 v2 v3 v4 v5 v7 σ) : AX Z 0 0 188 [(0, .ref (L 0)), (1, .int v1), (2, .int v2), (3, .int v3), (4, .int v4), (5, .int v5), (7, .int v7)] [] (mW G L σ) := by
  unfold wm_findBest_j188 at h
  refine ax_iconst (v := (1 : Int32)) K (by decide) dX2_findBest_188 ?_
  refine ax_istore (lv' := [(6, .int (1 : Int32)), (0, .ref (L 0)), (1, .int v1), (2, .int v2), (3, .int v3), (4, .int v4), (5, .int v5), (7, .int v7)]) K dX2_findBest_189 (by decide) rfl ?_
  exact ax_sub [1, 2, 3, 4, 5, 6, 0, 7] rfl (km_findBest_j191 K E hK24 v1 v2 v3 v4 v5 (1 : Int32) v7 σ h)
set_option maxHeartbeats 4000000 in
theorem km_findBest_j177 {Z : AZ} {G : AG} {L : Nat → Nat} {P : Int32 → St → Prop} (K : AK Z G cX2_findBest RX2 10 (rmH 176)) (E : AEi Z cX2_findBest .boolean (mW G L) 0 0 P) {K24 : Int32 → Int32 → Int32 → Int32 → Int32 → Int32 → Int32 → St → Prop} (hK24 : ∀ (v1 : Int32) (v2 : Int32) (v3 : Int32) (v4 : Int32) (v5 : Int32) (v6 : Int32) (v7 : Int32) (σ : St), K24 v1 v2 v3 v4 v5 v6 v7 σ → AX Z 0 0 24 [(0, .ref (L 0)), (1, .int v1), (2, .int v2), (3, .int v3), (4, .int v4), (5, .int v5), (6, .int v6), (7, .int v7)] [] (mW G L σ)) (v1 : Int32) (v2 : Int32) (v3 : Int32) (v4 : Int32) (v5 : Int32) (v7 : Int32) (σ : St) (h : wm_findBest_j177 P K24 v1 v2 v3 v4 v5 v7 σ) : AX Z 0 0 177 [(0, .ref (L 0)), (1, .int v1), (2, .int v2), (3, .int v3), (4, .int v4), (5, .int v5), (7, .int v7)] [] (mW G L σ) := by
  unfold wm_findBest_j177 at h
  refine ax_aload_n K 0 rfl dX2_findBest_177 ?_
  refine ax_aload_n K 0 rfl dX2_findBest_178 ?_
  refine mg_scores K dX2_findBest_179 ?_
  refine ax_iload K 6 rfl dX2_findBest_182 ?_
  refine ml_scores K h.1 dX2_findBest_184 ?_
  replace h := h.2
  refine mp_bestScore K dX2_findBest_185 ?_
  exact ax_sub [0, 1, 2, 3, 4, 5, 6] rfl (km_findBest_j188 K E hK24 v1 v2 v3 v4 v5 v7 (mS_bestScore σ (mA_scores σ (v7).toNatClampNeg)) h)
set_option maxHeartbeats 4000000 in
theorem km_findBest_l24 {Z : AZ} {G : AG} {L : Nat → Nat} {P : Int32 → St → Prop} (K : AK Z G cX2_findBest RX2 10 (rmH 176)) (E : AEi Z cX2_findBest .boolean (mW G L) 0 0 P) {K211 : Int32 → Int32 → St → Prop} (hK211 : ∀ (v4 : Int32) (v7 : Int32) (σ : St), K211 v4 v7 σ → AX Z 0 0 211 [(0, .ref (L 0)), (4, .int v4), (7, .int v7)] [] (mW G L σ)) : ∀ (n : Nat) (v1 : Int32) (v2 : Int32) (v3 : Int32) (v4 : Int32) (v5 : Int32) (v6 : Int32) (v7 : Int32) (σ : St), wm_findBest_l24 P K211 n v1 v2 v3 v4 v5 v6 v7 σ → AX Z 0 0 24 [(0, .ref (L 0)), (1, .int v1), (2, .int v2), (3, .int v3), (4, .int v4), (5, .int v5), (6, .int v6), (7, .int v7)] [] (mW G L σ) := by
  intro n
  induction n with
  | zero => intro v1 v2 v3 v4 v5 v6 v7 σ h; exact False.elim h
  | succ n ih =>
    intro v1 v2 v3 v4 v5 v6 v7 σ h
    rw [wm_findBest_l24_s] at h
    refine ax_iload K 7 rfl dX2_findBest_24 ?_
    refine ax_aload_n K 0 rfl dX2_findBest_26 ?_
    refine rm_all K (by decide) dX2_findBest_27 (Nat.le_of_ble_eq_true rfl) h (fun r27 σ27 h => ?_)
    refine ax_icmp_gt (tgt := 197) K dX2_findBest_30 (by decide) (fun c30 => ?_) (fun c30 => ?_)
    · have h := ax_it h c30
      refine ax_iload K 6 rfl dX2_findBest_197 ?_
      refine ax_if_ne (tgt := 204) K dX2_findBest_199 (by decide) (fun c199 => ?_) (fun c199 => ?_)
      · have h := ax_ie h c199
        refine ax_aload_n K 0 rfl dX2_findBest_204 ?_
        refine rm_noEnds K (by decide) dX2_findBest_205 (Nat.le_of_ble_eq_true rfl) h (fun σ205 h => ?_)
        refine ax_iconst (v := (0 : Int32)) K (by decide) dX2_findBest_208 ?_
        refine ax_istore (lv' := [(7, .int (0 : Int32)), (0, .ref (L 0)), (1, .int v1), (2, .int v2), (3, .int v3), (4, .int v4), (5, .int v5), (6, .int v6)]) K dX2_findBest_209 (by decide) rfl ?_
        exact ax_sub [1, 5, 0] rfl (hK211 v4 (0 : Int32) σ205 h)
      · have h := ax_it h c199
        refine ax_iconst (v := (0 : Int32)) K (by decide) dX2_findBest_202 ?_
        exact E _ _ _ _ dX2_findBest_203 rfl h
    · have h := ax_ie h c30
      refine ax_aload_n K 0 rfl dX2_findBest_33 ?_
      refine mg_scores K dX2_findBest_34 ?_
      refine ax_iload K 7 rfl dX2_findBest_37 ?_
      refine ax_ldcw (v := (-1000001 : Int32)) K q1498 dX2_findBest_39 ?_
      refine ms_scores K h.1 dX2_findBest_42 ?_
      replace h := h.2
      refine ax_iconst (v := (0 : Int32)) K (by decide) dX2_findBest_43 ?_
      refine ax_istore (lv' := [(8, .int (0 : Int32)), (0, .ref (L 0)), (1, .int v1), (2, .int v2), (3, .int v3), (4, .int v4), (5, .int v5), (6, .int v6), (7, .int v7)]) K dX2_findBest_44 (by decide) rfl ?_
      refine ax_iconst (v := (-1 : Int32)) K (by decide) dX2_findBest_46 ?_
      refine ax_istore (lv' := [(9, .int (-1 : Int32)), (8, .int (0 : Int32)), (0, .ref (L 0)), (1, .int v1), (2, .int v2), (3, .int v3), (4, .int v4), (5, .int v5), (6, .int v6), (7, .int v7)]) K dX2_findBest_47 (by decide) rfl ?_
      exact ax_sub [2, 3, 4, 5, 6, 7, 8, 9, 1, 0] rfl (h.elim fun n49 h => km_findBest_l49 K E (km_findBest_j177 K E ih) (km_findBest_j188 K E ih) (km_findBest_j191 K E ih) n49 v1 v2 v3 v4 v5 v6 v7 (0 : Int32) (-1 : Int32) (mU_scores σ27 v7 (-1000001 : Int32)) h)
set_option maxHeartbeats 4000000 in
theorem km_findBest_j292 {Z : AZ} {G : AG} {L : Nat → Nat} {P : Int32 → St → Prop} (K : AK Z G cX2_findBest RX2 10 (rmH 176)) (E : AEi Z cX2_findBest .boolean (mW G L) 0 0 P) {K240 : Int32 → Int32 → Int32 → St → Prop} (hK240 : ∀ (v4 : Int32) (v7 : Int32) (v8 : Int32) (σ : St), K240 v4 v7 v8 σ → AX Z 0 0 240 [(0, .ref (L 0)), (4, .int v4), (7, .int v7), (8, .int v8)] [] (mW G L σ)) (v4 : Int32) (v7 : Int32) (v8 : Int32) (s1 : Int32) (s2 : Int32) (σ : St) (h : wm_findBest_j292 P K240 v4 v7 v8 s1 s2 σ) : AX Z 0 0 292 [(0, .ref (L 0)), (4, .int v4), (7, .int v7), (8, .int v8)] [.int s2, .int s1, .ref (L 14)] (mW G L σ) := by
  unfold wm_findBest_j292 at h
  refine ms_isEnd K h.1 dX2_findBest_292 ?_
  replace h := h.2
  refine ax_iinc (lv' := [(8, .int (v8 + (1 : Int32))), (0, .ref (L 0)), (4, .int v4), (7, .int v7)]) (v := (v8 + (1 : Int32))) K 3 dX2_findBest_293 rfl (by rfl) (by decide) rfl ?_
  refine ax_goto (tgt := 240) K dX2_findBest_296 (by decide) ?_
  exact ax_sub [1, 2, 3, 0] rfl (hK240 v4 v7 (v8 + (1 : Int32)) (mU_isEnd σ s1 (vp_nar .boolean s2)) h)
set_option maxHeartbeats 4000000 in
theorem km_findBest_j291 {Z : AZ} {G : AG} {L : Nat → Nat} {P : Int32 → St → Prop} (K : AK Z G cX2_findBest RX2 10 (rmH 176)) (E : AEi Z cX2_findBest .boolean (mW G L) 0 0 P) {K240 : Int32 → Int32 → Int32 → St → Prop} (hK240 : ∀ (v4 : Int32) (v7 : Int32) (v8 : Int32) (σ : St), K240 v4 v7 v8 σ → AX Z 0 0 240 [(0, .ref (L 0)), (4, .int v4), (7, .int v7), (8, .int v8)] [] (mW G L σ)) (v4 : Int32) (v7 : Int32) (v8 : Int32) (s1 : Int32) (σ : St) (h : wm_findBest_j291 P K240 v4 v7 v8 s1 σ) : AX Z 0 0 291 [(0, .ref (L 0)), (4, .int v4), (7, .int v7), (8, .int v8)] [.int s1, .ref (L 14)] (mW G L σ) := by
  unfold wm_findBest_j291 at h
  refine ax_iconst (v := (0 : Int32)) K (by decide) dX2_findBest_291 ?_
  exact ax_sub [0, 1, 2, 3] rfl (km_findBest_j292 K E hK240 v4 v7 v8 s1 (0 : Int32) σ h)
set_option maxHeartbeats 4000000 in
theorem km_findBest_l240 {Z : AZ} {G : AG} {L : Nat → Nat} {P : Int32 → St → Prop} (K : AK Z G cX2_findBest RX2 10 (rmH 176)) (E : AEi Z cX2_findBest .boolean (mW G L) 0 0 P) {K299 : Int32 → Int32 → St → Prop} (hK299 : ∀ (v4 : Int32) (v7 : Int32) (σ : St), K299 v4 v7 σ → AX Z 0 0 299 [(0, .ref (L 0)), (4, .int v4), (7, .int v7)] [] (mW G L σ)) : ∀ (n : Nat) (v4 : Int32) (v7 : Int32) (v8 : Int32) (σ : St), wm_findBest_l240 P K299 n v4 v7 v8 σ → AX Z 0 0 240 [(0, .ref (L 0)), (4, .int v4), (7, .int v7), (8, .int v8)] [] (mW G L σ) := by
  intro n
  induction n with
  | zero => intro v4 v7 v8 σ h; exact False.elim h
  | succ n ih =>
    intro v4 v7 v8 σ h
    rw [wm_findBest_l240_s] at h
    refine ax_iload K 3 rfl dX2_findBest_240 ?_
    refine ax_aload_n K 0 rfl dX2_findBest_242 ?_
    refine mg_dishes K dX2_findBest_243 ?_
    refine ax_icmp_ge (tgt := 299) K dX2_findBest_246 (by decide) (fun c246 => ?_) (fun c246 => ?_)
    · have h := ax_it h c246
      exact ax_sub [0, 1, 2] rfl (hK299 v4 v7 σ h)
    · have h := ax_ie h c246
      refine ax_aload_n K 0 rfl dX2_findBest_249 ?_
      refine mg_isEnd K dX2_findBest_250 ?_
      refine ax_iload K 2 rfl dX2_findBest_253 ?_
      refine ax_iload K 3 rfl dX2_findBest_255 ?_
      refine rm_place K (by decide) dX2_findBest_257 (Nat.le_of_ble_eq_true rfl) h (fun r257 h => ?_)
      refine ax_iload K 2 rfl dX2_findBest_260 ?_
      refine ax_iload K 3 rfl dX2_findBest_262 ?_
      refine rm_isState K (by decide) dX2_findBest_264 (Nat.le_of_ble_eq_true rfl) h (fun r264 h => ?_)
      refine ax_if_eq (tgt := 291) K dX2_findBest_267 (by decide) (fun c267 => ?_) (fun c267 => ?_)
      · have h := ax_it h c267
        exact ax_sub [0, 1, 2, 3] rfl (km_findBest_j291 K E ih v4 v7 v8 r257 σ h)
      · have h := ax_ie h c267
        refine ax_aload_n K 0 rfl dX2_findBest_270 ?_
        refine mg_rows K dX2_findBest_271 ?_
        refine ax_iload K 2 rfl dX2_findBest_274 ?_
        refine ax_iload K 3 rfl dX2_findBest_276 ?_
        refine rm_place K (by decide) dX2_findBest_278 (Nat.le_of_ble_eq_true rfl) h (fun r278 h => ?_)
        refine ml_rows K h.1 dX2_findBest_281 ?_
        replace h := h.2
        refine ax_lconst (v := (0 : Int64)) K (by decide) dX2_findBest_282 ?_
        refine ax_lcmp K dX2_findBest_283 ?_
        refine ax_if_le (tgt := 291) K dX2_findBest_284 (by decide) (fun c284 => ?_) (fun c284 => ?_)
        · have h := ax_it h c284
          exact ax_sub [0, 1, 2, 3] rfl (km_findBest_j291 K E ih v4 v7 v8 r257 σ h)
        · have h := ax_ie h c284
          refine ax_iconst (v := (1 : Int32)) K (by decide) dX2_findBest_287 ?_
          refine ax_goto (tgt := 292) K dX2_findBest_288 (by decide) ?_
          exact ax_sub [0, 1, 2, 3] rfl (km_findBest_j292 K E ih v4 v7 v8 r257 (1 : Int32) σ h)
set_option maxHeartbeats 4000000 in
theorem km_findBest_j299 {Z : AZ} {G : AG} {L : Nat → Nat} {P : Int32 → St → Prop} (K : AK Z G cX2_findBest RX2 10 (rmH 176)) (E : AEi Z cX2_findBest .boolean (mW G L) 0 0 P) {K211 : Int32 → Int32 → St → Prop} (hK211 : ∀ (v4 : Int32) (v7 : Int32) (σ : St), K211 v4 v7 σ → AX Z 0 0 211 [(0, .ref (L 0)), (4, .int v4), (7, .int v7)] [] (mW G L σ)) (v4 : Int32) (v7 : Int32) (σ : St) (h : wm_findBest_j299 P K211 v4 v7 σ) : AX Z 0 0 299 [(0, .ref (L 0)), (4, .int v4), (7, .int v7)] [] (mW G L σ) := by
  unfold wm_findBest_j299 at h
  refine ax_iinc (lv' := [(7, .int (v7 + (1 : Int32))), (0, .ref (L 0)), (4, .int v4)]) (v := (v7 + (1 : Int32))) K 2 dX2_findBest_299 rfl (by rfl) (by decide) rfl ?_
  refine ax_goto (tgt := 211) K dX2_findBest_302 (by decide) ?_
  exact ax_sub [1, 2, 0] rfl (hK211 v4 (v7 + (1 : Int32)) σ h)
set_option maxHeartbeats 4000000 in
theorem km_findBest_l211 {Z : AZ} {G : AG} {L : Nat → Nat} {P : Int32 → St → Prop} (K : AK Z G cX2_findBest RX2 10 (rmH 176)) (E : AEi Z cX2_findBest .boolean (mW G L) 0 0 P) : ∀ (n : Nat) (v4 : Int32) (v7 : Int32) (σ : St), wm_findBest_l211 P  n v4 v7 σ → AX Z 0 0 211 [(0, .ref (L 0)), (4, .int v4), (7, .int v7)] [] (mW G L σ) := by
  intro n
  induction n with
  | zero => intro v4 v7 σ h; exact False.elim h
  | succ n ih =>
    intro v4 v7 σ h
    rw [wm_findBest_l211_s] at h
    refine ax_iload K 2 rfl dX2_findBest_211 ?_
    refine ax_aload_n K 0 rfl dX2_findBest_213 ?_
    refine rm_all K (by decide) dX2_findBest_214 (Nat.le_of_ble_eq_true rfl) h (fun r214 σ214 h => ?_)
    refine ax_icmp_gt (tgt := 305) K dX2_findBest_217 (by decide) (fun c217 => ?_) (fun c217 => ?_)
    · have h := ax_it h c217
      refine ax_aload_n K 0 rfl dX2_findBest_305 ?_
      refine ax_iload K 1 rfl dX2_findBest_306 ?_
      refine rm_findEnds K (by decide) dX2_findBest_308 (Nat.le_of_ble_eq_true rfl) h (fun σ308 h => ?_)
      refine ax_iconst (v := (1 : Int32)) K (by decide) dX2_findBest_311 ?_
      exact E _ _ _ _ dX2_findBest_312 rfl h
    · have h := ax_ie h c217
      refine ax_aload_n K 0 rfl dX2_findBest_220 ?_
      refine mg_scores K dX2_findBest_221 ?_
      refine ax_iload K 2 rfl dX2_findBest_224 ?_
      refine ml_scores K h.1 dX2_findBest_226 ?_
      replace h := h.2
      refine ax_aload_n K 0 rfl dX2_findBest_227 ?_
      refine mg_bestScore K dX2_findBest_228 ?_
      refine ax_icmp_eq (tgt := 237) K dX2_findBest_231 (by decide) (fun c231 => ?_) (fun c231 => ?_)
      · have h := ax_it h c231
        refine ax_iconst (v := (-1 : Int32)) K (by decide) dX2_findBest_237 ?_
        refine ax_istore (lv' := [(8, .int (-1 : Int32)), (0, .ref (L 0)), (4, .int v4), (7, .int v7)]) K dX2_findBest_238 (by decide) rfl ?_
        exact ax_sub [1, 2, 3, 0] rfl (h.elim fun n240 h => km_findBest_l240 K E (km_findBest_j299 K E ih) n240 v4 v7 (-1 : Int32) σ214 h)
      · have h := ax_ie h c231
        refine ax_goto (tgt := 299) K dX2_findBest_234 (by decide) ?_
        exact ax_sub [0, 1, 2] rfl (km_findBest_j299 K E ih v4 v7 σ214 h)
set_option maxHeartbeats 4000000 in
theorem mm_findBest {l : Launch} {G : AG} {L : Nat → Nat} {σ : St} {v1 : Int32} {v2 : Int32} {v3 : Int32} {v4 : Int32} {P : Int32 → St → Prop} (h : wm_findBest σ v1 v2 v3 v4 P) : CtW l G yX2_findBest cX2_findBest 10 (some .boolean) (rmH 176) [.ref (L 0), .int v1, .int v2, .int v3, .int v4] (mW G L) σ (pI P) := by
  refine CtW.ofI (by decide) (Nat.le_of_ble_eq_true rfl) fun Z _ K E => ?_
  unfold wm_findBest at h
  show AX Z 0 0 0 [(0, .ref (L 0)), (1, .int v1), (2, .int v2), (3, .int v3), (4, .int v4)] [] (mW G L σ)
  refine ax_aload_n K 0 rfl dX2_findBest_0 ?_
  refine rm_servedSet K (by decide) dX2_findBest_1 (Nat.le_of_ble_eq_true rfl) h (fun r1 σ1 h => ?_)
  refine ax_istore (lv' := [(5, .int r1), (0, .ref (L 0)), (1, .int v1), (2, .int v2), (3, .int v3), (4, .int v4)]) K dX2_findBest_4 (by decide) rfl ?_
  refine ax_aload_n K 1 rfl dX2_findBest_6 ?_
  refine ax_iload K 0 rfl dX2_findBest_7 ?_
  refine ax_aload_n K 1 rfl dX2_findBest_9 ?_
  refine rm_servedLast K (by decide) dX2_findBest_10 (Nat.le_of_ble_eq_true rfl) h (fun r10 σ10 h => ?_)
  refine ax_iload K 5 rfl dX2_findBest_13 ?_
  refine rm_findRows K (by decide) dX2_findBest_15 (Nat.le_of_ble_eq_true rfl) h (fun σ15 h => ?_)
  refine ax_iconst (v := (0 : Int32)) K (by decide) dX2_findBest_18 ?_
  refine ax_istore (lv' := [(6, .int (0 : Int32)), (5, .int r1), (0, .ref (L 0)), (1, .int v1), (2, .int v2), (3, .int v3), (4, .int v4)]) K dX2_findBest_19 (by decide) rfl ?_
  refine ax_iconst (v := (0 : Int32)) K (by decide) dX2_findBest_21 ?_
  refine ax_istore (lv' := [(7, .int (0 : Int32)), (6, .int (0 : Int32)), (5, .int r1), (0, .ref (L 0)), (1, .int v1), (2, .int v2), (3, .int v3), (4, .int v4)]) K dX2_findBest_22 (by decide) rfl ?_
  exact ax_sub [3, 4, 5, 6, 7, 2, 1, 0] rfl (h.elim fun n24 h => km_findBest_l24 K E (fun v4 v7 σ h => h.elim fun n211 h => km_findBest_l211 K E  n211 v4 v7 σ h) n24 v1 v2 v3 v4 r1 (0 : Int32) (0 : Int32) σ15 h)
theorem rm_findBest {Z : AZ} {G : AG} {cc : ByteArray} {mL hh pc : Nat} {lv : List (Nat × Value)} {rest : List Value} {L : Nat → Nat} {σ : St} (K : AK Z G cc RX2 mL (rmH hh)) (hlt : 176 < hh) (d : decode cc pc = .ok (.invokevirtual 352, 3)) (hrest : (rest.map fun v => v.category).sum ≤ 8) {v1 : Int32} {v2 : Int32} {v3 : Int32} {v4 : Int32} {P : Int32 → St → Prop} (h : sm_findBest σ v1 v2 v3 v4 P) (kk : ∀ (r : Int32) (σ' : St), P r σ' → AX Z 0 0 (pc + 3) lv (.int r :: rest) (mW G L σ')) : AX Z 0 0 pc lv (.int v4 :: .int v3 :: .int v2 :: .int v1 :: .ref (L 0) :: rest) (mW G L σ) :=
  ax_callV (N0 := 4) (As := [.int v1, .int v2, .int v3, .int v4]) K (mm_findBest (sm_findBest_ok h)) q1494 q1496 qs102 q118 q1497 ⟨rfl, by decide, by decide, by decide⟩ rfl ⟨by show 176 + 1 + 1 ≤ hh + 1; omega, by show 8 + (10 + 11) + 60 * (176 + 1) ≤ 60 * (hh + 1); omega⟩ ⟨Nat.zero_le _, Nat.zero_le _⟩ rfl rfl rfl hrest d (fun r σ' hp => by obtain ⟨v, rfl, hp⟩ := hp; exact kk v σ' hp)
/-! m.greedy -/
set_option maxHeartbeats 4000000 in
theorem km_greedy_j38 {Z : AZ} {G : AG} {L : Nat → Nat} {P : Int32 → St → Prop} (K : AK Z G cX2_greedy RX2 3 (rmH 176)) (E : AEi Z cX2_greedy .int (mW G L) 0 0 P) {K16 : Int32 → Int32 → St → Prop} (hK16 : ∀ (v1 : Int32) (v2 : Int32) (σ : St), K16 v1 v2 σ → AX Z 0 0 16 [(0, .ref (L 0)), (1, .int v1), (2, .int v2)] [] (mW G L σ)) (v1 : Int32) (v2 : Int32) (σ : St) (h : wm_greedy_j38 P K16 v1 v2 σ) : AX Z 0 0 38 [(0, .ref (L 0)), (1, .int v1), (2, .int v2)] [] (mW G L σ) := by
  unfold wm_greedy_j38 at h
  refine ax_iinc (lv' := [(2, .int (v2 + (1 : Int32))), (0, .ref (L 0)), (1, .int v1)]) (v := (v2 + (1 : Int32))) K 2 dX2_greedy_38 rfl (by rfl) (by decide) rfl ?_
  refine ax_goto (tgt := 16) K dX2_greedy_41 (by decide) ?_
  exact ax_sub [1, 2, 0] rfl (hK16 v1 (v2 + (1 : Int32)) σ h)
set_option maxHeartbeats 4000000 in
theorem km_greedy_l16 {Z : AZ} {G : AG} {L : Nat → Nat} {P : Int32 → St → Prop} (K : AK Z G cX2_greedy RX2 3 (rmH 176)) (E : AEi Z cX2_greedy .int (mW G L) 0 0 P) {K10 : Int32 → St → Prop} (hK10 : ∀ (v1 : Int32) (σ : St), K10 v1 σ → AX Z 0 0 10 [(0, .ref (L 0)), (1, .int v1)] [] (mW G L σ)) : ∀ (n : Nat) (v1 : Int32) (v2 : Int32) (σ : St), wm_greedy_l16 P K10 n v1 v2 σ → AX Z 0 0 16 [(0, .ref (L 0)), (1, .int v1), (2, .int v2)] [] (mW G L σ) := by
  intro n
  induction n with
  | zero => intro v1 v2 σ h; exact False.elim h
  | succ n ih =>
    intro v1 v2 σ h
    rw [wm_greedy_l16_s] at h
    refine ax_iload_n K 2 rfl dX2_greedy_16 ?_
    refine ax_aload_n K 0 rfl dX2_greedy_17 ?_
    refine mg_dishes K dX2_greedy_18 ?_
    refine ax_icmp_ge (tgt := 44) K dX2_greedy_21 (by decide) (fun c21 => ?_) (fun c21 => ?_)
    · have h := ax_it h c21
      refine ax_iinc (lv' := [(1, .int (v1 + (-1 : Int32))), (0, .ref (L 0)), (2, .int v2)]) (v := (v1 + (-1 : Int32))) K 1 dX2_greedy_44 rfl (by rfl) (by decide) rfl ?_
      refine ax_goto (tgt := 10) K dX2_greedy_47 (by decide) ?_
      exact ax_sub [1, 0] rfl (hK10 (v1 + (-1 : Int32)) σ h)
    · have h := ax_ie h c21
      refine ax_iload_n K 1 rfl dX2_greedy_24 ?_
      refine ax_iload_n K 2 rfl dX2_greedy_25 ?_
      refine rm_isState K (by decide) dX2_greedy_26 (Nat.le_of_ble_eq_true rfl) h (fun r26 h => ?_)
      refine ax_if_eq (tgt := 38) K dX2_greedy_29 (by decide) (fun c29 => ?_) (fun c29 => ?_)
      · have h := ax_it h c29
        exact ax_sub [0, 1, 2] rfl (km_greedy_j38 K E ih v1 v2 σ h)
      · have h := ax_ie h c29
        refine ax_aload_n K 0 rfl dX2_greedy_32 ?_
        refine ax_iload_n K 1 rfl dX2_greedy_33 ?_
        refine ax_iload_n K 2 rfl dX2_greedy_34 ?_
        refine rm_findGreedy K (by decide) dX2_greedy_35 (Nat.le_of_ble_eq_true rfl) h (fun σ35 h => ?_)
        exact ax_sub [0, 1, 2] rfl (km_greedy_j38 K E ih v1 v2 σ35 h)
set_option maxHeartbeats 4000000 in
theorem km_greedy_l10 {Z : AZ} {G : AG} {L : Nat → Nat} {P : Int32 → St → Prop} (K : AK Z G cX2_greedy RX2 3 (rmH 176)) (E : AEi Z cX2_greedy .int (mW G L) 0 0 P) {K91 : Int32 → St → Prop} (hK91 : ∀ (s0 : Int32) (σ : St), K91 s0 σ → AX Z 0 0 91 [(0, .ref (L 0))] [.int s0] (mW G L σ)) : ∀ (n : Nat) (v1 : Int32) (σ : St), wm_greedy_l10 P K91 n v1 σ → AX Z 0 0 10 [(0, .ref (L 0)), (1, .int v1)] [] (mW G L σ) := by
  intro n
  induction n with
  | zero => intro v1 σ h; exact False.elim h
  | succ n ih =>
    intro v1 σ h
    rw [wm_greedy_l10_s] at h
    refine ax_iload_n K 1 rfl dX2_greedy_10 ?_
    refine ax_if_lt (tgt := 50) K dX2_greedy_11 (by decide) (fun c11 => ?_) (fun c11 => ?_)
    · have h := ax_it h c11
      refine ax_aload_n K 0 rfl dX2_greedy_50 ?_
      refine rm_servedSet K (by decide) dX2_greedy_51 (Nat.le_of_ble_eq_true rfl) h (fun r51 σ51 h => ?_)
      refine ax_aload_n K 0 rfl dX2_greedy_54 ?_
      refine rm_servedLast K (by decide) dX2_greedy_55 (Nat.le_of_ble_eq_true rfl) h (fun r55 σ55 h => ?_)
      refine rm_place K (by decide) dX2_greedy_58 (Nat.le_of_ble_eq_true rfl) h (fun r58 h => ?_)
      refine ax_istore_n (lv' := [(1, .int r58), (0, .ref (L 0))]) K dX2_greedy_61 (by decide) rfl ?_
      refine ax_aload_n K 1 rfl dX2_greedy_62 ?_
      refine ax_iconst (v := (0 : Int32)) K (by decide) dX2_greedy_63 ?_
      refine mp_rowMany K dX2_greedy_64 ?_
      refine ax_aload_n K 1 rfl dX2_greedy_67 ?_
      refine ax_aload_n K 1 rfl dX2_greedy_68 ?_
      refine mg_moreOf K dX2_greedy_69 ?_
      refine ax_iload_n K 0 rfl dX2_greedy_72 ?_
      refine ml_moreOf K h.1 dX2_greedy_73 ?_
      replace h := h.2
      refine rm_tell K (by decide) dX2_greedy_74 (Nat.le_of_ble_eq_true rfl) h (fun σ74 h => ?_)
      refine ax_aload_n K 1 rfl dX2_greedy_77 ?_
      refine mg_isShamed K dX2_greedy_78 ?_
      refine ax_iload_n K 0 rfl dX2_greedy_81 ?_
      refine ml_isShamed K h.1 dX2_greedy_82 ?_
      replace h := h.2
      refine ax_if_eq (tgt := 90) K dX2_greedy_83 (by decide) (fun c83 => ?_) (fun c83 => ?_)
      · have h := ax_it h c83
        refine ax_iconst (v := (0 : Int32)) K (by decide) dX2_greedy_90 ?_
        exact ax_sub [1] rfl (hK91 (0 : Int32) σ74 h)
      · have h := ax_ie h c83
        refine ax_iconst (v := (1 : Int32)) K (by decide) dX2_greedy_86 ?_
        refine ax_goto (tgt := 91) K dX2_greedy_87 (by decide) ?_
        exact ax_sub [1] rfl (hK91 (1 : Int32) σ74 h)
    · have h := ax_ie h c11
      refine ax_iconst (v := (-1 : Int32)) K (by decide) dX2_greedy_14 ?_
      refine ax_istore_n (lv' := [(2, .int (-1 : Int32)), (0, .ref (L 0)), (1, .int v1)]) K dX2_greedy_15 (by decide) rfl ?_
      exact ax_sub [1, 2, 0] rfl (h.elim fun n16 h => km_greedy_l16 K E ih n16 v1 (-1 : Int32) σ h)
set_option maxHeartbeats 4000000 in
theorem km_greedy_j91 {Z : AZ} {G : AG} {L : Nat → Nat} {P : Int32 → St → Prop} (K : AK Z G cX2_greedy RX2 3 (rmH 176)) (E : AEi Z cX2_greedy .int (mW G L) 0 0 P) (s0 : Int32) (σ : St) (h : wm_greedy_j91 P  s0 σ) : AX Z 0 0 91 [(0, .ref (L 0))] [.int s0] (mW G L σ) := by
  unfold wm_greedy_j91 at h
  exact E _ _ _ _ dX2_greedy_91 rfl h
set_option maxHeartbeats 4000000 in
theorem mm_greedy {l : Launch} {G : AG} {L : Nat → Nat} {σ : St} {P : Int32 → St → Prop} (h : wm_greedy σ P) : CtW l G yX2_greedy cX2_greedy 3 (some .int) (rmH 176) [.ref (L 0)] (mW G L) σ (pI P) := by
  refine CtW.ofI (by decide) (Nat.le_of_ble_eq_true rfl) fun Z _ K E => ?_
  unfold wm_greedy at h
  show AX Z 0 0 0 [(0, .ref (L 0))] [] (mW G L σ)
  refine ax_aload_n K 0 rfl dX2_greedy_0 ?_
  refine ax_iconst (v := (0 : Int32)) K (by decide) dX2_greedy_1 ?_
  refine mp_thrown K dX2_greedy_2 ?_
  refine ax_aload_n K 0 rfl dX2_greedy_5 ?_
  refine rm_all K (by decide) dX2_greedy_6 (Nat.le_of_ble_eq_true rfl) h (fun r6 σ6 h => ?_)
  refine ax_istore_n (lv' := [(1, .int r6), (0, .ref (L 0))]) K dX2_greedy_9 (by decide) rfl ?_
  exact ax_sub [1, 0] rfl (h.elim fun n10 h => km_greedy_l10 K E (km_greedy_j91 K E) n10 r6 σ6 h)

/-! m.tellBest -/
set_option maxHeartbeats 4000000 in
theorem km_tellBest_j49 {Z : AZ} {G : AG} {L : Nat → Nat} {P : Int32 → St → Prop} (K : AK Z G cX2_tellBest RX2 4 (rmH 177)) (E : AEi Z cX2_tellBest .int (mW G L) 0 0 P) (σ : St) (h : wm_tellBest_j49 P  σ) : AX Z 0 0 49 [(0, .ref (L 0))] [] (mW G L σ) := by
  unfold wm_tellBest_j49 at h
  refine ax_bipush (v := (-2 : Int32)) K (by decide) dX2_tellBest_49 ?_
  exact E _ _ _ _ dX2_tellBest_51 rfl h
set_option maxHeartbeats 4000000 in
theorem km_tellBest_j35 {Z : AZ} {G : AG} {L : Nat → Nat} {P : Int32 → St → Prop} (K : AK Z G cX2_tellBest RX2 4 (rmH 177)) (E : AEi Z cX2_tellBest .int (mW G L) 0 0 P) (v1 : Int32) (v2 : Int32) (v3 : Int32) (σ : St) (h : wm_tellBest_j35 P  v1 v2 v3 σ) : AX Z 0 0 35 [(0, .ref (L 0)), (1, .int v1), (2, .int v2), (3, .int v3)] [] (mW G L σ) := by
  unfold wm_tellBest_j35 at h
  refine ax_aload_n K 0 rfl dX2_tellBest_35 ?_
  refine ax_iload_n K 1 rfl dX2_tellBest_36 ?_
  refine ax_iload_n K 2 rfl dX2_tellBest_37 ?_
  refine ax_iload_n K 3 rfl dX2_tellBest_38 ?_
  refine ax_aload_n K 0 rfl dX2_tellBest_39 ?_
  refine rm_all K (by decide) dX2_tellBest_40 (Nat.le_of_ble_eq_true rfl) h (fun r40 σ40 h => ?_)
  refine rm_findBest K (by decide) dX2_tellBest_43 (Nat.le_of_ble_eq_true rfl) h (fun r43 σ43 h => ?_)
  refine ax_if_ne (tgt := 52) K dX2_tellBest_46 (by decide) (fun c46 => ?_) (fun c46 => ?_)
  · have h := ax_ie h c46
    refine ax_aload_n K 0 rfl dX2_tellBest_52 ?_
    refine ax_iconst (v := (0 : Int32)) K (by decide) dX2_tellBest_53 ?_
    refine mp_rowMany K dX2_tellBest_54 ?_
    refine ax_aload_n K 0 rfl dX2_tellBest_57 ?_
    refine ax_aload_n K 0 rfl dX2_tellBest_58 ?_
    refine mg_bestScore K dX2_tellBest_59 ?_
    refine rm_tell K (by decide) dX2_tellBest_62 (Nat.le_of_ble_eq_true rfl) h (fun σ62 h => ?_)
    refine ax_aload_n K 0 rfl dX2_tellBest_65 ?_
    refine ax_aload_n K 0 rfl dX2_tellBest_66 ?_
    refine rm_servedSet K (by decide) dX2_tellBest_67 (Nat.le_of_ble_eq_true rfl) h (fun r67 σ67 h => ?_)
    refine ax_aload_n K 0 rfl dX2_tellBest_70 ?_
    refine rm_servedLast K (by decide) dX2_tellBest_71 (Nat.le_of_ble_eq_true rfl) h (fun r71 σ71 h => ?_)
    refine ax_aload_n K 0 rfl dX2_tellBest_74 ?_
    refine rm_all K (by decide) dX2_tellBest_75 (Nat.le_of_ble_eq_true rfl) h (fun r75 σ75 h => ?_)
    refine rm_tellWay K (by decide) dX2_tellBest_78 (Nat.le_of_ble_eq_true rfl) h (fun σ78 h => ?_)
    refine ax_iconst (v := (1 : Int32)) K (by decide) dX2_tellBest_81 ?_
    exact E _ _ _ _ dX2_tellBest_82 rfl h
  · have h := ax_it h c46
    exact ax_sub [0] rfl (km_tellBest_j49 K E  σ43 h)
set_option maxHeartbeats 4000000 in
theorem mm_tellBest {l : Launch} {G : AG} {L : Nat → Nat} {σ : St} {v1 : Int32} {v2 : Int32} {v3 : Int32} {P : Int32 → St → Prop} (h : wm_tellBest σ v1 v2 v3 P) : CtW l G yX2_tellBest cX2_tellBest 4 (some .int) (rmH 177) [.ref (L 0), .int v1, .int v2, .int v3] (mW G L) σ (pI P) := by
  refine CtW.ofI (by decide) (Nat.le_of_ble_eq_true rfl) fun Z _ K E => ?_
  unfold wm_tellBest at h
  show AX Z 0 0 0 [(0, .ref (L 0)), (1, .int v1), (2, .int v2), (3, .int v3)] [] (mW G L σ)
  refine ax_iload_n K 1 rfl dX2_tellBest_0 ?_
  refine ax_iconst (v := (0 : Int32)) K (by decide) dX2_tellBest_1 ?_
  refine ax_bipush (v := (10 : Int32)) K (by decide) dX2_tellBest_2 ?_
  refine rm_in K (by decide) dX2_tellBest_4 (Nat.le_of_ble_eq_true rfl) h (fun r4 h => ?_)
  refine ax_if_eq (tgt := 21) K dX2_tellBest_7 (by decide) (fun c7 => ?_) (fun c7 => ?_)
  · have h := ax_it h c7
    refine ax_iconst (v := (-1 : Int32)) K (by decide) dX2_tellBest_21 ?_
    exact E _ _ _ _ dX2_tellBest_22 rfl h
  · have h := ax_ie h c7
    refine ax_iload_n K 2 rfl dX2_tellBest_10 ?_
    refine ax_iconst (v := (0 : Int32)) K (by decide) dX2_tellBest_11 ?_
    refine ax_sipush (v := (999 : Int32)) K (by decide) dX2_tellBest_12 ?_
    refine rm_in K (by decide) dX2_tellBest_15 (Nat.le_of_ble_eq_true rfl) h (fun r15 h => ?_)
    refine ax_if_ne (tgt := 23) K dX2_tellBest_18 (by decide) (fun c18 => ?_) (fun c18 => ?_)
    · have h := ax_ie h c18
      refine ax_iload_n K 3 rfl dX2_tellBest_23 ?_
      refine ax_iconst (v := (1 : Int32)) K (by decide) dX2_tellBest_24 ?_
      refine ax_icmp_ne (tgt := 35) K dX2_tellBest_25 (by decide) (fun c25 => ?_) (fun c25 => ?_)
      · have h := ax_ie h c25
        exact ax_sub [0, 1, 2, 3] rfl (km_tellBest_j35 K E  v1 v2 v3 σ h)
      · have h := ax_it h c25
        refine ax_aload_n K 0 rfl dX2_tellBest_28 ?_
        refine mg_guests K dX2_tellBest_29 ?_
        refine ax_if_eq (tgt := 49) K dX2_tellBest_32 (by decide) (fun c32 => ?_) (fun c32 => ?_)
        · have h := ax_it h c32
          exact ax_sub [0] rfl (km_tellBest_j49 K E  σ h)
        · have h := ax_ie h c32
          exact ax_sub [0, 1, 2, 3] rfl (km_tellBest_j35 K E  v1 v2 v3 σ h)
    · have h := ax_it h c18
      refine ax_iconst (v := (-1 : Int32)) K (by decide) dX2_tellBest_21 ?_
      exact E _ _ _ _ dX2_tellBest_22 rfl h
theorem rm_tellBest {Z : AZ} {G : AG} {cc : ByteArray} {mL hh pc : Nat} {lv : List (Nat × Value)} {rest : List Value} {L : Nat → Nat} {σ : St} (K : AK Z G cc RX2 mL (rmH hh)) (hlt : 177 < hh) (d : decode cc pc = .ok (.invokevirtual 356, 3)) (hrest : (rest.map fun v => v.category).sum ≤ 8) {v1 : Int32} {v2 : Int32} {v3 : Int32} {P : Int32 → St → Prop} (h : sm_tellBest σ v1 v2 v3 P) (kk : ∀ (r : Int32) (σ' : St), P r σ' → AX Z 0 0 (pc + 3) lv (.int r :: rest) (mW G L σ')) : AX Z 0 0 pc lv (.int v3 :: .int v2 :: .int v1 :: .ref (L 0) :: rest) (mW G L σ) :=
  ax_callV (N0 := 3) (As := [.int v1, .int v2, .int v3]) K (mm_tellBest (sm_tellBest_ok h)) q1490 q1492 qs101 q118 q1493 ⟨rfl, by decide, by decide, by decide⟩ rfl ⟨by show 177 + 1 + 1 ≤ hh + 1; omega, by show 8 + (4 + 11) + 60 * (177 + 1) ≤ 60 * (hh + 1); omega⟩ ⟨Nat.zero_le _, Nat.zero_le _⟩ rfl rfl rfl hrest d (fun r σ' hp => by obtain ⟨v, rfl, hp⟩ := hp; exact kk v σ' hp)
/-! m.tellCost -/
set_option maxHeartbeats 4000000 in
theorem mm_tellCost {l : Launch} {G : AG} {L : Nat → Nat} {σ : St} {v1 : Int32} {v2 : Int32} {v3 : Int32} {P : Int32 → St → Prop} (h : wm_tellCost σ v1 v2 v3 P) : CtW l G yX2_tellCost cX2_tellCost 4 (some .int) (rmH 177) [.ref (L 0), .int v1, .int v2, .int v3] (mW G L) σ (pI P) := by
  refine CtW.ofI (by decide) (Nat.le_of_ble_eq_true rfl) fun Z _ K E => ?_
  unfold wm_tellCost at h
  show AX Z 0 0 0 [(0, .ref (L 0)), (1, .int v1), (2, .int v2), (3, .int v3)] [] (mW G L σ)
  refine ax_iload_n K 1 rfl dX2_tellCost_0 ?_
  refine ax_iconst (v := (0 : Int32)) K (by decide) dX2_tellCost_1 ?_
  refine ax_bipush (v := (10 : Int32)) K (by decide) dX2_tellCost_2 ?_
  refine rm_in K (by decide) dX2_tellCost_4 (Nat.le_of_ble_eq_true rfl) h (fun r4 h => ?_)
  refine ax_if_ne (tgt := 12) K dX2_tellCost_7 (by decide) (fun c7 => ?_) (fun c7 => ?_)
  · have h := ax_ie h c7
    refine ax_aload_n K 0 rfl dX2_tellCost_12 ?_
    refine ax_iload_n K 1 rfl dX2_tellCost_13 ?_
    refine ax_ldcw (v := (1000000 : Int32)) K q1507 dX2_tellCost_14 ?_
    refine ax_iload_n K 2 rfl dX2_tellCost_17 ?_
    refine ax_iload_n K 3 rfl dX2_tellCost_18 ?_
    refine rm_findBest K (by decide) dX2_tellCost_19 (Nat.le_of_ble_eq_true rfl) h (fun r19 σ19 h => ?_)
    refine ax_if_ne (tgt := 28) K dX2_tellCost_22 (by decide) (fun c22 => ?_) (fun c22 => ?_)
    · have h := ax_ie h c22
      refine ax_aload_n K 0 rfl dX2_tellCost_28 ?_
      refine ax_iconst (v := (0 : Int32)) K (by decide) dX2_tellCost_29 ?_
      refine mp_rowMany K dX2_tellCost_30 ?_
      refine ax_aload_n K 0 rfl dX2_tellCost_33 ?_
      refine ax_aload_n K 0 rfl dX2_tellCost_34 ?_
      refine rm_servedSet K (by decide) dX2_tellCost_35 (Nat.le_of_ble_eq_true rfl) h (fun r35 σ35 h => ?_)
      refine ax_aload_n K 0 rfl dX2_tellCost_38 ?_
      refine rm_servedLast K (by decide) dX2_tellCost_39 (Nat.le_of_ble_eq_true rfl) h (fun r39 σ39 h => ?_)
      refine ax_iload_n K 3 rfl dX2_tellCost_42 ?_
      refine rm_tellWay K (by decide) dX2_tellCost_43 (Nat.le_of_ble_eq_true rfl) h (fun σ43 h => ?_)
      refine ax_aload_n K 0 rfl dX2_tellCost_46 ?_
      refine mg_bestScore K dX2_tellCost_47 ?_
      refine rm_abs K (by decide) (Nat.le_of_ble_eq_true rfl) dX2_tellCost_50 ?_
      exact E _ _ _ _ dX2_tellCost_53 rfl h
    · have h := ax_it h c22
      refine ax_bipush (v := (-2 : Int32)) K (by decide) dX2_tellCost_25 ?_
      exact E _ _ _ _ dX2_tellCost_27 rfl h
  · have h := ax_it h c7
    refine ax_iconst (v := (-1 : Int32)) K (by decide) dX2_tellCost_10 ?_
    exact E _ _ _ _ dX2_tellCost_11 rfl h
theorem rm_tellCost {Z : AZ} {G : AG} {cc : ByteArray} {mL hh pc : Nat} {lv : List (Nat × Value)} {rest : List Value} {L : Nat → Nat} {σ : St} (K : AK Z G cc RX2 mL (rmH hh)) (hlt : 177 < hh) (d : decode cc pc = .ok (.invokevirtual 362, 3)) (hrest : (rest.map fun v => v.category).sum ≤ 8) {v1 : Int32} {v2 : Int32} {v3 : Int32} {P : Int32 → St → Prop} (h : sm_tellCost σ v1 v2 v3 P) (kk : ∀ (r : Int32) (σ' : St), P r σ' → AX Z 0 0 (pc + 3) lv (.int r :: rest) (mW G L σ')) : AX Z 0 0 pc lv (.int v3 :: .int v2 :: .int v1 :: .ref (L 0) :: rest) (mW G L σ) :=
  ax_callV (N0 := 3) (As := [.int v1, .int v2, .int v3]) K (mm_tellCost (sm_tellCost_ok h)) q1520 q1522 qs106 q118 q1523 ⟨rfl, by decide, by decide, by decide⟩ rfl ⟨by show 177 + 1 + 1 ≤ hh + 1; omega, by show 8 + (4 + 11) + 60 * (177 + 1) ≤ 60 * (hh + 1); omega⟩ ⟨Nat.zero_le _, Nat.zero_le _⟩ rfl rfl rfl hrest d (fun r σ' hp => by obtain ⟨v, rfl, hp⟩ := hp; exact kk v σ' hp)
/-! m.best -/
set_option maxHeartbeats 4000000 in
theorem mm_best {l : Launch} {G : AG} {L : Nat → Nat} {σ : St} {v1 : Int32} {v2 : Int32} {P : Int32 → St → Prop} (h : wm_best σ v1 v2 P) : CtW l G yX2_best cX2_best 3 (some .int) (rmH 178) [.ref (L 0), .int v1, .int v2] (mW G L) σ (pI P) := by
  refine CtW.ofI (by decide) (Nat.le_of_ble_eq_true rfl) fun Z _ K E => ?_
  unfold wm_best at h
  show AX Z 0 0 0 [(0, .ref (L 0)), (1, .int v1), (2, .int v2)] [] (mW G L σ)
  refine ax_aload_n K 0 rfl dX2_best_0 ?_
  refine ax_iconst (v := (0 : Int32)) K (by decide) dX2_best_1 ?_
  refine mp_thrown K dX2_best_2 ?_
  refine ax_aload_n K 0 rfl dX2_best_5 ?_
  refine ax_iload_n K 1 rfl dX2_best_6 ?_
  refine ax_iload_n K 2 rfl dX2_best_7 ?_
  refine ax_iconst (v := (0 : Int32)) K (by decide) dX2_best_8 ?_
  refine rm_tellBest K (by decide) dX2_best_9 (Nat.le_of_ble_eq_true rfl) h (fun r9 σ9 h => ?_)
  exact E _ _ _ _ dX2_best_12 rfl h

/-! m.cheap -/
set_option maxHeartbeats 4000000 in
theorem km_cheap_j52 {Z : AZ} {G : AG} {L : Nat → Nat} {P : Int32 → St → Prop} (K : AK Z G cX2_cheap RX2 6 (rmH 178)) (E : AEi Z cX2_cheap .int (mW G L) 0 0 P) {K23 : Int32 → Int32 → Int32 → Int32 → Int32 → St → Prop} (hK23 : ∀ (v1 : Int32) (v2 : Int32) (v3 : Int32) (v4 : Int32) (v5 : Int32) (σ : St), K23 v1 v2 v3 v4 v5 σ → AX Z 0 0 23 [(0, .ref (L 0)), (1, .int v1), (2, .int v2), (3, .int v3), (4, .int v4), (5, .int v5)] [] (mW G L σ)) (v1 : Int32) (v2 : Int32) (v3 : Int32) (v5 : Int32) (s0 : Int32) (σ : St) (h : wm_cheap_j52 P K23 v1 v2 v3 v5 s0 σ) : AX Z 0 0 52 [(0, .ref (L 0)), (1, .int v1), (2, .int v2), (3, .int v3), (5, .int v5)] [.int s0] (mW G L σ) := by
  unfold wm_cheap_j52 at h
  refine ax_istore (lv' := [(4, .int s0), (0, .ref (L 0)), (1, .int v1), (2, .int v2), (3, .int v3), (5, .int v5)]) K dX2_cheap_52 (by decide) rfl ?_
  refine ax_iinc (lv' := [(5, .int (v5 + (1 : Int32))), (4, .int s0), (0, .ref (L 0)), (1, .int v1), (2, .int v2), (3, .int v3)]) (v := (v5 + (1 : Int32))) K 5 dX2_cheap_54 rfl (by rfl) (by decide) rfl ?_
  refine ax_goto (tgt := 23) K dX2_cheap_57 (by decide) ?_
  exact ax_sub [2, 3, 4, 5, 1, 0] rfl (hK23 v1 v2 v3 s0 (v5 + (1 : Int32)) σ h)
set_option maxHeartbeats 4000000 in
theorem km_cheap_j47 {Z : AZ} {G : AG} {L : Nat → Nat} {P : Int32 → St → Prop} (K : AK Z G cX2_cheap RX2 6 (rmH 178)) (E : AEi Z cX2_cheap .int (mW G L) 0 0 P) {K23 : Int32 → Int32 → Int32 → Int32 → Int32 → St → Prop} (hK23 : ∀ (v1 : Int32) (v2 : Int32) (v3 : Int32) (v4 : Int32) (v5 : Int32) (σ : St), K23 v1 v2 v3 v4 v5 σ → AX Z 0 0 23 [(0, .ref (L 0)), (1, .int v1), (2, .int v2), (3, .int v3), (4, .int v4), (5, .int v5)] [] (mW G L σ)) (v1 : Int32) (v2 : Int32) (v3 : Int32) (v5 : Int32) (σ : St) (h : wm_cheap_j47 P K23 v1 v2 v3 v5 σ) : AX Z 0 0 47 [(0, .ref (L 0)), (1, .int v1), (2, .int v2), (3, .int v3), (5, .int v5)] [] (mW G L σ) := by
  unfold wm_cheap_j47 at h
  refine ax_iconst (v := (1 : Int32)) K (by decide) dX2_cheap_47 ?_
  refine ax_goto (tgt := 52) K dX2_cheap_48 (by decide) ?_
  exact ax_sub [0, 1, 2, 3, 4] rfl (km_cheap_j52 K E hK23 v1 v2 v3 v5 (1 : Int32) σ h)
set_option maxHeartbeats 4000000 in
theorem km_cheap_l23 {Z : AZ} {G : AG} {L : Nat → Nat} {P : Int32 → St → Prop} (K : AK Z G cX2_cheap RX2 6 (rmH 178)) (E : AEi Z cX2_cheap .int (mW G L) 0 0 P) {K73 : Int32 → Int32 → Int32 → Int32 → St → Prop} (hK73 : ∀ (v1 : Int32) (v3 : Int32) (s0 : Int32) (s1 : Int32) (σ : St), K73 v1 v3 s0 s1 σ → AX Z 0 0 73 [(0, .ref (L 0)), (1, .int v1), (3, .int v3)] [.int s1, .int s0] (mW G L σ)) : ∀ (n : Nat) (v1 : Int32) (v2 : Int32) (v3 : Int32) (v4 : Int32) (v5 : Int32) (σ : St), wm_cheap_l23 P K73 n v1 v2 v3 v4 v5 σ → AX Z 0 0 23 [(0, .ref (L 0)), (1, .int v1), (2, .int v2), (3, .int v3), (4, .int v4), (5, .int v5)] [] (mW G L σ) := by
  intro n
  induction n with
  | zero => intro v1 v2 v3 v4 v5 σ h; exact False.elim h
  | succ n ih =>
    intro v1 v2 v3 v4 v5 σ h
    rw [wm_cheap_l23_s] at h
    refine ax_iload K 5 rfl dX2_cheap_23 ?_
    refine ax_aload_n K 0 rfl dX2_cheap_25 ?_
    refine mg_guests K dX2_cheap_26 ?_
    refine ax_icmp_ge (tgt := 60) K dX2_cheap_29 (by decide) (fun c29 => ?_) (fun c29 => ?_)
    · have h := ax_it h c29
      refine ax_iload_n K 2 rfl dX2_cheap_60 ?_
      refine ax_iload K 4 rfl dX2_cheap_61 ?_
      refine ax_if_eq (tgt := 70) K dX2_cheap_63 (by decide) (fun c63 => ?_) (fun c63 => ?_)
      · have h := ax_it h c63
        refine ax_iconst (v := (1 : Int32)) K (by decide) dX2_cheap_70 ?_
        refine ax_iload_n K 3 rfl dX2_cheap_71 ?_
        refine ax_ishl K dX2_cheap_72 ?_
        exact ax_sub [0, 1, 3] rfl (hK73 v1 v3 v2 ((1 : Int32) <<< (v3 &&& 31)) σ h)
      · have h := ax_ie h c63
        refine ax_iconst (v := (0 : Int32)) K (by decide) dX2_cheap_66 ?_
        refine ax_goto (tgt := 73) K dX2_cheap_67 (by decide) ?_
        exact ax_sub [0, 1, 3] rfl (hK73 v1 v3 v2 (0 : Int32) σ h)
    · have h := ax_ie h c29
      refine ax_iload K 4 rfl dX2_cheap_32 ?_
      refine ax_if_ne (tgt := 47) K dX2_cheap_34 (by decide) (fun c34 => ?_) (fun c34 => ?_)
      · have h := ax_ie h c34
        exact ax_sub [0, 1, 2, 3, 5] rfl (km_cheap_j47 K E ih v1 v2 v3 v5 σ h)
      · have h := ax_it h c34
        refine ax_aload_n K 0 rfl dX2_cheap_37 ?_
        refine ax_iload K 5 rfl dX2_cheap_38 ?_
        refine ax_iload_n K 3 rfl dX2_cheap_40 ?_
        refine rm_isHungry K (by decide) dX2_cheap_41 (Nat.le_of_ble_eq_true rfl) h (fun r41 σ41 h => ?_)
        refine ax_if_eq (tgt := 51) K dX2_cheap_44 (by decide) (fun c44 => ?_) (fun c44 => ?_)
        · have h := ax_it h c44
          refine ax_iconst (v := (0 : Int32)) K (by decide) dX2_cheap_51 ?_
          exact ax_sub [0, 1, 2, 3, 5] rfl (km_cheap_j52 K E ih v1 v2 v3 v5 (0 : Int32) σ41 h)
        · have h := ax_ie h c44
          exact ax_sub [0, 1, 2, 3, 5] rfl (km_cheap_j47 K E ih v1 v2 v3 v5 σ41 h)
set_option maxHeartbeats 4000000 in
theorem km_cheap_j73 {Z : AZ} {G : AG} {L : Nat → Nat} {P : Int32 → St → Prop} (K : AK Z G cX2_cheap RX2 6 (rmH 178)) (E : AEi Z cX2_cheap .int (mW G L) 0 0 P) {K9 : Int32 → Int32 → Int32 → St → Prop} (hK9 : ∀ (v1 : Int32) (v2 : Int32) (v3 : Int32) (σ : St), K9 v1 v2 v3 σ → AX Z 0 0 9 [(0, .ref (L 0)), (1, .int v1), (2, .int v2), (3, .int v3)] [] (mW G L σ)) (v1 : Int32) (v3 : Int32) (s0 : Int32) (s1 : Int32) (σ : St) (h : wm_cheap_j73 P K9 v1 v3 s0 s1 σ) : AX Z 0 0 73 [(0, .ref (L 0)), (1, .int v1), (3, .int v3)] [.int s1, .int s0] (mW G L σ) := by
  unfold wm_cheap_j73 at h
  refine ax_ior K dX2_cheap_73 ?_
  refine ax_istore_n (lv' := [(2, .int (s0 ||| s1)), (0, .ref (L 0)), (1, .int v1), (3, .int v3)]) K dX2_cheap_74 (by decide) rfl ?_
  refine ax_iinc (lv' := [(3, .int (v3 + (1 : Int32))), (2, .int (s0 ||| s1)), (0, .ref (L 0)), (1, .int v1)]) (v := (v3 + (1 : Int32))) K 3 dX2_cheap_75 rfl (by rfl) (by decide) rfl ?_
  refine ax_goto (tgt := 9) K dX2_cheap_78 (by decide) ?_
  exact ax_sub [2, 3, 1, 0] rfl (hK9 v1 (s0 ||| s1) (v3 + (1 : Int32)) σ h)
set_option maxHeartbeats 4000000 in
theorem km_cheap_l9 {Z : AZ} {G : AG} {L : Nat → Nat} {P : Int32 → St → Prop} (K : AK Z G cX2_cheap RX2 6 (rmH 178)) (E : AEi Z cX2_cheap .int (mW G L) 0 0 P) : ∀ (n : Nat) (v1 : Int32) (v2 : Int32) (v3 : Int32) (σ : St), wm_cheap_l9 P  n v1 v2 v3 σ → AX Z 0 0 9 [(0, .ref (L 0)), (1, .int v1), (2, .int v2), (3, .int v3)] [] (mW G L σ) := by
  intro n
  induction n with
  | zero => intro v1 v2 v3 σ h; exact False.elim h
  | succ n ih =>
    intro v1 v2 v3 σ h
    rw [wm_cheap_l9_s] at h
    refine ax_iload_n K 3 rfl dX2_cheap_9 ?_
    refine ax_aload_n K 0 rfl dX2_cheap_10 ?_
    refine mg_dishes K dX2_cheap_11 ?_
    refine ax_icmp_ge (tgt := 81) K dX2_cheap_14 (by decide) (fun c14 => ?_) (fun c14 => ?_)
    · have h := ax_it h c14
      refine ax_aload_n K 0 rfl dX2_cheap_81 ?_
      refine ax_iload_n K 1 rfl dX2_cheap_82 ?_
      refine ax_iconst (v := (2 : Int32)) K (by decide) dX2_cheap_83 ?_
      refine ax_iload_n K 2 rfl dX2_cheap_84 ?_
      refine rm_tellCost K (by decide) dX2_cheap_85 (Nat.le_of_ble_eq_true rfl) h (fun r85 σ85 h => ?_)
      exact E _ _ _ _ dX2_cheap_88 rfl h
    · have h := ax_ie h c14
      refine ax_iconst (v := (0 : Int32)) K (by decide) dX2_cheap_17 ?_
      refine ax_istore (lv' := [(4, .int (0 : Int32)), (0, .ref (L 0)), (1, .int v1), (2, .int v2), (3, .int v3)]) K dX2_cheap_18 (by decide) rfl ?_
      refine ax_iconst (v := (0 : Int32)) K (by decide) dX2_cheap_20 ?_
      refine ax_istore (lv' := [(5, .int (0 : Int32)), (4, .int (0 : Int32)), (0, .ref (L 0)), (1, .int v1), (2, .int v2), (3, .int v3)]) K dX2_cheap_21 (by decide) rfl ?_
      exact ax_sub [2, 3, 4, 5, 1, 0] rfl (h.elim fun n23 h => km_cheap_l23 K E (km_cheap_j73 K E ih) n23 v1 v2 v3 (0 : Int32) (0 : Int32) σ h)
set_option maxHeartbeats 4000000 in
theorem mm_cheap {l : Launch} {G : AG} {L : Nat → Nat} {σ : St} {v1 : Int32} {P : Int32 → St → Prop} (h : wm_cheap σ v1 P) : CtW l G yX2_cheap cX2_cheap 6 (some .int) (rmH 178) [.ref (L 0), .int v1] (mW G L) σ (pI P) := by
  refine CtW.ofI (by decide) (Nat.le_of_ble_eq_true rfl) fun Z _ K E => ?_
  unfold wm_cheap at h
  show AX Z 0 0 0 [(0, .ref (L 0)), (1, .int v1)] [] (mW G L σ)
  refine ax_aload_n K 0 rfl dX2_cheap_0 ?_
  refine ax_iconst (v := (0 : Int32)) K (by decide) dX2_cheap_1 ?_
  refine mp_thrown K dX2_cheap_2 ?_
  refine ax_iconst (v := (0 : Int32)) K (by decide) dX2_cheap_5 ?_
  refine ax_istore_n (lv' := [(2, .int (0 : Int32)), (0, .ref (L 0)), (1, .int v1)]) K dX2_cheap_6 (by decide) rfl ?_
  refine ax_iconst (v := (0 : Int32)) K (by decide) dX2_cheap_7 ?_
  refine ax_istore_n (lv' := [(3, .int (0 : Int32)), (2, .int (0 : Int32)), (0, .ref (L 0)), (1, .int v1)]) K dX2_cheap_8 (by decide) rfl ?_
  exact ax_sub [2, 3, 1, 0] rfl (h.elim fun n9 h => km_cheap_l9 K E  n9 v1 (0 : Int32) (0 : Int32) (mS_thrown σ (0 : Int32)) h)

/-! m.dear -/
set_option maxHeartbeats 4000000 in
theorem mm_dear {l : Launch} {G : AG} {L : Nat → Nat} {σ : St} {v1 : Int32} {P : Int32 → St → Prop} (h : wm_dear σ v1 P) : CtW l G yX2_dear cX2_dear 2 (some .int) (rmH 178) [.ref (L 0), .int v1] (mW G L) σ (pI P) := by
  refine CtW.ofI (by decide) (Nat.le_of_ble_eq_true rfl) fun Z _ K E => ?_
  unfold wm_dear at h
  show AX Z 0 0 0 [(0, .ref (L 0)), (1, .int v1)] [] (mW G L σ)
  refine ax_aload_n K 0 rfl dX2_dear_0 ?_
  refine ax_iconst (v := (0 : Int32)) K (by decide) dX2_dear_1 ?_
  refine mp_thrown K dX2_dear_2 ?_
  refine ax_aload_n K 0 rfl dX2_dear_5 ?_
  refine ax_iload_n K 1 rfl dX2_dear_6 ?_
  refine ax_iconst (v := (3 : Int32)) K (by decide) dX2_dear_7 ?_
  refine ax_aload_n K 0 rfl dX2_dear_8 ?_
  refine rm_all K (by decide) dX2_dear_9 (Nat.le_of_ble_eq_true rfl) h (fun r9 σ9 h => ?_)
  refine rm_tellCost K (by decide) dX2_dear_12 (Nat.le_of_ble_eq_true rfl) h (fun r12 σ12 h => ?_)
  exact E _ _ _ _ dX2_dear_15 rfl h

/-! m.fair -/
set_option maxHeartbeats 4000000 in
theorem mm_fair {l : Launch} {G : AG} {L : Nat → Nat} {σ : St} {v1 : Int32} {v2 : Int32} {P : Int32 → St → Prop} (h : wm_fair σ v1 v2 P) : CtW l G yX2_fair cX2_fair 3 (some .int) (rmH 178) [.ref (L 0), .int v1, .int v2] (mW G L) σ (pI P) := by
  refine CtW.ofI (by decide) (Nat.le_of_ble_eq_true rfl) fun Z _ K E => ?_
  unfold wm_fair at h
  show AX Z 0 0 0 [(0, .ref (L 0)), (1, .int v1), (2, .int v2)] [] (mW G L σ)
  refine ax_aload_n K 0 rfl dX2_fair_0 ?_
  refine ax_iconst (v := (0 : Int32)) K (by decide) dX2_fair_1 ?_
  refine mp_thrown K dX2_fair_2 ?_
  refine ax_aload_n K 0 rfl dX2_fair_5 ?_
  refine ax_iload_n K 1 rfl dX2_fair_6 ?_
  refine ax_iload_n K 2 rfl dX2_fair_7 ?_
  refine ax_iconst (v := (1 : Int32)) K (by decide) dX2_fair_8 ?_
  refine rm_tellBest K (by decide) dX2_fair_9 (Nat.le_of_ble_eq_true rfl) h (fun r9 σ9 h => ?_)
  exact E _ _ _ _ dX2_fair_12 rfl h

