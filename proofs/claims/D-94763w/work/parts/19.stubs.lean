def sx_joyOf (σ : St) (v1 v2 : Int32) (P : Int32 → St → Prop) : Prop := ∃ V g d, IX σ V ∧ v1 = nI g ∧ v2 = nI d ∧ g < vg V ∧ d < vn V ∧ P (joyV V g d) σ
theorem rx_joyOf {Z : AZ} {G : AG} {cc : ByteArray} {mL hh pc : Nat} {lv : List (Nat × Value)} {rest : List Value} {L : Nat → Nat} {σ : St} (K : AK Z G cc RX1 mL (rmH hh)) (hlt : 60 < hh) {dd : Nat} (d : decode cc pc = .ok (.invokevirtual dd, 3)) (hrest : (rest.map fun v => v.category).sum ≤ 8) {v1 v2 : Int32} {P : Int32 → St → Prop} (h : sx_joyOf σ v1 v2 P) (kk : ∀ (r : Int32) (σ' : St), P r σ' → AX Z 0 0 (pc + 3) lv (.int r :: rest) (xW G L σ')) : AX Z 0 0 pc lv (.int v2 :: .int v1 :: .ref (L 0) :: rest) (xW G L σ) := sorry
def sm_here (σ : St) (P : Int32 → St → Prop) : Prop :=
  if mI_at σ < mI_size σ then (if mI_at σ < mI_top σ then ((mI_read σ = 1 ∧ vp_in (mI_at σ) 80 ∧ P (mA_text σ (mI_at σ).toNatClampNeg) σ) ∨ (mI_read σ = 2 ∧ vp_in (mI_at σ) 40 ∧ P (mA_rule σ (mI_at σ).toNatClampNeg) σ)) else P (-1) σ) else P (-1) σ
theorem rdV_1 (L : Nat → Nat) : rdV L 1 = .ref (L 11) := rfl
theorem rdV_2 (L : Nat → Nat) : rdV L 2 = .ref (L 13) := rfl
set_option maxHeartbeats 4000000 in
theorem mm_here {l : Launch} {G : AG} {L : Nat → Nat} {σ : St} {P : Int32 → St → Prop} (h : sm_here σ P) : CtW l G yX2_here cX2_here 1 (some .int) (rmH 1) [.ref (L 0)] (mW G L) σ (pI P) := by
  refine CtW.ofI (by decide) (Nat.le_of_ble_eq_true rfl) fun Z _ K E => ?_
  unfold sm_here at h
  show AX Z 0 0 0 [(0, .ref (L 0))] [] (mW G L σ)
  refine ax_aload_n K 0 rfl dX2_here_0 ?_
  refine mg_at K dX2_here_1 ?_
  refine ax_aload_n K 0 rfl dX2_here_4 ?_
  refine mg_size K dX2_here_5 ?_
  refine ax_icmp_ge (tgt := 34) K dX2_here_8 (by decide) (fun c8 => ?_) (fun c8 => ?_)
  · have h := ax_ie h (Int32.not_lt.mpr c8)
    refine ax_iconst (v := (-1 : Int32)) K (by decide) dX2_here_34 ?_
    exact E _ _ _ _ dX2_here_35 rfl h
  · have h := ax_it h (Int32.not_le.mp c8)
    refine ax_aload_n K 0 rfl dX2_here_11 ?_
    refine mg_at K dX2_here_12 ?_
    refine ax_aload_n K 0 rfl dX2_here_15 ?_
    refine mg_top K dX2_here_16 ?_
    refine ax_icmp_ge (tgt := 34) K dX2_here_19 (by decide) (fun c19 => ?_) (fun c19 => ?_)
    · have h := ax_ie h (Int32.not_lt.mpr c19)
      refine ax_iconst (v := (-1 : Int32)) K (by decide) dX2_here_34 ?_
      exact E _ _ _ _ dX2_here_35 rfl h
    · have h := ax_it h (Int32.not_le.mp c19)
      refine ax_aload_n K 0 rfl dX2_here_22 ?_
      refine mg_read K dX2_here_23 ?_
      refine ax_aload_n K 0 rfl dX2_here_26 ?_
      refine mg_at K dX2_here_27 ?_
      rcases h with ⟨hr, hv, h⟩ | ⟨hr, hv, h⟩
      · rw [show gI σ 21 = 1 from hr, rdV_1]
        refine ml_text K hv dX2_here_30 ?_
        refine ax_goto (tgt := 35) K dX2_here_31 (by decide) ?_
        exact E _ _ _ _ dX2_here_35 rfl h
      · rw [show gI σ 21 = 2 from hr, rdV_2]
        refine ml_rule K hv dX2_here_30 ?_
        refine ax_goto (tgt := 35) K dX2_here_31 (by decide) ?_
        exact E _ _ _ _ dX2_here_35 rfl h
theorem rm_here {Z : AZ} {G : AG} {cc : ByteArray} {mL hh pc : Nat} {lv : List (Nat × Value)} {rest : List Value} {L : Nat → Nat} {σ : St} (K : AK Z G cc RX2 mL (rmH hh)) (hlt : 1 < hh) (d : decode cc pc = .ok (.invokevirtual 148, 3)) (hrest : (rest.map fun v => v.category).sum ≤ 8) {P : Int32 → St → Prop} (h : sm_here σ P) (kk : ∀ (r : Int32) (σ' : St), P r σ' → AX Z 0 0 (pc + 3) lv (.int r :: rest) (mW G L σ')) : AX Z 0 0 pc lv (.ref (L 0) :: rest) (mW G L σ) :=
  ax_callV (N0 := 0) (As := []) K (mm_here h) q1206 q1208 qs62 q118 q1209 ⟨rfl, by decide, by decide, by decide⟩ rfl ⟨by show 1 + 1 + 1 ≤ hh + 1; omega, by show 8 + (1 + 11) + 60 * (1 + 1) ≤ 60 * (hh + 1); omega⟩ ⟨Nat.zero_le _, Nat.zero_le _⟩ rfl rfl rfl hrest d (fun r σ' hp => by obtain ⟨v, rfl, hp⟩ := hp; exact kk v σ' hp)
def sm_begin (σ : St) (w v2 v3 : Int32) (P : St → Prop) : Prop := (w = 1 ∨ w = 2) ∧ P (mS_wrong (mS_at (mS_top (mS_size (sI σ 21 w) v2) v3) 0) (-1))
set_option maxHeartbeats 4000000 in
theorem mm_begin {l : Launch} {G : AG} {L : Nat → Nat} {σ : St} {w v2 v3 : Int32} {a : Nat} (he : rdV L w = .ref a) {P : St → Prop} (h : sm_begin σ w v2 v3 P) : CtW l G yX2_begin cX2_begin 4 none (rmH 1) [.ref (L 0), .ref a, .int v2, .int v3] (mW G L) σ (pV P) := by
  refine CtW.ofV (by decide) (Nat.le_of_ble_eq_true rfl) fun Z _ K E => ?_
  obtain ⟨hw, h⟩ := h
  show AX Z 0 0 0 [(0, .ref (L 0)), (1, .ref a), (2, .int v2), (3, .int v3)] [] (mW G L σ)
  refine ax_aload_n K 0 rfl dX2_begin_0 ?_
  refine ax_aload_n K 1 rfl dX2_begin_1 ?_
  have hp := fun kk => mp_read (lv := [(0, .ref (L 0)), (1, .ref a), (2, .int v2), (3, .int v3)]) (rest := []) (L := L) (σ := σ) (k := 0) (n := 0) K hw dX2_begin_2 kk
  rw [he] at hp
  refine hp ?_
  refine ax_aload_n K 0 rfl dX2_begin_5 ?_
  refine ax_iload_n K 2 rfl dX2_begin_6 ?_
  refine mp_size K dX2_begin_7 ?_
  refine ax_aload_n K 0 rfl dX2_begin_10 ?_
  refine ax_iload_n K 3 rfl dX2_begin_11 ?_
  refine mp_top K dX2_begin_12 ?_
  refine ax_aload_n K 0 rfl dX2_begin_15 ?_
  refine ax_iconst (v := (0 : Int32)) K (by decide) dX2_begin_16 ?_
  refine mp_at K dX2_begin_17 ?_
  refine ax_aload_n K 0 rfl dX2_begin_20 ?_
  refine ax_iconst (v := (-1 : Int32)) K (by decide) dX2_begin_21 ?_
  refine mp_wrong K dX2_begin_22 ?_
  exact E _ _ _ dX2_begin_25 h
theorem rm_begin_text {Z : AZ} {G : AG} {cc : ByteArray} {mL hh pc : Nat} {lv : List (Nat × Value)} {rest : List Value} {L : Nat → Nat} {σ : St} (K : AK Z G cc RX2 mL (rmH hh)) (hlt : 1 < hh) (d : decode cc pc = .ok (.invokevirtual 156, 3)) (hrest : (rest.map fun v => v.category).sum ≤ 8) {v2 v3 : Int32} {P : St → Prop} (h : sm_begin σ 1 v2 v3 P) (kk : ∀ (σ' : St), P σ' → AX Z 0 0 (pc + 3) lv (rest) (mW G L σ')) : AX Z 0 0 pc lv (.int v3 :: .int v2 :: .ref (L 11) :: .ref (L 0) :: rest) (mW G L σ) :=
  ax_callV (N0 := 3) (As := [.ref (L 11), .int v2, .int v3]) K (mm_begin (rdV_1 L) h) q1198 q1200 qs60 q118 q1201 ⟨rfl, by decide, by decide, by decide⟩ rfl ⟨by show 1 + 1 + 1 ≤ hh + 1; omega, by show 8 + (4 + 11) + 60 * (1 + 1) ≤ 60 * (hh + 1); omega⟩ ⟨Nat.zero_le _, Nat.zero_le _⟩ rfl rfl rfl hrest d (fun r σ' hp => by obtain ⟨rfl, hp⟩ := hp; exact kk σ' hp)
theorem rm_begin_rule {Z : AZ} {G : AG} {cc : ByteArray} {mL hh pc : Nat} {lv : List (Nat × Value)} {rest : List Value} {L : Nat → Nat} {σ : St} (K : AK Z G cc RX2 mL (rmH hh)) (hlt : 1 < hh) (d : decode cc pc = .ok (.invokevirtual 156, 3)) (hrest : (rest.map fun v => v.category).sum ≤ 8) {v2 v3 : Int32} {P : St → Prop} (h : sm_begin σ 2 v2 v3 P) (kk : ∀ (σ' : St), P σ' → AX Z 0 0 (pc + 3) lv (rest) (mW G L σ')) : AX Z 0 0 pc lv (.int v3 :: .int v2 :: .ref (L 13) :: .ref (L 0) :: rest) (mW G L σ) :=
  ax_callV (N0 := 3) (As := [.ref (L 13), .int v2, .int v3]) K (mm_begin (rdV_2 L) h) q1198 q1200 qs60 q118 q1201 ⟨rfl, by decide, by decide, by decide⟩ rfl ⟨by show 1 + 1 + 1 ≤ hh + 1; omega, by show 8 + (4 + 11) + 60 * (1 + 1) ≤ 60 * (hh + 1); omega⟩ ⟨Nat.zero_le _, Nat.zero_le _⟩ rfl rfl rfl hrest d (fun r σ' hp => by obtain ⟨rfl, hp⟩ := hp; exact kk σ' hp)
