/-! m.may -/
set_option maxHeartbeats 4000000 in
theorem km_may_j15 {Z : AZ} {G : AG} {L : Nat → Nat} {P : Int32 → St → Prop} (K : AK Z G cX2_may RX2 4 (rmH 4)) (E : AEi Z cX2_may .boolean (mW G L) 0 0 P) (s0 : Int32) (σ : St) (h : wm_may_j15 P  s0 σ) : AX Z 0 0 15 [(0, .ref (L 0))] [.int s0] (mW G L σ) := by
  unfold wm_may_j15 at h
  exact E _ _ _ _ dX2_may_15 h.1 h.2
set_option maxHeartbeats 4000000 in
theorem mm_may {l : Launch} {G : AG} {L : Nat → Nat} {σ : St} {v1 : Int32} {v2 : Int32} {v3 : Int32} {P : Int32 → St → Prop} (h : wm_may σ v1 v2 v3 P) : CtW l G yX2_may cX2_may 4 (some .boolean) (rmH 4) [.ref (L 0), .int v1, .int v2, .int v3] (mW G L) σ (pI P) := by
  refine CtW.ofI (by decide) (Nat.le_of_ble_eq_true rfl) fun Z _ K E => ?_
  unfold wm_may at h
  show AX Z 0 0 0 [(0, .ref (L 0)), (1, .int v1), (2, .int v2), (3, .int v3)] [] (mW G L σ)
  refine ax_aload_n K 0 rfl dX2_may_0 ?_
  refine ax_iload_n K 1 rfl dX2_may_1 ?_
  refine ax_iload_n K 2 rfl dX2_may_2 ?_
  refine ax_iload_n K 3 rfl dX2_may_3 ?_
  refine rm_refusal K (by decide) dX2_may_4 (Nat.le_of_ble_eq_true rfl) h (fun r4 σ4 h => ?_)
  refine ax_if_ne (tgt := 14) K dX2_may_7 (by decide) (fun c7 => ?_) (fun c7 => ?_)
  · have h := ax_ie h c7
    refine ax_iconst (v := (0 : Int32)) K (by decide) dX2_may_14 ?_
    exact ax_sub [0] rfl (km_may_j15 K E  (0 : Int32) σ4 h)
  · have h := ax_it h c7
    refine ax_iconst (v := (1 : Int32)) K (by decide) dX2_may_10 ?_
    refine ax_goto (tgt := 15) K dX2_may_11 (by decide) ?_
    exact ax_sub [0] rfl (km_may_j15 K E  (1 : Int32) σ4 h)
theorem rm_may {Z : AZ} {G : AG} {cc : ByteArray} {mL hh pc : Nat} {lv : List (Nat × Value)} {rest : List Value} {L : Nat → Nat} {σ : St} (K : AK Z G cc RX2 mL (rmH hh)) (hlt : 4 < hh) (d : decode cc pc = .ok (.invokevirtual 307, 3)) (hrest : (rest.map fun v => v.category).sum ≤ 8) {v1 : Int32} {v2 : Int32} {v3 : Int32} {P : Int32 → St → Prop} (h : sm_may σ v1 v2 v3 P) (kk : ∀ (r : Int32) (σ' : St), P r σ' → AX Z 0 0 (pc + 3) lv (.int r :: rest) (mW G L σ')) : AX Z 0 0 pc lv (.int v3 :: .int v2 :: .int v1 :: .ref (L 0) :: rest) (mW G L σ) :=
  ax_callV (N0 := 3) (As := [.int v1, .int v2, .int v3]) K (mm_may (sm_may_ok h)) q1421 q1423 qs94 q118 q1424 ⟨rfl, by decide, by decide, by decide⟩ rfl ⟨by show 4 + 1 + 1 ≤ hh + 1; omega, by show 8 + (4 + 11) + 60 * (4 + 1) ≤ 60 * (hh + 1); omega⟩ ⟨Nat.zero_le _, Nat.zero_le _⟩ rfl rfl rfl hrest d (fun r σ' hp => by obtain ⟨v, rfl, hp⟩ := hp; exact kk v σ' hp)
/-! m.parts -/
set_option maxHeartbeats 4000000 in
theorem km_parts_j69 {Z : AZ} {G : AG} {L : Nat → Nat} {P : Int32 → St → Prop} (K : AK Z G cX2_parts RX2 6 (rmH 4)) (E : AEi Z cX2_parts .int (mW G L) 0 0 P) {K41 : Int32 → Int32 → Int32 → Int32 → Int32 → St → Prop} (hK41 : ∀ (v1 : Int32) (v2 : Int32) (v3 : Int32) (v4 : Int32) (v5 : Int32) (σ : St), K41 v1 v2 v3 v4 v5 σ → AX Z 0 0 41 [(0, .ref (L 0)), (1, .int v1), (2, .int v2), (3, .int v3), (4, .int v4), (5, .int v5)] [] (mW G L σ)) (v1 : Int32) (v2 : Int32) (v3 : Int32) (v4 : Int32) (v5 : Int32) (σ : St) (h : wm_parts_j69 P K41 v1 v2 v3 v4 v5 σ) : AX Z 0 0 69 [(0, .ref (L 0)), (1, .int v1), (2, .int v2), (3, .int v3), (4, .int v4), (5, .int v5)] [] (mW G L σ) := by
  unfold wm_parts_j69 at h
  refine ax_iinc (lv' := [(5, .int (v5 + (1 : Int32))), (0, .ref (L 0)), (1, .int v1), (2, .int v2), (3, .int v3), (4, .int v4)]) (v := (v5 + (1 : Int32))) K 5 dX2_parts_69 rfl (by rfl) (by decide) rfl ?_
  refine ax_goto (tgt := 41) K dX2_parts_72 (by decide) ?_
  exact ax_sub [1, 2, 3, 4, 5, 0] rfl (hK41 v1 v2 v3 v4 (v5 + (1 : Int32)) σ h)
set_option maxHeartbeats 4000000 in
theorem km_parts_l41 {Z : AZ} {G : AG} {L : Nat → Nat} {P : Int32 → St → Prop} (K : AK Z G cX2_parts RX2 6 (rmH 4)) (E : AEi Z cX2_parts .int (mW G L) 0 0 P) {K29 : Int32 → Int32 → Int32 → Int32 → St → Prop} (hK29 : ∀ (v1 : Int32) (v2 : Int32) (v3 : Int32) (v4 : Int32) (σ : St), K29 v1 v2 v3 v4 σ → AX Z 0 0 29 [(0, .ref (L 0)), (1, .int v1), (2, .int v2), (3, .int v3), (4, .int v4)] [] (mW G L σ)) : ∀ (n : Nat) (v1 : Int32) (v2 : Int32) (v3 : Int32) (v4 : Int32) (v5 : Int32) (σ : St), wm_parts_l41 P K29 n v1 v2 v3 v4 v5 σ → AX Z 0 0 41 [(0, .ref (L 0)), (1, .int v1), (2, .int v2), (3, .int v3), (4, .int v4), (5, .int v5)] [] (mW G L σ) := by
  intro n
  induction n with
  | zero => intro v1 v2 v3 v4 v5 σ h; exact False.elim h
  | succ n ih =>
    intro v1 v2 v3 v4 v5 σ h
    rw [wm_parts_l41_s] at h
    refine ax_iload K 5 rfl dX2_parts_41 ?_
    refine ax_aload_n K 0 rfl dX2_parts_43 ?_
    refine mg_dishes K dX2_parts_44 ?_
    refine ax_icmp_ge (tgt := 75) K dX2_parts_47 (by decide) (fun c47 => ?_) (fun c47 => ?_)
    · have h := ax_it h c47
      refine ax_goto (tgt := 29) K dX2_parts_75 (by decide) ?_
      exact ax_sub [0, 1, 2, 3, 4] rfl (hK29 v1 v2 v3 v4 σ h)
    · have h := ax_ie h c47
      refine ax_iload K 4 rfl dX2_parts_50 ?_
      refine ax_iload K 5 rfl dX2_parts_52 ?_
      refine rm_has K (by decide) dX2_parts_54 (Nat.le_of_ble_eq_true rfl) h (fun r54 h => ?_)
      refine ax_if_eq (tgt := 69) K dX2_parts_57 (by decide) (fun c57 => ?_) (fun c57 => ?_)
      · have h := ax_it h c57
        exact ax_sub [0, 1, 2, 3, 4, 5] rfl (km_parts_j69 K E ih v1 v2 v3 v4 v5 σ h)
      · have h := ax_ie h c57
        refine ax_iload_n K 3 rfl dX2_parts_60 ?_
        refine ax_aload_n K 0 rfl dX2_parts_61 ?_
        refine ax_iload K 5 rfl dX2_parts_62 ?_
        refine rm_besides K (by decide) dX2_parts_64 (Nat.le_of_ble_eq_true rfl) h (fun r64 σ64 h => ?_)
        refine ax_ior K dX2_parts_67 ?_
        refine ax_istore_n (lv' := [(3, .int (v3 ||| r64)), (0, .ref (L 0)), (1, .int v1), (2, .int v2), (4, .int v4), (5, .int v5)]) K dX2_parts_68 (by decide) rfl ?_
        exact ax_sub [1, 2, 3, 0, 4, 5] rfl (km_parts_j69 K E ih v1 v2 (v3 ||| r64) v4 v5 σ64 h)
set_option maxHeartbeats 4000000 in
theorem km_parts_l29 {Z : AZ} {G : AG} {L : Nat → Nat} {P : Int32 → St → Prop} (K : AK Z G cX2_parts RX2 6 (rmH 4)) (E : AEi Z cX2_parts .int (mW G L) 0 0 P) {K17 : Int32 → Int32 → St → Prop} (hK17 : ∀ (v1 : Int32) (v2 : Int32) (σ : St), K17 v1 v2 σ → AX Z 0 0 17 [(0, .ref (L 0)), (1, .int v1), (2, .int v2)] [] (mW G L σ)) : ∀ (n : Nat) (v1 : Int32) (v2 : Int32) (v3 : Int32) (v4 : Int32) (σ : St), wm_parts_l29 P K17 n v1 v2 v3 v4 σ → AX Z 0 0 29 [(0, .ref (L 0)), (1, .int v1), (2, .int v2), (3, .int v3), (4, .int v4)] [] (mW G L σ) := by
  intro n
  induction n with
  | zero => intro v1 v2 v3 v4 σ h; exact False.elim h
  | succ n ih =>
    intro v1 v2 v3 v4 σ h
    rw [wm_parts_l29_s] at h
    refine ax_iload_n K 3 rfl dX2_parts_29 ?_
    refine ax_iload K 4 rfl dX2_parts_30 ?_
    refine ax_icmp_eq (tgt := 78) K dX2_parts_32 (by decide) (fun c32 => ?_) (fun c32 => ?_)
    · have h := ax_it h c32
      refine ax_aload_n K 0 rfl dX2_parts_78 ?_
      refine ax_iload_n K 3 rfl dX2_parts_79 ?_
      refine rm_tell K (by decide) dX2_parts_80 (Nat.le_of_ble_eq_true rfl) h (fun σ80 h => ?_)
      refine ax_iinc (lv' := [(2, .int (v2 + (1 : Int32))), (0, .ref (L 0)), (1, .int v1), (3, .int v3), (4, .int v4)]) (v := (v2 + (1 : Int32))) K 2 dX2_parts_83 rfl (by rfl) (by decide) rfl ?_
      refine ax_iload_n K 2 rfl dX2_parts_86 ?_
      refine ax_iload_n K 3 rfl dX2_parts_87 ?_
      refine ax_iconst (v := (-1 : Int32)) K (by decide) dX2_parts_88 ?_
      refine ax_ixor K dX2_parts_89 ?_
      refine ax_iand K dX2_parts_90 ?_
      refine ax_istore_n (lv' := [(1, .int (v1 &&& (v3 ^^^ (-1 : Int32)))), (2, .int (v2 + (1 : Int32))), (0, .ref (L 0)), (3, .int v3), (4, .int v4)]) K dX2_parts_91 (by decide) rfl ?_
      refine ax_goto (tgt := 17) K dX2_parts_92 (by decide) ?_
      exact ax_sub [2, 0, 1] rfl (hK17 (v1 &&& (v3 ^^^ (-1 : Int32))) (v2 + (1 : Int32)) σ80 h)
    · have h := ax_ie h c32
      refine ax_iload_n K 3 rfl dX2_parts_35 ?_
      refine ax_istore (lv' := [(4, .int v3), (0, .ref (L 0)), (1, .int v1), (2, .int v2), (3, .int v3)]) K dX2_parts_36 (by decide) rfl ?_
      refine ax_iconst (v := (0 : Int32)) K (by decide) dX2_parts_38 ?_
      refine ax_istore (lv' := [(5, .int (0 : Int32)), (4, .int v3), (0, .ref (L 0)), (1, .int v1), (2, .int v2), (3, .int v3)]) K dX2_parts_39 (by decide) rfl ?_
      exact ax_sub [2, 3, 4, 5, 1, 0] rfl (h.elim fun n41 h => km_parts_l41 K E ih n41 v1 v2 v3 v3 (0 : Int32) σ h)
set_option maxHeartbeats 4000000 in
theorem km_parts_l17 {Z : AZ} {G : AG} {L : Nat → Nat} {P : Int32 → St → Prop} (K : AK Z G cX2_parts RX2 6 (rmH 4)) (E : AEi Z cX2_parts .int (mW G L) 0 0 P) : ∀ (n : Nat) (v1 : Int32) (v2 : Int32) (σ : St), wm_parts_l17 P  n v1 v2 σ → AX Z 0 0 17 [(0, .ref (L 0)), (1, .int v1), (2, .int v2)] [] (mW G L σ) := by
  intro n
  induction n with
  | zero => intro v1 v2 σ h; exact False.elim h
  | succ n ih =>
    intro v1 v2 σ h
    rw [wm_parts_l17_s] at h
    refine ax_iload_n K 1 rfl dX2_parts_17 ?_
    refine ax_if_eq (tgt := 95) K dX2_parts_18 (by decide) (fun c18 => ?_) (fun c18 => ?_)
    · have h := ax_it h c18
      refine ax_iload_n K 2 rfl dX2_parts_95 ?_
      exact E _ _ _ _ dX2_parts_96 rfl h
    · have h := ax_ie h c18
      refine ax_iload_n K 1 rfl dX2_parts_21 ?_
      refine ax_iload_n K 1 rfl dX2_parts_22 ?_
      refine ax_ineg K dX2_parts_23 ?_
      refine ax_iand K dX2_parts_24 ?_
      refine ax_istore_n (lv' := [(3, .int (v1 &&& ((-v1)))), (0, .ref (L 0)), (1, .int v1), (2, .int v2)]) K dX2_parts_25 (by decide) rfl ?_
      refine ax_iconst (v := (0 : Int32)) K (by decide) dX2_parts_26 ?_
      refine ax_istore (lv' := [(4, .int (0 : Int32)), (3, .int (v1 &&& ((-v1)))), (0, .ref (L 0)), (1, .int v1), (2, .int v2)]) K dX2_parts_27 (by decide) rfl ?_
      exact ax_sub [2, 3, 4, 1, 0] rfl (h.elim fun n29 h => km_parts_l29 K E ih n29 v1 v2 (v1 &&& ((-v1))) (0 : Int32) σ h)
set_option maxHeartbeats 4000000 in
theorem mm_parts {l : Launch} {G : AG} {L : Nat → Nat} {σ : St} {P : Int32 → St → Prop} (h : wm_parts σ P) : CtW l G yX2_parts cX2_parts 6 (some .int) (rmH 4) [.ref (L 0)] (mW G L) σ (pI P) := by
  refine CtW.ofI (by decide) (Nat.le_of_ble_eq_true rfl) fun Z _ K E => ?_
  unfold wm_parts at h
  show AX Z 0 0 0 [(0, .ref (L 0))] [] (mW G L σ)
  refine ax_aload_n K 0 rfl dX2_parts_0 ?_
  refine ax_iconst (v := (0 : Int32)) K (by decide) dX2_parts_1 ?_
  refine mp_thrown K dX2_parts_2 ?_
  refine ax_aload_n K 0 rfl dX2_parts_5 ?_
  refine rm_all K (by decide) dX2_parts_6 (Nat.le_of_ble_eq_true rfl) h (fun r6 σ6 h => ?_)
  refine ax_istore_n (lv' := [(1, .int r6), (0, .ref (L 0))]) K dX2_parts_9 (by decide) rfl ?_
  refine ax_iconst (v := (0 : Int32)) K (by decide) dX2_parts_10 ?_
  refine ax_istore_n (lv' := [(2, .int (0 : Int32)), (1, .int r6), (0, .ref (L 0))]) K dX2_parts_11 (by decide) rfl ?_
  refine ax_aload_n K 2 rfl dX2_parts_12 ?_
  refine ax_iconst (v := (0 : Int32)) K (by decide) dX2_parts_13 ?_
  refine mp_rowMany K dX2_parts_14 ?_
  exact ax_sub [2, 1, 0] rfl (h.elim fun n17 h => km_parts_l17 K E  n17 r6 (0 : Int32) (mS_rowMany σ6 (0 : Int32)) h)

/-! m.poison -/
set_option maxHeartbeats 4000000 in
theorem km_poison_j79 {Z : AZ} {G : AG} {L : Nat → Nat} {P : Int32 → St → Prop} (K : AK Z G cX2_poison RX2 5 (rmH 4)) (E : AEi Z cX2_poison .int (mW G L) 0 0 P) {K41 : Int32 → Int32 → Int32 → Int32 → St → Prop} (hK41 : ∀ (v1 : Int32) (v2 : Int32) (v3 : Int32) (v4 : Int32) (σ : St), K41 v1 v2 v3 v4 σ → AX Z 0 0 41 [(0, .ref (L 0)), (1, .int v1), (2, .int v2), (3, .int v3), (4, .int v4)] [] (mW G L σ)) (v1 : Int32) (v2 : Int32) (v4 : Int32) (s0 : Int32) (s1 : Int32) (σ : St) (h : wm_poison_j79 P K41 v1 v2 v4 s0 s1 σ) : AX Z 0 0 79 [(0, .ref (L 0)), (1, .int v1), (2, .int v2), (4, .int v4)] [.int s1, .int s0] (mW G L σ) := by
  unfold wm_poison_j79 at h
  refine ax_iand K dX2_poison_79 ?_
  refine ax_istore_n (lv' := [(3, .int (s0 &&& s1)), (0, .ref (L 0)), (1, .int v1), (2, .int v2), (4, .int v4)]) K dX2_poison_80 (by decide) rfl ?_
  refine ax_iinc (lv' := [(4, .int (v4 + (1 : Int32))), (3, .int (s0 &&& s1)), (0, .ref (L 0)), (1, .int v1), (2, .int v2)]) (v := (v4 + (1 : Int32))) K 4 dX2_poison_81 rfl (by rfl) (by decide) rfl ?_
  refine ax_goto (tgt := 41) K dX2_poison_84 (by decide) ?_
  exact ax_sub [2, 3, 4, 1, 0] rfl (hK41 v1 v2 (s0 &&& s1) (v4 + (1 : Int32)) σ h)
set_option maxHeartbeats 4000000 in
theorem km_poison_l41 {Z : AZ} {G : AG} {L : Nat → Nat} {P : Int32 → St → Prop} (K : AK Z G cX2_poison RX2 5 (rmH 4)) (E : AEi Z cX2_poison .int (mW G L) 0 0 P) : ∀ (n : Nat) (v1 : Int32) (v2 : Int32) (v3 : Int32) (v4 : Int32) (σ : St), wm_poison_l41 P  n v1 v2 v3 v4 σ → AX Z 0 0 41 [(0, .ref (L 0)), (1, .int v1), (2, .int v2), (3, .int v3), (4, .int v4)] [] (mW G L σ) := by
  intro n
  induction n with
  | zero => intro v1 v2 v3 v4 σ h; exact False.elim h
  | succ n ih =>
    intro v1 v2 v3 v4 σ h
    rw [wm_poison_l41_s] at h
    refine ax_iload K 4 rfl dX2_poison_41 ?_
    refine ax_aload_n K 0 rfl dX2_poison_43 ?_
    refine mg_guests K dX2_poison_44 ?_
    refine ax_icmp_ge (tgt := 87) K dX2_poison_47 (by decide) (fun c47 => ?_) (fun c47 => ?_)
    · have h := ax_it h c47
      refine ax_iload_n K 3 rfl dX2_poison_87 ?_
      exact E _ _ _ _ dX2_poison_88 rfl h
    · have h := ax_ie h c47
      refine ax_iload_n K 3 rfl dX2_poison_50 ?_
      refine ax_iload_n K 2 rfl dX2_poison_51 ?_
      refine ax_iload K 4 rfl dX2_poison_52 ?_
      refine rm_has K (by decide) dX2_poison_54 (Nat.le_of_ble_eq_true rfl) h (fun r54 h => ?_)
      refine ax_if_eq (tgt := 70) K dX2_poison_57 (by decide) (fun c57 => ?_) (fun c57 => ?_)
      · have h := ax_it h c57
        refine ax_aload_n K 0 rfl dX2_poison_70 ?_
        refine ax_iload_n K 1 rfl dX2_poison_71 ?_
        refine ax_iload K 4 rfl dX2_poison_72 ?_
        refine rm_ateOf K (by decide) dX2_poison_74 (Nat.le_of_ble_eq_true rfl) h (fun r74 σ74 h => ?_)
        refine ax_iconst (v := (-1 : Int32)) K (by decide) dX2_poison_77 ?_
        refine ax_ixor K dX2_poison_78 ?_
        exact ax_sub [0, 1, 2, 4] rfl (km_poison_j79 K E ih v1 v2 v4 v3 (r74 ^^^ (-1 : Int32)) σ74 h)
      · have h := ax_ie h c57
        refine ax_aload_n K 0 rfl dX2_poison_60 ?_
        refine ax_iload_n K 1 rfl dX2_poison_61 ?_
        refine ax_iload K 4 rfl dX2_poison_62 ?_
        refine rm_ateOf K (by decide) dX2_poison_64 (Nat.le_of_ble_eq_true rfl) h (fun r64 σ64 h => ?_)
        refine ax_goto (tgt := 79) K dX2_poison_67 (by decide) ?_
        exact ax_sub [0, 1, 2, 4] rfl (km_poison_j79 K E ih v1 v2 v4 v3 r64 σ64 h)
set_option maxHeartbeats 4000000 in
theorem mm_poison {l : Launch} {G : AG} {L : Nat → Nat} {σ : St} {v1 : Int32} {v2 : Int32} {P : Int32 → St → Prop} (h : wm_poison σ v1 v2 P) : CtW l G yX2_poison cX2_poison 5 (some .int) (rmH 4) [.ref (L 0), .int v1, .int v2] (mW G L) σ (pI P) := by
  refine CtW.ofI (by decide) (Nat.le_of_ble_eq_true rfl) fun Z _ K E => ?_
  unfold wm_poison at h
  show AX Z 0 0 0 [(0, .ref (L 0)), (1, .int v1), (2, .int v2)] [] (mW G L σ)
  refine ax_aload_n K 0 rfl dX2_poison_0 ?_
  refine ax_iconst (v := (0 : Int32)) K (by decide) dX2_poison_1 ?_
  refine mp_thrown K dX2_poison_2 ?_
  refine ax_iload_n K 2 rfl dX2_poison_5 ?_
  refine ax_iconst (v := (0 : Int32)) K (by decide) dX2_poison_6 ?_
  refine ax_iconst (v := (1 : Int32)) K (by decide) dX2_poison_7 ?_
  refine ax_aload_n K 0 rfl dX2_poison_8 ?_
  refine mg_guests K dX2_poison_9 ?_
  refine ax_ishl K dX2_poison_12 ?_
  refine ax_iconst (v := (1 : Int32)) K (by decide) dX2_poison_13 ?_
  refine ax_isub K dX2_poison_14 ?_
  refine rm_in K (by decide) dX2_poison_15 (Nat.le_of_ble_eq_true rfl) h (fun r15 h => ?_)
  refine ax_if_ne (tgt := 23) K dX2_poison_18 (by decide) (fun c18 => ?_) (fun c18 => ?_)
  · have h := ax_ie h c18
    refine ax_aload_n K 0 rfl dX2_poison_23 ?_
    refine ax_iload_n K 1 rfl dX2_poison_24 ?_
    refine rm_isWhole K (by decide) dX2_poison_25 (Nat.le_of_ble_eq_true rfl) h (fun r25 σ25 h => ?_)
    refine ax_if_ne (tgt := 34) K dX2_poison_28 (by decide) (fun c28 => ?_) (fun c28 => ?_)
    · have h := ax_ie h c28
      refine ax_sipush (v := (255 : Int32)) K (by decide) dX2_poison_34 ?_
      refine ax_istore_n (lv' := [(3, .int (255 : Int32)), (0, .ref (L 0)), (1, .int v1), (2, .int v2)]) K dX2_poison_37 (by decide) rfl ?_
      refine ax_iconst (v := (0 : Int32)) K (by decide) dX2_poison_38 ?_
      refine ax_istore (lv' := [(4, .int (0 : Int32)), (3, .int (255 : Int32)), (0, .ref (L 0)), (1, .int v1), (2, .int v2)]) K dX2_poison_39 (by decide) rfl ?_
      exact ax_sub [2, 3, 4, 1, 0] rfl (h.elim fun n41 h => km_poison_l41 K E  n41 v1 v2 (255 : Int32) (0 : Int32) σ25 h)
    · have h := ax_it h c28
      refine ax_bipush (v := (-3 : Int32)) K (by decide) dX2_poison_31 ?_
      exact E _ _ _ _ dX2_poison_33 rfl h
  · have h := ax_it h c18
    refine ax_iconst (v := (-1 : Int32)) K (by decide) dX2_poison_21 ?_
    exact E _ _ _ _ dX2_poison_22 rfl h

/-! m.readGuest -/
set_option maxHeartbeats 4000000 in
theorem km_readGuest_j38 {Z : AZ} {G : AG} {L : Nat → Nat} {P : St → Prop} (K : AK Z G cX2_readGuest RX2 2 (rmH 4)) (E : AEv Z cX2_readGuest (mW G L) 0 0 P) (v1 : Int32) (σ : St) (h : wm_readGuest_j38 P  v1 σ) : AX Z 0 0 38 [(0, .ref (L 0)), (1, .int v1)] [] (mW G L σ) := by
  unfold wm_readGuest_j38 at h
  refine ax_aload_n K 0 rfl dX2_readGuest_38 ?_
  refine mg_bars K dX2_readGuest_39 ?_
  refine ax_iload_n K 1 rfl dX2_readGuest_42 ?_
  refine ax_aload_n K 0 rfl dX2_readGuest_43 ?_
  refine ax_iconst (v := (0 : Int32)) K (by decide) dX2_readGuest_44 ?_
  refine rm_letters K (by decide) dX2_readGuest_45 (Nat.le_of_ble_eq_true rfl) h (fun r45 σ45 h => ?_)
  refine ms_bars K h.1 dX2_readGuest_48 ?_
  replace h := h.2
  exact E _ _ _ dX2_readGuest_49 h
set_option maxHeartbeats 4000000 in
theorem mm_readGuest {l : Launch} {G : AG} {L : Nat → Nat} {σ : St} {v1 : Int32} {P : St → Prop} (h : wm_readGuest σ v1 P) : CtW l G yX2_readGuest cX2_readGuest 2 none (rmH 4) [.ref (L 0), .int v1] (mW G L) σ (pV P) := by
  refine CtW.ofV (by decide) (Nat.le_of_ble_eq_true rfl) fun Z _ K E => ?_
  unfold wm_readGuest at h
  show AX Z 0 0 0 [(0, .ref (L 0)), (1, .int v1)] [] (mW G L σ)
  refine ax_aload_n K 0 rfl dX2_readGuest_0 ?_
  refine ax_dup K rfl dX2_readGuest_1 ?_
  refine mg_at K dX2_readGuest_2 ?_
  refine ax_iconst (v := (1 : Int32)) K (by decide) dX2_readGuest_5 ?_
  refine ax_iadd K dX2_readGuest_6 ?_
  refine mp_at K dX2_readGuest_7 ?_
  refine ax_aload_n K 0 rfl dX2_readGuest_10 ?_
  refine mg_loves K dX2_readGuest_11 ?_
  refine ax_iload_n K 1 rfl dX2_readGuest_14 ?_
  refine ax_aload_n K 0 rfl dX2_readGuest_15 ?_
  refine ax_iconst (v := (0 : Int32)) K (by decide) dX2_readGuest_16 ?_
  refine rm_letters K (by decide) dX2_readGuest_17 (Nat.le_of_ble_eq_true rfl) h (fun r17 σ17 h => ?_)
  refine ms_loves K h.1 dX2_readGuest_20 ?_
  replace h := h.2
  refine ax_aload_n K 0 rfl dX2_readGuest_21 ?_
  refine ax_bipush (v := (45 : Int32)) K (by decide) dX2_readGuest_22 ?_
  refine rm_passes K (by decide) dX2_readGuest_24 (Nat.le_of_ble_eq_true rfl) h (fun r24 σ24 h => ?_)
  refine ax_if_ne (tgt := 38) K dX2_readGuest_27 (by decide) (fun c27 => ?_) (fun c27 => ?_)
  · have h := ax_ie h c27
    exact ax_sub [0, 1] rfl (km_readGuest_j38 K E  v1 σ24 h)
  · have h := ax_it h c27
    refine ax_aload_n K 0 rfl dX2_readGuest_30 ?_
    refine ax_aload_n K 0 rfl dX2_readGuest_31 ?_
    refine mg_at K dX2_readGuest_32 ?_
    refine rm_fault K (by decide) dX2_readGuest_35 (Nat.le_of_ble_eq_true rfl) h (fun σ35 h => ?_)
    exact ax_sub [0, 1] rfl (km_readGuest_j38 K E  v1 σ35 h)
theorem rm_readGuest {Z : AZ} {G : AG} {cc : ByteArray} {mL hh pc : Nat} {lv : List (Nat × Value)} {rest : List Value} {L : Nat → Nat} {σ : St} (K : AK Z G cc RX2 mL (rmH hh)) (hlt : 4 < hh) (d : decode cc pc = .ok (.invokevirtual 160, 3)) (hrest : (rest.map fun v => v.category).sum ≤ 8) {v1 : Int32} {P : St → Prop} (h : sm_readGuest σ v1 P) (kk : ∀ (σ' : St), P σ' → AX Z 0 0 (pc + 3) lv (rest) (mW G L σ')) : AX Z 0 0 pc lv (.int v1 :: .ref (L 0) :: rest) (mW G L σ) :=
  ax_callV (N0 := 1) (As := [.int v1]) K (mm_readGuest (sm_readGuest_ok h)) q1214 q1216 qs64 q118 q1217 ⟨rfl, by decide, by decide, by decide⟩ rfl ⟨by show 4 + 1 + 1 ≤ hh + 1; omega, by show 8 + (2 + 11) + 60 * (4 + 1) ≤ 60 * (hh + 1); omega⟩ ⟨Nat.zero_le _, Nat.zero_le _⟩ rfl rfl rfl hrest d (fun r σ' hp => by obtain ⟨rfl, hp⟩ := hp; exact kk σ' hp)
/-! m.serve -/
set_option maxHeartbeats 4000000 in
theorem mm_serve {l : Launch} {G : AG} {L : Nat → Nat} {σ : St} {v1 : Int32} {P : Int32 → St → Prop} (h : wm_serve σ v1 P) : CtW l G yX2_serve cX2_serve 3 (some .int) (rmH 4) [.ref (L 0), .int v1] (mW G L) σ (pI P) := by
  refine CtW.ofI (by decide) (Nat.le_of_ble_eq_true rfl) fun Z _ K E => ?_
  unfold wm_serve at h
  show AX Z 0 0 0 [(0, .ref (L 0)), (1, .int v1)] [] (mW G L σ)
  refine ax_aload_n K 0 rfl dX2_serve_0 ?_
  refine ax_iconst (v := (0 : Int32)) K (by decide) dX2_serve_1 ?_
  refine mp_thrown K dX2_serve_2 ?_
  refine ax_aload_n K 0 rfl dX2_serve_5 ?_
  refine ax_iload_n K 1 rfl dX2_serve_6 ?_
  refine rm_isDish K (by decide) dX2_serve_7 (Nat.le_of_ble_eq_true rfl) h (fun r7 σ7 h => ?_)
  refine ax_if_ne (tgt := 15) K dX2_serve_10 (by decide) (fun c10 => ?_) (fun c10 => ?_)
  · have h := ax_ie h c10
    refine ax_aload_n K 0 rfl dX2_serve_15 ?_
    refine ax_aload_n K 0 rfl dX2_serve_16 ?_
    refine rm_servedSet K (by decide) dX2_serve_17 (Nat.le_of_ble_eq_true rfl) h (fun r17 σ17 h => ?_)
    refine ax_aload_n K 0 rfl dX2_serve_20 ?_
    refine rm_servedLast K (by decide) dX2_serve_21 (Nat.le_of_ble_eq_true rfl) h (fun r21 σ21 h => ?_)
    refine ax_iload_n K 1 rfl dX2_serve_24 ?_
    refine rm_refusal K (by decide) dX2_serve_25 (Nat.le_of_ble_eq_true rfl) h (fun r25 σ25 h => ?_)
    refine ax_istore_n (lv' := [(2, .int r25), (0, .ref (L 0)), (1, .int v1)]) K dX2_serve_28 (by decide) rfl ?_
    refine ax_iload_n K 0 rfl dX2_serve_29 ?_
    refine ax_if_ge (tgt := 35) K dX2_serve_30 (by decide) (fun c30 => ?_) (fun c30 => ?_)
    · have h := ax_it h c30
      refine ax_aload_n K 1 rfl dX2_serve_35 ?_
      refine mg_served K dX2_serve_36 ?_
      refine ax_aload_n K 1 rfl dX2_serve_39 ?_
      refine mg_servedMany K dX2_serve_40 ?_
      refine ax_iload_n K 2 rfl dX2_serve_43 ?_
      refine ms_served K h.1 dX2_serve_44 ?_
      replace h := h.2
      refine ax_aload_n K 1 rfl dX2_serve_45 ?_
      refine ax_dup K rfl dX2_serve_46 ?_
      refine mg_servedMany K dX2_serve_47 ?_
      refine ax_iconst (v := (1 : Int32)) K (by decide) dX2_serve_50 ?_
      refine ax_iadd K dX2_serve_51 ?_
      refine mp_servedMany K dX2_serve_52 ?_
      refine ax_aload_n K 1 rfl dX2_serve_55 ?_
      refine mg_servedMany K dX2_serve_56 ?_
      exact E _ _ _ _ dX2_serve_59 rfl h
    · have h := ax_ie h c30
      refine ax_iload_n K 0 rfl dX2_serve_33 ?_
      exact E _ _ _ _ dX2_serve_34 rfl h
  · have h := ax_it h c10
    refine ax_iconst (v := (-1 : Int32)) K (by decide) dX2_serve_13 ?_
    exact E _ _ _ _ dX2_serve_14 rfl h

/-! m.findEnds -/
set_option maxHeartbeats 4000000 in
theorem km_findEnds_j103 {Z : AZ} {G : AG} {L : Nat → Nat} {P : St → Prop} (K : AK Z G cX2_findEnds RX2 6 (rmH 5)) (E : AEv Z cX2_findEnds (mW G L) 0 0 P) {K45 : Int32 → Int32 → Int32 → Int32 → Int32 → St → Prop} (hK45 : ∀ (v1 : Int32) (v2 : Int32) (v3 : Int32) (v4 : Int32) (v5 : Int32) (σ : St), K45 v1 v2 v3 v4 v5 σ → AX Z 0 0 45 [(0, .ref (L 0)), (1, .int v1), (2, .int v2), (3, .int v3), (4, .int v4), (5, .int v5)] [] (mW G L σ)) (v1 : Int32) (v2 : Int32) (v3 : Int32) (v5 : Int32) (s0 : Int32) (σ : St) (h : wm_findEnds_j103 P K45 v1 v2 v3 v5 s0 σ) : AX Z 0 0 103 [(0, .ref (L 0)), (1, .int v1), (2, .int v2), (3, .int v3), (5, .int v5)] [.int s0] (mW G L σ) := by
  unfold wm_findEnds_j103 at h
  refine ax_istore (lv' := [(4, .int s0), (0, .ref (L 0)), (1, .int v1), (2, .int v2), (3, .int v3), (5, .int v5)]) K dX2_findEnds_103 (by decide) rfl ?_
  refine ax_iinc (lv' := [(5, .int (v5 + (1 : Int32))), (4, .int s0), (0, .ref (L 0)), (1, .int v1), (2, .int v2), (3, .int v3)]) (v := (v5 + (1 : Int32))) K 5 dX2_findEnds_105 rfl (by rfl) (by decide) rfl ?_
  refine ax_goto (tgt := 45) K dX2_findEnds_108 (by decide) ?_
  exact ax_sub [2, 3, 4, 5, 1, 0] rfl (hK45 v1 v2 v3 s0 (v5 + (1 : Int32)) σ h)
set_option maxHeartbeats 4000000 in
theorem km_findEnds_j102 {Z : AZ} {G : AG} {L : Nat → Nat} {P : St → Prop} (K : AK Z G cX2_findEnds RX2 6 (rmH 5)) (E : AEv Z cX2_findEnds (mW G L) 0 0 P) {K45 : Int32 → Int32 → Int32 → Int32 → Int32 → St → Prop} (hK45 : ∀ (v1 : Int32) (v2 : Int32) (v3 : Int32) (v4 : Int32) (v5 : Int32) (σ : St), K45 v1 v2 v3 v4 v5 σ → AX Z 0 0 45 [(0, .ref (L 0)), (1, .int v1), (2, .int v2), (3, .int v3), (4, .int v4), (5, .int v5)] [] (mW G L σ)) (v1 : Int32) (v2 : Int32) (v3 : Int32) (v5 : Int32) (σ : St) (h : wm_findEnds_j102 P K45 v1 v2 v3 v5 σ) : AX Z 0 0 102 [(0, .ref (L 0)), (1, .int v1), (2, .int v2), (3, .int v3), (5, .int v5)] [] (mW G L σ) := by
  unfold wm_findEnds_j102 at h
  refine ax_iconst (v := (0 : Int32)) K (by decide) dX2_findEnds_102 ?_
  exact ax_sub [0, 1, 2, 3, 4] rfl (km_findEnds_j103 K E hK45 v1 v2 v3 v5 (0 : Int32) σ h)
set_option maxHeartbeats 4000000 in
theorem km_findEnds_l45 {Z : AZ} {G : AG} {L : Nat → Nat} {P : St → Prop} (K : AK Z G cX2_findEnds RX2 6 (rmH 5)) (E : AEv Z cX2_findEnds (mW G L) 0 0 P) {K111 : Int32 → Int32 → Int32 → Int32 → St → Prop} (hK111 : ∀ (v1 : Int32) (v2 : Int32) (v3 : Int32) (v4 : Int32) (σ : St), K111 v1 v2 v3 v4 σ → AX Z 0 0 111 [(0, .ref (L 0)), (1, .int v1), (2, .int v2), (3, .int v3), (4, .int v4)] [] (mW G L σ)) : ∀ (n : Nat) (v1 : Int32) (v2 : Int32) (v3 : Int32) (v4 : Int32) (v5 : Int32) (σ : St), wm_findEnds_l45 P K111 n v1 v2 v3 v4 v5 σ → AX Z 0 0 45 [(0, .ref (L 0)), (1, .int v1), (2, .int v2), (3, .int v3), (4, .int v4), (5, .int v5)] [] (mW G L σ) := by
  intro n
  induction n with
  | zero => intro v1 v2 v3 v4 v5 σ h; exact False.elim h
  | succ n ih =>
    intro v1 v2 v3 v4 v5 σ h
    rw [wm_findEnds_l45_s] at h
    refine ax_iload K 5 rfl dX2_findEnds_45 ?_
    refine ax_aload_n K 0 rfl dX2_findEnds_47 ?_
    refine mg_dishes K dX2_findEnds_48 ?_
    refine ax_icmp_ge (tgt := 111) K dX2_findEnds_51 (by decide) (fun c51 => ?_) (fun c51 => ?_)
    · have h := ax_it h c51
      exact ax_sub [0, 1, 2, 3, 4] rfl (hK111 v1 v2 v3 v4 σ h)
    · have h := ax_ie h c51
      refine ax_iload K 4 rfl dX2_findEnds_54 ?_
      refine ax_if_ne (tgt := 111) K dX2_findEnds_56 (by decide) (fun c56 => ?_) (fun c56 => ?_)
      · have h := ax_ie h c56
        exact ax_sub [0, 1, 2, 3, 4] rfl (hK111 v1 v2 v3 v4 σ h)
      · have h := ax_it h c56
        refine ax_iload_n K 1 rfl dX2_findEnds_59 ?_
        refine ax_iload K 5 rfl dX2_findEnds_60 ?_
        refine rm_has K (by decide) dX2_findEnds_62 (Nat.le_of_ble_eq_true rfl) h (fun r62 h => ?_)
        refine ax_if_eq (tgt := 102) K dX2_findEnds_65 (by decide) (fun c65 => ?_) (fun c65 => ?_)
        · have h := ax_it h c65
          exact ax_sub [0, 1, 2, 3, 5] rfl (km_findEnds_j102 K E ih v1 v2 v3 v5 σ h)
        · have h := ax_ie h c65
          refine ax_aload_n K 0 rfl dX2_findEnds_68 ?_
          refine ax_iload_n K 2 rfl dX2_findEnds_69 ?_
          refine ax_iload_n K 3 rfl dX2_findEnds_70 ?_
          refine ax_iload K 5 rfl dX2_findEnds_71 ?_
          refine rm_may K (by decide) dX2_findEnds_73 (Nat.le_of_ble_eq_true rfl) h (fun r73 σ73 h => ?_)
          refine ax_if_eq (tgt := 102) K dX2_findEnds_76 (by decide) (fun c76 => ?_) (fun c76 => ?_)
          · have h := ax_it h c76
            exact ax_sub [0, 1, 2, 3, 5] rfl (km_findEnds_j102 K E ih v1 v2 v3 v5 σ73 h)
          · have h := ax_ie h c76
            refine ax_aload_n K 0 rfl dX2_findEnds_79 ?_
            refine mg_canEnd K dX2_findEnds_80 ?_
            refine ax_iload_n K 2 rfl dX2_findEnds_83 ?_
            refine ax_iconst (v := (1 : Int32)) K (by decide) dX2_findEnds_84 ?_
            refine ax_iload K 5 rfl dX2_findEnds_85 ?_
            refine ax_ishl K dX2_findEnds_87 ?_
            refine ax_ior K dX2_findEnds_88 ?_
            refine ax_iload K 5 rfl dX2_findEnds_89 ?_
            refine rm_place K (by decide) dX2_findEnds_91 (Nat.le_of_ble_eq_true rfl) h (fun r91 h => ?_)
            refine ml_canEnd K h.1 dX2_findEnds_94 ?_
            replace h := h.2
            refine ax_if_eq (tgt := 102) K dX2_findEnds_95 (by decide) (fun c95 => ?_) (fun c95 => ?_)
            · have h := ax_it h c95
              exact ax_sub [0, 1, 2, 3, 5] rfl (km_findEnds_j102 K E ih v1 v2 v3 v5 σ73 h)
            · have h := ax_ie h c95
              refine ax_iconst (v := (1 : Int32)) K (by decide) dX2_findEnds_98 ?_
              refine ax_goto (tgt := 103) K dX2_findEnds_99 (by decide) ?_
              exact ax_sub [0, 1, 2, 3, 5] rfl (km_findEnds_j103 K E ih v1 v2 v3 v5 (1 : Int32) σ73 h)
set_option maxHeartbeats 4000000 in
theorem km_findEnds_j123 {Z : AZ} {G : AG} {L : Nat → Nat} {P : St → Prop} (K : AK Z G cX2_findEnds RX2 6 (rmH 5)) (E : AEv Z cX2_findEnds (mW G L) 0 0 P) {K11 : Int32 → Int32 → Int32 → St → Prop} (hK11 : ∀ (v1 : Int32) (v2 : Int32) (v3 : Int32) (σ : St), K11 v1 v2 v3 σ → AX Z 0 0 11 [(0, .ref (L 0)), (1, .int v1), (2, .int v2), (3, .int v3)] [] (mW G L σ)) (v1 : Int32) (v2 : Int32) (v3 : Int32) (σ : St) (h : wm_findEnds_j123 P K11 v1 v2 v3 σ) : AX Z 0 0 123 [(0, .ref (L 0)), (1, .int v1), (2, .int v2), (3, .int v3)] [] (mW G L σ) := by
  unfold wm_findEnds_j123 at h
  refine ax_iinc (lv' := [(3, .int (v3 + (1 : Int32))), (0, .ref (L 0)), (1, .int v1), (2, .int v2)]) (v := (v3 + (1 : Int32))) K 3 dX2_findEnds_123 rfl (by rfl) (by decide) rfl ?_
  refine ax_goto (tgt := 11) K dX2_findEnds_126 (by decide) ?_
  exact ax_sub [1, 2, 3, 0] rfl (hK11 v1 v2 (v3 + (1 : Int32)) σ h)
set_option maxHeartbeats 4000000 in
theorem km_findEnds_j111 {Z : AZ} {G : AG} {L : Nat → Nat} {P : St → Prop} (K : AK Z G cX2_findEnds RX2 6 (rmH 5)) (E : AEv Z cX2_findEnds (mW G L) 0 0 P) {K11 : Int32 → Int32 → Int32 → St → Prop} (hK11 : ∀ (v1 : Int32) (v2 : Int32) (v3 : Int32) (σ : St), K11 v1 v2 v3 σ → AX Z 0 0 11 [(0, .ref (L 0)), (1, .int v1), (2, .int v2), (3, .int v3)] [] (mW G L σ)) (v1 : Int32) (v2 : Int32) (v3 : Int32) (v4 : Int32) (σ : St) (h : wm_findEnds_j111 P K11 v1 v2 v3 v4 σ) : AX Z 0 0 111 [(0, .ref (L 0)), (1, .int v1), (2, .int v2), (3, .int v3), (4, .int v4)] [] (mW G L σ) := by
  unfold wm_findEnds_j111 at h
  refine ax_aload_n K 0 rfl dX2_findEnds_111 ?_
  refine mg_canEnd K dX2_findEnds_112 ?_
  refine ax_iload_n K 2 rfl dX2_findEnds_115 ?_
  refine ax_iload_n K 3 rfl dX2_findEnds_116 ?_
  refine rm_place K (by decide) dX2_findEnds_117 (Nat.le_of_ble_eq_true rfl) h (fun r117 h => ?_)
  refine ax_iload K 4 rfl dX2_findEnds_120 ?_
  refine ms_canEnd K h.1 dX2_findEnds_122 ?_
  replace h := h.2
  exact ax_sub [0, 1, 2, 3] rfl (km_findEnds_j123 K E hK11 v1 v2 v3 (mU_canEnd σ r117 (vp_nar .boolean v4)) h)
set_option maxHeartbeats 4000000 in
theorem km_findEnds_l11 {Z : AZ} {G : AG} {L : Nat → Nat} {P : St → Prop} (K : AK Z G cX2_findEnds RX2 6 (rmH 5)) (E : AEv Z cX2_findEnds (mW G L) 0 0 P) {K5 : Int32 → Int32 → St → Prop} (hK5 : ∀ (v1 : Int32) (v2 : Int32) (σ : St), K5 v1 v2 σ → AX Z 0 0 5 [(0, .ref (L 0)), (1, .int v1), (2, .int v2)] [] (mW G L σ)) : ∀ (n : Nat) (v1 : Int32) (v2 : Int32) (v3 : Int32) (σ : St), wm_findEnds_l11 P K5 n v1 v2 v3 σ → AX Z 0 0 11 [(0, .ref (L 0)), (1, .int v1), (2, .int v2), (3, .int v3)] [] (mW G L σ) := by
  intro n
  induction n with
  | zero => intro v1 v2 v3 σ h; exact False.elim h
  | succ n ih =>
    intro v1 v2 v3 σ h
    rw [wm_findEnds_l11_s] at h
    refine ax_iload_n K 3 rfl dX2_findEnds_11 ?_
    refine ax_aload_n K 0 rfl dX2_findEnds_12 ?_
    refine mg_dishes K dX2_findEnds_13 ?_
    refine ax_icmp_ge (tgt := 129) K dX2_findEnds_16 (by decide) (fun c16 => ?_) (fun c16 => ?_)
    · have h := ax_it h c16
      refine ax_iinc (lv' := [(2, .int (v2 + (-1 : Int32))), (0, .ref (L 0)), (1, .int v1), (3, .int v3)]) (v := (v2 + (-1 : Int32))) K 2 dX2_findEnds_129 rfl (by rfl) (by decide) rfl ?_
      refine ax_goto (tgt := 5) K dX2_findEnds_132 (by decide) ?_
      exact ax_sub [1, 2, 0] rfl (hK5 v1 (v2 + (-1 : Int32)) σ h)
    · have h := ax_ie h c16
      refine ax_iload_n K 2 rfl dX2_findEnds_19 ?_
      refine ax_iload_n K 3 rfl dX2_findEnds_20 ?_
      refine rm_isState K (by decide) dX2_findEnds_21 (Nat.le_of_ble_eq_true rfl) h (fun r21 h => ?_)
      refine ax_if_ne (tgt := 30) K dX2_findEnds_24 (by decide) (fun c24 => ?_) (fun c24 => ?_)
      · have h := ax_ie h c24
        refine ax_aload_n K 0 rfl dX2_findEnds_30 ?_
        refine mg_isEnd K dX2_findEnds_31 ?_
        refine ax_iload_n K 2 rfl dX2_findEnds_34 ?_
        refine ax_iload_n K 3 rfl dX2_findEnds_35 ?_
        refine rm_place K (by decide) dX2_findEnds_36 (Nat.le_of_ble_eq_true rfl) h (fun r36 h => ?_)
        refine ml_isEnd K h.1 dX2_findEnds_39 ?_
        replace h := h.2
        refine ax_istore (lv' := [(4, .int (mA_isEnd σ (r36).toNatClampNeg)), (0, .ref (L 0)), (1, .int v1), (2, .int v2), (3, .int v3)]) K dX2_findEnds_40 (by decide) rfl ?_
        refine ax_iconst (v := (0 : Int32)) K (by decide) dX2_findEnds_42 ?_
        refine ax_istore (lv' := [(5, .int (0 : Int32)), (4, .int (mA_isEnd σ (r36).toNatClampNeg)), (0, .ref (L 0)), (1, .int v1), (2, .int v2), (3, .int v3)]) K dX2_findEnds_43 (by decide) rfl ?_
        exact ax_sub [2, 3, 4, 5, 1, 0] rfl (h.elim fun n45 h => km_findEnds_l45 K E (km_findEnds_j111 K E ih) n45 v1 v2 v3 (mA_isEnd σ (r36).toNatClampNeg) (0 : Int32) σ h)
      · have h := ax_it h c24
        refine ax_goto (tgt := 123) K dX2_findEnds_27 (by decide) ?_
        exact ax_sub [0, 1, 2, 3] rfl (km_findEnds_j123 K E ih v1 v2 v3 σ h)
set_option maxHeartbeats 4000000 in
theorem km_findEnds_l5 {Z : AZ} {G : AG} {L : Nat → Nat} {P : St → Prop} (K : AK Z G cX2_findEnds RX2 6 (rmH 5)) (E : AEv Z cX2_findEnds (mW G L) 0 0 P) : ∀ (n : Nat) (v1 : Int32) (v2 : Int32) (σ : St), wm_findEnds_l5 P  n v1 v2 σ → AX Z 0 0 5 [(0, .ref (L 0)), (1, .int v1), (2, .int v2)] [] (mW G L σ) := by
  intro n
  induction n with
  | zero => intro v1 v2 σ h; exact False.elim h
  | succ n ih =>
    intro v1 v2 σ h
    rw [wm_findEnds_l5_s] at h
    refine ax_iload_n K 2 rfl dX2_findEnds_5 ?_
    refine ax_if_lt (tgt := 135) K dX2_findEnds_6 (by decide) (fun c6 => ?_) (fun c6 => ?_)
    · have h := ax_it h c6
      exact E _ _ _ dX2_findEnds_135 h
    · have h := ax_ie h c6
      refine ax_iconst (v := (-1 : Int32)) K (by decide) dX2_findEnds_9 ?_
      refine ax_istore_n (lv' := [(3, .int (-1 : Int32)), (0, .ref (L 0)), (1, .int v1), (2, .int v2)]) K dX2_findEnds_10 (by decide) rfl ?_
      exact ax_sub [1, 2, 3, 0] rfl (h.elim fun n11 h => km_findEnds_l11 K E ih n11 v1 v2 (-1 : Int32) σ h)
set_option maxHeartbeats 4000000 in
theorem mm_findEnds {l : Launch} {G : AG} {L : Nat → Nat} {σ : St} {v1 : Int32} {P : St → Prop} (h : wm_findEnds σ v1 P) : CtW l G yX2_findEnds cX2_findEnds 6 none (rmH 5) [.ref (L 0), .int v1] (mW G L) σ (pV P) := by
  refine CtW.ofV (by decide) (Nat.le_of_ble_eq_true rfl) fun Z _ K E => ?_
  unfold wm_findEnds at h
  show AX Z 0 0 0 [(0, .ref (L 0)), (1, .int v1)] [] (mW G L σ)
  refine ax_aload_n K 0 rfl dX2_findEnds_0 ?_
  refine rm_all K (by decide) dX2_findEnds_1 (Nat.le_of_ble_eq_true rfl) h (fun r1 σ1 h => ?_)
  refine ax_istore_n (lv' := [(2, .int r1), (0, .ref (L 0)), (1, .int v1)]) K dX2_findEnds_4 (by decide) rfl ?_
  exact ax_sub [1, 2, 0] rfl (h.elim fun n5 h => km_findEnds_l5 K E  n5 v1 r1 σ1 h)
theorem rm_findEnds {Z : AZ} {G : AG} {cc : ByteArray} {mL hh pc : Nat} {lv : List (Nat × Value)} {rest : List Value} {L : Nat → Nat} {σ : St} (K : AK Z G cc RX2 mL (rmH hh)) (hlt : 5 < hh) (d : decode cc pc = .ok (.invokevirtual 317, 3)) (hrest : (rest.map fun v => v.category).sum ≤ 8) {v1 : Int32} {P : St → Prop} (h : sm_findEnds σ v1 P) (kk : ∀ (σ' : St), P σ' → AX Z 0 0 (pc + 3) lv (rest) (mW G L σ')) : AX Z 0 0 pc lv (.int v1 :: .ref (L 0) :: rest) (mW G L σ) :=
  ax_callV (N0 := 1) (As := [.int v1]) K (mm_findEnds (sm_findEnds_ok h)) q1429 q1431 qs96 q118 q1432 ⟨rfl, by decide, by decide, by decide⟩ rfl ⟨by show 5 + 1 + 1 ≤ hh + 1; omega, by show 8 + (6 + 11) + 60 * (5 + 1) ≤ 60 * (hh + 1); omega⟩ ⟨Nat.zero_le _, Nat.zero_le _⟩ rfl rfl rfl hrest d (fun r σ' hp => by obtain ⟨rfl, hp⟩ := hp; exact kk σ' hp)
/-! m.findFills -/
set_option maxHeartbeats 4000000 in
theorem km_findFills_j130 {Z : AZ} {G : AG} {L : Nat → Nat} {P : Int64 → St → Prop} (K : AK Z G cX2_findFills RX2 8 (rmH 5)) (E : AEl Z cX2_findFills (mW G L) 0 0 P) {K69 : Int32 → Int32 → Int32 → Int32 → Int64 → Int32 → St → Prop} (hK69 : ∀ (v1 : Int32) (v2 : Int32) (v3 : Int32) (v4 : Int32) (v5 : Int64) (v7 : Int32) (σ : St), K69 v1 v2 v3 v4 v5 v7 σ → AX Z 0 0 69 [(0, .ref (L 0)), (1, .int v1), (2, .int v2), (3, .int v3), (4, .int v4), (5, .long v5), (7, .int v7)] [] (mW G L σ)) (v1 : Int32) (v2 : Int32) (v3 : Int32) (v4 : Int32) (v5 : Int64) (v7 : Int32) (σ : St) (h : wm_findFills_j130 P K69 v1 v2 v3 v4 v5 v7 σ) : AX Z 0 0 130 [(0, .ref (L 0)), (1, .int v1), (2, .int v2), (3, .int v3), (4, .int v4), (5, .long v5), (7, .int v7)] [] (mW G L σ) := by
  unfold wm_findFills_j130 at h
  refine ax_iinc (lv' := [(7, .int (v7 + (1 : Int32))), (0, .ref (L 0)), (1, .int v1), (2, .int v2), (3, .int v3), (4, .int v4), (5, .long v5)]) (v := (v7 + (1 : Int32))) K 6 dX2_findFills_130 rfl (by rfl) (by decide) rfl ?_
  refine ax_goto (tgt := 69) K dX2_findFills_133 (by decide) ?_
  exact ax_sub [1, 2, 3, 4, 5, 6, 0] rfl (hK69 v1 v2 v3 v4 v5 (v7 + (1 : Int32)) σ h)
set_option maxHeartbeats 4000000 in
theorem km_findFills_l69 {Z : AZ} {G : AG} {L : Nat → Nat} {P : Int64 → St → Prop} (K : AK Z G cX2_findFills RX2 8 (rmH 5)) (E : AEl Z cX2_findFills (mW G L) 0 0 P) {K136 : Int32 → Int32 → Int32 → Int32 → Int64 → St → Prop} (hK136 : ∀ (v1 : Int32) (v2 : Int32) (v3 : Int32) (v4 : Int32) (v5 : Int64) (σ : St), K136 v1 v2 v3 v4 v5 σ → AX Z 0 0 136 [(0, .ref (L 0)), (1, .int v1), (2, .int v2), (3, .int v3), (4, .int v4), (5, .long v5)] [] (mW G L σ)) : ∀ (n : Nat) (v1 : Int32) (v2 : Int32) (v3 : Int32) (v4 : Int32) (v5 : Int64) (v7 : Int32) (σ : St), wm_findFills_l69 P K136 n v1 v2 v3 v4 v5 v7 σ → AX Z 0 0 69 [(0, .ref (L 0)), (1, .int v1), (2, .int v2), (3, .int v3), (4, .int v4), (5, .long v5), (7, .int v7)] [] (mW G L σ) := by
  intro n
  induction n with
  | zero => intro v1 v2 v3 v4 v5 v7 σ h; exact False.elim h
  | succ n ih =>
    intro v1 v2 v3 v4 v5 v7 σ h
    rw [wm_findFills_l69_s] at h
    refine ax_iload K 6 rfl dX2_findFills_69 ?_
    refine ax_aload_n K 0 rfl dX2_findFills_71 ?_
    refine mg_dishes K dX2_findFills_72 ?_
    refine ax_icmp_ge (tgt := 136) K dX2_findFills_75 (by decide) (fun c75 => ?_) (fun c75 => ?_)
    · have h := ax_it h c75
      exact ax_sub [0, 1, 2, 3, 4, 5] rfl (hK136 v1 v2 v3 v4 v5 σ h)
    · have h := ax_ie h c75
      refine ax_iload_n K 3 rfl dX2_findFills_78 ?_
      refine rm_bitCount K (by decide) dX2_findFills_79 (Nat.le_of_ble_eq_true rfl) ?_
      refine ax_iload_n K 2 rfl dX2_findFills_82 ?_
      refine ax_icmp_ge (tgt := 136) K dX2_findFills_83 (by decide) (fun c83 => ?_) (fun c83 => ?_)
      · have h := ax_it h c83
        exact ax_sub [0, 1, 2, 3, 4, 5] rfl (hK136 v1 v2 v3 v4 v5 σ h)
      · have h := ax_ie h c83
        refine ax_aload_n K 0 rfl dX2_findFills_86 ?_
        refine ax_iload_n K 1 rfl dX2_findFills_87 ?_
        refine ax_iload_n K 3 rfl dX2_findFills_88 ?_
        refine ax_iload K 6 rfl dX2_findFills_89 ?_
        refine rm_isAsked K (by decide) dX2_findFills_91 (Nat.le_of_ble_eq_true rfl) h (fun r91 σ91 h => ?_)
        refine ax_if_eq (tgt := 130) K dX2_findFills_94 (by decide) (fun c94 => ?_) (fun c94 => ?_)
        · have h := ax_it h c94
          exact ax_sub [0, 1, 2, 3, 4, 5, 6] rfl (km_findFills_j130 K E ih v1 v2 v3 v4 v5 v7 σ91 h)
        · have h := ax_ie h c94
          refine ax_aload_n K 0 rfl dX2_findFills_97 ?_
          refine ax_iload_n K 3 rfl dX2_findFills_98 ?_
          refine ax_iload K 4 rfl dX2_findFills_99 ?_
          refine ax_iload K 6 rfl dX2_findFills_101 ?_
          refine rm_may K (by decide) dX2_findFills_103 (Nat.le_of_ble_eq_true rfl) h (fun r103 σ103 h => ?_)
          refine ax_if_eq (tgt := 130) K dX2_findFills_106 (by decide) (fun c106 => ?_) (fun c106 => ?_)
          · have h := ax_it h c106
            exact ax_sub [0, 1, 2, 3, 4, 5, 6] rfl (km_findFills_j130 K E ih v1 v2 v3 v4 v5 v7 σ103 h)
          · have h := ax_ie h c106
            refine ax_lload K 5 rfl dX2_findFills_109 ?_
            refine ax_aload_n K 0 rfl dX2_findFills_111 ?_
            refine mg_fillsFrom K dX2_findFills_112 ?_
            refine ax_iload_n K 3 rfl dX2_findFills_115 ?_
            refine ax_iconst (v := (1 : Int32)) K (by decide) dX2_findFills_116 ?_
            refine ax_iload K 6 rfl dX2_findFills_117 ?_
            refine ax_ishl K dX2_findFills_119 ?_
            refine ax_ior K dX2_findFills_120 ?_
            refine ax_iload K 6 rfl dX2_findFills_121 ?_
            refine rm_place K (by decide) dX2_findFills_123 (Nat.le_of_ble_eq_true rfl) h (fun r123 h => ?_)
            refine ml_fillsFrom K h.1 dX2_findFills_126 ?_
            replace h := h.2
            refine ax_ladd K dX2_findFills_127 ?_
            refine ax_lstore (lv' := [(5, .long (v5 + (mA_fillsFrom σ103 (r123).toNatClampNeg))), (0, .ref (L 0)), (1, .int v1), (2, .int v2), (3, .int v3), (4, .int v4), (7, .int v7)]) K dX2_findFills_128 (by decide) rfl ?_
            exact ax_sub [1, 2, 3, 4, 5, 0, 6] rfl (km_findFills_j130 K E ih v1 v2 v3 v4 (v5 + (mA_fillsFrom σ103 (r123).toNatClampNeg)) v7 σ103 h)
set_option maxHeartbeats 4000000 in
theorem km_findFills_j149 {Z : AZ} {G : AG} {L : Nat → Nat} {P : Int64 → St → Prop} (K : AK Z G cX2_findFills RX2 8 (rmH 5)) (E : AEl Z cX2_findFills (mW G L) 0 0 P) {K30 : Int32 → Int32 → Int32 → Int32 → St → Prop} (hK30 : ∀ (v1 : Int32) (v2 : Int32) (v3 : Int32) (v4 : Int32) (σ : St), K30 v1 v2 v3 v4 σ → AX Z 0 0 30 [(0, .ref (L 0)), (1, .int v1), (2, .int v2), (3, .int v3), (4, .int v4)] [] (mW G L σ)) (v1 : Int32) (v2 : Int32) (v3 : Int32) (v4 : Int32) (σ : St) (h : wm_findFills_j149 P K30 v1 v2 v3 v4 σ) : AX Z 0 0 149 [(0, .ref (L 0)), (1, .int v1), (2, .int v2), (3, .int v3), (4, .int v4)] [] (mW G L σ) := by
  unfold wm_findFills_j149 at h
  refine ax_iinc (lv' := [(4, .int (v4 + (1 : Int32))), (0, .ref (L 0)), (1, .int v1), (2, .int v2), (3, .int v3)]) (v := (v4 + (1 : Int32))) K 4 dX2_findFills_149 rfl (by rfl) (by decide) rfl ?_
  refine ax_goto (tgt := 30) K dX2_findFills_152 (by decide) ?_
  exact ax_sub [1, 2, 3, 4, 0] rfl (hK30 v1 v2 v3 (v4 + (1 : Int32)) σ h)
set_option maxHeartbeats 4000000 in
theorem km_findFills_j136 {Z : AZ} {G : AG} {L : Nat → Nat} {P : Int64 → St → Prop} (K : AK Z G cX2_findFills RX2 8 (rmH 5)) (E : AEl Z cX2_findFills (mW G L) 0 0 P) {K30 : Int32 → Int32 → Int32 → Int32 → St → Prop} (hK30 : ∀ (v1 : Int32) (v2 : Int32) (v3 : Int32) (v4 : Int32) (σ : St), K30 v1 v2 v3 v4 σ → AX Z 0 0 30 [(0, .ref (L 0)), (1, .int v1), (2, .int v2), (3, .int v3), (4, .int v4)] [] (mW G L σ)) (v1 : Int32) (v2 : Int32) (v3 : Int32) (v4 : Int32) (v5 : Int64) (σ : St) (h : wm_findFills_j136 P K30 v1 v2 v3 v4 v5 σ) : AX Z 0 0 136 [(0, .ref (L 0)), (1, .int v1), (2, .int v2), (3, .int v3), (4, .int v4), (5, .long v5)] [] (mW G L σ) := by
  unfold wm_findFills_j136 at h
  refine ax_aload_n K 0 rfl dX2_findFills_136 ?_
  refine mg_fillsFrom K dX2_findFills_137 ?_
  refine ax_iload_n K 3 rfl dX2_findFills_140 ?_
  refine ax_iload K 4 rfl dX2_findFills_141 ?_
  refine rm_place K (by decide) dX2_findFills_143 (Nat.le_of_ble_eq_true rfl) h (fun r143 h => ?_)
  refine ax_lload K 5 rfl dX2_findFills_146 ?_
  refine ms_fillsFrom K h.1 dX2_findFills_148 ?_
  replace h := h.2
  exact ax_sub [0, 1, 2, 3, 4] rfl (km_findFills_j149 K E hK30 v1 v2 v3 v4 (mU_fillsFrom σ r143 v5) h)
set_option maxHeartbeats 4000000 in
theorem km_findFills_j64 {Z : AZ} {G : AG} {L : Nat → Nat} {P : Int64 → St → Prop} (K : AK Z G cX2_findFills RX2 8 (rmH 5)) (E : AEl Z cX2_findFills (mW G L) 0 0 P) {K30 : Int32 → Int32 → Int32 → Int32 → St → Prop} (hK30 : ∀ (v1 : Int32) (v2 : Int32) (v3 : Int32) (v4 : Int32) (σ : St), K30 v1 v2 v3 v4 σ → AX Z 0 0 30 [(0, .ref (L 0)), (1, .int v1), (2, .int v2), (3, .int v3), (4, .int v4)] [] (mW G L σ)) (v1 : Int32) (v2 : Int32) (v3 : Int32) (v4 : Int32) (s0 : Int64) (σ : St) (h : wm_findFills_j64 P K30 v1 v2 v3 v4 s0 σ) : AX Z 0 0 64 [(0, .ref (L 0)), (1, .int v1), (2, .int v2), (3, .int v3), (4, .int v4)] [.long s0] (mW G L σ) := by
  unfold wm_findFills_j64 at h
  refine ax_lstore (lv' := [(5, .long s0), (0, .ref (L 0)), (1, .int v1), (2, .int v2), (3, .int v3), (4, .int v4)]) K dX2_findFills_64 (by decide) rfl ?_
  refine ax_iconst (v := (0 : Int32)) K (by decide) dX2_findFills_66 ?_
  refine ax_istore (lv' := [(7, .int (0 : Int32)), (5, .long s0), (0, .ref (L 0)), (1, .int v1), (2, .int v2), (3, .int v3), (4, .int v4)]) K dX2_findFills_67 (by decide) rfl ?_
  exact ax_sub [2, 3, 4, 5, 6, 1, 0] rfl (h.elim fun n69 h => km_findFills_l69 K E (km_findFills_j136 K E hK30) n69 v1 v2 v3 v4 s0 (0 : Int32) σ h)
set_option maxHeartbeats 4000000 in
theorem km_findFills_l30 {Z : AZ} {G : AG} {L : Nat → Nat} {P : Int64 → St → Prop} (K : AK Z G cX2_findFills RX2 8 (rmH 5)) (E : AEl Z cX2_findFills (mW G L) 0 0 P) {K155 : Int32 → Int32 → Int32 → St → Prop} (hK155 : ∀ (v1 : Int32) (v2 : Int32) (v3 : Int32) (σ : St), K155 v1 v2 v3 σ → AX Z 0 0 155 [(0, .ref (L 0)), (1, .int v1), (2, .int v2), (3, .int v3)] [] (mW G L σ)) : ∀ (n : Nat) (v1 : Int32) (v2 : Int32) (v3 : Int32) (v4 : Int32) (σ : St), wm_findFills_l30 P K155 n v1 v2 v3 v4 σ → AX Z 0 0 30 [(0, .ref (L 0)), (1, .int v1), (2, .int v2), (3, .int v3), (4, .int v4)] [] (mW G L σ) := by
  intro n
  induction n with
  | zero => intro v1 v2 v3 v4 σ h; exact False.elim h
  | succ n ih =>
    intro v1 v2 v3 v4 σ h
    rw [wm_findFills_l30_s] at h
    refine ax_iload K 4 rfl dX2_findFills_30 ?_
    refine ax_aload_n K 0 rfl dX2_findFills_32 ?_
    refine mg_dishes K dX2_findFills_33 ?_
    refine ax_icmp_ge (tgt := 155) K dX2_findFills_36 (by decide) (fun c36 => ?_) (fun c36 => ?_)
    · have h := ax_it h c36
      exact ax_sub [0, 1, 2, 3] rfl (hK155 v1 v2 v3 σ h)
    · have h := ax_ie h c36
      refine ax_iload_n K 3 rfl dX2_findFills_39 ?_
      refine ax_iload K 4 rfl dX2_findFills_40 ?_
      refine rm_isState K (by decide) dX2_findFills_42 (Nat.le_of_ble_eq_true rfl) h (fun r42 h => ?_)
      refine ax_if_ne (tgt := 51) K dX2_findFills_45 (by decide) (fun c45 => ?_) (fun c45 => ?_)
      · have h := ax_ie h c45
        refine ax_iload_n K 3 rfl dX2_findFills_51 ?_
        refine rm_bitCount K (by decide) dX2_findFills_52 (Nat.le_of_ble_eq_true rfl) ?_
        refine ax_iload_n K 2 rfl dX2_findFills_55 ?_
        refine ax_icmp_ne (tgt := 63) K dX2_findFills_56 (by decide) (fun c56 => ?_) (fun c56 => ?_)
        · have h := ax_ie h c56
          refine ax_lconst (v := (0 : Int64)) K (by decide) dX2_findFills_63 ?_
          exact ax_sub [0, 1, 2, 3, 4] rfl (km_findFills_j64 K E ih v1 v2 v3 v4 (0 : Int64) σ h)
        · have h := ax_it h c56
          refine ax_lconst (v := (1 : Int64)) K (by decide) dX2_findFills_59 ?_
          refine ax_goto (tgt := 64) K dX2_findFills_60 (by decide) ?_
          exact ax_sub [0, 1, 2, 3, 4] rfl (km_findFills_j64 K E ih v1 v2 v3 v4 (1 : Int64) σ h)
      · have h := ax_it h c45
        refine ax_goto (tgt := 149) K dX2_findFills_48 (by decide) ?_
        exact ax_sub [0, 1, 2, 3, 4] rfl (km_findFills_j149 K E ih v1 v2 v3 v4 σ h)
set_option maxHeartbeats 4000000 in
theorem km_findFills_j155 {Z : AZ} {G : AG} {L : Nat → Nat} {P : Int64 → St → Prop} (K : AK Z G cX2_findFills RX2 8 (rmH 5)) (E : AEl Z cX2_findFills (mW G L) 0 0 P) {K12 : Int32 → Int32 → Int32 → St → Prop} (hK12 : ∀ (v1 : Int32) (v2 : Int32) (v3 : Int32) (σ : St), K12 v1 v2 v3 σ → AX Z 0 0 12 [(0, .ref (L 0)), (1, .int v1), (2, .int v2), (3, .int v3)] [] (mW G L σ)) (v1 : Int32) (v2 : Int32) (v3 : Int32) (σ : St) (h : wm_findFills_j155 P K12 v1 v2 v3 σ) : AX Z 0 0 155 [(0, .ref (L 0)), (1, .int v1), (2, .int v2), (3, .int v3)] [] (mW G L σ) := by
  unfold wm_findFills_j155 at h
  refine ax_iinc (lv' := [(3, .int (v3 + (-1 : Int32))), (0, .ref (L 0)), (1, .int v1), (2, .int v2)]) (v := (v3 + (-1 : Int32))) K 3 dX2_findFills_155 rfl (by rfl) (by decide) rfl ?_
  refine ax_goto (tgt := 12) K dX2_findFills_158 (by decide) ?_
  exact ax_sub [1, 2, 3, 0] rfl (hK12 v1 v2 (v3 + (-1 : Int32)) σ h)
set_option maxHeartbeats 4000000 in
theorem km_findFills_l12 {Z : AZ} {G : AG} {L : Nat → Nat} {P : Int64 → St → Prop} (K : AK Z G cX2_findFills RX2 8 (rmH 5)) (E : AEl Z cX2_findFills (mW G L) 0 0 P) : ∀ (n : Nat) (v1 : Int32) (v2 : Int32) (v3 : Int32) (σ : St), wm_findFills_l12 P  n v1 v2 v3 σ → AX Z 0 0 12 [(0, .ref (L 0)), (1, .int v1), (2, .int v2), (3, .int v3)] [] (mW G L σ) := by
  intro n
  induction n with
  | zero => intro v1 v2 v3 σ h; exact False.elim h
  | succ n ih =>
    intro v1 v2 v3 σ h
    rw [wm_findFills_l12_s] at h
    refine ax_iload_n K 3 rfl dX2_findFills_12 ?_
    refine ax_if_lt (tgt := 161) K dX2_findFills_13 (by decide) (fun c13 => ?_) (fun c13 => ?_)
    · have h := ax_it h c13
      refine ax_aload_n K 0 rfl dX2_findFills_161 ?_
      refine mg_fillsFrom K dX2_findFills_162 ?_
      refine ax_iconst (v := (0 : Int32)) K (by decide) dX2_findFills_165 ?_
      refine ax_iconst (v := (-1 : Int32)) K (by decide) dX2_findFills_166 ?_
      refine rm_place K (by decide) dX2_findFills_167 (Nat.le_of_ble_eq_true rfl) h (fun r167 h => ?_)
      refine ml_fillsFrom K h.1 dX2_findFills_170 ?_
      replace h := h.2
      exact E _ _ _ _ dX2_findFills_171 h
    · have h := ax_ie h c13
      refine ax_iload_n K 3 rfl dX2_findFills_16 ?_
      refine rm_bitCount K (by decide) dX2_findFills_17 (Nat.le_of_ble_eq_true rfl) ?_
      refine ax_iload_n K 2 rfl dX2_findFills_20 ?_
      refine ax_icmp_le (tgt := 27) K dX2_findFills_21 (by decide) (fun c21 => ?_) (fun c21 => ?_)
      · have h := ax_it h c21
        refine ax_iconst (v := (-1 : Int32)) K (by decide) dX2_findFills_27 ?_
        refine ax_istore (lv' := [(4, .int (-1 : Int32)), (0, .ref (L 0)), (1, .int v1), (2, .int v2), (3, .int v3)]) K dX2_findFills_28 (by decide) rfl ?_
        exact ax_sub [1, 2, 3, 4, 0] rfl (h.elim fun n30 h => km_findFills_l30 K E (km_findFills_j155 K E ih) n30 v1 v2 v3 (-1 : Int32) σ h)
      · have h := ax_ie h c21
        refine ax_goto (tgt := 155) K dX2_findFills_24 (by decide) ?_
        exact ax_sub [0, 1, 2, 3] rfl (km_findFills_j155 K E ih v1 v2 v3 σ h)
set_option maxHeartbeats 4000000 in
theorem mm_findFills {l : Launch} {G : AG} {L : Nat → Nat} {σ : St} {v1 : Int32} {P : Int64 → St → Prop} (h : wm_findFills σ v1 P) : CtW l G yX2_findFills cX2_findFills 8 (some .long) (rmH 5) [.ref (L 0), .int v1] (mW G L) σ (pL P) := by
  refine CtW.ofL (by decide) (Nat.le_of_ble_eq_true rfl) fun Z _ K E => ?_
  unfold wm_findFills at h
  show AX Z 0 0 0 [(0, .ref (L 0)), (1, .int v1)] [] (mW G L σ)
  refine ax_aload_n K 0 rfl dX2_findFills_0 ?_
  refine mg_menuLong K dX2_findFills_1 ?_
  refine ax_iload_n K 1 rfl dX2_findFills_4 ?_
  refine ml_menuLong K h.1 dX2_findFills_5 ?_
  replace h := h.2
  refine ax_istore_n (lv' := [(2, .int (mA_menuLong σ (v1).toNatClampNeg)), (0, .ref (L 0)), (1, .int v1)]) K dX2_findFills_6 (by decide) rfl ?_
  refine ax_aload_n K 1 rfl dX2_findFills_7 ?_
  refine rm_all K (by decide) dX2_findFills_8 (Nat.le_of_ble_eq_true rfl) h (fun r8 σ8 h => ?_)
  refine ax_istore_n (lv' := [(3, .int r8), (2, .int (mA_menuLong σ (v1).toNatClampNeg)), (0, .ref (L 0)), (1, .int v1)]) K dX2_findFills_11 (by decide) rfl ?_
  exact ax_sub [2, 3, 1, 0] rfl (h.elim fun n12 h => km_findFills_l12 K E  n12 v1 (mA_menuLong σ (v1).toNatClampNeg) r8 σ8 h)
theorem rm_findFills {Z : AZ} {G : AG} {cc : ByteArray} {mL hh pc : Nat} {lv : List (Nat × Value)} {rest : List Value} {L : Nat → Nat} {σ : St} (K : AK Z G cc RX2 mL (rmH hh)) (hlt : 5 < hh) (d : decode cc pc = .ok (.invokevirtual 386, 3)) (hrest : (rest.map fun v => v.category).sum ≤ 8) {v1 : Int32} {P : Int64 → St → Prop} (h : sm_findFills σ v1 P) (kk : ∀ (r : Int64) (σ' : St), P r σ' → AX Z 0 0 (pc + 3) lv (.long r :: rest) (mW G L σ')) : AX Z 0 0 pc lv (.int v1 :: .ref (L 0) :: rest) (mW G L σ) :=
  ax_callV (N0 := 1) (As := [.int v1]) K (mm_findFills (sm_findFills_ok h)) q1568 q1570 qs112 q118 q1571 ⟨rfl, by decide, by decide, by decide⟩ rfl ⟨by show 5 + 1 + 1 ≤ hh + 1; omega, by show 8 + (8 + 11) + 60 * (5 + 1) ≤ 60 * (hh + 1); omega⟩ ⟨Nat.zero_le _, Nat.zero_le _⟩ rfl rfl rfl hrest d (fun r σ' hp => by obtain ⟨v, rfl, hp⟩ := hp; exact kk v σ' hp)
/-! m.findRows -/
set_option maxHeartbeats 4000000 in
theorem km_findRows_l3 {Z : AZ} {G : AG} {L : Nat → Nat} {P : St → Prop} (K : AK Z G cX2_findRows RX2 9 (rmH 5)) (E : AEv Z cX2_findRows (mW G L) 0 0 P) {K39 : Int32 → Int32 → St → Prop} (hK39 : ∀ (v3 : Int32) (v4 : Int32) (σ : St), K39 v3 v4 σ → AX Z 0 0 39 [(0, .ref (L 0)), (3, .int v3), (4, .int v4)] [] (mW G L σ)) : ∀ (n : Nat) (v1 : Int32) (v2 : Int32) (v3 : Int32) (v4 : Int32) (σ : St), wm_findRows_l3 P K39 n v1 v2 v3 v4 σ → AX Z 0 0 3 [(0, .ref (L 0)), (1, .int v1), (2, .int v2), (3, .int v3), (4, .int v4)] [] (mW G L σ) := by
  intro n
  induction n with
  | zero => intro v1 v2 v3 v4 σ h; exact False.elim h
  | succ n ih =>
    intro v1 v2 v3 v4 σ h
    rw [wm_findRows_l3_s] at h
    refine ax_iload K 4 rfl dX2_findRows_3 ?_
    refine ax_sipush (v := (11264 : Int32)) K (by decide) dX2_findRows_5 ?_
    refine ax_icmp_ge (tgt := 25) K dX2_findRows_8 (by decide) (fun c8 => ?_) (fun c8 => ?_)
    · have h := ax_it h c8
      refine ax_aload_n K 0 rfl dX2_findRows_25 ?_
      refine mg_rows K dX2_findRows_26 ?_
      refine ax_iload_n K 1 rfl dX2_findRows_29 ?_
      refine ax_iload_n K 2 rfl dX2_findRows_30 ?_
      refine rm_place K (by decide) dX2_findRows_31 (Nat.le_of_ble_eq_true rfl) h (fun r31 h => ?_)
      refine ax_lconst (v := (1 : Int64)) K (by decide) dX2_findRows_34 ?_
      refine ms_rows K h.1 dX2_findRows_35 ?_
      replace h := h.2
      refine ax_iconst (v := (0 : Int32)) K (by decide) dX2_findRows_36 ?_
      refine ax_istore (lv' := [(4, .int (0 : Int32)), (0, .ref (L 0)), (1, .int v1), (2, .int v2), (3, .int v3)]) K dX2_findRows_37 (by decide) rfl ?_
      exact ax_sub [1, 4, 0] rfl (hK39 v3 (0 : Int32) (mU_rows σ r31 (1 : Int64)) h)
    · have h := ax_ie h c8
      refine ax_aload_n K 0 rfl dX2_findRows_11 ?_
      refine mg_rows K dX2_findRows_12 ?_
      refine ax_iload K 4 rfl dX2_findRows_15 ?_
      refine ax_lconst (v := (0 : Int64)) K (by decide) dX2_findRows_17 ?_
      refine ms_rows K h.1 dX2_findRows_18 ?_
      replace h := h.2
      refine ax_iinc (lv' := [(4, .int (v4 + (1 : Int32))), (0, .ref (L 0)), (1, .int v1), (2, .int v2), (3, .int v3)]) (v := (v4 + (1 : Int32))) K 4 dX2_findRows_19 rfl (by rfl) (by decide) rfl ?_
      refine ax_goto (tgt := 3) K dX2_findRows_22 (by decide) ?_
      exact ax_sub [1, 2, 3, 4, 0] rfl (ih v1 v2 v3 (v4 + (1 : Int32)) (mU_rows σ v4 (0 : Int64)) h)
set_option maxHeartbeats 4000000 in
theorem km_findRows_j151 {Z : AZ} {G : AG} {L : Nat → Nat} {P : St → Prop} (K : AK Z G cX2_findRows RX2 9 (rmH 5)) (E : AEv Z cX2_findRows (mW G L) 0 0 P) {K91 : Int32 → Int32 → Int32 → Int64 → Int32 → St → Prop} (hK91 : ∀ (v3 : Int32) (v4 : Int32) (v5 : Int32) (v6 : Int64) (v8 : Int32) (σ : St), K91 v3 v4 v5 v6 v8 σ → AX Z 0 0 91 [(0, .ref (L 0)), (3, .int v3), (4, .int v4), (5, .int v5), (6, .long v6), (8, .int v8)] [] (mW G L σ)) (v3 : Int32) (v4 : Int32) (v5 : Int32) (v6 : Int64) (v8 : Int32) (σ : St) (h : wm_findRows_j151 P K91 v3 v4 v5 v6 v8 σ) : AX Z 0 0 151 [(0, .ref (L 0)), (3, .int v3), (4, .int v4), (5, .int v5), (6, .long v6), (8, .int v8)] [] (mW G L σ) := by
  unfold wm_findRows_j151 at h
  refine ax_iinc (lv' := [(8, .int (v8 + (1 : Int32))), (0, .ref (L 0)), (3, .int v3), (4, .int v4), (5, .int v5), (6, .long v6)]) (v := (v8 + (1 : Int32))) K 5 dX2_findRows_151 rfl (by rfl) (by decide) rfl ?_
  refine ax_goto (tgt := 91) K dX2_findRows_154 (by decide) ?_
  exact ax_sub [1, 2, 3, 4, 5, 0] rfl (hK91 v3 v4 v5 v6 (v8 + (1 : Int32)) σ h)
set_option maxHeartbeats 4000000 in
theorem km_findRows_l91 {Z : AZ} {G : AG} {L : Nat → Nat} {P : St → Prop} (K : AK Z G cX2_findRows RX2 9 (rmH 5)) (E : AEv Z cX2_findRows (mW G L) 0 0 P) {K157 : Int32 → Int32 → Int32 → St → Prop} (hK157 : ∀ (v3 : Int32) (v4 : Int32) (v5 : Int32) (σ : St), K157 v3 v4 v5 σ → AX Z 0 0 157 [(0, .ref (L 0)), (3, .int v3), (4, .int v4), (5, .int v5)] [] (mW G L σ)) : ∀ (n : Nat) (v3 : Int32) (v4 : Int32) (v5 : Int32) (v6 : Int64) (v8 : Int32) (σ : St), wm_findRows_l91 P K157 n v3 v4 v5 v6 v8 σ → AX Z 0 0 91 [(0, .ref (L 0)), (3, .int v3), (4, .int v4), (5, .int v5), (6, .long v6), (8, .int v8)] [] (mW G L σ) := by
  intro n
  induction n with
  | zero => intro v3 v4 v5 v6 v8 σ h; exact False.elim h
  | succ n ih =>
    intro v3 v4 v5 v6 v8 σ h
    rw [wm_findRows_l91_s] at h
    refine ax_iload K 5 rfl dX2_findRows_91 ?_
    refine ax_aload_n K 0 rfl dX2_findRows_93 ?_
    refine mg_dishes K dX2_findRows_94 ?_
    refine ax_icmp_ge (tgt := 157) K dX2_findRows_97 (by decide) (fun c97 => ?_) (fun c97 => ?_)
    · have h := ax_it h c97
      exact ax_sub [0, 1, 2, 3] rfl (hK157 v3 v4 v5 σ h)
    · have h := ax_ie h c97
      refine ax_lload K 4 rfl dX2_findRows_100 ?_
      refine ax_lconst (v := (0 : Int64)) K (by decide) dX2_findRows_102 ?_
      refine ax_lcmp K dX2_findRows_103 ?_
      refine ax_if_le (tgt := 157) K dX2_findRows_104 (by decide) (fun c104 => ?_) (fun c104 => ?_)
      · have h := ax_it h c104
        exact ax_sub [0, 1, 2, 3] rfl (hK157 v3 v4 v5 σ h)
      · have h := ax_ie h c104
        refine ax_iload_n K 1 rfl dX2_findRows_107 ?_
        refine ax_iload K 5 rfl dX2_findRows_108 ?_
        refine rm_has K (by decide) dX2_findRows_110 (Nat.le_of_ble_eq_true rfl) h (fun r110 h => ?_)
        refine ax_if_eq (tgt := 151) K dX2_findRows_113 (by decide) (fun c113 => ?_) (fun c113 => ?_)
        · have h := ax_it h c113
          exact ax_sub [0, 1, 2, 3, 4, 5] rfl (km_findRows_j151 K E ih v3 v4 v5 v6 v8 σ h)
        · have h := ax_ie h c113
          refine ax_aload_n K 0 rfl dX2_findRows_116 ?_
          refine ax_iload K 2 rfl dX2_findRows_117 ?_
          refine ax_iload K 3 rfl dX2_findRows_119 ?_
          refine ax_iload K 5 rfl dX2_findRows_121 ?_
          refine rm_may K (by decide) dX2_findRows_123 (Nat.le_of_ble_eq_true rfl) h (fun r123 σ123 h => ?_)
          refine ax_if_eq (tgt := 151) K dX2_findRows_126 (by decide) (fun c126 => ?_) (fun c126 => ?_)
          · have h := ax_it h c126
            exact ax_sub [0, 1, 2, 3, 4, 5] rfl (km_findRows_j151 K E ih v3 v4 v5 v6 v8 σ123 h)
          · have h := ax_ie h c126
            refine ax_aload_n K 0 rfl dX2_findRows_129 ?_
            refine mg_rows K dX2_findRows_130 ?_
            refine ax_iload K 2 rfl dX2_findRows_133 ?_
            refine ax_iconst (v := (1 : Int32)) K (by decide) dX2_findRows_135 ?_
            refine ax_iload K 5 rfl dX2_findRows_136 ?_
            refine ax_ishl K dX2_findRows_138 ?_
            refine ax_ior K dX2_findRows_139 ?_
            refine ax_iload K 5 rfl dX2_findRows_140 ?_
            refine rm_place K (by decide) dX2_findRows_142 (Nat.le_of_ble_eq_true rfl) h (fun r142 h => ?_)
            refine ax_dup2 K rfl rfl dX2_findRows_145 ?_
            refine ml_rows K h.1 dX2_findRows_146 ?_
            replace h := h.2
            refine ax_lload K 4 rfl dX2_findRows_147 ?_
            refine ax_ladd K dX2_findRows_149 ?_
            refine ms_rows K h.1 dX2_findRows_150 ?_
            replace h := h.2
            exact ax_sub [0, 1, 2, 3, 4, 5] rfl (km_findRows_j151 K E ih v3 v4 v5 v6 v8 (mU_rows σ123 r142 ((mA_rows σ123 (r142).toNatClampNeg) + v6)) h)
set_option maxHeartbeats 4000000 in
theorem km_findRows_j157 {Z : AZ} {G : AG} {L : Nat → Nat} {P : St → Prop} (K : AK Z G cX2_findRows RX2 9 (rmH 5)) (E : AEv Z cX2_findRows (mW G L) 0 0 P) {K51 : Int32 → Int32 → Int32 → St → Prop} (hK51 : ∀ (v3 : Int32) (v4 : Int32) (v5 : Int32) (σ : St), K51 v3 v4 v5 σ → AX Z 0 0 51 [(0, .ref (L 0)), (3, .int v3), (4, .int v4), (5, .int v5)] [] (mW G L σ)) (v3 : Int32) (v4 : Int32) (v5 : Int32) (σ : St) (h : wm_findRows_j157 P K51 v3 v4 v5 σ) : AX Z 0 0 157 [(0, .ref (L 0)), (3, .int v3), (4, .int v4), (5, .int v5)] [] (mW G L σ) := by
  unfold wm_findRows_j157 at h
  refine ax_iinc (lv' := [(5, .int (v5 + (1 : Int32))), (0, .ref (L 0)), (3, .int v3), (4, .int v4)]) (v := (v5 + (1 : Int32))) K 3 dX2_findRows_157 rfl (by rfl) (by decide) rfl ?_
  refine ax_goto (tgt := 51) K dX2_findRows_160 (by decide) ?_
  exact ax_sub [1, 2, 3, 0] rfl (hK51 v3 v4 (v5 + (1 : Int32)) σ h)
set_option maxHeartbeats 4000000 in
theorem km_findRows_j86 {Z : AZ} {G : AG} {L : Nat → Nat} {P : St → Prop} (K : AK Z G cX2_findRows RX2 9 (rmH 5)) (E : AEv Z cX2_findRows (mW G L) 0 0 P) {K51 : Int32 → Int32 → Int32 → St → Prop} (hK51 : ∀ (v3 : Int32) (v4 : Int32) (v5 : Int32) (σ : St), K51 v3 v4 v5 σ → AX Z 0 0 51 [(0, .ref (L 0)), (3, .int v3), (4, .int v4), (5, .int v5)] [] (mW G L σ)) (v3 : Int32) (v4 : Int32) (v5 : Int32) (s0 : Int64) (σ : St) (h : wm_findRows_j86 P K51 v3 v4 v5 s0 σ) : AX Z 0 0 86 [(0, .ref (L 0)), (3, .int v3), (4, .int v4), (5, .int v5)] [.long s0] (mW G L σ) := by
  unfold wm_findRows_j86 at h
  refine ax_lstore (lv' := [(6, .long s0), (0, .ref (L 0)), (3, .int v3), (4, .int v4), (5, .int v5)]) K dX2_findRows_86 (by decide) rfl ?_
  refine ax_iconst (v := (0 : Int32)) K (by decide) dX2_findRows_88 ?_
  refine ax_istore (lv' := [(8, .int (0 : Int32)), (6, .long s0), (0, .ref (L 0)), (3, .int v3), (4, .int v4), (5, .int v5)]) K dX2_findRows_89 (by decide) rfl ?_
  exact ax_sub [2, 3, 4, 5, 1, 0] rfl (h.elim fun n91 h => km_findRows_l91 K E (km_findRows_j157 K E hK51) n91 v3 v4 v5 s0 (0 : Int32) σ h)
set_option maxHeartbeats 4000000 in
theorem km_findRows_l51 {Z : AZ} {G : AG} {L : Nat → Nat} {P : St → Prop} (K : AK Z G cX2_findRows RX2 9 (rmH 5)) (E : AEv Z cX2_findRows (mW G L) 0 0 P) {K39 : Int32 → Int32 → St → Prop} (hK39 : ∀ (v3 : Int32) (v4 : Int32) (σ : St), K39 v3 v4 σ → AX Z 0 0 39 [(0, .ref (L 0)), (3, .int v3), (4, .int v4)] [] (mW G L σ)) : ∀ (n : Nat) (v3 : Int32) (v4 : Int32) (v5 : Int32) (σ : St), wm_findRows_l51 P K39 n v3 v4 v5 σ → AX Z 0 0 51 [(0, .ref (L 0)), (3, .int v3), (4, .int v4), (5, .int v5)] [] (mW G L σ) := by
  intro n
  induction n with
  | zero => intro v3 v4 v5 σ h; exact False.elim h
  | succ n ih =>
    intro v3 v4 v5 σ h
    rw [wm_findRows_l51_s] at h
    refine ax_iload K 3 rfl dX2_findRows_51 ?_
    refine ax_aload_n K 0 rfl dX2_findRows_53 ?_
    refine mg_dishes K dX2_findRows_54 ?_
    refine ax_icmp_ge (tgt := 163) K dX2_findRows_57 (by decide) (fun c57 => ?_) (fun c57 => ?_)
    · have h := ax_it h c57
      refine ax_iinc (lv' := [(4, .int (v4 + (1 : Int32))), (0, .ref (L 0)), (3, .int v3), (5, .int v5)]) (v := (v4 + (1 : Int32))) K 2 dX2_findRows_163 rfl (by rfl) (by decide) rfl ?_
      refine ax_goto (tgt := 39) K dX2_findRows_166 (by decide) ?_
      exact ax_sub [1, 2, 0] rfl (hK39 v3 (v4 + (1 : Int32)) σ h)
    · have h := ax_ie h c57
      refine ax_iload K 2 rfl dX2_findRows_60 ?_
      refine ax_iload K 3 rfl dX2_findRows_62 ?_
      refine rm_isState K (by decide) dX2_findRows_64 (Nat.le_of_ble_eq_true rfl) h (fun r64 h => ?_)
      refine ax_if_eq (tgt := 85) K dX2_findRows_67 (by decide) (fun c67 => ?_) (fun c67 => ?_)
      · have h := ax_it h c67
        refine ax_lconst (v := (0 : Int64)) K (by decide) dX2_findRows_85 ?_
        exact ax_sub [0, 1, 2, 3] rfl (km_findRows_j86 K E ih v3 v4 v5 (0 : Int64) σ h)
      · have h := ax_ie h c67
        refine ax_aload_n K 0 rfl dX2_findRows_70 ?_
        refine mg_rows K dX2_findRows_71 ?_
        refine ax_iload K 2 rfl dX2_findRows_74 ?_
        refine ax_iload K 3 rfl dX2_findRows_76 ?_
        refine rm_place K (by decide) dX2_findRows_78 (Nat.le_of_ble_eq_true rfl) h (fun r78 h => ?_)
        refine ml_rows K h.1 dX2_findRows_81 ?_
        replace h := h.2
        refine ax_goto (tgt := 86) K dX2_findRows_82 (by decide) ?_
        exact ax_sub [0, 1, 2, 3] rfl (km_findRows_j86 K E ih v3 v4 v5 (mA_rows σ (r78).toNatClampNeg) σ h)
set_option maxHeartbeats 4000000 in
theorem km_findRows_l39 {Z : AZ} {G : AG} {L : Nat → Nat} {P : St → Prop} (K : AK Z G cX2_findRows RX2 9 (rmH 5)) (E : AEv Z cX2_findRows (mW G L) 0 0 P) : ∀ (n : Nat) (v3 : Int32) (v4 : Int32) (σ : St), wm_findRows_l39 P  n v3 v4 σ → AX Z 0 0 39 [(0, .ref (L 0)), (3, .int v3), (4, .int v4)] [] (mW G L σ) := by
  intro n
  induction n with
  | zero => intro v3 v4 σ h; exact False.elim h
  | succ n ih =>
    intro v3 v4 σ h
    rw [wm_findRows_l39_s] at h
    refine ax_iload K 2 rfl dX2_findRows_39 ?_
    refine ax_aload_n K 0 rfl dX2_findRows_41 ?_
    refine rm_all K (by decide) dX2_findRows_42 (Nat.le_of_ble_eq_true rfl) h (fun r42 σ42 h => ?_)
    refine ax_icmp_gt (tgt := 169) K dX2_findRows_45 (by decide) (fun c45 => ?_) (fun c45 => ?_)
    · have h := ax_it h c45
      exact E _ _ _ dX2_findRows_169 h
    · have h := ax_ie h c45
      refine ax_iconst (v := (-1 : Int32)) K (by decide) dX2_findRows_48 ?_
      refine ax_istore (lv' := [(5, .int (-1 : Int32)), (0, .ref (L 0)), (3, .int v3), (4, .int v4)]) K dX2_findRows_49 (by decide) rfl ?_
      exact ax_sub [1, 2, 3, 0] rfl (h.elim fun n51 h => km_findRows_l51 K E ih n51 v3 v4 (-1 : Int32) σ42 h)
set_option maxHeartbeats 4000000 in
theorem mm_findRows {l : Launch} {G : AG} {L : Nat → Nat} {σ : St} {v1 : Int32} {v2 : Int32} {v3 : Int32} {P : St → Prop} (h : wm_findRows σ v1 v2 v3 P) : CtW l G yX2_findRows cX2_findRows 9 none (rmH 5) [.ref (L 0), .int v1, .int v2, .int v3] (mW G L) σ (pV P) := by
  refine CtW.ofV (by decide) (Nat.le_of_ble_eq_true rfl) fun Z _ K E => ?_
  unfold wm_findRows at h
  show AX Z 0 0 0 [(0, .ref (L 0)), (1, .int v1), (2, .int v2), (3, .int v3)] [] (mW G L σ)
  refine ax_iconst (v := (0 : Int32)) K (by decide) dX2_findRows_0 ?_
  refine ax_istore (lv' := [(4, .int (0 : Int32)), (0, .ref (L 0)), (1, .int v1), (2, .int v2), (3, .int v3)]) K dX2_findRows_1 (by decide) rfl ?_
  exact ax_sub [1, 2, 3, 4, 0] rfl (h.elim fun n3 h => km_findRows_l3 K E (fun v3 v4 σ h => h.elim fun n39 h => km_findRows_l39 K E  n39 v3 v4 σ h) n3 v1 v2 v3 (0 : Int32) σ h)
theorem rm_findRows {Z : AZ} {G : AG} {cc : ByteArray} {mL hh pc : Nat} {lv : List (Nat × Value)} {rest : List Value} {L : Nat → Nat} {σ : St} (K : AK Z G cc RX2 mL (rmH hh)) (hlt : 5 < hh) (d : decode cc pc = .ok (.invokevirtual 310, 3)) (hrest : (rest.map fun v => v.category).sum ≤ 8) {v1 : Int32} {v2 : Int32} {v3 : Int32} {P : St → Prop} (h : sm_findRows σ v1 v2 v3 P) (kk : ∀ (σ' : St), P σ' → AX Z 0 0 (pc + 3) lv (rest) (mW G L σ')) : AX Z 0 0 pc lv (.int v3 :: .int v2 :: .int v1 :: .ref (L 0) :: rest) (mW G L σ) :=
  ax_callV (N0 := 3) (As := [.int v1, .int v2, .int v3]) K (mm_findRows (sm_findRows_ok h)) q1411 q1413 qs93 q118 q1414 ⟨rfl, by decide, by decide, by decide⟩ rfl ⟨by show 5 + 1 + 1 ≤ hh + 1; omega, by show 8 + (9 + 11) + 60 * (5 + 1) ≤ 60 * (hh + 1); omega⟩ ⟨Nat.zero_le _, Nat.zero_le _⟩ rfl rfl rfl hrest d (fun r σ' hp => by obtain ⟨rfl, hp⟩ := hp; exact kk σ' hp)
/-! m.findTurn -/
set_option maxHeartbeats 4000000 in
theorem km_findTurn_j62 {Z : AZ} {G : AG} {L : Nat → Nat} {P : St → Prop} (K : AK Z G cX2_findTurn RX2 8 (rmH 5)) (E : AEv Z cX2_findTurn (mW G L) 0 0 P) {K16 : Int32 → Int32 → Int32 → Int32 → St → Prop} (hK16 : ∀ (v1 : Int32) (v2 : Int32) (v3 : Int32) (v4 : Int32) (σ : St), K16 v1 v2 v3 v4 σ → AX Z 0 0 16 [(0, .ref (L 0)), (1, .int v1), (2, .int v2), (3, .int v3), (4, .int v4)] [] (mW G L σ)) (v1 : Int32) (v2 : Int32) (v3 : Int32) (v4 : Int32) (σ : St) (h : wm_findTurn_j62 P K16 v1 v2 v3 v4 σ) : AX Z 0 0 62 [(0, .ref (L 0)), (1, .int v1), (2, .int v2), (3, .int v3), (4, .int v4)] [] (mW G L σ) := by
  unfold wm_findTurn_j62 at h
  refine ax_iinc (lv' := [(4, .int (v4 + (1 : Int32))), (0, .ref (L 0)), (1, .int v1), (2, .int v2), (3, .int v3)]) (v := (v4 + (1 : Int32))) K 4 dX2_findTurn_62 rfl (by rfl) (by decide) rfl ?_
  refine ax_goto (tgt := 16) K dX2_findTurn_65 (by decide) ?_
  exact ax_sub [1, 2, 3, 4, 0] rfl (hK16 v1 v2 v3 (v4 + (1 : Int32)) σ h)
set_option maxHeartbeats 4000000 in
theorem km_findTurn_l16 {Z : AZ} {G : AG} {L : Nat → Nat} {P : St → Prop} (K : AK Z G cX2_findTurn RX2 8 (rmH 5)) (E : AEv Z cX2_findTurn (mW G L) 0 0 P) {K85 : Int32 → Int32 → Int32 → Int32 → St → Prop} (hK85 : ∀ (v1 : Int32) (v2 : Int32) (v3 : Int32) (v4 : Int32) (σ : St), K85 v1 v2 v3 v4 σ → AX Z 0 0 85 [(0, .ref (L 0)), (1, .int v1), (2, .int v2), (3, .int v3), (4, .int v4)] [] (mW G L σ)) : ∀ (n : Nat) (v1 : Int32) (v2 : Int32) (v3 : Int32) (v4 : Int32) (σ : St), wm_findTurn_l16 P K85 n v1 v2 v3 v4 σ → AX Z 0 0 16 [(0, .ref (L 0)), (1, .int v1), (2, .int v2), (3, .int v3), (4, .int v4)] [] (mW G L σ) := by
  intro n
  induction n with
  | zero => intro v1 v2 v3 v4 σ h; exact False.elim h
  | succ n ih =>
    intro v1 v2 v3 v4 σ h
    rw [wm_findTurn_l16_s] at h
    refine ax_iload K 4 rfl dX2_findTurn_16 ?_
    refine ax_aload_n K 0 rfl dX2_findTurn_18 ?_
    refine mg_dishes K dX2_findTurn_19 ?_
    refine ax_icmp_ge (tgt := 68) K dX2_findTurn_22 (by decide) (fun c22 => ?_) (fun c22 => ?_)
    · have h := ax_it h c22
      refine ax_aload_n K 0 rfl dX2_findTurn_68 ?_
      refine mg_firstThen K dX2_findTurn_69 ?_
      refine ax_iload_n K 3 rfl dX2_findTurn_72 ?_
      refine ax_iconst (v := (-1 : Int32)) K (by decide) dX2_findTurn_73 ?_
      refine ms_firstThen K h.1 dX2_findTurn_74 ?_
      replace h := h.2
      refine ax_aload_n K 0 rfl dX2_findTurn_75 ?_
      refine mg_moreThen K dX2_findTurn_76 ?_
      refine ax_iload_n K 3 rfl dX2_findTurn_79 ?_
      refine ax_iconst (v := (0 : Int32)) K (by decide) dX2_findTurn_80 ?_
      refine ms_moreThen K h.1 dX2_findTurn_81 ?_
      replace h := h.2
      refine ax_iconst (v := (0 : Int32)) K (by decide) dX2_findTurn_82 ?_
      refine ax_istore (lv' := [(4, .int (0 : Int32)), (0, .ref (L 0)), (1, .int v1), (2, .int v2), (3, .int v3)]) K dX2_findTurn_83 (by decide) rfl ?_
      exact ax_sub [1, 2, 3, 4, 0] rfl (hK85 v1 v2 v3 (0 : Int32) (mU_moreThen (mU_firstThen σ v3 (-1 : Int32)) v3 (0 : Int32)) h)
    · have h := ax_ie h c22
      refine ax_aload_n K 0 rfl dX2_findTurn_25 ?_
      refine ax_iload_n K 1 rfl dX2_findTurn_26 ?_
      refine ax_iload_n K 2 rfl dX2_findTurn_27 ?_
      refine ax_iload K 4 rfl dX2_findTurn_28 ?_
      refine rm_may K (by decide) dX2_findTurn_30 (Nat.le_of_ble_eq_true rfl) h (fun r30 σ30 h => ?_)
      refine ax_if_eq (tgt := 62) K dX2_findTurn_33 (by decide) (fun c33 => ?_) (fun c33 => ?_)
      · have h := ax_it h c33
        exact ax_sub [0, 1, 2, 3, 4] rfl (km_findTurn_j62 K E ih v1 v2 v3 v4 σ30 h)
      · have h := ax_ie h c33
        refine ax_aload_n K 0 rfl dX2_findTurn_36 ?_
        refine mg_shames K dX2_findTurn_37 ?_
        refine ax_iload_n K 1 rfl dX2_findTurn_40 ?_
        refine ax_iconst (v := (1 : Int32)) K (by decide) dX2_findTurn_41 ?_
        refine ax_iload K 4 rfl dX2_findTurn_42 ?_
        refine ax_ishl K dX2_findTurn_44 ?_
        refine ax_ior K dX2_findTurn_45 ?_
        refine ax_iload K 4 rfl dX2_findTurn_46 ?_
        refine rm_place K (by decide) dX2_findTurn_48 (Nat.le_of_ble_eq_true rfl) h (fun r48 h => ?_)
        refine ml_shames K h.1 dX2_findTurn_51 ?_
        replace h := h.2
        refine ax_if_ne (tgt := 62) K dX2_findTurn_52 (by decide) (fun c52 => ?_) (fun c52 => ?_)
        · have h := ax_ie h c52
          exact ax_sub [0, 1, 2, 3, 4] rfl (km_findTurn_j62 K E ih v1 v2 v3 v4 σ30 h)
        · have h := ax_it h c52
          refine ax_aload_n K 0 rfl dX2_findTurn_55 ?_
          refine mg_shames K dX2_findTurn_56 ?_
          refine ax_iload_n K 3 rfl dX2_findTurn_59 ?_
          refine ax_iconst (v := (1 : Int32)) K (by decide) dX2_findTurn_60 ?_
          refine ms_shames K h.1 dX2_findTurn_61 ?_
          replace h := h.2
          exact ax_sub [0, 1, 2, 3, 4] rfl (km_findTurn_j62 K E ih v1 v2 v3 v4 (mU_shames σ30 v3 (vp_nar .boolean (1 : Int32))) h)
set_option maxHeartbeats 4000000 in
theorem km_findTurn_j234 {Z : AZ} {G : AG} {L : Nat → Nat} {P : St → Prop} (K : AK Z G cX2_findTurn RX2 8 (rmH 5)) (E : AEv Z cX2_findTurn (mW G L) 0 0 P) {K85 : Int32 → Int32 → Int32 → Int32 → St → Prop} (hK85 : ∀ (v1 : Int32) (v2 : Int32) (v3 : Int32) (v4 : Int32) (σ : St), K85 v1 v2 v3 v4 σ → AX Z 0 0 85 [(0, .ref (L 0)), (1, .int v1), (2, .int v2), (3, .int v3), (4, .int v4)] [] (mW G L σ)) (v1 : Int32) (v2 : Int32) (v3 : Int32) (v4 : Int32) (σ : St) (h : wm_findTurn_j234 P K85 v1 v2 v3 v4 σ) : AX Z 0 0 234 [(0, .ref (L 0)), (1, .int v1), (2, .int v2), (3, .int v3), (4, .int v4)] [] (mW G L σ) := by
  unfold wm_findTurn_j234 at h
  refine ax_iinc (lv' := [(4, .int (v4 + (1 : Int32))), (0, .ref (L 0)), (1, .int v1), (2, .int v2), (3, .int v3)]) (v := (v4 + (1 : Int32))) K 4 dX2_findTurn_234 rfl (by rfl) (by decide) rfl ?_
  refine ax_goto (tgt := 85) K dX2_findTurn_237 (by decide) ?_
  exact ax_sub [1, 2, 3, 4, 0] rfl (hK85 v1 v2 v3 (v4 + (1 : Int32)) σ h)
set_option maxHeartbeats 4000000 in
theorem km_findTurn_j208 {Z : AZ} {G : AG} {L : Nat → Nat} {P : St → Prop} (K : AK Z G cX2_findTurn RX2 8 (rmH 5)) (E : AEv Z cX2_findTurn (mW G L) 0 0 P) {K85 : Int32 → Int32 → Int32 → Int32 → St → Prop} (hK85 : ∀ (v1 : Int32) (v2 : Int32) (v3 : Int32) (v4 : Int32) (σ : St), K85 v1 v2 v3 v4 σ → AX Z 0 0 85 [(0, .ref (L 0)), (1, .int v1), (2, .int v2), (3, .int v3), (4, .int v4)] [] (mW G L σ)) (v1 : Int32) (v2 : Int32) (v3 : Int32) (v4 : Int32) (v6 : Int32) (s0 : Int32) (σ : St) (h : wm_findTurn_j208 P K85 v1 v2 v3 v4 v6 s0 σ) : AX Z 0 0 208 [(0, .ref (L 0)), (1, .int v1), (2, .int v2), (3, .int v3), (4, .int v4), (6, .int v6)] [.int s0] (mW G L σ) := by
  unfold wm_findTurn_j208 at h
  refine ax_istore (lv' := [(7, .int s0), (0, .ref (L 0)), (1, .int v1), (2, .int v2), (3, .int v3), (4, .int v4), (6, .int v6)]) K dX2_findTurn_208 (by decide) rfl ?_
  refine ax_iload K 0 rfl dX2_findTurn_210 ?_
  refine ax_if_ne (tgt := 218) K dX2_findTurn_212 (by decide) (fun c212 => ?_) (fun c212 => ?_)
  · have h := ax_ie h c212
    refine ax_aload_n K 1 rfl dX2_findTurn_218 ?_
    refine mg_moreThen K dX2_findTurn_219 ?_
    refine ax_iload_n K 4 rfl dX2_findTurn_222 ?_
    refine ax_iload K 6 rfl dX2_findTurn_223 ?_
    refine ms_moreThen K h.1 dX2_findTurn_225 ?_
    replace h := h.2
    refine ax_aload_n K 1 rfl dX2_findTurn_226 ?_
    refine mg_firstThen K dX2_findTurn_227 ?_
    refine ax_iload_n K 4 rfl dX2_findTurn_230 ?_
    refine ax_iload K 5 rfl dX2_findTurn_231 ?_
    refine ms_firstThen K h.1 dX2_findTurn_233 ?_
    replace h := h.2
    exact ax_sub [1, 2, 3, 4, 5] rfl (km_findTurn_j234 K E hK85 v1 v2 v3 v4 (mU_firstThen (mU_moreThen σ v3 v6) v3 v4) h)
  · have h := ax_it h c212
    refine ax_goto (tgt := 234) K dX2_findTurn_215 (by decide) ?_
    exact ax_sub [1, 2, 3, 4, 5] rfl (km_findTurn_j234 K E hK85 v1 v2 v3 v4 σ h)
set_option maxHeartbeats 4000000 in
theorem km_findTurn_j184 {Z : AZ} {G : AG} {L : Nat → Nat} {P : St → Prop} (K : AK Z G cX2_findTurn RX2 8 (rmH 5)) (E : AEv Z cX2_findTurn (mW G L) 0 0 P) {K85 : Int32 → Int32 → Int32 → Int32 → St → Prop} (hK85 : ∀ (v1 : Int32) (v2 : Int32) (v3 : Int32) (v4 : Int32) (σ : St), K85 v1 v2 v3 v4 σ → AX Z 0 0 85 [(0, .ref (L 0)), (1, .int v1), (2, .int v2), (3, .int v3), (4, .int v4)] [] (mW G L σ)) (v1 : Int32) (v2 : Int32) (v3 : Int32) (v4 : Int32) (v6 : Int32) (σ : St) (h : wm_findTurn_j184 P K85 v1 v2 v3 v4 v6 σ) : AX Z 0 0 184 [(0, .ref (L 0)), (1, .int v1), (2, .int v2), (3, .int v3), (4, .int v4), (6, .int v6)] [] (mW G L σ) := by
  unfold wm_findTurn_j184 at h
  refine ax_iconst (v := (1 : Int32)) K (by decide) dX2_findTurn_184 ?_
  refine ax_goto (tgt := 208) K dX2_findTurn_185 (by decide) ?_
  exact ax_sub [0, 1, 2, 3, 4, 5] rfl (km_findTurn_j208 K E hK85 v1 v2 v3 v4 v6 (1 : Int32) σ h)
set_option maxHeartbeats 4000000 in
theorem km_findTurn_j143 {Z : AZ} {G : AG} {L : Nat → Nat} {P : St → Prop} (K : AK Z G cX2_findTurn RX2 8 (rmH 5)) (E : AEv Z cX2_findTurn (mW G L) 0 0 P) {K85 : Int32 → Int32 → Int32 → Int32 → St → Prop} (hK85 : ∀ (v1 : Int32) (v2 : Int32) (v3 : Int32) (v4 : Int32) (σ : St), K85 v1 v2 v3 v4 σ → AX Z 0 0 85 [(0, .ref (L 0)), (1, .int v1), (2, .int v2), (3, .int v3), (4, .int v4)] [] (mW G L σ)) (v1 : Int32) (v2 : Int32) (v3 : Int32) (v4 : Int32) (v5 : Int32) (σ : St) (h : wm_findTurn_j143 P K85 v1 v2 v3 v4 v5 σ) : AX Z 0 0 143 [(0, .ref (L 0)), (1, .int v1), (2, .int v2), (3, .int v3), (4, .int v4), (5, .int v5)] [] (mW G L σ) := by
  unfold wm_findTurn_j143 at h
  refine ax_aload_n K 0 rfl dX2_findTurn_143 ?_
  refine mg_moreThen K dX2_findTurn_144 ?_
  refine ax_iload K 5 rfl dX2_findTurn_147 ?_
  refine ml_moreThen K h.1 dX2_findTurn_149 ?_
  replace h := h.2
  refine ax_iconst (v := (1 : Int32)) K (by decide) dX2_findTurn_150 ?_
  refine ax_iadd K dX2_findTurn_151 ?_
  refine ax_istore (lv' := [(6, .int ((mA_moreThen σ (v5).toNatClampNeg) + (1 : Int32))), (0, .ref (L 0)), (1, .int v1), (2, .int v2), (3, .int v3), (4, .int v4), (5, .int v5)]) K dX2_findTurn_152 (by decide) rfl ?_
  refine ax_aload_n K 1 rfl dX2_findTurn_154 ?_
  refine mg_shames K dX2_findTurn_155 ?_
  refine ax_iload_n K 4 rfl dX2_findTurn_158 ?_
  refine ml_shames K h.1 dX2_findTurn_159 ?_
  replace h := h.2
  refine ax_if_eq (tgt := 192) K dX2_findTurn_160 (by decide) (fun c160 => ?_) (fun c160 => ?_)
  · have h := ax_it h c160
    refine ax_iload K 0 rfl dX2_findTurn_192 ?_
    refine ax_aload_n K 1 rfl dX2_findTurn_194 ?_
    refine mg_moreThen K dX2_findTurn_195 ?_
    refine ax_iload_n K 4 rfl dX2_findTurn_198 ?_
    refine ml_moreThen K h.1 dX2_findTurn_199 ?_
    replace h := h.2
    refine ax_icmp_le (tgt := 207) K dX2_findTurn_200 (by decide) (fun c200 => ?_) (fun c200 => ?_)
    · have h := ax_it h c200
      refine ax_iconst (v := (0 : Int32)) K (by decide) dX2_findTurn_207 ?_
      exact ax_sub [1, 2, 3, 4, 5, 0] rfl (km_findTurn_j208 K E hK85 v1 v2 v3 v4 ((mA_moreThen σ (v5).toNatClampNeg) + (1 : Int32)) (0 : Int32) σ h)
    · have h := ax_ie h c200
      refine ax_iconst (v := (1 : Int32)) K (by decide) dX2_findTurn_203 ?_
      refine ax_goto (tgt := 208) K dX2_findTurn_204 (by decide) ?_
      exact ax_sub [1, 2, 3, 4, 5, 0] rfl (km_findTurn_j208 K E hK85 v1 v2 v3 v4 ((mA_moreThen σ (v5).toNatClampNeg) + (1 : Int32)) (1 : Int32) σ h)
  · have h := ax_ie h c160
    refine ax_aload_n K 1 rfl dX2_findTurn_163 ?_
    refine mg_firstThen K dX2_findTurn_164 ?_
    refine ax_iload_n K 4 rfl dX2_findTurn_167 ?_
    refine ml_firstThen K h.1 dX2_findTurn_168 ?_
    replace h := h.2
    refine ax_iconst (v := (-1 : Int32)) K (by decide) dX2_findTurn_169 ?_
    refine ax_icmp_eq (tgt := 184) K dX2_findTurn_170 (by decide) (fun c170 => ?_) (fun c170 => ?_)
    · have h := ax_it h c170
      exact ax_sub [1, 2, 3, 4, 5, 0] rfl (km_findTurn_j184 K E hK85 v1 v2 v3 v4 ((mA_moreThen σ (v5).toNatClampNeg) + (1 : Int32)) σ h)
    · have h := ax_ie h c170
      refine ax_iload K 0 rfl dX2_findTurn_173 ?_
      refine ax_aload_n K 1 rfl dX2_findTurn_175 ?_
      refine mg_moreThen K dX2_findTurn_176 ?_
      refine ax_iload_n K 4 rfl dX2_findTurn_179 ?_
      refine ml_moreThen K h.1 dX2_findTurn_180 ?_
      replace h := h.2
      refine ax_icmp_ge (tgt := 188) K dX2_findTurn_181 (by decide) (fun c181 => ?_) (fun c181 => ?_)
      · have h := ax_it h c181
        refine ax_iconst (v := (0 : Int32)) K (by decide) dX2_findTurn_188 ?_
        refine ax_goto (tgt := 208) K dX2_findTurn_189 (by decide) ?_
        exact ax_sub [1, 2, 3, 4, 5, 0] rfl (km_findTurn_j208 K E hK85 v1 v2 v3 v4 ((mA_moreThen σ (v5).toNatClampNeg) + (1 : Int32)) (0 : Int32) σ h)
      · have h := ax_ie h c181
        exact ax_sub [1, 2, 3, 4, 5, 0] rfl (km_findTurn_j184 K E hK85 v1 v2 v3 v4 ((mA_moreThen σ (v5).toNatClampNeg) + (1 : Int32)) σ h)
set_option maxHeartbeats 4000000 in
theorem km_findTurn_l85 {Z : AZ} {G : AG} {L : Nat → Nat} {P : St → Prop} (K : AK Z G cX2_findTurn RX2 8 (rmH 5)) (E : AEv Z cX2_findTurn (mW G L) 0 0 P) : ∀ (n : Nat) (v1 : Int32) (v2 : Int32) (v3 : Int32) (v4 : Int32) (σ : St), wm_findTurn_l85 P  n v1 v2 v3 v4 σ → AX Z 0 0 85 [(0, .ref (L 0)), (1, .int v1), (2, .int v2), (3, .int v3), (4, .int v4)] [] (mW G L σ) := by
  intro n
  induction n with
  | zero => intro v1 v2 v3 v4 σ h; exact False.elim h
  | succ n ih =>
    intro v1 v2 v3 v4 σ h
    rw [wm_findTurn_l85_s] at h
    refine ax_iload K 4 rfl dX2_findTurn_85 ?_
    refine ax_aload_n K 0 rfl dX2_findTurn_87 ?_
    refine mg_dishes K dX2_findTurn_88 ?_
    refine ax_icmp_ge (tgt := 240) K dX2_findTurn_91 (by decide) (fun c91 => ?_) (fun c91 => ?_)
    · have h := ax_it h c91
      exact E _ _ _ dX2_findTurn_240 h
    · have h := ax_ie h c91
      refine ax_aload_n K 0 rfl dX2_findTurn_94 ?_
      refine ax_iload_n K 1 rfl dX2_findTurn_95 ?_
      refine ax_iload_n K 2 rfl dX2_findTurn_96 ?_
      refine ax_iload K 4 rfl dX2_findTurn_97 ?_
      refine rm_may K (by decide) dX2_findTurn_99 (Nat.le_of_ble_eq_true rfl) h (fun r99 σ99 h => ?_)
      refine ax_if_ne (tgt := 108) K dX2_findTurn_102 (by decide) (fun c102 => ?_) (fun c102 => ?_)
      · have h := ax_ie h c102
        refine ax_iload_n K 1 rfl dX2_findTurn_108 ?_
        refine ax_iconst (v := (1 : Int32)) K (by decide) dX2_findTurn_109 ?_
        refine ax_iload K 4 rfl dX2_findTurn_110 ?_
        refine ax_ishl K dX2_findTurn_112 ?_
        refine ax_ior K dX2_findTurn_113 ?_
        refine ax_iload K 4 rfl dX2_findTurn_114 ?_
        refine rm_place K (by decide) dX2_findTurn_116 (Nat.le_of_ble_eq_true rfl) h (fun r116 h => ?_)
        refine ax_istore (lv' := [(5, .int r116), (0, .ref (L 0)), (1, .int v1), (2, .int v2), (3, .int v3), (4, .int v4)]) K dX2_findTurn_119 (by decide) rfl ?_
        refine ax_aload_n K 1 rfl dX2_findTurn_121 ?_
        refine mg_shames K dX2_findTurn_122 ?_
        refine ax_iload_n K 4 rfl dX2_findTurn_125 ?_
        refine ml_shames K h.1 dX2_findTurn_126 ?_
        replace h := h.2
        refine ax_if_eq (tgt := 143) K dX2_findTurn_127 (by decide) (fun c127 => ?_) (fun c127 => ?_)
        · have h := ax_it h c127
          exact ax_sub [1, 2, 3, 4, 5, 0] rfl (km_findTurn_j143 K E ih v1 v2 v3 v4 r116 σ99 h)
        · have h := ax_ie h c127
          refine ax_aload_n K 1 rfl dX2_findTurn_130 ?_
          refine mg_shames K dX2_findTurn_131 ?_
          refine ax_iload K 0 rfl dX2_findTurn_134 ?_
          refine ml_shames K h.1 dX2_findTurn_136 ?_
          replace h := h.2
          refine ax_if_eq (tgt := 143) K dX2_findTurn_137 (by decide) (fun c137 => ?_) (fun c137 => ?_)
          · have h := ax_it h c137
            exact ax_sub [1, 2, 3, 4, 5, 0] rfl (km_findTurn_j143 K E ih v1 v2 v3 v4 r116 σ99 h)
          · have h := ax_ie h c137
            refine ax_goto (tgt := 234) K dX2_findTurn_140 (by decide) ?_
            exact ax_sub [1, 2, 3, 4, 5] rfl (km_findTurn_j234 K E ih v1 v2 v3 v4 σ99 h)
      · have h := ax_it h c102
        refine ax_goto (tgt := 234) K dX2_findTurn_105 (by decide) ?_
        exact ax_sub [0, 1, 2, 3, 4] rfl (km_findTurn_j234 K E ih v1 v2 v3 v4 σ99 h)
set_option maxHeartbeats 4000000 in
theorem mm_findTurn {l : Launch} {G : AG} {L : Nat → Nat} {σ : St} {v1 : Int32} {v2 : Int32} {P : St → Prop} (h : wm_findTurn σ v1 v2 P) : CtW l G yX2_findTurn cX2_findTurn 8 none (rmH 5) [.ref (L 0), .int v1, .int v2] (mW G L) σ (pV P) := by
  refine CtW.ofV (by decide) (Nat.le_of_ble_eq_true rfl) fun Z _ K E => ?_
  unfold wm_findTurn at h
  show AX Z 0 0 0 [(0, .ref (L 0)), (1, .int v1), (2, .int v2)] [] (mW G L σ)
  refine ax_iload_n K 1 rfl dX2_findTurn_0 ?_
  refine ax_iload_n K 2 rfl dX2_findTurn_1 ?_
  refine rm_place K (by decide) dX2_findTurn_2 (Nat.le_of_ble_eq_true rfl) h (fun r2 h => ?_)
  refine ax_istore_n (lv' := [(3, .int r2), (0, .ref (L 0)), (1, .int v1), (2, .int v2)]) K dX2_findTurn_5 (by decide) rfl ?_
  refine ax_aload_n K 1 rfl dX2_findTurn_6 ?_
  refine mg_shames K dX2_findTurn_7 ?_
  refine ax_iload_n K 0 rfl dX2_findTurn_10 ?_
  refine ax_iconst (v := (0 : Int32)) K (by decide) dX2_findTurn_11 ?_
  refine ms_shames K h.1 dX2_findTurn_12 ?_
  replace h := h.2
  refine ax_iconst (v := (0 : Int32)) K (by decide) dX2_findTurn_13 ?_
  refine ax_istore (lv' := [(4, .int (0 : Int32)), (3, .int r2), (0, .ref (L 0)), (1, .int v1), (2, .int v2)]) K dX2_findTurn_14 (by decide) rfl ?_
  exact ax_sub [2, 3, 4, 1, 0] rfl (h.elim fun n16 h => km_findTurn_l16 K E (fun v1 v2 v3 v4 σ h => h.elim fun n85 h => km_findTurn_l85 K E  n85 v1 v2 v3 v4 σ h) n16 v1 v2 r2 (0 : Int32) (mU_shames σ r2 (vp_nar .boolean (0 : Int32))) h)
theorem rm_findTurn {Z : AZ} {G : AG} {cc : ByteArray} {mL hh pc : Nat} {lv : List (Nat × Value)} {rest : List Value} {L : Nat → Nat} {σ : St} (K : AK Z G cc RX2 mL (rmH hh)) (hlt : 5 < hh) (d : decode cc pc = .ok (.invokevirtual 365, 3)) (hrest : (rest.map fun v => v.category).sum ≤ 8) {v1 : Int32} {v2 : Int32} {P : St → Prop} (h : sm_findTurn σ v1 v2 P) (kk : ∀ (σ' : St), P σ' → AX Z 0 0 (pc + 3) lv (rest) (mW G L σ')) : AX Z 0 0 pc lv (.int v2 :: .int v1 :: .ref (L 0) :: rest) (mW G L σ) :=
  ax_callV (N0 := 2) (As := [.int v1, .int v2]) K (mm_findTurn (sm_findTurn_ok h)) q1539 q1541 qs108 q118 q1542 ⟨rfl, by decide, by decide, by decide⟩ rfl ⟨by show 5 + 1 + 1 ≤ hh + 1; omega, by show 8 + (8 + 11) + 60 * (5 + 1) ≤ 60 * (hh + 1); omega⟩ ⟨Nat.zero_le _, Nat.zero_le _⟩ rfl rfl rfl hrest d (fun r σ' hp => by obtain ⟨rfl, hp⟩ := hp; exact kk σ' hp)
/-! m.isLawful -/
set_option maxHeartbeats 4000000 in
theorem km_isLawful_j23 {Z : AZ} {G : AG} {L : Nat → Nat} {P : Int32 → St → Prop} (K : AK Z G cX2_isLawful RX2 2 (rmH 5)) (E : AEi Z cX2_isLawful .boolean (mW G L) 0 0 P) (s0 : Int32) (σ : St) (h : wm_isLawful_j23 P  s0 σ) : AX Z 0 0 23 [(0, .ref (L 0))] [.int s0] (mW G L σ) := by
  unfold wm_isLawful_j23 at h
  exact E _ _ _ _ dX2_isLawful_23 h.1 h.2
set_option maxHeartbeats 4000000 in
theorem mm_isLawful {l : Launch} {G : AG} {L : Nat → Nat} {σ : St} {v1 : Int32} {P : Int32 → St → Prop} (h : wm_isLawful σ v1 P) : CtW l G yX2_isLawful cX2_isLawful 2 (some .boolean) (rmH 5) [.ref (L 0), .int v1] (mW G L) σ (pI P) := by
  refine CtW.ofI (by decide) (Nat.le_of_ble_eq_true rfl) fun Z _ K E => ?_
  unfold wm_isLawful at h
  show AX Z 0 0 0 [(0, .ref (L 0)), (1, .int v1)] [] (mW G L σ)
  refine ax_aload_n K 0 rfl dX2_isLawful_0 ?_
  refine rm_lookFromNothing K (by decide) dX2_isLawful_1 (Nat.le_of_ble_eq_true rfl) h (fun σ1 h => ?_)
  refine ax_aload_n K 0 rfl dX2_isLawful_4 ?_
  refine ax_iload_n K 1 rfl dX2_isLawful_5 ?_
  refine rm_lookOn K (by decide) dX2_isLawful_6 (Nat.le_of_ble_eq_true rfl) h (fun r6 σ6 h => ?_)
  refine ax_aload_n K 0 rfl dX2_isLawful_9 ?_
  refine mg_menuLong K dX2_isLawful_10 ?_
  refine ax_iload_n K 1 rfl dX2_isLawful_13 ?_
  refine ml_menuLong K h.1 dX2_isLawful_14 ?_
  replace h := h.2
  refine ax_icmp_ne (tgt := 22) K dX2_isLawful_15 (by decide) (fun c15 => ?_) (fun c15 => ?_)
  · have h := ax_ie h c15
    refine ax_iconst (v := (0 : Int32)) K (by decide) dX2_isLawful_22 ?_
    exact ax_sub [0] rfl (km_isLawful_j23 K E  (0 : Int32) σ6 h)
  · have h := ax_it h c15
    refine ax_iconst (v := (1 : Int32)) K (by decide) dX2_isLawful_18 ?_
    refine ax_goto (tgt := 23) K dX2_isLawful_19 (by decide) ?_
    exact ax_sub [0] rfl (km_isLawful_j23 K E  (1 : Int32) σ6 h)
theorem rm_isLawful {Z : AZ} {G : AG} {cc : ByteArray} {mL hh pc : Nat} {lv : List (Nat × Value)} {rest : List Value} {L : Nat → Nat} {σ : St} (K : AK Z G cc RX2 mL (rmH hh)) (hlt : 5 < hh) (d : decode cc pc = .ok (.invokevirtual 295, 3)) (hrest : (rest.map fun v => v.category).sum ≤ 8) {v1 : Int32} {P : Int32 → St → Prop} (h : sm_isLawful σ v1 P) (kk : ∀ (r : Int32) (σ' : St), P r σ' → AX Z 0 0 (pc + 3) lv (.int r :: rest) (mW G L σ')) : AX Z 0 0 pc lv (.int v1 :: .ref (L 0) :: rest) (mW G L σ) :=
  ax_callV (N0 := 1) (As := [.int v1]) K (mm_isLawful (sm_isLawful_ok h)) q1395 q1397 qs90 q118 q1398 ⟨rfl, by decide, by decide, by decide⟩ rfl ⟨by show 5 + 1 + 1 ≤ hh + 1; omega, by show 8 + (2 + 11) + 60 * (5 + 1) ≤ 60 * (hh + 1); omega⟩ ⟨Nat.zero_le _, Nat.zero_le _⟩ rfl rfl rfl hrest d (fun r σ' hp => by obtain ⟨v, rfl, hp⟩ := hp; exact kk v σ' hp)
/-! m.joined -/
set_option maxHeartbeats 4000000 in
theorem km_joined_j21 {Z : AZ} {G : AG} {L : Nat → Nat} {P : Int32 → St → Prop} (K : AK Z G cX2_joined RX2 4 (rmH 5)) (E : AEi Z cX2_joined .int (mW G L) 0 0 P) (σ : St) (h : wm_joined_j21 P  σ) : AX Z 0 0 21 [(0, .ref (L 0))] [] (mW G L σ) := by
  unfold wm_joined_j21 at h
  refine ax_bipush (v := (-3 : Int32)) K (by decide) dX2_joined_21 ?_
  exact E _ _ _ _ dX2_joined_23 rfl h
set_option maxHeartbeats 4000000 in
theorem km_joined_j78 {Z : AZ} {G : AG} {L : Nat → Nat} {P : Int32 → St → Prop} (K : AK Z G cX2_joined RX2 4 (rmH 5)) (E : AEi Z cX2_joined .int (mW G L) 0 0 P) (s0 : Int32) (σ : St) (h : wm_joined_j78 P  s0 σ) : AX Z 0 0 78 [(0, .ref (L 0))] [.int s0] (mW G L σ) := by
  unfold wm_joined_j78 at h
  exact E _ _ _ _ dX2_joined_78 rfl h
set_option maxHeartbeats 4000000 in
theorem km_joined_j52 {Z : AZ} {G : AG} {L : Nat → Nat} {P : Int32 → St → Prop} (K : AK Z G cX2_joined RX2 4 (rmH 5)) (E : AEi Z cX2_joined .int (mW G L) 0 0 P) (v3 : Int32) (σ : St) (h : wm_joined_j52 P  v3 σ) : AX Z 0 0 52 [(0, .ref (L 0)), (3, .int v3)] [] (mW G L σ) := by
  unfold wm_joined_j52 at h
  refine ax_aload_n K 0 rfl dX2_joined_52 ?_
  refine ax_iconst (v := (0 : Int32)) K (by decide) dX2_joined_53 ?_
  refine mp_rowMany K dX2_joined_54 ?_
  refine ax_aload_n K 0 rfl dX2_joined_57 ?_
  refine ax_aload_n K 0 rfl dX2_joined_58 ?_
  refine mg_whyNot K dX2_joined_59 ?_
  refine rm_tell K (by decide) dX2_joined_62 (Nat.le_of_ble_eq_true rfl) h (fun σ62 h => ?_)
  refine ax_aload_n K 0 rfl dX2_joined_65 ?_
  refine mg_whyNot K dX2_joined_66 ?_
  refine ax_if_ne (tgt := 77) K dX2_joined_69 (by decide) (fun c69 => ?_) (fun c69 => ?_)
  · have h := ax_ie h c69
    refine ax_iload_n K 1 rfl dX2_joined_77 ?_
    exact ax_sub [0] rfl (km_joined_j78 K E  v3 σ62 h)
  · have h := ax_it h c69
    refine ax_bipush (v := (-2 : Int32)) K (by decide) dX2_joined_72 ?_
    refine ax_goto (tgt := 78) K dX2_joined_74 (by decide) ?_
    exact ax_sub [0] rfl (km_joined_j78 K E  (-2 : Int32) σ62 h)
set_option maxHeartbeats 4000000 in
theorem mm_joined {l : Launch} {G : AG} {L : Nat → Nat} {σ : St} {v1 : Int32} {v2 : Int32} {P : Int32 → St → Prop} (h : wm_joined σ v1 v2 P) : CtW l G yX2_joined cX2_joined 4 (some .int) (rmH 5) [.ref (L 0), .int v1, .int v2] (mW G L) σ (pI P) := by
  refine CtW.ofI (by decide) (Nat.le_of_ble_eq_true rfl) fun Z _ K E => ?_
  unfold wm_joined at h
  show AX Z 0 0 0 [(0, .ref (L 0)), (1, .int v1), (2, .int v2)] [] (mW G L σ)
  refine ax_aload_n K 0 rfl dX2_joined_0 ?_
  refine ax_iconst (v := (0 : Int32)) K (by decide) dX2_joined_1 ?_
  refine mp_thrown K dX2_joined_2 ?_
  refine ax_aload_n K 0 rfl dX2_joined_5 ?_
  refine ax_iload_n K 1 rfl dX2_joined_6 ?_
  refine rm_isWhole K (by decide) dX2_joined_7 (Nat.le_of_ble_eq_true rfl) h (fun r7 σ7 h => ?_)
  refine ax_if_eq (tgt := 21) K dX2_joined_10 (by decide) (fun c10 => ?_) (fun c10 => ?_)
  · have h := ax_it h c10
    exact ax_sub [0] rfl (km_joined_j21 K E  σ7 h)
  · have h := ax_ie h c10
    refine ax_aload_n K 0 rfl dX2_joined_13 ?_
    refine ax_iload_n K 2 rfl dX2_joined_14 ?_
    refine rm_isWhole K (by decide) dX2_joined_15 (Nat.le_of_ble_eq_true rfl) h (fun r15 σ15 h => ?_)
    refine ax_if_ne (tgt := 24) K dX2_joined_18 (by decide) (fun c18 => ?_) (fun c18 => ?_)
    · have h := ax_ie h c18
      refine ax_aload_n K 0 rfl dX2_joined_24 ?_
      refine rm_lookFromNothing K (by decide) dX2_joined_25 (Nat.le_of_ble_eq_true rfl) h (fun σ25 h => ?_)
      refine ax_aload_n K 0 rfl dX2_joined_28 ?_
      refine ax_iload_n K 1 rfl dX2_joined_29 ?_
      refine rm_lookOn K (by decide) dX2_joined_30 (Nat.le_of_ble_eq_true rfl) h (fun r30 σ30 h => ?_)
      refine ax_istore_n (lv' := [(3, .int r30), (0, .ref (L 0)), (1, .int v1), (2, .int v2)]) K dX2_joined_33 (by decide) rfl ?_
      refine ax_iload_n K 0 rfl dX2_joined_34 ?_
      refine ax_aload_n K 1 rfl dX2_joined_35 ?_
      refine mg_menuLong K dX2_joined_36 ?_
      refine ax_iload_n K 2 rfl dX2_joined_39 ?_
      refine ml_menuLong K h.1 dX2_joined_40 ?_
      replace h := h.2
      refine ax_icmp_ne (tgt := 52) K dX2_joined_41 (by decide) (fun c41 => ?_) (fun c41 => ?_)
      · have h := ax_ie h c41
        exact ax_sub [1, 0] rfl (km_joined_j52 K E  r30 σ30 h)
      · have h := ax_it h c41
        refine ax_iload_n K 0 rfl dX2_joined_44 ?_
        refine ax_aload_n K 1 rfl dX2_joined_45 ?_
        refine ax_iload_n K 3 rfl dX2_joined_46 ?_
        refine rm_lookOn K (by decide) dX2_joined_47 (Nat.le_of_ble_eq_true rfl) h (fun r47 σ47 h => ?_)
        refine ax_iadd K dX2_joined_50 ?_
        refine ax_istore_n (lv' := [(3, .int (r30 + r47)), (0, .ref (L 0)), (1, .int v1), (2, .int v2)]) K dX2_joined_51 (by decide) rfl ?_
        exact ax_sub [1, 0] rfl (km_joined_j52 K E  (r30 + r47) σ47 h)
    · have h := ax_it h c18
      exact ax_sub [0] rfl (km_joined_j21 K E  σ15 h)

/-! m.kitchen -/
set_option maxHeartbeats 4000000 in
theorem km_kitchen_j175 {Z : AZ} {G : AG} {L : Nat → Nat} {P : Int32 → St → Prop} (K : AK Z G cX2_kitchen RX2 5 (rmH 5)) (E : AEi Z cX2_kitchen .int (mW G L) 0 0 P) {K48 : Int32 → Int32 → Int32 → Int32 → St → Prop} (hK48 : ∀ (v1 : Int32) (v2 : Int32) (v3 : Int32) (v4 : Int32) (σ : St), K48 v1 v2 v3 v4 σ → AX Z 0 0 48 [(0, .ref (L 0)), (1, .int v1), (2, .int v2), (3, .int v3), (4, .int v4)] [] (mW G L σ)) (v1 : Int32) (v2 : Int32) (v3 : Int32) (σ : St) (h : wm_kitchen_j175 P K48 v1 v2 v3 σ) : AX Z 0 0 175 [(0, .ref (L 0)), (1, .int v1), (2, .int v2), (3, .int v3)] [] (mW G L σ) := by
  unfold wm_kitchen_j175 at h
  refine ax_iinc (lv' := [(3, .int (v3 + (1 : Int32))), (0, .ref (L 0)), (1, .int v1), (2, .int v2)]) (v := (v3 + (1 : Int32))) K 3 dX2_kitchen_175 rfl (by rfl) (by decide) rfl ?_
  refine ax_aload_n K 1 rfl dX2_kitchen_178 ?_
  refine ax_bipush (v := (59 : Int32)) K (by decide) dX2_kitchen_179 ?_
  refine rm_passes K (by decide) dX2_kitchen_181 (Nat.le_of_ble_eq_true rfl) h (fun r181 σ181 h => ?_)
  refine ax_istore (lv' := [(4, .int r181), (3, .int (v3 + (1 : Int32))), (0, .ref (L 0)), (1, .int v1), (2, .int v2)]) K dX2_kitchen_184 (by decide) rfl ?_
  refine ax_goto (tgt := 48) K dX2_kitchen_186 (by decide) ?_
  exact ax_sub [2, 3, 4, 1, 0] rfl (hK48 v1 v2 (v3 + (1 : Int32)) r181 σ181 h)
set_option maxHeartbeats 4000000 in
theorem km_kitchen_j91 {Z : AZ} {G : AG} {L : Nat → Nat} {P : Int32 → St → Prop} (K : AK Z G cX2_kitchen RX2 5 (rmH 5)) (E : AEi Z cX2_kitchen .int (mW G L) 0 0 P) {K48 : Int32 → Int32 → Int32 → Int32 → St → Prop} (hK48 : ∀ (v1 : Int32) (v2 : Int32) (v3 : Int32) (v4 : Int32) (σ : St), K48 v1 v2 v3 v4 σ → AX Z 0 0 48 [(0, .ref (L 0)), (1, .int v1), (2, .int v2), (3, .int v3), (4, .int v4)] [] (mW G L σ)) (v1 : Int32) (v2 : Int32) (v3 : Int32) (σ : St) (h : wm_kitchen_j91 P K48 v1 v2 v3 σ) : AX Z 0 0 91 [(0, .ref (L 0)), (1, .int v1), (2, .int v2), (3, .int v3)] [] (mW G L σ) := by
  unfold wm_kitchen_j91 at h
  refine ax_iinc (lv' := [(2, .int (v2 + (1 : Int32))), (0, .ref (L 0)), (1, .int v1), (3, .int v3)]) (v := (v2 + (1 : Int32))) K 2 dX2_kitchen_91 rfl (by rfl) (by decide) rfl ?_
  refine ax_goto (tgt := 175) K dX2_kitchen_94 (by decide) ?_
  exact ax_sub [1, 2, 0, 3] rfl (km_kitchen_j175 K E hK48 v1 (v2 + (1 : Int32)) v3 σ h)
set_option maxHeartbeats 4000000 in
theorem km_kitchen_j171 {Z : AZ} {G : AG} {L : Nat → Nat} {P : Int32 → St → Prop} (K : AK Z G cX2_kitchen RX2 5 (rmH 5)) (E : AEi Z cX2_kitchen .int (mW G L) 0 0 P) {K48 : Int32 → Int32 → Int32 → Int32 → St → Prop} (hK48 : ∀ (v1 : Int32) (v2 : Int32) (v3 : Int32) (v4 : Int32) (σ : St), K48 v1 v2 v3 v4 σ → AX Z 0 0 48 [(0, .ref (L 0)), (1, .int v1), (2, .int v2), (3, .int v3), (4, .int v4)] [] (mW G L σ)) (v1 : Int32) (v2 : Int32) (v3 : Int32) (s1 : Int32) (s2 : Int32) (σ : St) (h : wm_kitchen_j171 P K48 v1 v2 v3 s1 s2 σ) : AX Z 0 0 171 [(0, .ref (L 0)), (1, .int v1), (2, .int v2), (3, .int v3)] [.int s2, .int s1, .ref (L 5)] (mW G L σ) := by
  unfold wm_kitchen_j171 at h
  refine ms_hours K h.1 dX2_kitchen_171 ?_
  replace h := h.2
  refine ax_iinc (lv' := [(1, .int (v1 + (1 : Int32))), (0, .ref (L 0)), (2, .int v2), (3, .int v3)]) (v := (v1 + (1 : Int32))) K 1 dX2_kitchen_172 rfl (by rfl) (by decide) rfl ?_
  exact ax_sub [1, 0, 2, 3] rfl (km_kitchen_j175 K E hK48 (v1 + (1 : Int32)) v2 v3 (mU_hours σ s1 s2) h)
set_option maxHeartbeats 4000000 in
theorem km_kitchen_l48 {Z : AZ} {G : AG} {L : Nat → Nat} {P : Int32 → St → Prop} (K : AK Z G cX2_kitchen RX2 5 (rmH 5)) (E : AEi Z cX2_kitchen .int (mW G L) 0 0 P) {K189 : Int32 → Int32 → Int32 → St → Prop} (hK189 : ∀ (v1 : Int32) (v2 : Int32) (v3 : Int32) (σ : St), K189 v1 v2 v3 σ → AX Z 0 0 189 [(0, .ref (L 0)), (1, .int v1), (2, .int v2), (3, .int v3)] [] (mW G L σ)) : ∀ (n : Nat) (v1 : Int32) (v2 : Int32) (v3 : Int32) (v4 : Int32) (σ : St), wm_kitchen_l48 P K189 n v1 v2 v3 v4 σ → AX Z 0 0 48 [(0, .ref (L 0)), (1, .int v1), (2, .int v2), (3, .int v3), (4, .int v4)] [] (mW G L σ) := by
  intro n
  induction n with
  | zero => intro v1 v2 v3 v4 σ h; exact False.elim h
  | succ n ih =>
    intro v1 v2 v3 v4 σ h
    rw [wm_kitchen_l48_s] at h
    refine ax_iload K 4 rfl dX2_kitchen_48 ?_
    refine ax_if_eq (tgt := 189) K dX2_kitchen_50 (by decide) (fun c50 => ?_) (fun c50 => ?_)
    · have h := ax_it h c50
      exact ax_sub [0, 1, 2, 3] rfl (hK189 v1 v2 v3 σ h)
    · have h := ax_ie h c50
      refine ax_aload_n K 0 rfl dX2_kitchen_53 ?_
      refine rm_fine K (by decide) dX2_kitchen_54 (Nat.le_of_ble_eq_true rfl) h (fun r54 σ54 h => ?_)
      refine ax_if_eq (tgt := 189) K dX2_kitchen_57 (by decide) (fun c57 => ?_) (fun c57 => ?_)
      · have h := ax_it h c57
        exact ax_sub [0, 1, 2, 3] rfl (hK189 v1 v2 v3 σ54 h)
      · have h := ax_ie h c57
        refine ax_aload_n K 0 rfl dX2_kitchen_60 ?_
        refine rm_here K (by decide) dX2_kitchen_61 (Nat.le_of_ble_eq_true rfl) h (fun r61 σ61 h => ?_)
        refine ax_bipush (v := (71 : Int32)) K (by decide) dX2_kitchen_64 ?_
        refine ax_icmp_ne (tgt := 97) K dX2_kitchen_66 (by decide) (fun c66 => ?_) (fun c66 => ?_)
        · have h := ax_ie h c66
          refine ax_iload_n K 1 rfl dX2_kitchen_97 ?_
          refine ax_bipush (v := (10 : Int32)) K (by decide) dX2_kitchen_98 ?_
          refine ax_icmp_ne (tgt := 114) K dX2_kitchen_100 (by decide) (fun c100 => ?_) (fun c100 => ?_)
          · have h := ax_ie h c100
            refine ax_aload_n K 0 rfl dX2_kitchen_114 ?_
            refine mg_stuffs K dX2_kitchen_115 ?_
            refine ax_iload_n K 1 rfl dX2_kitchen_118 ?_
            refine ax_aload_n K 0 rfl dX2_kitchen_119 ?_
            refine ax_iconst (v := (1 : Int32)) K (by decide) dX2_kitchen_120 ?_
            refine rm_letters K (by decide) dX2_kitchen_121 (Nat.le_of_ble_eq_true rfl) h (fun r121 σ121 h => ?_)
            refine ms_stuffs K h.1 dX2_kitchen_124 ?_
            replace h := h.2
            refine ax_aload_n K 0 rfl dX2_kitchen_125 ?_
            refine mg_cost K dX2_kitchen_126 ?_
            refine ax_iload_n K 1 rfl dX2_kitchen_129 ?_
            refine ax_aload_n K 0 rfl dX2_kitchen_130 ?_
            refine ax_iconst (v := (2 : Int32)) K (by decide) dX2_kitchen_131 ?_
            refine rm_number K (by decide) dX2_kitchen_132 (Nat.le_of_ble_eq_true rfl) h (fun r132 σ132 h => ?_)
            refine ms_cost K h.1 dX2_kitchen_135 ?_
            replace h := h.2
            refine ax_aload_n K 0 rfl dX2_kitchen_136 ?_
            refine mg_isHot K dX2_kitchen_137 ?_
            refine ax_iload_n K 1 rfl dX2_kitchen_140 ?_
            refine ax_aload_n K 0 rfl dX2_kitchen_141 ?_
            refine ax_bipush (v := (72 : Int32)) K (by decide) dX2_kitchen_142 ?_
            refine rm_passes K (by decide) dX2_kitchen_144 (Nat.le_of_ble_eq_true rfl) h (fun r144 σ144 h => ?_)
            refine ms_isHot K h.1 dX2_kitchen_147 ?_
            replace h := h.2
            refine ax_aload_n K 0 rfl dX2_kitchen_148 ?_
            refine mg_hours K dX2_kitchen_149 ?_
            refine ax_iload_n K 1 rfl dX2_kitchen_152 ?_
            refine ax_aload_n K 0 rfl dX2_kitchen_153 ?_
            refine ax_bipush (v := (43 : Int32)) K (by decide) dX2_kitchen_154 ?_
            refine rm_passes K (by decide) dX2_kitchen_156 (Nat.le_of_ble_eq_true rfl) h (fun r156 σ156 h => ?_)
            refine ax_if_eq (tgt := 170) K dX2_kitchen_159 (by decide) (fun c159 => ?_) (fun c159 => ?_)
            · have h := ax_it h c159
              refine ax_iconst (v := (0 : Int32)) K (by decide) dX2_kitchen_170 ?_
              exact ax_sub [0, 1, 2, 3] rfl (km_kitchen_j171 K E ih v1 v2 v3 v1 (0 : Int32) σ156 h)
            · have h := ax_ie h c159
              refine ax_aload_n K 0 rfl dX2_kitchen_162 ?_
              refine ax_iconst (v := (1 : Int32)) K (by decide) dX2_kitchen_163 ?_
              refine rm_number K (by decide) dX2_kitchen_164 (Nat.le_of_ble_eq_true rfl) h (fun r164 σ164 h => ?_)
              refine ax_goto (tgt := 171) K dX2_kitchen_167 (by decide) ?_
              exact ax_sub [0, 1, 2, 3] rfl (km_kitchen_j171 K E ih v1 v2 v3 v1 r164 σ164 h)
          · have h := ax_it h c100
            refine ax_aload_n K 0 rfl dX2_kitchen_103 ?_
            refine ax_aload_n K 0 rfl dX2_kitchen_104 ?_
            refine mg_at K dX2_kitchen_105 ?_
            refine rm_fault K (by decide) dX2_kitchen_108 (Nat.le_of_ble_eq_true rfl) h (fun σ108 h => ?_)
            refine ax_goto (tgt := 175) K dX2_kitchen_111 (by decide) ?_
            exact ax_sub [0, 1, 2, 3] rfl (km_kitchen_j175 K E ih v1 v2 v3 σ108 h)
        · have h := ax_it h c66
          refine ax_iload_n K 2 rfl dX2_kitchen_69 ?_
          refine ax_bipush (v := (6 : Int32)) K (by decide) dX2_kitchen_70 ?_
          refine ax_icmp_ne (tgt := 86) K dX2_kitchen_72 (by decide) (fun c72 => ?_) (fun c72 => ?_)
          · have h := ax_ie h c72
            refine ax_aload_n K 0 rfl dX2_kitchen_86 ?_
            refine ax_iload_n K 2 rfl dX2_kitchen_87 ?_
            refine rm_readGuest K (by decide) dX2_kitchen_88 (Nat.le_of_ble_eq_true rfl) h (fun σ88 h => ?_)
            exact ax_sub [0, 1, 2, 3] rfl (km_kitchen_j91 K E ih v1 v2 v3 σ88 h)
          · have h := ax_it h c72
            refine ax_aload_n K 0 rfl dX2_kitchen_75 ?_
            refine ax_aload_n K 0 rfl dX2_kitchen_76 ?_
            refine mg_at K dX2_kitchen_77 ?_
            refine rm_fault K (by decide) dX2_kitchen_80 (Nat.le_of_ble_eq_true rfl) h (fun σ80 h => ?_)
            refine ax_goto (tgt := 91) K dX2_kitchen_83 (by decide) ?_
            exact ax_sub [0, 1, 2, 3] rfl (km_kitchen_j91 K E ih v1 v2 v3 σ80 h)
set_option maxHeartbeats 4000000 in
theorem km_kitchen_j240 {Z : AZ} {G : AG} {L : Nat → Nat} {P : Int32 → St → Prop} (K : AK Z G cX2_kitchen RX2 5 (rmH 5)) (E : AEi Z cX2_kitchen .int (mW G L) 0 0 P) (v1 : Int32) (v2 : Int32) (v3 : Int32) (σ : St) (h : wm_kitchen_j240 P  v1 v2 v3 σ) : AX Z 0 0 240 [(0, .ref (L 0)), (1, .int v1), (2, .int v2), (3, .int v3)] [] (mW G L σ) := by
  unfold wm_kitchen_j240 at h
  refine ax_aload_n K 0 rfl dX2_kitchen_240 ?_
  refine ax_iload_n K 1 rfl dX2_kitchen_241 ?_
  refine mp_dishes K dX2_kitchen_242 ?_
  refine ax_aload_n K 0 rfl dX2_kitchen_245 ?_
  refine ax_iload_n K 2 rfl dX2_kitchen_246 ?_
  refine mp_guests K dX2_kitchen_247 ?_
  refine ax_iload_n K 3 rfl dX2_kitchen_250 ?_
  exact E _ _ _ _ dX2_kitchen_251 rfl h
set_option maxHeartbeats 4000000 in
theorem km_kitchen_j208 {Z : AZ} {G : AG} {L : Nat → Nat} {P : Int32 → St → Prop} (K : AK Z G cX2_kitchen RX2 5 (rmH 5)) (E : AEi Z cX2_kitchen .int (mW G L) 0 0 P) (v1 : Int32) (v2 : Int32) (v3 : Int32) (σ : St) (h : wm_kitchen_j208 P  v1 v2 v3 σ) : AX Z 0 0 208 [(0, .ref (L 0)), (1, .int v1), (2, .int v2), (3, .int v3)] [] (mW G L σ) := by
  unfold wm_kitchen_j208 at h
  refine ax_aload_n K 0 rfl dX2_kitchen_208 ?_
  refine rm_fine K (by decide) dX2_kitchen_209 (Nat.le_of_ble_eq_true rfl) h (fun r209 σ209 h => ?_)
  refine ax_if_ne (tgt := 222) K dX2_kitchen_212 (by decide) (fun c212 => ?_) (fun c212 => ?_)
  · have h := ax_ie h c212
    refine ax_iload_n K 1 rfl dX2_kitchen_222 ?_
    refine ax_aload_n K 0 rfl dX2_kitchen_223 ?_
    refine mg_dishes K dX2_kitchen_224 ?_
    refine ax_icmp_le (tgt := 240) K dX2_kitchen_227 (by decide) (fun c227 => ?_) (fun c227 => ?_)
    · have h := ax_it h c227
      exact ax_sub [0, 1, 2, 3] rfl (km_kitchen_j240 K E  v1 v2 v3 σ209 h)
    · have h := ax_ie h c227
      refine ax_aload_n K 0 rfl dX2_kitchen_230 ?_
      refine ax_dup K rfl dX2_kitchen_231 ?_
      refine mg_came K dX2_kitchen_232 ?_
      refine ax_iconst (v := (1 : Int32)) K (by decide) dX2_kitchen_235 ?_
      refine ax_iadd K dX2_kitchen_236 ?_
      refine mp_came K dX2_kitchen_237 ?_
      exact ax_sub [0, 1, 2, 3] rfl (km_kitchen_j240 K E  v1 v2 v3 (mS_came σ209 ((mI_came σ209) + (1 : Int32))) h)
  · have h := ax_it h c212
    refine ax_iconst (v := (-1 : Int32)) K (by decide) dX2_kitchen_215 ?_
    refine ax_aload_n K 0 rfl dX2_kitchen_216 ?_
    refine mg_wrong K dX2_kitchen_217 ?_
    refine ax_isub K dX2_kitchen_220 ?_
    exact E _ _ _ _ dX2_kitchen_221 rfl h
set_option maxHeartbeats 4000000 in
theorem km_kitchen_j189 {Z : AZ} {G : AG} {L : Nat → Nat} {P : Int32 → St → Prop} (K : AK Z G cX2_kitchen RX2 5 (rmH 5)) (E : AEi Z cX2_kitchen .int (mW G L) 0 0 P) (v1 : Int32) (v2 : Int32) (v3 : Int32) (σ : St) (h : wm_kitchen_j189 P  v1 v2 v3 σ) : AX Z 0 0 189 [(0, .ref (L 0)), (1, .int v1), (2, .int v2), (3, .int v3)] [] (mW G L σ) := by
  unfold wm_kitchen_j189 at h
  refine ax_aload_n K 0 rfl dX2_kitchen_189 ?_
  refine mg_at K dX2_kitchen_190 ?_
  refine ax_aload_n K 0 rfl dX2_kitchen_193 ?_
  refine mg_size K dX2_kitchen_194 ?_
  refine ax_icmp_ge (tgt := 208) K dX2_kitchen_197 (by decide) (fun c197 => ?_) (fun c197 => ?_)
  · have h := ax_it h c197
    exact ax_sub [0, 1, 2, 3] rfl (km_kitchen_j208 K E  v1 v2 v3 σ h)
  · have h := ax_ie h c197
    refine ax_aload_n K 0 rfl dX2_kitchen_200 ?_
    refine ax_aload_n K 0 rfl dX2_kitchen_201 ?_
    refine mg_at K dX2_kitchen_202 ?_
    refine rm_fault K (by decide) dX2_kitchen_205 (Nat.le_of_ble_eq_true rfl) h (fun σ205 h => ?_)
    exact ax_sub [0, 1, 2, 3] rfl (km_kitchen_j208 K E  v1 v2 v3 σ205 h)
set_option maxHeartbeats 4000000 in
theorem mm_kitchen {l : Launch} {G : AG} {L : Nat → Nat} {σ : St} {P : Int32 → St → Prop} (h : wm_kitchen σ P) : CtW l G yX2_kitchen cX2_kitchen 5 (some .int) (rmH 5) [.ref (L 0)] (mW G L) σ (pI P) := by
  refine CtW.ofI (by decide) (Nat.le_of_ble_eq_true rfl) fun Z _ K E => ?_
  unfold wm_kitchen at h
  show AX Z 0 0 0 [(0, .ref (L 0))] [] (mW G L σ)
  refine ax_aload_n K 0 rfl dX2_kitchen_0 ?_
  refine ax_iconst (v := (0 : Int32)) K (by decide) dX2_kitchen_1 ?_
  refine mp_thrown K dX2_kitchen_2 ?_
  refine ax_aload_n K 0 rfl dX2_kitchen_5 ?_
  refine ax_aload_n K 0 rfl dX2_kitchen_6 ?_
  refine mg_text K dX2_kitchen_7 ?_
  refine ax_aload_n K 0 rfl dX2_kitchen_10 ?_
  refine mg_typed K dX2_kitchen_11 ?_
  refine ax_bipush (v := (76 : Int32)) K (by decide) dX2_kitchen_14 ?_
  refine rm_begin_text K (by decide) dX2_kitchen_16 (Nat.le_of_ble_eq_true rfl) h (fun σ16 h => ?_)
  refine ax_aload_n K 0 rfl dX2_kitchen_19 ?_
  refine ax_iconst (v := (0 : Int32)) K (by decide) dX2_kitchen_20 ?_
  refine mp_typed K dX2_kitchen_21 ?_
  refine ax_aload_n K 0 rfl dX2_kitchen_24 ?_
  refine mg_size K dX2_kitchen_25 ?_
  refine ax_if_ne (tgt := 33) K dX2_kitchen_28 (by decide) (fun c28 => ?_) (fun c28 => ?_)
  · have h := ax_ie h c28
    refine ax_aload_n K 0 rfl dX2_kitchen_33 ?_
    refine mg_dishes K dX2_kitchen_34 ?_
    refine ax_istore_n (lv' := [(1, .int (mI_dishes (mS_typed σ16 (0 : Int32)))), (0, .ref (L 0))]) K dX2_kitchen_37 (by decide) rfl ?_
    refine ax_aload_n K 1 rfl dX2_kitchen_38 ?_
    refine mg_guests K dX2_kitchen_39 ?_
    refine ax_istore_n (lv' := [(2, .int (mI_guests (mS_typed σ16 (0 : Int32)))), (1, .int (mI_dishes (mS_typed σ16 (0 : Int32)))), (0, .ref (L 0))]) K dX2_kitchen_42 (by decide) rfl ?_
    refine ax_iconst (v := (0 : Int32)) K (by decide) dX2_kitchen_43 ?_
    refine ax_istore_n (lv' := [(3, .int (0 : Int32)), (2, .int (mI_guests (mS_typed σ16 (0 : Int32)))), (1, .int (mI_dishes (mS_typed σ16 (0 : Int32)))), (0, .ref (L 0))]) K dX2_kitchen_44 (by decide) rfl ?_
    refine ax_iconst (v := (1 : Int32)) K (by decide) dX2_kitchen_45 ?_
    refine ax_istore (lv' := [(4, .int (1 : Int32)), (3, .int (0 : Int32)), (2, .int (mI_guests (mS_typed σ16 (0 : Int32)))), (1, .int (mI_dishes (mS_typed σ16 (0 : Int32)))), (0, .ref (L 0))]) K dX2_kitchen_46 (by decide) rfl ?_
    exact ax_sub [4, 3, 2, 1, 0] rfl (h.elim fun n48 h => km_kitchen_l48 K E (km_kitchen_j189 K E) n48 (mI_dishes (mS_typed σ16 (0 : Int32))) (mI_guests (mS_typed σ16 (0 : Int32))) (0 : Int32) (1 : Int32) (mS_typed σ16 (0 : Int32)) h)
  · have h := ax_it h c28
    refine ax_iconst (v := (0 : Int32)) K (by decide) dX2_kitchen_31 ?_
    exact E _ _ _ _ dX2_kitchen_32 rfl h

/-! m.look -/
set_option maxHeartbeats 4000000 in
theorem km_look_j71 {Z : AZ} {G : AG} {L : Nat → Nat} {P : Int32 → St → Prop} (K : AK Z G cX2_look RX2 3 (rmH 5)) (E : AEi Z cX2_look .int (mW G L) 0 0 P) (s0 : Int32) (σ : St) (h : wm_look_j71 P  s0 σ) : AX Z 0 0 71 [(0, .ref (L 0))] [.int s0] (mW G L σ) := by
  unfold wm_look_j71 at h
  exact E _ _ _ _ dX2_look_71 rfl h
set_option maxHeartbeats 4000000 in
theorem mm_look {l : Launch} {G : AG} {L : Nat → Nat} {σ : St} {v1 : Int32} {P : Int32 → St → Prop} (h : wm_look σ v1 P) : CtW l G yX2_look cX2_look 3 (some .int) (rmH 5) [.ref (L 0), .int v1] (mW G L) σ (pI P) := by
  refine CtW.ofI (by decide) (Nat.le_of_ble_eq_true rfl) fun Z _ K E => ?_
  unfold wm_look at h
  show AX Z 0 0 0 [(0, .ref (L 0)), (1, .int v1)] [] (mW G L σ)
  refine ax_aload_n K 0 rfl dX2_look_0 ?_
  refine ax_iconst (v := (0 : Int32)) K (by decide) dX2_look_1 ?_
  refine mp_thrown K dX2_look_2 ?_
  refine ax_aload_n K 0 rfl dX2_look_5 ?_
  refine ax_iload_n K 1 rfl dX2_look_6 ?_
  refine rm_isMenu K (by decide) dX2_look_7 (Nat.le_of_ble_eq_true rfl) h (fun r7 σ7 h => ?_)
  refine ax_if_ne (tgt := 16) K dX2_look_10 (by decide) (fun c10 => ?_) (fun c10 => ?_)
  · have h := ax_ie h c10
    refine ax_aload_n K 0 rfl dX2_look_16 ?_
    refine rm_lookFromNothing K (by decide) dX2_look_17 (Nat.le_of_ble_eq_true rfl) h (fun σ17 h => ?_)
    refine ax_aload_n K 0 rfl dX2_look_20 ?_
    refine ax_iload_n K 1 rfl dX2_look_21 ?_
    refine rm_lookOn K (by decide) dX2_look_22 (Nat.le_of_ble_eq_true rfl) h (fun r22 σ22 h => ?_)
    refine ax_istore_n (lv' := [(2, .int r22), (0, .ref (L 0)), (1, .int v1)]) K dX2_look_25 (by decide) rfl ?_
    refine ax_aload_n K 1 rfl dX2_look_26 ?_
    refine ax_iconst (v := (0 : Int32)) K (by decide) dX2_look_27 ?_
    refine mp_rowMany K dX2_look_28 ?_
    refine ax_aload_n K 1 rfl dX2_look_31 ?_
    refine ax_aload_n K 1 rfl dX2_look_32 ?_
    refine mg_whyNot K dX2_look_33 ?_
    refine rm_tell K (by decide) dX2_look_36 (Nat.le_of_ble_eq_true rfl) h (fun σ36 h => ?_)
    refine ax_aload_n K 1 rfl dX2_look_39 ?_
    refine ax_aload_n K 1 rfl dX2_look_40 ?_
    refine mg_costTill K dX2_look_41 ?_
    refine rm_tell K (by decide) dX2_look_44 (Nat.le_of_ble_eq_true rfl) h (fun σ44 h => ?_)
    refine ax_aload_n K 1 rfl dX2_look_47 ?_
    refine ax_aload_n K 1 rfl dX2_look_48 ?_
    refine mg_hungryTill K dX2_look_49 ?_
    refine rm_tell K (by decide) dX2_look_52 (Nat.le_of_ble_eq_true rfl) h (fun σ52 h => ?_)
    refine ax_iload_n K 0 rfl dX2_look_55 ?_
    refine ax_aload_n K 1 rfl dX2_look_56 ?_
    refine mg_menuLong K dX2_look_57 ?_
    refine ax_iload_n K 2 rfl dX2_look_60 ?_
    refine ml_menuLong K h.1 dX2_look_61 ?_
    replace h := h.2
    refine ax_icmp_ne (tgt := 70) K dX2_look_62 (by decide) (fun c62 => ?_) (fun c62 => ?_)
    · have h := ax_ie h c62
      refine ax_iload_n K 0 rfl dX2_look_70 ?_
      exact ax_sub [1] rfl (km_look_j71 K E  r22 σ52 h)
    · have h := ax_it h c62
      refine ax_bipush (v := (-2 : Int32)) K (by decide) dX2_look_65 ?_
      refine ax_goto (tgt := 71) K dX2_look_67 (by decide) ?_
      exact ax_sub [1] rfl (km_look_j71 K E  (-2 : Int32) σ52 h)
  · have h := ax_it h c10
    refine ax_bipush (v := (-3 : Int32)) K (by decide) dX2_look_13 ?_
    exact E _ _ _ _ dX2_look_15 rfl h

/-! m.tellMended -/
set_option maxHeartbeats 4000000 in
theorem km_tellMended_j80 {Z : AZ} {G : AG} {L : Nat → Nat} {P : St → Prop} (K : AK Z G cX2_tellMended RX2 6 (rmH 5)) (E : AEv Z cX2_tellMended (mW G L) 0 0 P) {K21 : Int32 → Int32 → Int32 → Int32 → Int32 → St → Prop} (hK21 : ∀ (v1 : Int32) (v2 : Int32) (v3 : Int32) (v4 : Int32) (v5 : Int32) (σ : St), K21 v1 v2 v3 v4 v5 σ → AX Z 0 0 21 [(0, .ref (L 0)), (1, .int v1), (2, .int v2), (3, .int v3), (4, .int v4), (5, .int v5)] [] (mW G L σ)) (v1 : Int32) (v2 : Int32) (v3 : Int32) (v4 : Int32) (v5 : Int32) (σ : St) (h : wm_tellMended_j80 P K21 v1 v2 v3 v4 v5 σ) : AX Z 0 0 80 [(0, .ref (L 0)), (1, .int v1), (2, .int v2), (3, .int v3), (4, .int v4), (5, .int v5)] [] (mW G L σ) := by
  unfold wm_tellMended_j80 at h
  refine ax_iinc (lv' := [(5, .int (v5 + (1 : Int32))), (0, .ref (L 0)), (1, .int v1), (2, .int v2), (3, .int v3), (4, .int v4)]) (v := (v5 + (1 : Int32))) K 5 dX2_tellMended_80 rfl (by rfl) (by decide) rfl ?_
  refine ax_goto (tgt := 21) K dX2_tellMended_83 (by decide) ?_
  exact ax_sub [1, 2, 3, 4, 5, 0] rfl (hK21 v1 v2 v3 v4 (v5 + (1 : Int32)) σ h)
set_option maxHeartbeats 4000000 in
theorem km_tellMended_j65 {Z : AZ} {G : AG} {L : Nat → Nat} {P : St → Prop} (K : AK Z G cX2_tellMended RX2 6 (rmH 5)) (E : AEv Z cX2_tellMended (mW G L) 0 0 P) {K10 : Int32 → Int32 → Int32 → Int32 → St → Prop} (hK10 : ∀ (v1 : Int32) (v2 : Int32) (v3 : Int32) (v4 : Int32) (σ : St), K10 v1 v2 v3 v4 σ → AX Z 0 0 10 [(0, .ref (L 0)), (1, .int v1), (2, .int v2), (3, .int v3), (4, .int v4)] [] (mW G L σ)) {K21 : Int32 → Int32 → Int32 → Int32 → Int32 → St → Prop} (hK21 : ∀ (v1 : Int32) (v2 : Int32) (v3 : Int32) (v4 : Int32) (v5 : Int32) (σ : St), K21 v1 v2 v3 v4 v5 σ → AX Z 0 0 21 [(0, .ref (L 0)), (1, .int v1), (2, .int v2), (3, .int v3), (4, .int v4), (5, .int v5)] [] (mW G L σ)) (v1 : Int32) (v2 : Int32) (v3 : Int32) (v4 : Int32) (v5 : Int32) (s0 : Int32) (s1 : Int32) (σ : St) (h : wm_tellMended_j65 P K10 K21 v1 v2 v3 v4 v5 s0 s1 σ) : AX Z 0 0 65 [(0, .ref (L 0)), (1, .int v1), (2, .int v2), (3, .int v3), (4, .int v4), (5, .int v5)] [.int s1, .int s0] (mW G L σ) := by
  unfold wm_tellMended_j65 at h
  refine ax_iadd K dX2_tellMended_65 ?_
  refine ax_aload_n K 0 rfl dX2_tellMended_66 ?_
  refine mg_changesFrom K dX2_tellMended_67 ?_
  refine ax_iload_n K 3 rfl dX2_tellMended_70 ?_
  refine ax_iload K 4 rfl dX2_tellMended_71 ?_
  refine rm_place K (by decide) dX2_tellMended_73 (Nat.le_of_ble_eq_true rfl) h (fun r73 h => ?_)
  refine ml_changesFrom K h.1 dX2_tellMended_76 ?_
  replace h := h.2
  refine ax_icmp_eq (tgt := 86) K dX2_tellMended_77 (by decide) (fun c77 => ?_) (fun c77 => ?_)
  · have h := ax_it h c77
    refine ax_aload_n K 0 rfl dX2_tellMended_86 ?_
    refine ax_iload K 5 rfl dX2_tellMended_87 ?_
    refine rm_tell K (by decide) dX2_tellMended_89 (Nat.le_of_ble_eq_true rfl) h (fun σ89 h => ?_)
    refine ax_iload_n K 3 rfl dX2_tellMended_92 ?_
    refine ax_iconst (v := (1 : Int32)) K (by decide) dX2_tellMended_93 ?_
    refine ax_iload K 5 rfl dX2_tellMended_94 ?_
    refine ax_ishl K dX2_tellMended_96 ?_
    refine ax_ior K dX2_tellMended_97 ?_
    refine ax_istore_n (lv' := [(3, .int (v3 ||| ((1 : Int32) <<< (v5 &&& 31)))), (0, .ref (L 0)), (1, .int v1), (2, .int v2), (4, .int v4), (5, .int v5)]) K dX2_tellMended_98 (by decide) rfl ?_
    refine ax_iload K 5 rfl dX2_tellMended_99 ?_
    refine ax_istore (lv' := [(4, .int v5), (3, .int (v3 ||| ((1 : Int32) <<< (v5 &&& 31)))), (0, .ref (L 0)), (1, .int v1), (2, .int v2), (5, .int v5)]) K dX2_tellMended_101 (by decide) rfl ?_
    refine ax_goto (tgt := 10) K dX2_tellMended_103 (by decide) ?_
    exact ax_sub [2, 3, 4, 1, 0] rfl (hK10 v1 v2 (v3 ||| ((1 : Int32) <<< (v5 &&& 31))) v5 σ89 h)
  · have h := ax_ie h c77
    exact ax_sub [0, 1, 2, 3, 4, 5] rfl (km_tellMended_j80 K E hK21 v1 v2 v3 v4 v5 σ h)
set_option maxHeartbeats 4000000 in
theorem km_tellMended_l21 {Z : AZ} {G : AG} {L : Nat → Nat} {P : St → Prop} (K : AK Z G cX2_tellMended RX2 6 (rmH 5)) (E : AEv Z cX2_tellMended (mW G L) 0 0 P) {K10 : Int32 → Int32 → Int32 → Int32 → St → Prop} (hK10 : ∀ (v1 : Int32) (v2 : Int32) (v3 : Int32) (v4 : Int32) (σ : St), K10 v1 v2 v3 v4 σ → AX Z 0 0 10 [(0, .ref (L 0)), (1, .int v1), (2, .int v2), (3, .int v3), (4, .int v4)] [] (mW G L σ)) : ∀ (n : Nat) (v1 : Int32) (v2 : Int32) (v3 : Int32) (v4 : Int32) (v5 : Int32) (σ : St), wm_tellMended_l21 P K10 n v1 v2 v3 v4 v5 σ → AX Z 0 0 21 [(0, .ref (L 0)), (1, .int v1), (2, .int v2), (3, .int v3), (4, .int v4), (5, .int v5)] [] (mW G L σ) := by
  intro n
  induction n with
  | zero => intro v1 v2 v3 v4 v5 σ h; exact False.elim h
  | succ n ih =>
    intro v1 v2 v3 v4 v5 σ h
    rw [wm_tellMended_l21_s] at h
    refine ax_aload_n K 0 rfl dX2_tellMended_21 ?_
    refine ax_iload_n K 3 rfl dX2_tellMended_22 ?_
    refine ax_iload K 4 rfl dX2_tellMended_23 ?_
    refine ax_iload K 5 rfl dX2_tellMended_25 ?_
    refine rm_may K (by decide) dX2_tellMended_27 (Nat.le_of_ble_eq_true rfl) h (fun r27 σ27 h => ?_)
    refine ax_if_eq (tgt := 80) K dX2_tellMended_30 (by decide) (fun c30 => ?_) (fun c30 => ?_)
    · have h := ax_it h c30
      exact ax_sub [0, 1, 2, 3, 4, 5] rfl (km_tellMended_j80 K E ih v1 v2 v3 v4 v5 σ27 h)
    · have h := ax_ie h c30
      refine ax_aload_n K 0 rfl dX2_tellMended_33 ?_
      refine mg_changesFrom K dX2_tellMended_34 ?_
      refine ax_iload_n K 3 rfl dX2_tellMended_37 ?_
      refine ax_iconst (v := (1 : Int32)) K (by decide) dX2_tellMended_38 ?_
      refine ax_iload K 5 rfl dX2_tellMended_39 ?_
      refine ax_ishl K dX2_tellMended_41 ?_
      refine ax_ior K dX2_tellMended_42 ?_
      refine ax_iload K 5 rfl dX2_tellMended_43 ?_
      refine rm_place K (by decide) dX2_tellMended_45 (Nat.le_of_ble_eq_true rfl) h (fun r45 h => ?_)
      refine ml_changesFrom K h.1 dX2_tellMended_48 ?_
      replace h := h.2
      refine ax_iload K 5 rfl dX2_tellMended_49 ?_
      refine ax_aload_n K 0 rfl dX2_tellMended_51 ?_
      refine ax_iload_n K 1 rfl dX2_tellMended_52 ?_
      refine ax_iload_n K 3 rfl dX2_tellMended_53 ?_
      refine rm_menuAt K (by decide) dX2_tellMended_54 (Nat.le_of_ble_eq_true rfl) h (fun r54 σ54 h => ?_)
      refine ax_icmp_ne (tgt := 64) K dX2_tellMended_57 (by decide) (fun c57 => ?_) (fun c57 => ?_)
      · have h := ax_ie h c57
        refine ax_iconst (v := (1 : Int32)) K (by decide) dX2_tellMended_64 ?_
        exact ax_sub [0, 1, 2, 3, 4, 5] rfl (km_tellMended_j65 K E hK10 ih v1 v2 v3 v4 v5 (mA_changesFrom σ27 (r45).toNatClampNeg) (1 : Int32) σ54 h)
      · have h := ax_it h c57
        refine ax_iconst (v := (0 : Int32)) K (by decide) dX2_tellMended_60 ?_
        refine ax_goto (tgt := 65) K dX2_tellMended_61 (by decide) ?_
        exact ax_sub [0, 1, 2, 3, 4, 5] rfl (km_tellMended_j65 K E hK10 ih v1 v2 v3 v4 v5 (mA_changesFrom σ27 (r45).toNatClampNeg) (0 : Int32) σ54 h)
set_option maxHeartbeats 4000000 in
theorem km_tellMended_l10 {Z : AZ} {G : AG} {L : Nat → Nat} {P : St → Prop} (K : AK Z G cX2_tellMended RX2 6 (rmH 5)) (E : AEv Z cX2_tellMended (mW G L) 0 0 P) : ∀ (n : Nat) (v1 : Int32) (v2 : Int32) (v3 : Int32) (v4 : Int32) (σ : St), wm_tellMended_l10 P  n v1 v2 v3 v4 σ → AX Z 0 0 10 [(0, .ref (L 0)), (1, .int v1), (2, .int v2), (3, .int v3), (4, .int v4)] [] (mW G L σ) := by
  intro n
  induction n with
  | zero => intro v1 v2 v3 v4 σ h; exact False.elim h
  | succ n ih =>
    intro v1 v2 v3 v4 σ h
    rw [wm_tellMended_l10_s] at h
    refine ax_iload_n K 3 rfl dX2_tellMended_10 ?_
    refine rm_bitCount K (by decide) dX2_tellMended_11 (Nat.le_of_ble_eq_true rfl) ?_
    refine ax_iload_n K 2 rfl dX2_tellMended_14 ?_
    refine ax_icmp_ge (tgt := 106) K dX2_tellMended_15 (by decide) (fun c15 => ?_) (fun c15 => ?_)
    · have h := ax_it h c15
      exact E _ _ _ dX2_tellMended_106 h
    · have h := ax_ie h c15
      refine ax_iconst (v := (0 : Int32)) K (by decide) dX2_tellMended_18 ?_
      refine ax_istore (lv' := [(5, .int (0 : Int32)), (0, .ref (L 0)), (1, .int v1), (2, .int v2), (3, .int v3), (4, .int v4)]) K dX2_tellMended_19 (by decide) rfl ?_
      exact ax_sub [1, 2, 3, 4, 5, 0] rfl (h.elim fun n21 h => km_tellMended_l21 K E ih n21 v1 v2 v3 v4 (0 : Int32) σ h)
set_option maxHeartbeats 4000000 in
theorem mm_tellMended {l : Launch} {G : AG} {L : Nat → Nat} {σ : St} {v1 : Int32} {v2 : Int32} {P : St → Prop} (h : wm_tellMended σ v1 v2 P) : CtW l G yX2_tellMended cX2_tellMended 6 none (rmH 5) [.ref (L 0), .int v1, .int v2] (mW G L) σ (pV P) := by
  refine CtW.ofV (by decide) (Nat.le_of_ble_eq_true rfl) fun Z _ K E => ?_
  unfold wm_tellMended at h
  show AX Z 0 0 0 [(0, .ref (L 0)), (1, .int v1), (2, .int v2)] [] (mW G L σ)
  refine ax_iconst (v := (0 : Int32)) K (by decide) dX2_tellMended_0 ?_
  refine ax_istore_n (lv' := [(3, .int (0 : Int32)), (0, .ref (L 0)), (1, .int v1), (2, .int v2)]) K dX2_tellMended_1 (by decide) rfl ?_
  refine ax_iconst (v := (-1 : Int32)) K (by decide) dX2_tellMended_2 ?_
  refine ax_istore (lv' := [(4, .int (-1 : Int32)), (3, .int (0 : Int32)), (0, .ref (L 0)), (1, .int v1), (2, .int v2)]) K dX2_tellMended_3 (by decide) rfl ?_
  refine ax_aload_n K 2 rfl dX2_tellMended_5 ?_
  refine ax_iconst (v := (0 : Int32)) K (by decide) dX2_tellMended_6 ?_
  refine mp_rowMany K dX2_tellMended_7 ?_
  exact ax_sub [2, 3, 4, 1, 0] rfl (h.elim fun n10 h => km_tellMended_l10 K E  n10 v1 v2 (0 : Int32) (-1 : Int32) (mS_rowMany σ (0 : Int32)) h)
theorem rm_tellMended {Z : AZ} {G : AG} {cc : ByteArray} {mL hh pc : Nat} {lv : List (Nat × Value)} {rest : List Value} {L : Nat → Nat} {σ : St} (K : AK Z G cc RX2 mL (rmH hh)) (hlt : 5 < hh) (d : decode cc pc = .ok (.invokevirtual 378, 3)) (hrest : (rest.map fun v => v.category).sum ≤ 8) {v1 : Int32} {v2 : Int32} {P : St → Prop} (h : sm_tellMended σ v1 v2 P) (kk : ∀ (σ' : St), P σ' → AX Z 0 0 (pc + 3) lv (rest) (mW G L σ')) : AX Z 0 0 pc lv (.int v2 :: .int v1 :: .ref (L 0) :: rest) (mW G L σ) :=
  ax_callV (N0 := 2) (As := [.int v1, .int v2]) K (mm_tellMended (sm_tellMended_ok h)) q1559 q1561 qs111 q118 q1562 ⟨rfl, by decide, by decide, by decide⟩ rfl ⟨by show 5 + 1 + 1 ≤ hh + 1; omega, by show 8 + (6 + 11) + 60 * (5 + 1) ≤ 60 * (hh + 1); omega⟩ ⟨Nat.zero_le _, Nat.zero_le _⟩ rfl rfl rfl hrest d (fun r σ' hp => by obtain ⟨rfl, hp⟩ := hp; exact kk σ' hp)
/-! m.tellWay -/
set_option maxHeartbeats 4000000 in
theorem km_tellWay_j66 {Z : AZ} {G : AG} {L : Nat → Nat} {P : St → Prop} (K : AK Z G cX2_tellWay RX2 7 (rmH 5)) (E : AEv Z cX2_tellWay (mW G L) 0 0 P) {K24 : Int32 → Int32 → Int32 → Int32 → St → Prop} (hK24 : ∀ (v3 : Int32) (v4 : Int32) (v5 : Int32) (v6 : Int32) (σ : St), K24 v3 v4 v5 v6 σ → AX Z 0 0 24 [(0, .ref (L 0)), (3, .int v3), (4, .int v4), (5, .int v5), (6, .int v6)] [] (mW G L σ)) (v3 : Int32) (v4 : Int32) (v5 : Int32) (v6 : Int32) (σ : St) (h : wm_tellWay_j66 P K24 v3 v4 v5 v6 σ) : AX Z 0 0 66 [(0, .ref (L 0)), (3, .int v3), (4, .int v4), (5, .int v5), (6, .int v6)] [] (mW G L σ) := by
  unfold wm_tellWay_j66 at h
  refine ax_iinc (lv' := [(6, .int (v6 + (1 : Int32))), (0, .ref (L 0)), (3, .int v3), (4, .int v4), (5, .int v5)]) (v := (v6 + (1 : Int32))) K 4 dX2_tellWay_66 rfl (by rfl) (by decide) rfl ?_
  refine ax_goto (tgt := 24) K dX2_tellWay_69 (by decide) ?_
  exact ax_sub [1, 2, 3, 4, 0] rfl (hK24 v3 v4 v5 (v6 + (1 : Int32)) σ h)
set_option maxHeartbeats 4000000 in
theorem km_tellWay_l24 {Z : AZ} {G : AG} {L : Nat → Nat} {P : St → Prop} (K : AK Z G cX2_tellWay RX2 7 (rmH 5)) (E : AEv Z cX2_tellWay (mW G L) 0 0 P) {K6 : Int32 → Int32 → Int32 → St → Prop} (hK6 : ∀ (v3 : Int32) (v4 : Int32) (v5 : Int32) (σ : St), K6 v3 v4 v5 σ → AX Z 0 0 6 [(0, .ref (L 0)), (3, .int v3), (4, .int v4), (5, .int v5)] [] (mW G L σ)) : ∀ (n : Nat) (v3 : Int32) (v4 : Int32) (v5 : Int32) (v6 : Int32) (σ : St), wm_tellWay_l24 P K6 n v3 v4 v5 v6 σ → AX Z 0 0 24 [(0, .ref (L 0)), (3, .int v3), (4, .int v4), (5, .int v5), (6, .int v6)] [] (mW G L σ) := by
  intro n
  induction n with
  | zero => intro v3 v4 v5 v6 σ h; exact False.elim h
  | succ n ih =>
    intro v3 v4 v5 v6 σ h
    rw [wm_tellWay_l24_s] at h
    refine ax_iload_n K 1 rfl dX2_tellWay_24 ?_
    refine ax_iload K 4 rfl dX2_tellWay_25 ?_
    refine rm_has K (by decide) dX2_tellWay_27 (Nat.le_of_ble_eq_true rfl) h (fun r27 h => ?_)
    refine ax_if_eq (tgt := 66) K dX2_tellWay_30 (by decide) (fun c30 => ?_) (fun c30 => ?_)
    · have h := ax_it h c30
      exact ax_sub [0, 1, 2, 3, 4] rfl (km_tellWay_j66 K E ih v3 v4 v5 v6 σ h)
    · have h := ax_ie h c30
      refine ax_aload_n K 0 rfl dX2_tellWay_33 ?_
      refine ax_iload K 2 rfl dX2_tellWay_34 ?_
      refine ax_iload K 3 rfl dX2_tellWay_36 ?_
      refine ax_iload K 4 rfl dX2_tellWay_38 ?_
      refine rm_may K (by decide) dX2_tellWay_40 (Nat.le_of_ble_eq_true rfl) h (fun r40 σ40 h => ?_)
      refine ax_if_eq (tgt := 66) K dX2_tellWay_43 (by decide) (fun c43 => ?_) (fun c43 => ?_)
      · have h := ax_it h c43
        exact ax_sub [0, 1, 2, 3, 4] rfl (km_tellWay_j66 K E ih v3 v4 v5 v6 σ40 h)
      · have h := ax_ie h c43
        refine ax_aload_n K 0 rfl dX2_tellWay_46 ?_
        refine mg_canEnd K dX2_tellWay_47 ?_
        refine ax_iload K 2 rfl dX2_tellWay_50 ?_
        refine ax_iconst (v := (1 : Int32)) K (by decide) dX2_tellWay_52 ?_
        refine ax_iload K 4 rfl dX2_tellWay_53 ?_
        refine ax_ishl K dX2_tellWay_55 ?_
        refine ax_ior K dX2_tellWay_56 ?_
        refine ax_iload K 4 rfl dX2_tellWay_57 ?_
        refine rm_place K (by decide) dX2_tellWay_59 (Nat.le_of_ble_eq_true rfl) h (fun r59 h => ?_)
        refine ml_canEnd K h.1 dX2_tellWay_62 ?_
        replace h := h.2
        refine ax_if_ne (tgt := 72) K dX2_tellWay_63 (by decide) (fun c63 => ?_) (fun c63 => ?_)
        · have h := ax_ie h c63
          refine ax_aload_n K 0 rfl dX2_tellWay_72 ?_
          refine ax_iload K 4 rfl dX2_tellWay_73 ?_
          refine rm_tell K (by decide) dX2_tellWay_75 (Nat.le_of_ble_eq_true rfl) h (fun σ75 h => ?_)
          refine ax_iload K 2 rfl dX2_tellWay_78 ?_
          refine ax_iconst (v := (1 : Int32)) K (by decide) dX2_tellWay_80 ?_
          refine ax_iload K 4 rfl dX2_tellWay_81 ?_
          refine ax_ishl K dX2_tellWay_83 ?_
          refine ax_ior K dX2_tellWay_84 ?_
          refine ax_istore (lv' := [(4, .int (v4 ||| ((1 : Int32) <<< (v6 &&& 31)))), (0, .ref (L 0)), (3, .int v3), (5, .int v5), (6, .int v6)]) K dX2_tellWay_85 (by decide) rfl ?_
          refine ax_iload K 4 rfl dX2_tellWay_87 ?_
          refine ax_istore (lv' := [(5, .int v6), (4, .int (v4 ||| ((1 : Int32) <<< (v6 &&& 31)))), (0, .ref (L 0)), (3, .int v3), (6, .int v6)]) K dX2_tellWay_89 (by decide) rfl ?_
          refine ax_goto (tgt := 6) K dX2_tellWay_91 (by decide) ?_
          exact ax_sub [2, 3, 1, 0] rfl (hK6 v3 (v4 ||| ((1 : Int32) <<< (v6 &&& 31))) v6 σ75 h)
        · have h := ax_it h c63
          exact ax_sub [0, 1, 2, 3, 4] rfl (km_tellWay_j66 K E ih v3 v4 v5 v6 σ40 h)
set_option maxHeartbeats 4000000 in
theorem km_tellWay_l6 {Z : AZ} {G : AG} {L : Nat → Nat} {P : St → Prop} (K : AK Z G cX2_tellWay RX2 7 (rmH 5)) (E : AEv Z cX2_tellWay (mW G L) 0 0 P) : ∀ (n : Nat) (v3 : Int32) (v4 : Int32) (v5 : Int32) (σ : St), wm_tellWay_l6 P  n v3 v4 v5 σ → AX Z 0 0 6 [(0, .ref (L 0)), (3, .int v3), (4, .int v4), (5, .int v5)] [] (mW G L σ) := by
  intro n
  induction n with
  | zero => intro v3 v4 v5 σ h; exact False.elim h
  | succ n ih =>
    intro v3 v4 v5 σ h
    rw [wm_tellWay_l6_s] at h
    refine ax_aload_n K 0 rfl dX2_tellWay_6 ?_
    refine mg_isEnd K dX2_tellWay_7 ?_
    refine ax_iload K 2 rfl dX2_tellWay_10 ?_
    refine ax_iload K 3 rfl dX2_tellWay_12 ?_
    refine rm_place K (by decide) dX2_tellWay_14 (Nat.le_of_ble_eq_true rfl) h (fun r14 h => ?_)
    refine ml_isEnd K h.1 dX2_tellWay_17 ?_
    replace h := h.2
    refine ax_if_ne (tgt := 94) K dX2_tellWay_18 (by decide) (fun c18 => ?_) (fun c18 => ?_)
    · have h := ax_ie h c18
      exact E _ _ _ dX2_tellWay_94 h
    · have h := ax_it h c18
      refine ax_iconst (v := (0 : Int32)) K (by decide) dX2_tellWay_21 ?_
      refine ax_istore (lv' := [(6, .int (0 : Int32)), (0, .ref (L 0)), (3, .int v3), (4, .int v4), (5, .int v5)]) K dX2_tellWay_22 (by decide) rfl ?_
      exact ax_sub [1, 2, 3, 4, 0] rfl (h.elim fun n24 h => km_tellWay_l24 K E ih n24 v3 v4 v5 (0 : Int32) σ h)
set_option maxHeartbeats 4000000 in
theorem mm_tellWay {l : Launch} {G : AG} {L : Nat → Nat} {σ : St} {v1 : Int32} {v2 : Int32} {v3 : Int32} {P : St → Prop} (h : wm_tellWay σ v1 v2 v3 P) : CtW l G yX2_tellWay cX2_tellWay 7 none (rmH 5) [.ref (L 0), .int v1, .int v2, .int v3] (mW G L) σ (pV P) := by
  refine CtW.ofV (by decide) (Nat.le_of_ble_eq_true rfl) fun Z _ K E => ?_
  unfold wm_tellWay at h
  show AX Z 0 0 0 [(0, .ref (L 0)), (1, .int v1), (2, .int v2), (3, .int v3)] [] (mW G L σ)
  refine ax_iload_n K 1 rfl dX2_tellWay_0 ?_
  refine ax_istore (lv' := [(4, .int v1), (0, .ref (L 0)), (1, .int v1), (2, .int v2), (3, .int v3)]) K dX2_tellWay_1 (by decide) rfl ?_
  refine ax_iload_n K 3 rfl dX2_tellWay_3 ?_
  refine ax_istore (lv' := [(5, .int v2), (4, .int v1), (0, .ref (L 0)), (1, .int v1), (2, .int v2), (3, .int v3)]) K dX2_tellWay_4 (by decide) rfl ?_
  exact ax_sub [2, 5, 1, 0] rfl (h.elim fun n6 h => km_tellWay_l6 K E  n6 v3 v1 v2 σ h)
theorem rm_tellWay {Z : AZ} {G : AG} {cc : ByteArray} {mL hh pc : Nat} {lv : List (Nat × Value)} {rest : List Value} {L : Nat → Nat} {σ : St} (K : AK Z G cc RX2 mL (rmH hh)) (hlt : 5 < hh) (d : decode cc pc = .ok (.invokevirtual 320, 3)) (hrest : (rest.map fun v => v.category).sum ≤ 8) {v1 : Int32} {v2 : Int32} {v3 : Int32} {P : St → Prop} (h : sm_tellWay σ v1 v2 v3 P) (kk : ∀ (σ' : St), P σ' → AX Z 0 0 (pc + 3) lv (rest) (mW G L σ')) : AX Z 0 0 pc lv (.int v3 :: .int v2 :: .int v1 :: .ref (L 0) :: rest) (mW G L σ) :=
  ax_callV (N0 := 3) (As := [.int v1, .int v2, .int v3]) K (mm_tellWay (sm_tellWay_ok h)) q1433 q1435 qs97 q118 q1436 ⟨rfl, by decide, by decide, by decide⟩ rfl ⟨by show 5 + 1 + 1 ≤ hh + 1; omega, by show 8 + (7 + 11) + 60 * (5 + 1) ≤ 60 * (hh + 1); omega⟩ ⟨Nat.zero_le _, Nat.zero_le _⟩ rfl rfl rfl hrest d (fun r σ' hp => by obtain ⟨rfl, hp⟩ := hp; exact kk σ' hp)
/-! m.falls -/
set_option maxHeartbeats 4000000 in
theorem km_falls_j71 {Z : AZ} {G : AG} {L : Nat → Nat} {P : Int32 → St → Prop} (K : AK Z G cX2_falls RX2 9 (rmH 6)) (E : AEi Z cX2_falls .int (mW G L) 0 0 P) {K37 : Int32 → Int32 → Int32 → Int32 → Int32 → St → Prop} (hK37 : ∀ (v1 : Int32) (v2 : Int32) (v3 : Int32) (v4 : Int32) (v5 : Int32) (σ : St), K37 v1 v2 v3 v4 v5 σ → AX Z 0 0 37 [(0, .ref (L 0)), (1, .int v1), (2, .int v2), (3, .int v3), (4, .int v4), (5, .int v5)] [] (mW G L σ)) (v1 : Int32) (v2 : Int32) (v3 : Int32) (v5 : Int32) (s0 : Int32) (s1 : Int32) (σ : St) (h : wm_falls_j71 P K37 v1 v2 v3 v5 s0 s1 σ) : AX Z 0 0 71 [(0, .ref (L 0)), (1, .int v1), (2, .int v2), (3, .int v3), (5, .int v5)] [.int s1, .int s0] (mW G L σ) := by
  unfold wm_falls_j71 at h
  refine ax_ior K dX2_falls_71 ?_
  refine ax_istore (lv' := [(4, .int (s0 ||| s1)), (0, .ref (L 0)), (1, .int v1), (2, .int v2), (3, .int v3), (5, .int v5)]) K dX2_falls_72 (by decide) rfl ?_
  refine ax_iinc (lv' := [(5, .int (v5 + (1 : Int32))), (4, .int (s0 ||| s1)), (0, .ref (L 0)), (1, .int v1), (2, .int v2), (3, .int v3)]) (v := (v5 + (1 : Int32))) K 5 dX2_falls_74 rfl (by rfl) (by decide) rfl ?_
  refine ax_goto (tgt := 37) K dX2_falls_77 (by decide) ?_
  exact ax_sub [2, 3, 4, 5, 1, 0] rfl (hK37 v1 v2 v3 (s0 ||| s1) (v5 + (1 : Int32)) σ h)
set_option maxHeartbeats 4000000 in
theorem km_falls_j70 {Z : AZ} {G : AG} {L : Nat → Nat} {P : Int32 → St → Prop} (K : AK Z G cX2_falls RX2 9 (rmH 6)) (E : AEi Z cX2_falls .int (mW G L) 0 0 P) {K37 : Int32 → Int32 → Int32 → Int32 → Int32 → St → Prop} (hK37 : ∀ (v1 : Int32) (v2 : Int32) (v3 : Int32) (v4 : Int32) (v5 : Int32) (σ : St), K37 v1 v2 v3 v4 v5 σ → AX Z 0 0 37 [(0, .ref (L 0)), (1, .int v1), (2, .int v2), (3, .int v3), (4, .int v4), (5, .int v5)] [] (mW G L σ)) (v1 : Int32) (v2 : Int32) (v3 : Int32) (v5 : Int32) (s0 : Int32) (σ : St) (h : wm_falls_j70 P K37 v1 v2 v3 v5 s0 σ) : AX Z 0 0 70 [(0, .ref (L 0)), (1, .int v1), (2, .int v2), (3, .int v3), (5, .int v5)] [.int s0] (mW G L σ) := by
  unfold wm_falls_j70 at h
  refine ax_iconst (v := (0 : Int32)) K (by decide) dX2_falls_70 ?_
  exact ax_sub [0, 1, 2, 3, 4] rfl (km_falls_j71 K E hK37 v1 v2 v3 v5 s0 (0 : Int32) σ h)
set_option maxHeartbeats 4000000 in
theorem km_falls_l37 {Z : AZ} {G : AG} {L : Nat → Nat} {P : Int32 → St → Prop} (K : AK Z G cX2_falls RX2 9 (rmH 6)) (E : AEi Z cX2_falls .int (mW G L) 0 0 P) {K116 : Int32 → Int32 → Int32 → Int32 → Int32 → St → Prop} (hK116 : ∀ (v4 : Int32) (v5 : Int32) (v6 : Int32) (v7 : Int32) (v8 : Int32) (σ : St), K116 v4 v5 v6 v7 v8 σ → AX Z 0 0 116 [(0, .ref (L 0)), (4, .int v4), (5, .int v5), (6, .int v6), (7, .int v7), (8, .int v8)] [] (mW G L σ)) : ∀ (n : Nat) (v1 : Int32) (v2 : Int32) (v3 : Int32) (v4 : Int32) (v5 : Int32) (σ : St), wm_falls_l37 P K116 n v1 v2 v3 v4 v5 σ → AX Z 0 0 37 [(0, .ref (L 0)), (1, .int v1), (2, .int v2), (3, .int v3), (4, .int v4), (5, .int v5)] [] (mW G L σ) := by
  intro n
  induction n with
  | zero => intro v1 v2 v3 v4 v5 σ h; exact False.elim h
  | succ n ih =>
    intro v1 v2 v3 v4 v5 σ h
    rw [wm_falls_l37_s] at h
    refine ax_iload K 5 rfl dX2_falls_37 ?_
    refine ax_iconst (v := (3 : Int32)) K (by decide) dX2_falls_39 ?_
    refine ax_icmp_ge (tgt := 80) K dX2_falls_40 (by decide) (fun c40 => ?_) (fun c40 => ?_)
    · have h := ax_it h c40
      refine ax_aload_n K 0 rfl dX2_falls_80 ?_
      refine mg_share K dX2_falls_81 ?_
      refine ax_istore (lv' := [(5, .int (mI_share σ)), (0, .ref (L 0)), (1, .int v1), (2, .int v2), (3, .int v3), (4, .int v4)]) K dX2_falls_84 (by decide) rfl ?_
      refine ax_aload_n K 1 rfl dX2_falls_86 ?_
      refine mg_times K dX2_falls_87 ?_
      refine ax_istore (lv' := [(6, .int (mI_times σ)), (5, .int (mI_share σ)), (0, .ref (L 0)), (1, .int v1), (2, .int v2), (3, .int v3), (4, .int v4)]) K dX2_falls_90 (by decide) rfl ?_
      refine ax_aload_n K 2 rfl dX2_falls_92 ?_
      refine mg_heat K dX2_falls_93 ?_
      refine ax_istore (lv' := [(7, .int (mI_heat σ)), (6, .int (mI_times σ)), (5, .int (mI_share σ)), (0, .ref (L 0)), (1, .int v1), (2, .int v2), (3, .int v3), (4, .int v4)]) K dX2_falls_96 (by decide) rfl ?_
      refine ax_aload_n K 3 rfl dX2_falls_98 ?_
      refine ax_iload_n K 4 rfl dX2_falls_99 ?_
      refine mp_share K dX2_falls_100 ?_
      refine ax_aload_n K 3 rfl dX2_falls_103 ?_
      refine ax_iload_n K 5 rfl dX2_falls_104 ?_
      refine mp_times K dX2_falls_105 ?_
      refine ax_aload_n K 3 rfl dX2_falls_108 ?_
      refine ax_iload_n K 6 rfl dX2_falls_109 ?_
      refine mp_heat K dX2_falls_110 ?_
      refine ax_iconst (v := (0 : Int32)) K (by decide) dX2_falls_113 ?_
      refine ax_istore (lv' := [(8, .int (0 : Int32)), (7, .int (mI_heat σ)), (6, .int (mI_times σ)), (5, .int (mI_share σ)), (0, .ref (L 0)), (1, .int v1), (2, .int v2), (3, .int v3), (4, .int v4)]) K dX2_falls_114 (by decide) rfl ?_
      exact ax_sub [4, 8, 3, 2, 1, 0] rfl (hK116 v4 (mI_share σ) (mI_times σ) (mI_heat σ) (0 : Int32) (mS_heat (mS_times (mS_share σ v1) v2) v3) h)
    · have h := ax_ie h c40
      refine ax_iload K 4 rfl dX2_falls_43 ?_
      refine ax_aload_n K 0 rfl dX2_falls_45 ?_
      refine ax_iload K 5 rfl dX2_falls_46 ?_
      refine rm_isWhole K (by decide) dX2_falls_48 (Nat.le_of_ble_eq_true rfl) h (fun r48 σ48 h => ?_)
      refine ax_if_eq (tgt := 70) K dX2_falls_51 (by decide) (fun c51 => ?_) (fun c51 => ?_)
      · have h := ax_it h c51
        exact ax_sub [0, 1, 2, 3, 5] rfl (km_falls_j70 K E ih v1 v2 v3 v5 v4 σ48 h)
      · have h := ax_ie h c51
        refine ax_aload_n K 0 rfl dX2_falls_54 ?_
        refine ax_iload K 5 rfl dX2_falls_55 ?_
        refine rm_isLawful K (by decide) dX2_falls_57 (Nat.le_of_ble_eq_true rfl) h (fun r57 σ57 h => ?_)
        refine ax_if_eq (tgt := 70) K dX2_falls_60 (by decide) (fun c60 => ?_) (fun c60 => ?_)
        · have h := ax_it h c60
          exact ax_sub [0, 1, 2, 3, 5] rfl (km_falls_j70 K E ih v1 v2 v3 v5 v4 σ57 h)
        · have h := ax_ie h c60
          refine ax_iconst (v := (1 : Int32)) K (by decide) dX2_falls_63 ?_
          refine ax_iload K 5 rfl dX2_falls_64 ?_
          refine ax_ishl K dX2_falls_66 ?_
          refine ax_goto (tgt := 71) K dX2_falls_67 (by decide) ?_
          exact ax_sub [0, 1, 2, 3, 5] rfl (km_falls_j71 K E ih v1 v2 v3 v5 v4 ((1 : Int32) <<< (v5 &&& 31)) σ57 h)
set_option maxHeartbeats 4000000 in
theorem km_falls_j152 {Z : AZ} {G : AG} {L : Nat → Nat} {P : Int32 → St → Prop} (K : AK Z G cX2_falls RX2 9 (rmH 6)) (E : AEi Z cX2_falls .int (mW G L) 0 0 P) {K116 : Int32 → Int32 → Int32 → Int32 → Int32 → St → Prop} (hK116 : ∀ (v4 : Int32) (v5 : Int32) (v6 : Int32) (v7 : Int32) (v8 : Int32) (σ : St), K116 v4 v5 v6 v7 v8 σ → AX Z 0 0 116 [(0, .ref (L 0)), (4, .int v4), (5, .int v5), (6, .int v6), (7, .int v7), (8, .int v8)] [] (mW G L σ)) (v4 : Int32) (v5 : Int32) (v6 : Int32) (v7 : Int32) (v8 : Int32) (σ : St) (h : wm_falls_j152 P K116 v4 v5 v6 v7 v8 σ) : AX Z 0 0 152 [(0, .ref (L 0)), (4, .int v4), (5, .int v5), (6, .int v6), (7, .int v7), (8, .int v8)] [] (mW G L σ) := by
  unfold wm_falls_j152 at h
  refine ax_iinc (lv' := [(8, .int (v8 + (1 : Int32))), (0, .ref (L 0)), (4, .int v4), (5, .int v5), (6, .int v6), (7, .int v7)]) (v := (v8 + (1 : Int32))) K 5 dX2_falls_152 rfl (by rfl) (by decide) rfl ?_
  refine ax_goto (tgt := 116) K dX2_falls_155 (by decide) ?_
  exact ax_sub [1, 2, 3, 4, 5, 0] rfl (hK116 v4 v5 v6 v7 (v8 + (1 : Int32)) σ h)
set_option maxHeartbeats 4000000 in
theorem km_falls_l116 {Z : AZ} {G : AG} {L : Nat → Nat} {P : Int32 → St → Prop} (K : AK Z G cX2_falls RX2 9 (rmH 6)) (E : AEi Z cX2_falls .int (mW G L) 0 0 P) : ∀ (n : Nat) (v4 : Int32) (v5 : Int32) (v6 : Int32) (v7 : Int32) (v8 : Int32) (σ : St), wm_falls_l116 P  n v4 v5 v6 v7 v8 σ → AX Z 0 0 116 [(0, .ref (L 0)), (4, .int v4), (5, .int v5), (6, .int v6), (7, .int v7), (8, .int v8)] [] (mW G L σ) := by
  intro n
  induction n with
  | zero => intro v4 v5 v6 v7 v8 σ h; exact False.elim h
  | succ n ih =>
    intro v4 v5 v6 v7 v8 σ h
    rw [wm_falls_l116_s] at h
    refine ax_iload K 5 rfl dX2_falls_116 ?_
    refine ax_iconst (v := (3 : Int32)) K (by decide) dX2_falls_118 ?_
    refine ax_icmp_ge (tgt := 158) K dX2_falls_119 (by decide) (fun c119 => ?_) (fun c119 => ?_)
    · have h := ax_it h c119
      refine ax_aload_n K 0 rfl dX2_falls_158 ?_
      refine ax_iload K 2 rfl dX2_falls_159 ?_
      refine mp_share K dX2_falls_161 ?_
      refine ax_aload_n K 0 rfl dX2_falls_164 ?_
      refine ax_iload K 3 rfl dX2_falls_165 ?_
      refine mp_times K dX2_falls_167 ?_
      refine ax_aload_n K 0 rfl dX2_falls_170 ?_
      refine ax_iload K 4 rfl dX2_falls_171 ?_
      refine mp_heat K dX2_falls_173 ?_
      refine ax_iload K 1 rfl dX2_falls_176 ?_
      exact E _ _ _ _ dX2_falls_178 rfl h
    · have h := ax_ie h c119
      refine ax_iload K 1 rfl dX2_falls_122 ?_
      refine ax_iload K 5 rfl dX2_falls_124 ?_
      refine rm_has K (by decide) dX2_falls_126 (Nat.le_of_ble_eq_true rfl) h (fun r126 h => ?_)
      refine ax_if_eq (tgt := 152) K dX2_falls_129 (by decide) (fun c129 => ?_) (fun c129 => ?_)
      · have h := ax_it h c129
        exact ax_sub [0, 1, 2, 3, 4, 5] rfl (km_falls_j152 K E ih v4 v5 v6 v7 v8 σ h)
      · have h := ax_ie h c129
        refine ax_aload_n K 0 rfl dX2_falls_132 ?_
        refine ax_iload K 5 rfl dX2_falls_133 ?_
        refine rm_isLawful K (by decide) dX2_falls_135 (Nat.le_of_ble_eq_true rfl) h (fun r135 σ135 h => ?_)
        refine ax_if_eq (tgt := 152) K dX2_falls_138 (by decide) (fun c138 => ?_) (fun c138 => ?_)
        · have h := ax_it h c138
          exact ax_sub [0, 1, 2, 3, 4, 5] rfl (km_falls_j152 K E ih v4 v5 v6 v7 v8 σ135 h)
        · have h := ax_ie h c138
          refine ax_iload K 1 rfl dX2_falls_141 ?_
          refine ax_iconst (v := (1 : Int32)) K (by decide) dX2_falls_143 ?_
          refine ax_iload K 5 rfl dX2_falls_144 ?_
          refine ax_ishl K dX2_falls_146 ?_
          refine ax_iconst (v := (-1 : Int32)) K (by decide) dX2_falls_147 ?_
          refine ax_ixor K dX2_falls_148 ?_
          refine ax_iand K dX2_falls_149 ?_
          refine ax_istore (lv' := [(4, .int (v4 &&& (((1 : Int32) <<< (v8 &&& 31)) ^^^ (-1 : Int32)))), (0, .ref (L 0)), (5, .int v5), (6, .int v6), (7, .int v7), (8, .int v8)]) K dX2_falls_150 (by decide) rfl ?_
          exact ax_sub [1, 0, 2, 3, 4, 5] rfl (km_falls_j152 K E ih (v4 &&& (((1 : Int32) <<< (v8 &&& 31)) ^^^ (-1 : Int32))) v5 v6 v7 v8 σ135 h)
set_option maxHeartbeats 4000000 in
theorem mm_falls {l : Launch} {G : AG} {L : Nat → Nat} {σ : St} {v1 : Int32} {v2 : Int32} {v3 : Int32} {P : Int32 → St → Prop} (h : wm_falls σ v1 v2 v3 P) : CtW l G yX2_falls cX2_falls 9 (some .int) (rmH 6) [.ref (L 0), .int v1, .int v2, .int v3] (mW G L) σ (pI P) := by
  refine CtW.ofI (by decide) (Nat.le_of_ble_eq_true rfl) fun Z _ K E => ?_
  unfold wm_falls at h
  show AX Z 0 0 0 [(0, .ref (L 0)), (1, .int v1), (2, .int v2), (3, .int v3)] [] (mW G L σ)
  refine ax_aload_n K 0 rfl dX2_falls_0 ?_
  refine ax_iconst (v := (0 : Int32)) K (by decide) dX2_falls_1 ?_
  refine mp_thrown K dX2_falls_2 ?_
  refine ax_iconst (v := (0 : Int32)) K (by decide) dX2_falls_5 ?_
  refine ax_iload_n K 1 rfl dX2_falls_6 ?_
  refine rm_isLaw K (by decide) dX2_falls_7 (Nat.le_of_ble_eq_true rfl) h (fun r7 h => ?_)
  refine ax_if_eq (tgt := 29) K dX2_falls_10 (by decide) (fun c10 => ?_) (fun c10 => ?_)
  · have h := ax_it h c10
    refine ax_iconst (v := (-1 : Int32)) K (by decide) dX2_falls_29 ?_
    exact E _ _ _ _ dX2_falls_30 rfl h
  · have h := ax_ie h c10
    refine ax_iconst (v := (1 : Int32)) K (by decide) dX2_falls_13 ?_
    refine ax_iload_n K 2 rfl dX2_falls_14 ?_
    refine rm_isLaw K (by decide) dX2_falls_15 (Nat.le_of_ble_eq_true rfl) h (fun r15 h => ?_)
    refine ax_if_eq (tgt := 29) K dX2_falls_18 (by decide) (fun c18 => ?_) (fun c18 => ?_)
    · have h := ax_it h c18
      refine ax_iconst (v := (-1 : Int32)) K (by decide) dX2_falls_29 ?_
      exact E _ _ _ _ dX2_falls_30 rfl h
    · have h := ax_ie h c18
      refine ax_iconst (v := (2 : Int32)) K (by decide) dX2_falls_21 ?_
      refine ax_iload_n K 3 rfl dX2_falls_22 ?_
      refine rm_isLaw K (by decide) dX2_falls_23 (Nat.le_of_ble_eq_true rfl) h (fun r23 h => ?_)
      refine ax_if_ne (tgt := 31) K dX2_falls_26 (by decide) (fun c26 => ?_) (fun c26 => ?_)
      · have h := ax_ie h c26
        refine ax_iconst (v := (0 : Int32)) K (by decide) dX2_falls_31 ?_
        refine ax_istore (lv' := [(4, .int (0 : Int32)), (0, .ref (L 0)), (1, .int v1), (2, .int v2), (3, .int v3)]) K dX2_falls_32 (by decide) rfl ?_
        refine ax_iconst (v := (0 : Int32)) K (by decide) dX2_falls_34 ?_
        refine ax_istore (lv' := [(5, .int (0 : Int32)), (4, .int (0 : Int32)), (0, .ref (L 0)), (1, .int v1), (2, .int v2), (3, .int v3)]) K dX2_falls_35 (by decide) rfl ?_
        exact ax_sub [2, 3, 4, 5, 1, 0] rfl (h.elim fun n37 h => km_falls_l37 K E (fun v4 v5 v6 v7 v8 σ h => h.elim fun n116 h => km_falls_l116 K E  n116 v4 v5 v6 v7 v8 σ h) n37 v1 v2 v3 (0 : Int32) (0 : Int32) (mS_thrown σ (0 : Int32)) h)
      · have h := ax_it h c26
        refine ax_iconst (v := (-1 : Int32)) K (by decide) dX2_falls_29 ?_
        exact E _ _ _ _ dX2_falls_30 rfl h

/-! m.fills -/
set_option maxHeartbeats 4000000 in
theorem km_fills_j104 {Z : AZ} {G : AG} {L : Nat → Nat} {P : Int64 → St → Prop} (K : AK Z G cX2_fills RX2 7 (rmH 6)) (E : AEl Z cX2_fills (mW G L) 0 0 P) {K57 : Int32 → Int64 → Int32 → Int32 → Int32 → St → Prop} (hK57 : ∀ (v1 : Int32) (v2 : Int64) (v4 : Int32) (v5 : Int32) (v6 : Int32) (σ : St), K57 v1 v2 v4 v5 v6 σ → AX Z 0 0 57 [(0, .ref (L 0)), (1, .int v1), (2, .long v2), (4, .int v4), (5, .int v5), (6, .int v6)] [] (mW G L σ)) (v1 : Int32) (v2 : Int64) (v4 : Int32) (v5 : Int32) (v6 : Int32) (σ : St) (h : wm_fills_j104 P K57 v1 v2 v4 v5 v6 σ) : AX Z 0 0 104 [(0, .ref (L 0)), (1, .int v1), (2, .long v2), (4, .int v4), (5, .int v5), (6, .int v6)] [] (mW G L σ) := by
  unfold wm_fills_j104 at h
  refine ax_iinc (lv' := [(6, .int (v6 + (1 : Int32))), (0, .ref (L 0)), (1, .int v1), (2, .long v2), (4, .int v4), (5, .int v5)]) (v := (v6 + (1 : Int32))) K 5 dX2_fills_104 rfl (by rfl) (by decide) rfl ?_
  refine ax_goto (tgt := 57) K dX2_fills_107 (by decide) ?_
  exact ax_sub [1, 2, 3, 4, 5, 0] rfl (hK57 v1 v2 v4 v5 (v6 + (1 : Int32)) σ h)
set_option maxHeartbeats 4000000 in
theorem km_fills_l57 {Z : AZ} {G : AG} {L : Nat → Nat} {P : Int64 → St → Prop} (K : AK Z G cX2_fills RX2 7 (rmH 6)) (E : AEl Z cX2_fills (mW G L) 0 0 P) {K34 : Int32 → Int64 → Int32 → Int32 → St → Prop} (hK34 : ∀ (v1 : Int32) (v2 : Int64) (v4 : Int32) (v5 : Int32) (σ : St), K34 v1 v2 v4 v5 σ → AX Z 0 0 34 [(0, .ref (L 0)), (1, .int v1), (2, .long v2), (4, .int v4), (5, .int v5)] [] (mW G L σ)) : ∀ (n : Nat) (v1 : Int32) (v2 : Int64) (v4 : Int32) (v5 : Int32) (v6 : Int32) (σ : St), wm_fills_l57 P K34 n v1 v2 v4 v5 v6 σ → AX Z 0 0 57 [(0, .ref (L 0)), (1, .int v1), (2, .long v2), (4, .int v4), (5, .int v5), (6, .int v6)] [] (mW G L σ) := by
  intro n
  induction n with
  | zero => intro v1 v2 v4 v5 v6 σ h; exact False.elim h
  | succ n ih =>
    intro v1 v2 v4 v5 v6 σ h
    rw [wm_fills_l57_s] at h
    refine ax_aload_n K 0 rfl dX2_fills_57 ?_
    refine ax_iload_n K 1 rfl dX2_fills_58 ?_
    refine ax_iload K 3 rfl dX2_fills_59 ?_
    refine ax_iload K 5 rfl dX2_fills_61 ?_
    refine rm_isAsked K (by decide) dX2_fills_63 (Nat.le_of_ble_eq_true rfl) h (fun r63 σ63 h => ?_)
    refine ax_if_eq (tgt := 104) K dX2_fills_66 (by decide) (fun c66 => ?_) (fun c66 => ?_)
    · have h := ax_it h c66
      exact ax_sub [0, 1, 2, 3, 4, 5] rfl (km_fills_j104 K E ih v1 v2 v4 v5 v6 σ63 h)
    · have h := ax_ie h c66
      refine ax_aload_n K 0 rfl dX2_fills_69 ?_
      refine ax_iload K 3 rfl dX2_fills_70 ?_
      refine ax_iload K 4 rfl dX2_fills_72 ?_
      refine ax_iload K 5 rfl dX2_fills_74 ?_
      refine rm_may K (by decide) dX2_fills_76 (Nat.le_of_ble_eq_true rfl) h (fun r76 σ76 h => ?_)
      refine ax_if_eq (tgt := 104) K dX2_fills_79 (by decide) (fun c79 => ?_) (fun c79 => ?_)
      · have h := ax_it h c79
        exact ax_sub [0, 1, 2, 3, 4, 5] rfl (km_fills_j104 K E ih v1 v2 v4 v5 v6 σ76 h)
      · have h := ax_ie h c79
        refine ax_aload_n K 0 rfl dX2_fills_82 ?_
        refine mg_fillsFrom K dX2_fills_83 ?_
        refine ax_iload K 3 rfl dX2_fills_86 ?_
        refine ax_iconst (v := (1 : Int32)) K (by decide) dX2_fills_88 ?_
        refine ax_iload K 5 rfl dX2_fills_89 ?_
        refine ax_ishl K dX2_fills_91 ?_
        refine ax_ior K dX2_fills_92 ?_
        refine ax_iload K 5 rfl dX2_fills_93 ?_
        refine rm_place K (by decide) dX2_fills_95 (Nat.le_of_ble_eq_true rfl) h (fun r95 h => ?_)
        refine ml_fillsFrom K h.1 dX2_fills_98 ?_
        replace h := h.2
        refine ax_lconst (v := (0 : Int64)) K (by decide) dX2_fills_99 ?_
        refine ax_lcmp K dX2_fills_100 ?_
        refine ax_if_gt (tgt := 110) K dX2_fills_101 (by decide) (fun c101 => ?_) (fun c101 => ?_)
        · have h := ax_it h c101
          refine ax_aload_n K 0 rfl dX2_fills_110 ?_
          refine ax_iload K 5 rfl dX2_fills_111 ?_
          refine rm_tell K (by decide) dX2_fills_113 (Nat.le_of_ble_eq_true rfl) h (fun σ113 h => ?_)
          refine ax_iload K 3 rfl dX2_fills_116 ?_
          refine ax_iconst (v := (1 : Int32)) K (by decide) dX2_fills_118 ?_
          refine ax_iload K 5 rfl dX2_fills_119 ?_
          refine ax_ishl K dX2_fills_121 ?_
          refine ax_ior K dX2_fills_122 ?_
          refine ax_istore (lv' := [(4, .int (v4 ||| ((1 : Int32) <<< (v6 &&& 31)))), (0, .ref (L 0)), (1, .int v1), (2, .long v2), (5, .int v5), (6, .int v6)]) K dX2_fills_123 (by decide) rfl ?_
          refine ax_iload K 5 rfl dX2_fills_125 ?_
          refine ax_istore (lv' := [(5, .int v6), (4, .int (v4 ||| ((1 : Int32) <<< (v6 &&& 31)))), (0, .ref (L 0)), (1, .int v1), (2, .long v2), (6, .int v6)]) K dX2_fills_127 (by decide) rfl ?_
          refine ax_goto (tgt := 34) K dX2_fills_129 (by decide) ?_
          exact ax_sub [2, 3, 4, 1, 0] rfl (hK34 v1 v2 (v4 ||| ((1 : Int32) <<< (v6 &&& 31))) v6 σ113 h)
        · have h := ax_ie h c101
          exact ax_sub [0, 1, 2, 3, 4, 5] rfl (km_fills_j104 K E ih v1 v2 v4 v5 v6 σ76 h)
set_option maxHeartbeats 4000000 in
theorem km_fills_l34 {Z : AZ} {G : AG} {L : Nat → Nat} {P : Int64 → St → Prop} (K : AK Z G cX2_fills RX2 7 (rmH 6)) (E : AEl Z cX2_fills (mW G L) 0 0 P) {K132 : Int64 → St → Prop} (hK132 : ∀ (v2 : Int64) (σ : St), K132 v2 σ → AX Z 0 0 132 [(0, .ref (L 0)), (2, .long v2)] [] (mW G L σ)) : ∀ (n : Nat) (v1 : Int32) (v2 : Int64) (v4 : Int32) (v5 : Int32) (σ : St), wm_fills_l34 P K132 n v1 v2 v4 v5 σ → AX Z 0 0 34 [(0, .ref (L 0)), (1, .int v1), (2, .long v2), (4, .int v4), (5, .int v5)] [] (mW G L σ) := by
  intro n
  induction n with
  | zero => intro v1 v2 v4 v5 σ h; exact False.elim h
  | succ n ih =>
    intro v1 v2 v4 v5 σ h
    rw [wm_fills_l34_s] at h
    refine ax_lload_n K 2 rfl dX2_fills_34 ?_
    refine ax_lconst (v := (0 : Int64)) K (by decide) dX2_fills_35 ?_
    refine ax_lcmp K dX2_fills_36 ?_
    refine ax_if_le (tgt := 132) K dX2_fills_37 (by decide) (fun c37 => ?_) (fun c37 => ?_)
    · have h := ax_it h c37
      exact ax_sub [0, 2] rfl (hK132 v2 σ h)
    · have h := ax_ie h c37
      refine ax_iload K 3 rfl dX2_fills_40 ?_
      refine rm_bitCount K (by decide) dX2_fills_42 (Nat.le_of_ble_eq_true rfl) ?_
      refine ax_aload_n K 0 rfl dX2_fills_45 ?_
      refine mg_menuLong K dX2_fills_46 ?_
      refine ax_iload_n K 1 rfl dX2_fills_49 ?_
      refine ml_menuLong K h.1 dX2_fills_50 ?_
      replace h := h.2
      refine ax_icmp_ge (tgt := 132) K dX2_fills_51 (by decide) (fun c51 => ?_) (fun c51 => ?_)
      · have h := ax_it h c51
        exact ax_sub [0, 2] rfl (hK132 v2 σ h)
      · have h := ax_ie h c51
        refine ax_iconst (v := (0 : Int32)) K (by decide) dX2_fills_54 ?_
        refine ax_istore (lv' := [(6, .int (0 : Int32)), (0, .ref (L 0)), (1, .int v1), (2, .long v2), (4, .int v4), (5, .int v5)]) K dX2_fills_55 (by decide) rfl ?_
        exact ax_sub [1, 2, 3, 4, 5, 0] rfl (h.elim fun n57 h => km_fills_l57 K E ih n57 v1 v2 v4 v5 (0 : Int32) σ h)
set_option maxHeartbeats 4000000 in
theorem km_fills_j132 {Z : AZ} {G : AG} {L : Nat → Nat} {P : Int64 → St → Prop} (K : AK Z G cX2_fills RX2 7 (rmH 6)) (E : AEl Z cX2_fills (mW G L) 0 0 P) (v2 : Int64) (σ : St) (h : wm_fills_j132 P  v2 σ) : AX Z 0 0 132 [(0, .ref (L 0)), (2, .long v2)] [] (mW G L σ) := by
  unfold wm_fills_j132 at h
  refine ax_lload_n K 1 rfl dX2_fills_132 ?_
  exact E _ _ _ _ dX2_fills_133 h
set_option maxHeartbeats 4000000 in
theorem mm_fills {l : Launch} {G : AG} {L : Nat → Nat} {σ : St} {v1 : Int32} {P : Int64 → St → Prop} (h : wm_fills σ v1 P) : CtW l G yX2_fills cX2_fills 7 (some .long) (rmH 6) [.ref (L 0), .int v1] (mW G L) σ (pL P) := by
  refine CtW.ofL (by decide) (Nat.le_of_ble_eq_true rfl) fun Z _ K E => ?_
  unfold wm_fills at h
  show AX Z 0 0 0 [(0, .ref (L 0)), (1, .int v1)] [] (mW G L σ)
  refine ax_aload_n K 0 rfl dX2_fills_0 ?_
  refine ax_iconst (v := (0 : Int32)) K (by decide) dX2_fills_1 ?_
  refine mp_thrown K dX2_fills_2 ?_
  refine ax_aload_n K 0 rfl dX2_fills_5 ?_
  refine ax_iload_n K 1 rfl dX2_fills_6 ?_
  refine rm_isMenu K (by decide) dX2_fills_7 (Nat.le_of_ble_eq_true rfl) h (fun r7 σ7 h => ?_)
  refine ax_if_ne (tgt := 17) K dX2_fills_10 (by decide) (fun c10 => ?_) (fun c10 => ?_)
  · have h := ax_ie h c10
    refine ax_aload_n K 0 rfl dX2_fills_17 ?_
    refine ax_iload_n K 1 rfl dX2_fills_18 ?_
    refine rm_findFills K (by decide) dX2_fills_19 (Nat.le_of_ble_eq_true rfl) h (fun r19 σ19 h => ?_)
    refine ax_lstore_n (lv' := [(2, .long r19), (0, .ref (L 0)), (1, .int v1)]) K dX2_fills_22 (by decide) rfl ?_
    refine ax_aload_n K 1 rfl dX2_fills_23 ?_
    refine ax_iconst (v := (0 : Int32)) K (by decide) dX2_fills_24 ?_
    refine mp_rowMany K dX2_fills_25 ?_
    refine ax_iconst (v := (0 : Int32)) K (by decide) dX2_fills_28 ?_
    refine ax_istore (lv' := [(4, .int (0 : Int32)), (2, .long r19), (0, .ref (L 0)), (1, .int v1)]) K dX2_fills_29 (by decide) rfl ?_
    refine ax_iconst (v := (-1 : Int32)) K (by decide) dX2_fills_31 ?_
    refine ax_istore (lv' := [(5, .int (-1 : Int32)), (4, .int (0 : Int32)), (2, .long r19), (0, .ref (L 0)), (1, .int v1)]) K dX2_fills_32 (by decide) rfl ?_
    exact ax_sub [3, 4, 2, 1, 0] rfl (h.elim fun n34 h => km_fills_l34 K E (km_fills_j132 K E) n34 v1 r19 (0 : Int32) (-1 : Int32) (mS_rowMany σ19 (0 : Int32)) h)
  · have h := ax_it h c10
    refine ax_ldc2 (v := (-3 : Int64)) K q1567 dX2_fills_13 ?_
    exact E _ _ _ _ dX2_fills_16 h

/-! m.findGame -/
set_option maxHeartbeats 4000000 in
theorem km_findGame_j33 {Z : AZ} {G : AG} {L : Nat → Nat} {P : St → Prop} (K : AK Z G cX2_findGame RX2 3 (rmH 6)) (E : AEv Z cX2_findGame (mW G L) 0 0 P) {K11 : Int32 → Int32 → St → Prop} (hK11 : ∀ (v1 : Int32) (v2 : Int32) (σ : St), K11 v1 v2 σ → AX Z 0 0 11 [(0, .ref (L 0)), (1, .int v1), (2, .int v2)] [] (mW G L σ)) (v1 : Int32) (v2 : Int32) (σ : St) (h : wm_findGame_j33 P K11 v1 v2 σ) : AX Z 0 0 33 [(0, .ref (L 0)), (1, .int v1), (2, .int v2)] [] (mW G L σ) := by
  unfold wm_findGame_j33 at h
  refine ax_iinc (lv' := [(2, .int (v2 + (1 : Int32))), (0, .ref (L 0)), (1, .int v1)]) (v := (v2 + (1 : Int32))) K 2 dX2_findGame_33 rfl (by rfl) (by decide) rfl ?_
  refine ax_goto (tgt := 11) K dX2_findGame_36 (by decide) ?_
  exact ax_sub [1, 2, 0] rfl (hK11 v1 (v2 + (1 : Int32)) σ h)
set_option maxHeartbeats 4000000 in
theorem km_findGame_l11 {Z : AZ} {G : AG} {L : Nat → Nat} {P : St → Prop} (K : AK Z G cX2_findGame RX2 3 (rmH 6)) (E : AEv Z cX2_findGame (mW G L) 0 0 P) {K5 : Int32 → St → Prop} (hK5 : ∀ (v1 : Int32) (σ : St), K5 v1 σ → AX Z 0 0 5 [(0, .ref (L 0)), (1, .int v1)] [] (mW G L σ)) : ∀ (n : Nat) (v1 : Int32) (v2 : Int32) (σ : St), wm_findGame_l11 P K5 n v1 v2 σ → AX Z 0 0 11 [(0, .ref (L 0)), (1, .int v1), (2, .int v2)] [] (mW G L σ) := by
  intro n
  induction n with
  | zero => intro v1 v2 σ h; exact False.elim h
  | succ n ih =>
    intro v1 v2 σ h
    rw [wm_findGame_l11_s] at h
    refine ax_iload_n K 2 rfl dX2_findGame_11 ?_
    refine ax_aload_n K 0 rfl dX2_findGame_12 ?_
    refine mg_dishes K dX2_findGame_13 ?_
    refine ax_icmp_ge (tgt := 39) K dX2_findGame_16 (by decide) (fun c16 => ?_) (fun c16 => ?_)
    · have h := ax_it h c16
      refine ax_iinc (lv' := [(1, .int (v1 + (-1 : Int32))), (0, .ref (L 0)), (2, .int v2)]) (v := (v1 + (-1 : Int32))) K 1 dX2_findGame_39 rfl (by rfl) (by decide) rfl ?_
      refine ax_goto (tgt := 5) K dX2_findGame_42 (by decide) ?_
      exact ax_sub [1, 0] rfl (hK5 (v1 + (-1 : Int32)) σ h)
    · have h := ax_ie h c16
      refine ax_iload_n K 1 rfl dX2_findGame_19 ?_
      refine ax_iload_n K 2 rfl dX2_findGame_20 ?_
      refine rm_isState K (by decide) dX2_findGame_21 (Nat.le_of_ble_eq_true rfl) h (fun r21 h => ?_)
      refine ax_if_eq (tgt := 33) K dX2_findGame_24 (by decide) (fun c24 => ?_) (fun c24 => ?_)
      · have h := ax_it h c24
        exact ax_sub [0, 1, 2] rfl (km_findGame_j33 K E ih v1 v2 σ h)
      · have h := ax_ie h c24
        refine ax_aload_n K 0 rfl dX2_findGame_27 ?_
        refine ax_iload_n K 1 rfl dX2_findGame_28 ?_
        refine ax_iload_n K 2 rfl dX2_findGame_29 ?_
        refine rm_findTurn K (by decide) dX2_findGame_30 (Nat.le_of_ble_eq_true rfl) h (fun σ30 h => ?_)
        exact ax_sub [0, 1, 2] rfl (km_findGame_j33 K E ih v1 v2 σ30 h)
set_option maxHeartbeats 4000000 in
theorem km_findGame_l5 {Z : AZ} {G : AG} {L : Nat → Nat} {P : St → Prop} (K : AK Z G cX2_findGame RX2 3 (rmH 6)) (E : AEv Z cX2_findGame (mW G L) 0 0 P) : ∀ (n : Nat) (v1 : Int32) (σ : St), wm_findGame_l5 P  n v1 σ → AX Z 0 0 5 [(0, .ref (L 0)), (1, .int v1)] [] (mW G L σ) := by
  intro n
  induction n with
  | zero => intro v1 σ h; exact False.elim h
  | succ n ih =>
    intro v1 σ h
    rw [wm_findGame_l5_s] at h
    refine ax_iload_n K 1 rfl dX2_findGame_5 ?_
    refine ax_if_lt (tgt := 45) K dX2_findGame_6 (by decide) (fun c6 => ?_) (fun c6 => ?_)
    · have h := ax_it h c6
      exact E _ _ _ dX2_findGame_45 h
    · have h := ax_ie h c6
      refine ax_iconst (v := (-1 : Int32)) K (by decide) dX2_findGame_9 ?_
      refine ax_istore_n (lv' := [(2, .int (-1 : Int32)), (0, .ref (L 0)), (1, .int v1)]) K dX2_findGame_10 (by decide) rfl ?_
      exact ax_sub [1, 2, 0] rfl (h.elim fun n11 h => km_findGame_l11 K E ih n11 v1 (-1 : Int32) σ h)
set_option maxHeartbeats 4000000 in
theorem mm_findGame {l : Launch} {G : AG} {L : Nat → Nat} {σ : St} {P : St → Prop} (h : wm_findGame σ P) : CtW l G yX2_findGame cX2_findGame 3 none (rmH 6) [.ref (L 0)] (mW G L) σ (pV P) := by
  refine CtW.ofV (by decide) (Nat.le_of_ble_eq_true rfl) fun Z _ K E => ?_
  unfold wm_findGame at h
  show AX Z 0 0 0 [(0, .ref (L 0))] [] (mW G L σ)
  refine ax_aload_n K 0 rfl dX2_findGame_0 ?_
  refine rm_all K (by decide) dX2_findGame_1 (Nat.le_of_ble_eq_true rfl) h (fun r1 σ1 h => ?_)
  refine ax_istore_n (lv' := [(1, .int r1), (0, .ref (L 0))]) K dX2_findGame_4 (by decide) rfl ?_
  exact ax_sub [1, 0] rfl (h.elim fun n5 h => km_findGame_l5 K E  n5 r1 σ1 h)
theorem rm_findGame {Z : AZ} {G : AG} {cc : ByteArray} {mL hh pc : Nat} {lv : List (Nat × Value)} {rest : List Value} {L : Nat → Nat} {σ : St} (K : AK Z G cc RX2 mL (rmH hh)) (hlt : 6 < hh) (d : decode cc pc = .ok (.invokevirtual 369, 3)) (hrest : (rest.map fun v => v.category).sum ≤ 8) {P : St → Prop} (h : sm_findGame σ  P) (kk : ∀ (σ' : St), P σ' → AX Z 0 0 (pc + 3) lv (rest) (mW G L σ')) : AX Z 0 0 pc lv (.ref (L 0) :: rest) (mW G L σ) :=
  ax_callV (N0 := 0) (As := []) K (mm_findGame (sm_findGame_ok h)) q1535 q1537 qs107 q118 q1538 ⟨rfl, by decide, by decide, by decide⟩ rfl ⟨by show 6 + 1 + 1 ≤ hh + 1; omega, by show 8 + (3 + 11) + 60 * (6 + 1) ≤ 60 * (hh + 1); omega⟩ ⟨Nat.zero_le _, Nat.zero_le _⟩ rfl rfl rfl hrest d (fun r σ' hp => by obtain ⟨rfl, hp⟩ := hp; exact kk σ' hp)
/-! m.longestBy -/
set_option maxHeartbeats 4000000 in
theorem km_longestBy_j88 {Z : AZ} {G : AG} {L : Nat → Nat} {P : Int32 → St → Prop} (K : AK Z G cX2_longestBy RX2 7 (rmH 6)) (E : AEi Z cX2_longestBy .int (mW G L) 0 0 P) {K35 : Int32 → Int32 → Int32 → Int32 → Int32 → Int32 → St → Prop} (hK35 : ∀ (v1 : Int32) (v2 : Int32) (v3 : Int32) (v4 : Int32) (v5 : Int32) (v6 : Int32) (σ : St), K35 v1 v2 v3 v4 v5 v6 σ → AX Z 0 0 35 [(0, .ref (L 0)), (1, .int v1), (2, .int v2), (3, .int v3), (4, .int v4), (5, .int v5), (6, .int v6)] [] (mW G L σ)) (v1 : Int32) (v2 : Int32) (v3 : Int32) (v4 : Int32) (v5 : Int32) (v6 : Int32) (σ : St) (h : wm_longestBy_j88 P K35 v1 v2 v3 v4 v5 v6 σ) : AX Z 0 0 88 [(0, .ref (L 0)), (1, .int v1), (2, .int v2), (3, .int v3), (4, .int v4), (5, .int v5), (6, .int v6)] [] (mW G L σ) := by
  unfold wm_longestBy_j88 at h
  refine ax_iinc (lv' := [(6, .int (v6 + (1 : Int32))), (0, .ref (L 0)), (1, .int v1), (2, .int v2), (3, .int v3), (4, .int v4), (5, .int v5)]) (v := (v6 + (1 : Int32))) K 6 dX2_longestBy_88 rfl (by rfl) (by decide) rfl ?_
  refine ax_goto (tgt := 35) K dX2_longestBy_91 (by decide) ?_
  exact ax_sub [1, 2, 3, 4, 5, 6, 0] rfl (hK35 v1 v2 v3 v4 v5 (v6 + (1 : Int32)) σ h)
set_option maxHeartbeats 4000000 in
theorem km_longestBy_l35 {Z : AZ} {G : AG} {L : Nat → Nat} {P : Int32 → St → Prop} (K : AK Z G cX2_longestBy RX2 7 (rmH 6)) (E : AEi Z cX2_longestBy .int (mW G L) 0 0 P) {K23 : Int32 → Int32 → Int32 → Int32 → Int32 → St → Prop} (hK23 : ∀ (v1 : Int32) (v2 : Int32) (v3 : Int32) (v4 : Int32) (v5 : Int32) (σ : St), K23 v1 v2 v3 v4 v5 σ → AX Z 0 0 23 [(0, .ref (L 0)), (1, .int v1), (2, .int v2), (3, .int v3), (4, .int v4), (5, .int v5)] [] (mW G L σ)) : ∀ (n : Nat) (v1 : Int32) (v2 : Int32) (v3 : Int32) (v4 : Int32) (v5 : Int32) (v6 : Int32) (σ : St), wm_longestBy_l35 P K23 n v1 v2 v3 v4 v5 v6 σ → AX Z 0 0 35 [(0, .ref (L 0)), (1, .int v1), (2, .int v2), (3, .int v3), (4, .int v4), (5, .int v5), (6, .int v6)] [] (mW G L σ) := by
  intro n
  induction n with
  | zero => intro v1 v2 v3 v4 v5 v6 σ h; exact False.elim h
  | succ n ih =>
    intro v1 v2 v3 v4 v5 v6 σ h
    rw [wm_longestBy_l35_s] at h
    refine ax_iload K 6 rfl dX2_longestBy_35 ?_
    refine ax_aload_n K 0 rfl dX2_longestBy_37 ?_
    refine mg_dishes K dX2_longestBy_38 ?_
    refine ax_icmp_ge (tgt := 94) K dX2_longestBy_41 (by decide) (fun c41 => ?_) (fun c41 => ?_)
    · have h := ax_it h c41
      refine ax_iinc (lv' := [(5, .int (v5 + (1 : Int32))), (0, .ref (L 0)), (1, .int v1), (2, .int v2), (3, .int v3), (4, .int v4), (6, .int v6)]) (v := (v5 + (1 : Int32))) K 5 dX2_longestBy_94 rfl (by rfl) (by decide) rfl ?_
      refine ax_goto (tgt := 23) K dX2_longestBy_97 (by decide) ?_
      exact ax_sub [1, 2, 3, 4, 5, 0] rfl (hK23 v1 v2 v3 v4 (v5 + (1 : Int32)) σ h)
    · have h := ax_ie h c41
      refine ax_iload K 5 rfl dX2_longestBy_44 ?_
      refine ax_iload K 6 rfl dX2_longestBy_46 ?_
      refine rm_has K (by decide) dX2_longestBy_48 (Nat.le_of_ble_eq_true rfl) h (fun r48 h => ?_)
      refine ax_if_eq (tgt := 88) K dX2_longestBy_51 (by decide) (fun c51 => ?_) (fun c51 => ?_)
      · have h := ax_it h c51
        exact ax_sub [0, 1, 2, 3, 4, 5, 6] rfl (km_longestBy_j88 K E ih v1 v2 v3 v4 v5 v6 σ h)
      · have h := ax_ie h c51
        refine ax_aload_n K 0 rfl dX2_longestBy_54 ?_
        refine mg_rows K dX2_longestBy_55 ?_
        refine ax_iload K 5 rfl dX2_longestBy_58 ?_
        refine ax_iload K 6 rfl dX2_longestBy_60 ?_
        refine rm_place K (by decide) dX2_longestBy_62 (Nat.le_of_ble_eq_true rfl) h (fun r62 h => ?_)
        refine ml_rows K h.1 dX2_longestBy_65 ?_
        replace h := h.2
        refine ax_lconst (v := (0 : Int64)) K (by decide) dX2_longestBy_66 ?_
        refine ax_lcmp K dX2_longestBy_67 ?_
        refine ax_if_le (tgt := 88) K dX2_longestBy_68 (by decide) (fun c68 => ?_) (fun c68 => ?_)
        · have h := ax_it h c68
          exact ax_sub [0, 1, 2, 3, 4, 5, 6] rfl (km_longestBy_j88 K E ih v1 v2 v3 v4 v5 v6 σ h)
        · have h := ax_ie h c68
          refine ax_iload K 4 rfl dX2_longestBy_71 ?_
          refine ax_iload K 5 rfl dX2_longestBy_73 ?_
          refine rm_bitCount K (by decide) dX2_longestBy_75 (Nat.le_of_ble_eq_true rfl) ?_
          refine ax_aload_n K 0 rfl dX2_longestBy_78 ?_
          refine mg_servedMany K dX2_longestBy_79 ?_
          refine ax_isub K dX2_longestBy_82 ?_
          refine rm_max K (by decide) (Nat.le_of_ble_eq_true rfl) dX2_longestBy_83 ?_
          refine ax_istore (lv' := [(4, .int (jmax v4 ((bitC v5) - (mI_servedMany σ)))), (0, .ref (L 0)), (1, .int v1), (2, .int v2), (3, .int v3), (5, .int v5), (6, .int v6)]) K dX2_longestBy_86 (by decide) rfl ?_
          exact ax_sub [1, 2, 3, 4, 0, 5, 6] rfl (km_longestBy_j88 K E ih v1 v2 v3 (jmax v4 ((bitC v5) - (mI_servedMany σ))) v5 v6 σ h)
set_option maxHeartbeats 4000000 in
theorem km_longestBy_l23 {Z : AZ} {G : AG} {L : Nat → Nat} {P : Int32 → St → Prop} (K : AK Z G cX2_longestBy RX2 7 (rmH 6)) (E : AEi Z cX2_longestBy .int (mW G L) 0 0 P) {K107 : Int32 → Int32 → Int32 → Int32 → Int32 → St → Prop} (hK107 : ∀ (v1 : Int32) (v2 : Int32) (v3 : Int32) (v4 : Int32) (v5 : Int32) (σ : St), K107 v1 v2 v3 v4 v5 σ → AX Z 0 0 107 [(0, .ref (L 0)), (1, .int v1), (2, .int v2), (3, .int v3), (4, .int v4), (5, .int v5)] [] (mW G L σ)) : ∀ (n : Nat) (v1 : Int32) (v2 : Int32) (v3 : Int32) (v4 : Int32) (v5 : Int32) (σ : St), wm_longestBy_l23 P K107 n v1 v2 v3 v4 v5 σ → AX Z 0 0 23 [(0, .ref (L 0)), (1, .int v1), (2, .int v2), (3, .int v3), (4, .int v4), (5, .int v5)] [] (mW G L σ) := by
  intro n
  induction n with
  | zero => intro v1 v2 v3 v4 v5 σ h; exact False.elim h
  | succ n ih =>
    intro v1 v2 v3 v4 v5 σ h
    rw [wm_longestBy_l23_s] at h
    refine ax_iload K 5 rfl dX2_longestBy_23 ?_
    refine ax_aload_n K 0 rfl dX2_longestBy_25 ?_
    refine rm_all K (by decide) dX2_longestBy_26 (Nat.le_of_ble_eq_true rfl) h (fun r26 σ26 h => ?_)
    refine ax_icmp_gt (tgt := 100) K dX2_longestBy_29 (by decide) (fun c29 => ?_) (fun c29 => ?_)
    · have h := ax_it h c29
      refine ax_aload_n K 0 rfl dX2_longestBy_100 ?_
      refine rm_noEnds K (by decide) dX2_longestBy_101 (Nat.le_of_ble_eq_true rfl) h (fun σ101 h => ?_)
      refine ax_iconst (v := (0 : Int32)) K (by decide) dX2_longestBy_104 ?_
      refine ax_istore (lv' := [(5, .int (0 : Int32)), (0, .ref (L 0)), (1, .int v1), (2, .int v2), (3, .int v3), (4, .int v4)]) K dX2_longestBy_105 (by decide) rfl ?_
      exact ax_sub [1, 2, 3, 4, 5, 0] rfl (hK107 v1 v2 v3 v4 (0 : Int32) σ101 h)
    · have h := ax_ie h c29
      refine ax_iconst (v := (0 : Int32)) K (by decide) dX2_longestBy_32 ?_
      refine ax_istore (lv' := [(6, .int (0 : Int32)), (0, .ref (L 0)), (1, .int v1), (2, .int v2), (3, .int v3), (4, .int v4), (5, .int v5)]) K dX2_longestBy_33 (by decide) rfl ?_
      exact ax_sub [1, 2, 3, 4, 5, 6, 0] rfl (h.elim fun n35 h => km_longestBy_l35 K E ih n35 v1 v2 v3 v4 v5 (0 : Int32) σ26 h)
set_option maxHeartbeats 4000000 in
theorem km_longestBy_j187 {Z : AZ} {G : AG} {L : Nat → Nat} {P : Int32 → St → Prop} (K : AK Z G cX2_longestBy RX2 7 (rmH 6)) (E : AEi Z cX2_longestBy .int (mW G L) 0 0 P) {K119 : Int32 → Int32 → Int32 → Int32 → Int32 → Int32 → St → Prop} (hK119 : ∀ (v1 : Int32) (v2 : Int32) (v3 : Int32) (v4 : Int32) (v5 : Int32) (v6 : Int32) (σ : St), K119 v1 v2 v3 v4 v5 v6 σ → AX Z 0 0 119 [(0, .ref (L 0)), (1, .int v1), (2, .int v2), (3, .int v3), (4, .int v4), (5, .int v5), (6, .int v6)] [] (mW G L σ)) (v1 : Int32) (v2 : Int32) (v3 : Int32) (v4 : Int32) (v5 : Int32) (v6 : Int32) (σ : St) (h : wm_longestBy_j187 P K119 v1 v2 v3 v4 v5 v6 σ) : AX Z 0 0 187 [(0, .ref (L 0)), (1, .int v1), (2, .int v2), (3, .int v3), (4, .int v4), (5, .int v5), (6, .int v6)] [] (mW G L σ) := by
  unfold wm_longestBy_j187 at h
  refine ax_iinc (lv' := [(6, .int (v6 + (1 : Int32))), (0, .ref (L 0)), (1, .int v1), (2, .int v2), (3, .int v3), (4, .int v4), (5, .int v5)]) (v := (v6 + (1 : Int32))) K 6 dX2_longestBy_187 rfl (by rfl) (by decide) rfl ?_
  refine ax_goto (tgt := 119) K dX2_longestBy_190 (by decide) ?_
  exact ax_sub [1, 2, 3, 4, 5, 6, 0] rfl (hK119 v1 v2 v3 v4 v5 (v6 + (1 : Int32)) σ h)
set_option maxHeartbeats 4000000 in
theorem km_longestBy_j186 {Z : AZ} {G : AG} {L : Nat → Nat} {P : Int32 → St → Prop} (K : AK Z G cX2_longestBy RX2 7 (rmH 6)) (E : AEi Z cX2_longestBy .int (mW G L) 0 0 P) {K119 : Int32 → Int32 → Int32 → Int32 → Int32 → Int32 → St → Prop} (hK119 : ∀ (v1 : Int32) (v2 : Int32) (v3 : Int32) (v4 : Int32) (v5 : Int32) (v6 : Int32) (σ : St), K119 v1 v2 v3 v4 v5 v6 σ → AX Z 0 0 119 [(0, .ref (L 0)), (1, .int v1), (2, .int v2), (3, .int v3), (4, .int v4), (5, .int v5), (6, .int v6)] [] (mW G L σ)) (v1 : Int32) (v2 : Int32) (v3 : Int32) (v4 : Int32) (v5 : Int32) (v6 : Int32) (s1 : Int32) (s2 : Int32) (σ : St) (h : wm_longestBy_j186 P K119 v1 v2 v3 v4 v5 v6 s1 s2 σ) : AX Z 0 0 186 [(0, .ref (L 0)), (1, .int v1), (2, .int v2), (3, .int v3), (4, .int v4), (5, .int v5), (6, .int v6)] [.int s2, .int s1, .ref (L 14)] (mW G L σ) := by
  unfold wm_longestBy_j186 at h
  refine ms_isEnd K h.1 dX2_longestBy_186 ?_
  replace h := h.2
  exact ax_sub [0, 1, 2, 3, 4, 5, 6] rfl (km_longestBy_j187 K E hK119 v1 v2 v3 v4 v5 v6 (mU_isEnd σ s1 (vp_nar .boolean s2)) h)
set_option maxHeartbeats 4000000 in
theorem km_longestBy_l119 {Z : AZ} {G : AG} {L : Nat → Nat} {P : Int32 → St → Prop} (K : AK Z G cX2_longestBy RX2 7 (rmH 6)) (E : AEi Z cX2_longestBy .int (mW G L) 0 0 P) {K107 : Int32 → Int32 → Int32 → Int32 → Int32 → St → Prop} (hK107 : ∀ (v1 : Int32) (v2 : Int32) (v3 : Int32) (v4 : Int32) (v5 : Int32) (σ : St), K107 v1 v2 v3 v4 v5 σ → AX Z 0 0 107 [(0, .ref (L 0)), (1, .int v1), (2, .int v2), (3, .int v3), (4, .int v4), (5, .int v5)] [] (mW G L σ)) : ∀ (n : Nat) (v1 : Int32) (v2 : Int32) (v3 : Int32) (v4 : Int32) (v5 : Int32) (v6 : Int32) (σ : St), wm_longestBy_l119 P K107 n v1 v2 v3 v4 v5 v6 σ → AX Z 0 0 119 [(0, .ref (L 0)), (1, .int v1), (2, .int v2), (3, .int v3), (4, .int v4), (5, .int v5), (6, .int v6)] [] (mW G L σ) := by
  intro n
  induction n with
  | zero => intro v1 v2 v3 v4 v5 v6 σ h; exact False.elim h
  | succ n ih =>
    intro v1 v2 v3 v4 v5 v6 σ h
    rw [wm_longestBy_l119_s] at h
    refine ax_iload K 6 rfl dX2_longestBy_119 ?_
    refine ax_aload_n K 0 rfl dX2_longestBy_121 ?_
    refine mg_dishes K dX2_longestBy_122 ?_
    refine ax_icmp_ge (tgt := 193) K dX2_longestBy_125 (by decide) (fun c125 => ?_) (fun c125 => ?_)
    · have h := ax_it h c125
      refine ax_iinc (lv' := [(5, .int (v5 + (1 : Int32))), (0, .ref (L 0)), (1, .int v1), (2, .int v2), (3, .int v3), (4, .int v4), (6, .int v6)]) (v := (v5 + (1 : Int32))) K 5 dX2_longestBy_193 rfl (by rfl) (by decide) rfl ?_
      refine ax_goto (tgt := 107) K dX2_longestBy_196 (by decide) ?_
      exact ax_sub [1, 2, 3, 4, 5, 0] rfl (hK107 v1 v2 v3 v4 (v5 + (1 : Int32)) σ h)
    · have h := ax_ie h c125
      refine ax_iload K 5 rfl dX2_longestBy_128 ?_
      refine ax_iload K 6 rfl dX2_longestBy_130 ?_
      refine rm_isState K (by decide) dX2_longestBy_132 (Nat.le_of_ble_eq_true rfl) h (fun r132 h => ?_)
      refine ax_if_eq (tgt := 187) K dX2_longestBy_135 (by decide) (fun c135 => ?_) (fun c135 => ?_)
      · have h := ax_it h c135
        exact ax_sub [0, 1, 2, 3, 4, 5, 6] rfl (km_longestBy_j187 K E ih v1 v2 v3 v4 v5 v6 σ h)
      · have h := ax_ie h c135
        refine ax_aload_n K 0 rfl dX2_longestBy_138 ?_
        refine mg_rows K dX2_longestBy_139 ?_
        refine ax_iload K 5 rfl dX2_longestBy_142 ?_
        refine ax_iload K 6 rfl dX2_longestBy_144 ?_
        refine rm_place K (by decide) dX2_longestBy_146 (Nat.le_of_ble_eq_true rfl) h (fun r146 h => ?_)
        refine ml_rows K h.1 dX2_longestBy_149 ?_
        replace h := h.2
        refine ax_lconst (v := (0 : Int64)) K (by decide) dX2_longestBy_150 ?_
        refine ax_lcmp K dX2_longestBy_151 ?_
        refine ax_if_le (tgt := 187) K dX2_longestBy_152 (by decide) (fun c152 => ?_) (fun c152 => ?_)
        · have h := ax_it h c152
          exact ax_sub [0, 1, 2, 3, 4, 5, 6] rfl (km_longestBy_j187 K E ih v1 v2 v3 v4 v5 v6 σ h)
        · have h := ax_ie h c152
          refine ax_aload_n K 0 rfl dX2_longestBy_155 ?_
          refine mg_isEnd K dX2_longestBy_156 ?_
          refine ax_iload K 5 rfl dX2_longestBy_159 ?_
          refine ax_iload K 6 rfl dX2_longestBy_161 ?_
          refine rm_place K (by decide) dX2_longestBy_163 (Nat.le_of_ble_eq_true rfl) h (fun r163 h => ?_)
          refine ax_iload K 5 rfl dX2_longestBy_166 ?_
          refine rm_bitCount K (by decide) dX2_longestBy_168 (Nat.le_of_ble_eq_true rfl) ?_
          refine ax_aload_n K 0 rfl dX2_longestBy_171 ?_
          refine mg_servedMany K dX2_longestBy_172 ?_
          refine ax_isub K dX2_longestBy_175 ?_
          refine ax_iload K 4 rfl dX2_longestBy_176 ?_
          refine ax_icmp_ne (tgt := 185) K dX2_longestBy_178 (by decide) (fun c178 => ?_) (fun c178 => ?_)
          · have h := ax_ie h c178
            refine ax_iconst (v := (0 : Int32)) K (by decide) dX2_longestBy_185 ?_
            exact ax_sub [0, 1, 2, 3, 4, 5, 6] rfl (km_longestBy_j186 K E ih v1 v2 v3 v4 v5 v6 r163 (0 : Int32) σ h)
          · have h := ax_it h c178
            refine ax_iconst (v := (1 : Int32)) K (by decide) dX2_longestBy_181 ?_
            refine ax_goto (tgt := 186) K dX2_longestBy_182 (by decide) ?_
            exact ax_sub [0, 1, 2, 3, 4, 5, 6] rfl (km_longestBy_j186 K E ih v1 v2 v3 v4 v5 v6 r163 (1 : Int32) σ h)
set_option maxHeartbeats 4000000 in
theorem km_longestBy_l107 {Z : AZ} {G : AG} {L : Nat → Nat} {P : Int32 → St → Prop} (K : AK Z G cX2_longestBy RX2 7 (rmH 6)) (E : AEi Z cX2_longestBy .int (mW G L) 0 0 P) : ∀ (n : Nat) (v1 : Int32) (v2 : Int32) (v3 : Int32) (v4 : Int32) (v5 : Int32) (σ : St), wm_longestBy_l107 P  n v1 v2 v3 v4 v5 σ → AX Z 0 0 107 [(0, .ref (L 0)), (1, .int v1), (2, .int v2), (3, .int v3), (4, .int v4), (5, .int v5)] [] (mW G L σ) := by
  intro n
  induction n with
  | zero => intro v1 v2 v3 v4 v5 σ h; exact False.elim h
  | succ n ih =>
    intro v1 v2 v3 v4 v5 σ h
    rw [wm_longestBy_l107_s] at h
    refine ax_iload K 5 rfl dX2_longestBy_107 ?_
    refine ax_aload_n K 0 rfl dX2_longestBy_109 ?_
    refine rm_all K (by decide) dX2_longestBy_110 (Nat.le_of_ble_eq_true rfl) h (fun r110 σ110 h => ?_)
    refine ax_icmp_gt (tgt := 199) K dX2_longestBy_113 (by decide) (fun c113 => ?_) (fun c113 => ?_)
    · have h := ax_it h c113
      refine ax_aload_n K 0 rfl dX2_longestBy_199 ?_
      refine ax_iload_n K 1 rfl dX2_longestBy_200 ?_
      refine rm_findEnds K (by decide) dX2_longestBy_201 (Nat.le_of_ble_eq_true rfl) h (fun σ201 h => ?_)
      refine ax_aload_n K 0 rfl dX2_longestBy_204 ?_
      refine ax_iconst (v := (0 : Int32)) K (by decide) dX2_longestBy_205 ?_
      refine mp_rowMany K dX2_longestBy_206 ?_
      refine ax_aload_n K 0 rfl dX2_longestBy_209 ?_
      refine ax_iload_n K 2 rfl dX2_longestBy_210 ?_
      refine ax_iload_n K 3 rfl dX2_longestBy_211 ?_
      refine ax_iload_n K 1 rfl dX2_longestBy_212 ?_
      refine rm_tellWay K (by decide) dX2_longestBy_213 (Nat.le_of_ble_eq_true rfl) h (fun σ213 h => ?_)
      refine ax_iload K 4 rfl dX2_longestBy_216 ?_
      exact E _ _ _ _ dX2_longestBy_218 rfl h
    · have h := ax_ie h c113
      refine ax_iconst (v := (-1 : Int32)) K (by decide) dX2_longestBy_116 ?_
      refine ax_istore (lv' := [(6, .int (-1 : Int32)), (0, .ref (L 0)), (1, .int v1), (2, .int v2), (3, .int v3), (4, .int v4), (5, .int v5)]) K dX2_longestBy_117 (by decide) rfl ?_
      exact ax_sub [1, 2, 3, 4, 5, 6, 0] rfl (h.elim fun n119 h => km_longestBy_l119 K E ih n119 v1 v2 v3 v4 v5 (-1 : Int32) σ110 h)
set_option maxHeartbeats 4000000 in
theorem mm_longestBy {l : Launch} {G : AG} {L : Nat → Nat} {σ : St} {v1 : Int32} {P : Int32 → St → Prop} (h : wm_longestBy σ v1 P) : CtW l G yX2_longestBy cX2_longestBy 7 (some .int) (rmH 6) [.ref (L 0), .int v1] (mW G L) σ (pI P) := by
  refine CtW.ofI (by decide) (Nat.le_of_ble_eq_true rfl) fun Z _ K E => ?_
  unfold wm_longestBy at h
  show AX Z 0 0 0 [(0, .ref (L 0)), (1, .int v1)] [] (mW G L σ)
  refine ax_aload_n K 0 rfl dX2_longestBy_0 ?_
  refine rm_servedSet K (by decide) dX2_longestBy_1 (Nat.le_of_ble_eq_true rfl) h (fun r1 σ1 h => ?_)
  refine ax_istore_n (lv' := [(2, .int r1), (0, .ref (L 0)), (1, .int v1)]) K dX2_longestBy_4 (by decide) rfl ?_
  refine ax_aload_n K 1 rfl dX2_longestBy_5 ?_
  refine rm_servedLast K (by decide) dX2_longestBy_6 (Nat.le_of_ble_eq_true rfl) h (fun r6 σ6 h => ?_)
  refine ax_istore_n (lv' := [(3, .int r6), (2, .int r1), (0, .ref (L 0)), (1, .int v1)]) K dX2_longestBy_9 (by decide) rfl ?_
  refine ax_aload_n K 2 rfl dX2_longestBy_10 ?_
  refine ax_iload_n K 1 rfl dX2_longestBy_11 ?_
  refine ax_iload_n K 0 rfl dX2_longestBy_12 ?_
  refine ax_iload_n K 3 rfl dX2_longestBy_13 ?_
  refine rm_findRows K (by decide) dX2_longestBy_14 (Nat.le_of_ble_eq_true rfl) h (fun σ14 h => ?_)
  refine ax_iconst (v := (0 : Int32)) K (by decide) dX2_longestBy_17 ?_
  refine ax_istore (lv' := [(4, .int (0 : Int32)), (3, .int r6), (2, .int r1), (0, .ref (L 0)), (1, .int v1)]) K dX2_longestBy_18 (by decide) rfl ?_
  refine ax_iconst (v := (0 : Int32)) K (by decide) dX2_longestBy_20 ?_
  refine ax_istore (lv' := [(5, .int (0 : Int32)), (4, .int (0 : Int32)), (3, .int r6), (2, .int r1), (0, .ref (L 0)), (1, .int v1)]) K dX2_longestBy_21 (by decide) rfl ?_
  exact ax_sub [4, 5, 3, 2, 1, 0] rfl (h.elim fun n23 h => km_longestBy_l23 K E (fun v1 v2 v3 v4 v5 σ h => h.elim fun n107 h => km_longestBy_l107 K E  n107 v1 v2 v3 v4 v5 σ h) n23 v1 r1 r6 (0 : Int32) (0 : Int32) σ14 h)
theorem rm_longestBy {Z : AZ} {G : AG} {cc : ByteArray} {mL hh pc : Nat} {lv : List (Nat × Value)} {rest : List Value} {L : Nat → Nat} {σ : St} (K : AK Z G cc RX2 mL (rmH hh)) (hlt : 6 < hh) (d : decode cc pc = .ok (.invokevirtual 323, 3)) (hrest : (rest.map fun v => v.category).sum ≤ 8) {v1 : Int32} {P : Int32 → St → Prop} (h : sm_longestBy σ v1 P) (kk : ∀ (r : Int32) (σ' : St), P r σ' → AX Z 0 0 (pc + 3) lv (.int r :: rest) (mW G L σ')) : AX Z 0 0 pc lv (.int v1 :: .ref (L 0) :: rest) (mW G L σ) :=
  ax_callV (N0 := 1) (As := [.int v1]) K (mm_longestBy (sm_longestBy_ok h)) q1407 q1409 qs92 q118 q1410 ⟨rfl, by decide, by decide, by decide⟩ rfl ⟨by show 6 + 1 + 1 ≤ hh + 1; omega, by show 8 + (7 + 11) + 60 * (6 + 1) ≤ 60 * (hh + 1); omega⟩ ⟨Nat.zero_le _, Nat.zero_le _⟩ rfl rfl rfl hrest d (fun r σ' hp => by obtain ⟨v, rfl, hp⟩ := hp; exact kk v σ' hp)
/-! m.mend -/
set_option maxHeartbeats 4000000 in
theorem km_mend_j209 {Z : AZ} {G : AG} {L : Nat → Nat} {P : Int32 → St → Prop} (K : AK Z G cX2_mend RX2 9 (rmH 6)) (E : AEi Z cX2_mend .int (mW G L) 0 0 P) {K135 : Int32 → Int32 → Int32 → Int32 → Int32 → Int32 → Int32 → Int32 → St → Prop} (hK135 : ∀ (v1 : Int32) (v2 : Int32) (v3 : Int32) (v4 : Int32) (v5 : Int32) (v6 : Int32) (v7 : Int32) (v8 : Int32) (σ : St), K135 v1 v2 v3 v4 v5 v6 v7 v8 σ → AX Z 0 0 135 [(0, .ref (L 0)), (1, .int v1), (2, .int v2), (3, .int v3), (4, .int v4), (5, .int v5), (6, .int v6), (7, .int v7), (8, .int v8)] [] (mW G L σ)) (v1 : Int32) (v2 : Int32) (v3 : Int32) (v4 : Int32) (v5 : Int32) (v6 : Int32) (v7 : Int32) (v8 : Int32) (σ : St) (h : wm_mend_j209 P K135 v1 v2 v3 v4 v5 v6 v7 v8 σ) : AX Z 0 0 209 [(0, .ref (L 0)), (1, .int v1), (2, .int v2), (3, .int v3), (4, .int v4), (5, .int v5), (6, .int v6), (7, .int v7), (8, .int v8)] [] (mW G L σ) := by
  unfold wm_mend_j209 at h
  refine ax_iinc (lv' := [(8, .int (v8 + (1 : Int32))), (0, .ref (L 0)), (1, .int v1), (2, .int v2), (3, .int v3), (4, .int v4), (5, .int v5), (6, .int v6), (7, .int v7)]) (v := (v8 + (1 : Int32))) K 8 dX2_mend_209 rfl (by rfl) (by decide) rfl ?_
  refine ax_goto (tgt := 135) K dX2_mend_212 (by decide) ?_
  exact ax_sub [1, 2, 3, 4, 5, 6, 7, 8, 0] rfl (hK135 v1 v2 v3 v4 v5 v6 v7 (v8 + (1 : Int32)) σ h)
set_option maxHeartbeats 4000000 in
theorem km_mend_j203 {Z : AZ} {G : AG} {L : Nat → Nat} {P : Int32 → St → Prop} (K : AK Z G cX2_mend RX2 9 (rmH 6)) (E : AEi Z cX2_mend .int (mW G L) 0 0 P) {K135 : Int32 → Int32 → Int32 → Int32 → Int32 → Int32 → Int32 → Int32 → St → Prop} (hK135 : ∀ (v1 : Int32) (v2 : Int32) (v3 : Int32) (v4 : Int32) (v5 : Int32) (v6 : Int32) (v7 : Int32) (v8 : Int32) (σ : St), K135 v1 v2 v3 v4 v5 v6 v7 v8 σ → AX Z 0 0 135 [(0, .ref (L 0)), (1, .int v1), (2, .int v2), (3, .int v3), (4, .int v4), (5, .int v5), (6, .int v6), (7, .int v7), (8, .int v8)] [] (mW G L σ)) (v1 : Int32) (v2 : Int32) (v3 : Int32) (v4 : Int32) (v5 : Int32) (v6 : Int32) (v8 : Int32) (s0 : Int32) (s1 : Int32) (s2 : Int32) (σ : St) (h : wm_mend_j203 P K135 v1 v2 v3 v4 v5 v6 v8 s0 s1 s2 σ) : AX Z 0 0 203 [(0, .ref (L 0)), (1, .int v1), (2, .int v2), (3, .int v3), (4, .int v4), (5, .int v5), (6, .int v6), (8, .int v8)] [.int s2, .int s1, .int s0] (mW G L σ) := by
  unfold wm_mend_j203 at h
  refine ax_iadd K dX2_mend_203 ?_
  refine rm_min K (by decide) (Nat.le_of_ble_eq_true rfl) dX2_mend_204 ?_
  refine ax_istore (lv' := [(7, .int (jmin s0 (s1 + s2))), (0, .ref (L 0)), (1, .int v1), (2, .int v2), (3, .int v3), (4, .int v4), (5, .int v5), (6, .int v6), (8, .int v8)]) K dX2_mend_207 (by decide) rfl ?_
  exact ax_sub [1, 2, 3, 4, 5, 6, 7, 0, 8] rfl (km_mend_j209 K E hK135 v1 v2 v3 v4 v5 v6 (jmin s0 (s1 + s2)) v8 σ h)
set_option maxHeartbeats 4000000 in
theorem km_mend_l135 {Z : AZ} {G : AG} {L : Nat → Nat} {P : Int32 → St → Prop} (K : AK Z G cX2_mend RX2 9 (rmH 6)) (E : AEi Z cX2_mend .int (mW G L) 0 0 P) {K215 : Int32 → Int32 → Int32 → Int32 → Int32 → Int32 → Int32 → St → Prop} (hK215 : ∀ (v1 : Int32) (v2 : Int32) (v3 : Int32) (v4 : Int32) (v5 : Int32) (v6 : Int32) (v7 : Int32) (σ : St), K215 v1 v2 v3 v4 v5 v6 v7 σ → AX Z 0 0 215 [(0, .ref (L 0)), (1, .int v1), (2, .int v2), (3, .int v3), (4, .int v4), (5, .int v5), (6, .int v6), (7, .int v7)] [] (mW G L σ)) : ∀ (n : Nat) (v1 : Int32) (v2 : Int32) (v3 : Int32) (v4 : Int32) (v5 : Int32) (v6 : Int32) (v7 : Int32) (v8 : Int32) (σ : St), wm_mend_l135 P K215 n v1 v2 v3 v4 v5 v6 v7 v8 σ → AX Z 0 0 135 [(0, .ref (L 0)), (1, .int v1), (2, .int v2), (3, .int v3), (4, .int v4), (5, .int v5), (6, .int v6), (7, .int v7), (8, .int v8)] [] (mW G L σ) := by
  intro n
  induction n with
  | zero => intro v1 v2 v3 v4 v5 v6 v7 v8 σ h; exact False.elim h
  | succ n ih =>
    intro v1 v2 v3 v4 v5 v6 v7 v8 σ h
    rw [wm_mend_l135_s] at h
    refine ax_iload K 8 rfl dX2_mend_135 ?_
    refine ax_aload_n K 0 rfl dX2_mend_137 ?_
    refine mg_dishes K dX2_mend_138 ?_
    refine ax_icmp_ge (tgt := 215) K dX2_mend_141 (by decide) (fun c141 => ?_) (fun c141 => ?_)
    · have h := ax_it h c141
      exact ax_sub [0, 1, 2, 3, 4, 5, 6, 7] rfl (hK215 v1 v2 v3 v4 v5 v6 v7 σ h)
    · have h := ax_ie h c141
      refine ax_iload K 5 rfl dX2_mend_144 ?_
      refine rm_bitCount K (by decide) dX2_mend_146 (Nat.le_of_ble_eq_true rfl) ?_
      refine ax_iload K 4 rfl dX2_mend_149 ?_
      refine ax_icmp_ge (tgt := 215) K dX2_mend_151 (by decide) (fun c151 => ?_) (fun c151 => ?_)
      · have h := ax_it h c151
        exact ax_sub [0, 1, 2, 3, 4, 5, 6, 7] rfl (hK215 v1 v2 v3 v4 v5 v6 v7 σ h)
      · have h := ax_ie h c151
        refine ax_aload_n K 0 rfl dX2_mend_154 ?_
        refine ax_iload K 5 rfl dX2_mend_155 ?_
        refine ax_iload K 6 rfl dX2_mend_157 ?_
        refine ax_iload K 8 rfl dX2_mend_159 ?_
        refine rm_may K (by decide) dX2_mend_161 (Nat.le_of_ble_eq_true rfl) h (fun r161 σ161 h => ?_)
        refine ax_if_eq (tgt := 209) K dX2_mend_164 (by decide) (fun c164 => ?_) (fun c164 => ?_)
        · have h := ax_it h c164
          exact ax_sub [0, 1, 2, 3, 4, 5, 6, 7, 8] rfl (km_mend_j209 K E ih v1 v2 v3 v4 v5 v6 v7 v8 σ161 h)
        · have h := ax_ie h c164
          refine ax_iload K 7 rfl dX2_mend_167 ?_
          refine ax_aload_n K 0 rfl dX2_mend_169 ?_
          refine mg_changesFrom K dX2_mend_170 ?_
          refine ax_iload K 5 rfl dX2_mend_173 ?_
          refine ax_iconst (v := (1 : Int32)) K (by decide) dX2_mend_175 ?_
          refine ax_iload K 8 rfl dX2_mend_176 ?_
          refine ax_ishl K dX2_mend_178 ?_
          refine ax_ior K dX2_mend_179 ?_
          refine ax_iload K 8 rfl dX2_mend_180 ?_
          refine rm_place K (by decide) dX2_mend_182 (Nat.le_of_ble_eq_true rfl) h (fun r182 h => ?_)
          refine ml_changesFrom K h.1 dX2_mend_185 ?_
          replace h := h.2
          refine ax_iload K 8 rfl dX2_mend_186 ?_
          refine ax_aload_n K 0 rfl dX2_mend_188 ?_
          refine ax_iload_n K 1 rfl dX2_mend_189 ?_
          refine ax_iload K 5 rfl dX2_mend_190 ?_
          refine rm_menuAt K (by decide) dX2_mend_192 (Nat.le_of_ble_eq_true rfl) h (fun r192 σ192 h => ?_)
          refine ax_icmp_ne (tgt := 202) K dX2_mend_195 (by decide) (fun c195 => ?_) (fun c195 => ?_)
          · have h := ax_ie h c195
            refine ax_iconst (v := (1 : Int32)) K (by decide) dX2_mend_202 ?_
            exact ax_sub [0, 1, 2, 3, 4, 5, 6, 8] rfl (km_mend_j203 K E ih v1 v2 v3 v4 v5 v6 v8 v7 (mA_changesFrom σ161 (r182).toNatClampNeg) (1 : Int32) σ192 h)
          · have h := ax_it h c195
            refine ax_iconst (v := (0 : Int32)) K (by decide) dX2_mend_198 ?_
            refine ax_goto (tgt := 203) K dX2_mend_199 (by decide) ?_
            exact ax_sub [0, 1, 2, 3, 4, 5, 6, 8] rfl (km_mend_j203 K E ih v1 v2 v3 v4 v5 v6 v8 v7 (mA_changesFrom σ161 (r182).toNatClampNeg) (0 : Int32) σ192 h)
set_option maxHeartbeats 4000000 in
theorem km_mend_j235 {Z : AZ} {G : AG} {L : Nat → Nat} {P : Int32 → St → Prop} (K : AK Z G cX2_mend RX2 9 (rmH 6)) (E : AEi Z cX2_mend .int (mW G L) 0 0 P) {K91 : Int32 → Int32 → Int32 → Int32 → Int32 → Int32 → St → Prop} (hK91 : ∀ (v1 : Int32) (v2 : Int32) (v3 : Int32) (v4 : Int32) (v5 : Int32) (v6 : Int32) (σ : St), K91 v1 v2 v3 v4 v5 v6 σ → AX Z 0 0 91 [(0, .ref (L 0)), (1, .int v1), (2, .int v2), (3, .int v3), (4, .int v4), (5, .int v5), (6, .int v6)] [] (mW G L σ)) (v1 : Int32) (v2 : Int32) (v3 : Int32) (v4 : Int32) (v5 : Int32) (v6 : Int32) (σ : St) (h : wm_mend_j235 P K91 v1 v2 v3 v4 v5 v6 σ) : AX Z 0 0 235 [(0, .ref (L 0)), (1, .int v1), (2, .int v2), (3, .int v3), (4, .int v4), (5, .int v5), (6, .int v6)] [] (mW G L σ) := by
  unfold wm_mend_j235 at h
  refine ax_iinc (lv' := [(6, .int (v6 + (1 : Int32))), (0, .ref (L 0)), (1, .int v1), (2, .int v2), (3, .int v3), (4, .int v4), (5, .int v5)]) (v := (v6 + (1 : Int32))) K 6 dX2_mend_235 rfl (by rfl) (by decide) rfl ?_
  refine ax_goto (tgt := 91) K dX2_mend_238 (by decide) ?_
  exact ax_sub [1, 2, 3, 4, 5, 6, 0] rfl (hK91 v1 v2 v3 v4 v5 (v6 + (1 : Int32)) σ h)
set_option maxHeartbeats 4000000 in
theorem km_mend_j215 {Z : AZ} {G : AG} {L : Nat → Nat} {P : Int32 → St → Prop} (K : AK Z G cX2_mend RX2 9 (rmH 6)) (E : AEi Z cX2_mend .int (mW G L) 0 0 P) {K91 : Int32 → Int32 → Int32 → Int32 → Int32 → Int32 → St → Prop} (hK91 : ∀ (v1 : Int32) (v2 : Int32) (v3 : Int32) (v4 : Int32) (v5 : Int32) (v6 : Int32) (σ : St), K91 v1 v2 v3 v4 v5 v6 σ → AX Z 0 0 91 [(0, .ref (L 0)), (1, .int v1), (2, .int v2), (3, .int v3), (4, .int v4), (5, .int v5), (6, .int v6)] [] (mW G L σ)) (v1 : Int32) (v2 : Int32) (v3 : Int32) (v4 : Int32) (v5 : Int32) (v6 : Int32) (v7 : Int32) (σ : St) (h : wm_mend_j215 P K91 v1 v2 v3 v4 v5 v6 v7 σ) : AX Z 0 0 215 [(0, .ref (L 0)), (1, .int v1), (2, .int v2), (3, .int v3), (4, .int v4), (5, .int v5), (6, .int v6), (7, .int v7)] [] (mW G L σ) := by
  unfold wm_mend_j215 at h
  refine ax_aload_n K 0 rfl dX2_mend_215 ?_
  refine mg_changesFrom K dX2_mend_216 ?_
  refine ax_iload K 5 rfl dX2_mend_219 ?_
  refine ax_iload K 6 rfl dX2_mend_221 ?_
  refine rm_place K (by decide) dX2_mend_223 (Nat.le_of_ble_eq_true rfl) h (fun r223 h => ?_)
  refine ax_iload K 7 rfl dX2_mend_226 ?_
  refine ax_ldcw (v := (1000000 : Int32)) K q1507 dX2_mend_228 ?_
  refine rm_min K (by decide) (Nat.le_of_ble_eq_true rfl) dX2_mend_231 ?_
  refine ms_changesFrom K h.1 dX2_mend_234 ?_
  replace h := h.2
  exact ax_sub [0, 1, 2, 3, 4, 5, 6] rfl (km_mend_j235 K E hK91 v1 v2 v3 v4 v5 v6 (mU_changesFrom σ r223 (jmin v7 (1000000 : Int32))) h)
set_option maxHeartbeats 4000000 in
theorem km_mend_j130 {Z : AZ} {G : AG} {L : Nat → Nat} {P : Int32 → St → Prop} (K : AK Z G cX2_mend RX2 9 (rmH 6)) (E : AEi Z cX2_mend .int (mW G L) 0 0 P) {K91 : Int32 → Int32 → Int32 → Int32 → Int32 → Int32 → St → Prop} (hK91 : ∀ (v1 : Int32) (v2 : Int32) (v3 : Int32) (v4 : Int32) (v5 : Int32) (v6 : Int32) (σ : St), K91 v1 v2 v3 v4 v5 v6 σ → AX Z 0 0 91 [(0, .ref (L 0)), (1, .int v1), (2, .int v2), (3, .int v3), (4, .int v4), (5, .int v5), (6, .int v6)] [] (mW G L σ)) (v1 : Int32) (v2 : Int32) (v3 : Int32) (v4 : Int32) (v5 : Int32) (v6 : Int32) (s0 : Int32) (σ : St) (h : wm_mend_j130 P K91 v1 v2 v3 v4 v5 v6 s0 σ) : AX Z 0 0 130 [(0, .ref (L 0)), (1, .int v1), (2, .int v2), (3, .int v3), (4, .int v4), (5, .int v5), (6, .int v6)] [.int s0] (mW G L σ) := by
  unfold wm_mend_j130 at h
  refine ax_istore (lv' := [(7, .int s0), (0, .ref (L 0)), (1, .int v1), (2, .int v2), (3, .int v3), (4, .int v4), (5, .int v5), (6, .int v6)]) K dX2_mend_130 (by decide) rfl ?_
  refine ax_iconst (v := (0 : Int32)) K (by decide) dX2_mend_132 ?_
  refine ax_istore (lv' := [(8, .int (0 : Int32)), (7, .int s0), (0, .ref (L 0)), (1, .int v1), (2, .int v2), (3, .int v3), (4, .int v4), (5, .int v5), (6, .int v6)]) K dX2_mend_133 (by decide) rfl ?_
  exact ax_sub [2, 3, 4, 5, 6, 7, 8, 1, 0] rfl (h.elim fun n135 h => km_mend_l135 K E (km_mend_j215 K E hK91) n135 v1 v2 v3 v4 v5 v6 s0 (0 : Int32) σ h)
set_option maxHeartbeats 4000000 in
theorem km_mend_l91 {Z : AZ} {G : AG} {L : Nat → Nat} {P : Int32 → St → Prop} (K : AK Z G cX2_mend RX2 9 (rmH 6)) (E : AEi Z cX2_mend .int (mW G L) 0 0 P) {K241 : Int32 → Int32 → Int32 → Int32 → Int32 → St → Prop} (hK241 : ∀ (v1 : Int32) (v2 : Int32) (v3 : Int32) (v4 : Int32) (v5 : Int32) (σ : St), K241 v1 v2 v3 v4 v5 σ → AX Z 0 0 241 [(0, .ref (L 0)), (1, .int v1), (2, .int v2), (3, .int v3), (4, .int v4), (5, .int v5)] [] (mW G L σ)) : ∀ (n : Nat) (v1 : Int32) (v2 : Int32) (v3 : Int32) (v4 : Int32) (v5 : Int32) (v6 : Int32) (σ : St), wm_mend_l91 P K241 n v1 v2 v3 v4 v5 v6 σ → AX Z 0 0 91 [(0, .ref (L 0)), (1, .int v1), (2, .int v2), (3, .int v3), (4, .int v4), (5, .int v5), (6, .int v6)] [] (mW G L σ) := by
  intro n
  induction n with
  | zero => intro v1 v2 v3 v4 v5 v6 σ h; exact False.elim h
  | succ n ih =>
    intro v1 v2 v3 v4 v5 v6 σ h
    rw [wm_mend_l91_s] at h
    refine ax_iload K 6 rfl dX2_mend_91 ?_
    refine ax_aload_n K 0 rfl dX2_mend_93 ?_
    refine mg_dishes K dX2_mend_94 ?_
    refine ax_icmp_ge (tgt := 241) K dX2_mend_97 (by decide) (fun c97 => ?_) (fun c97 => ?_)
    · have h := ax_it h c97
      exact ax_sub [0, 1, 2, 3, 4, 5] rfl (hK241 v1 v2 v3 v4 v5 σ h)
    · have h := ax_ie h c97
      refine ax_iload K 5 rfl dX2_mend_100 ?_
      refine ax_iload K 6 rfl dX2_mend_102 ?_
      refine rm_isState K (by decide) dX2_mend_104 (Nat.le_of_ble_eq_true rfl) h (fun r104 h => ?_)
      refine ax_if_ne (tgt := 113) K dX2_mend_107 (by decide) (fun c107 => ?_) (fun c107 => ?_)
      · have h := ax_ie h c107
        refine ax_iload K 5 rfl dX2_mend_113 ?_
        refine rm_bitCount K (by decide) dX2_mend_115 (Nat.le_of_ble_eq_true rfl) ?_
        refine ax_iload K 4 rfl dX2_mend_118 ?_
        refine ax_icmp_ne (tgt := 127) K dX2_mend_120 (by decide) (fun c120 => ?_) (fun c120 => ?_)
        · have h := ax_ie h c120
          refine ax_ldcw (v := (1000000 : Int32)) K q1507 dX2_mend_127 ?_
          exact ax_sub [0, 1, 2, 3, 4, 5, 6] rfl (km_mend_j130 K E ih v1 v2 v3 v4 v5 v6 (1000000 : Int32) σ h)
        · have h := ax_it h c120
          refine ax_iconst (v := (0 : Int32)) K (by decide) dX2_mend_123 ?_
          refine ax_goto (tgt := 130) K dX2_mend_124 (by decide) ?_
          exact ax_sub [0, 1, 2, 3, 4, 5, 6] rfl (km_mend_j130 K E ih v1 v2 v3 v4 v5 v6 (0 : Int32) σ h)
      · have h := ax_it h c107
        refine ax_goto (tgt := 235) K dX2_mend_110 (by decide) ?_
        exact ax_sub [0, 1, 2, 3, 4, 5, 6] rfl (km_mend_j235 K E ih v1 v2 v3 v4 v5 v6 σ h)
set_option maxHeartbeats 4000000 in
theorem km_mend_j241 {Z : AZ} {G : AG} {L : Nat → Nat} {P : Int32 → St → Prop} (K : AK Z G cX2_mend RX2 9 (rmH 6)) (E : AEi Z cX2_mend .int (mW G L) 0 0 P) {K70 : Int32 → Int32 → Int32 → Int32 → Int32 → St → Prop} (hK70 : ∀ (v1 : Int32) (v2 : Int32) (v3 : Int32) (v4 : Int32) (v5 : Int32) (σ : St), K70 v1 v2 v3 v4 v5 σ → AX Z 0 0 70 [(0, .ref (L 0)), (1, .int v1), (2, .int v2), (3, .int v3), (4, .int v4), (5, .int v5)] [] (mW G L σ)) (v1 : Int32) (v2 : Int32) (v3 : Int32) (v4 : Int32) (v5 : Int32) (σ : St) (h : wm_mend_j241 P K70 v1 v2 v3 v4 v5 σ) : AX Z 0 0 241 [(0, .ref (L 0)), (1, .int v1), (2, .int v2), (3, .int v3), (4, .int v4), (5, .int v5)] [] (mW G L σ) := by
  unfold wm_mend_j241 at h
  refine ax_iinc (lv' := [(5, .int (v5 + (-1 : Int32))), (0, .ref (L 0)), (1, .int v1), (2, .int v2), (3, .int v3), (4, .int v4)]) (v := (v5 + (-1 : Int32))) K 5 dX2_mend_241 rfl (by rfl) (by decide) rfl ?_
  refine ax_goto (tgt := 70) K dX2_mend_244 (by decide) ?_
  exact ax_sub [1, 2, 3, 4, 5, 0] rfl (hK70 v1 v2 v3 v4 (v5 + (-1 : Int32)) σ h)
set_option maxHeartbeats 4000000 in
theorem km_mend_l70 {Z : AZ} {G : AG} {L : Nat → Nat} {P : Int32 → St → Prop} (K : AK Z G cX2_mend RX2 9 (rmH 6)) (E : AEi Z cX2_mend .int (mW G L) 0 0 P) {K274 : Int32 → Int32 → Int32 → St → Prop} (hK274 : ∀ (v2 : Int32) (v3 : Int32) (v5 : Int32) (σ : St), K274 v2 v3 v5 σ → AX Z 0 0 274 [(0, .ref (L 0)), (2, .int v2), (3, .int v3), (5, .int v5)] [] (mW G L σ)) : ∀ (n : Nat) (v1 : Int32) (v2 : Int32) (v3 : Int32) (v4 : Int32) (v5 : Int32) (σ : St), wm_mend_l70 P K274 n v1 v2 v3 v4 v5 σ → AX Z 0 0 70 [(0, .ref (L 0)), (1, .int v1), (2, .int v2), (3, .int v3), (4, .int v4), (5, .int v5)] [] (mW G L σ) := by
  intro n
  induction n with
  | zero => intro v1 v2 v3 v4 v5 σ h; exact False.elim h
  | succ n ih =>
    intro v1 v2 v3 v4 v5 σ h
    rw [wm_mend_l70_s] at h
    refine ax_iload K 5 rfl dX2_mend_70 ?_
    refine ax_if_lt (tgt := 247) K dX2_mend_72 (by decide) (fun c72 => ?_) (fun c72 => ?_)
    · have h := ax_it h c72
      refine ax_aload_n K 0 rfl dX2_mend_247 ?_
      refine mg_changesFrom K dX2_mend_248 ?_
      refine ax_iconst (v := (0 : Int32)) K (by decide) dX2_mend_251 ?_
      refine ax_iconst (v := (-1 : Int32)) K (by decide) dX2_mend_252 ?_
      refine rm_place K (by decide) dX2_mend_253 (Nat.le_of_ble_eq_true rfl) h (fun r253 h => ?_)
      refine ml_changesFrom K h.1 dX2_mend_256 ?_
      replace h := h.2
      refine ax_istore (lv' := [(5, .int (mA_changesFrom σ (r253).toNatClampNeg)), (0, .ref (L 0)), (1, .int v1), (2, .int v2), (3, .int v3), (4, .int v4)]) K dX2_mend_257 (by decide) rfl ?_
      refine ax_iload K 0 rfl dX2_mend_259 ?_
      refine ax_ldcw (v := (1000000 : Int32)) K q1507 dX2_mend_261 ?_
      refine ax_icmp_ge (tgt := 274) K dX2_mend_264 (by decide) (fun c264 => ?_) (fun c264 => ?_)
      · have h := ax_it h c264
        exact ax_sub [1, 3, 4, 0] rfl (hK274 v2 v3 (mA_changesFrom σ (r253).toNatClampNeg) σ h)
      · have h := ax_ie h c264
        refine ax_aload_n K 1 rfl dX2_mend_267 ?_
        refine ax_iload_n K 2 rfl dX2_mend_268 ?_
        refine ax_iload K 5 rfl dX2_mend_269 ?_
        refine rm_tellMended K (by decide) dX2_mend_271 (Nat.le_of_ble_eq_true rfl) h (fun σ271 h => ?_)
        exact ax_sub [1, 3, 4, 0] rfl (hK274 v2 v3 (mA_changesFrom σ (r253).toNatClampNeg) σ271 h)
    · have h := ax_ie h c72
      refine ax_iload K 5 rfl dX2_mend_75 ?_
      refine rm_bitCount K (by decide) dX2_mend_77 (Nat.le_of_ble_eq_true rfl) ?_
      refine ax_iload K 4 rfl dX2_mend_80 ?_
      refine ax_icmp_le (tgt := 88) K dX2_mend_82 (by decide) (fun c82 => ?_) (fun c82 => ?_)
      · have h := ax_it h c82
        refine ax_iconst (v := (-1 : Int32)) K (by decide) dX2_mend_88 ?_
        refine ax_istore (lv' := [(6, .int (-1 : Int32)), (0, .ref (L 0)), (1, .int v1), (2, .int v2), (3, .int v3), (4, .int v4), (5, .int v5)]) K dX2_mend_89 (by decide) rfl ?_
        exact ax_sub [1, 2, 3, 4, 5, 6, 0] rfl (h.elim fun n91 h => km_mend_l91 K E (km_mend_j241 K E ih) n91 v1 v2 v3 v4 v5 (-1 : Int32) σ h)
      · have h := ax_ie h c82
        refine ax_goto (tgt := 241) K dX2_mend_85 (by decide) ?_
        exact ax_sub [0, 1, 2, 3, 4, 5] rfl (km_mend_j241 K E ih v1 v2 v3 v4 v5 σ h)
set_option maxHeartbeats 4000000 in
theorem km_mend_j301 {Z : AZ} {G : AG} {L : Nat → Nat} {P : Int32 → St → Prop} (K : AK Z G cX2_mend RX2 9 (rmH 6)) (E : AEi Z cX2_mend .int (mW G L) 0 0 P) (s0 : Int32) (σ : St) (h : wm_mend_j301 P  s0 σ) : AX Z 0 0 301 [(0, .ref (L 0))] [.int s0] (mW G L σ) := by
  unfold wm_mend_j301 at h
  exact E _ _ _ _ dX2_mend_301 rfl h
set_option maxHeartbeats 4000000 in
theorem km_mend_j286 {Z : AZ} {G : AG} {L : Nat → Nat} {P : Int32 → St → Prop} (K : AK Z G cX2_mend RX2 9 (rmH 6)) (E : AEi Z cX2_mend .int (mW G L) 0 0 P) (v5 : Int32) (σ : St) (h : wm_mend_j286 P  v5 σ) : AX Z 0 0 286 [(0, .ref (L 0)), (5, .int v5)] [] (mW G L σ) := by
  unfold wm_mend_j286 at h
  refine ax_iload K 1 rfl dX2_mend_286 ?_
  refine ax_ldcw (v := (1000000 : Int32)) K q1507 dX2_mend_288 ?_
  refine ax_icmp_ge (tgt := 299) K dX2_mend_291 (by decide) (fun c291 => ?_) (fun c291 => ?_)
  · have h := ax_it h c291
    refine ax_bipush (v := (-2 : Int32)) K (by decide) dX2_mend_299 ?_
    exact ax_sub [0] rfl (km_mend_j301 K E  (-2 : Int32) σ h)
  · have h := ax_ie h c291
    refine ax_iload K 1 rfl dX2_mend_294 ?_
    refine ax_goto (tgt := 301) K dX2_mend_296 (by decide) ?_
    exact ax_sub [0] rfl (km_mend_j301 K E  v5 σ h)
set_option maxHeartbeats 4000000 in
theorem km_mend_j274 {Z : AZ} {G : AG} {L : Nat → Nat} {P : Int32 → St → Prop} (K : AK Z G cX2_mend RX2 9 (rmH 6)) (E : AEi Z cX2_mend .int (mW G L) 0 0 P) (v2 : Int32) (v3 : Int32) (v5 : Int32) (σ : St) (h : wm_mend_j274 P  v2 v3 v5 σ) : AX Z 0 0 274 [(0, .ref (L 0)), (2, .int v2), (3, .int v3), (5, .int v5)] [] (mW G L σ) := by
  unfold wm_mend_j274 at h
  refine ax_iload_n K 1 rfl dX2_mend_274 ?_
  refine ax_iconst (v := (-1 : Int32)) K (by decide) dX2_mend_275 ?_
  refine ax_icmp_eq (tgt := 286) K dX2_mend_276 (by decide) (fun c276 => ?_) (fun c276 => ?_)
  · have h := ax_it h c276
    exact ax_sub [0, 3] rfl (km_mend_j286 K E  v5 σ h)
  · have h := ax_ie h c276
    refine ax_aload_n K 0 rfl dX2_mend_279 ?_
    refine mg_store K dX2_mend_280 ?_
    refine ax_iload_n K 1 rfl dX2_mend_283 ?_
    refine ax_iload_n K 2 rfl dX2_mend_284 ?_
    refine ms_store K h.1 dX2_mend_285 ?_
    replace h := h.2
    exact ax_sub [0, 3] rfl (km_mend_j286 K E  v5 (mU_store σ v2 v3) h)
set_option maxHeartbeats 4000000 in
theorem km_mend_j56 {Z : AZ} {G : AG} {L : Nat → Nat} {P : Int32 → St → Prop} (K : AK Z G cX2_mend RX2 9 (rmH 6)) (E : AEi Z cX2_mend .int (mW G L) 0 0 P) (v1 : Int32) (v2 : Int32) (v3 : Int32) (σ : St) (h : wm_mend_j56 P  v1 v2 v3 σ) : AX Z 0 0 56 [(0, .ref (L 0)), (1, .int v1), (2, .int v2), (3, .int v3)] [] (mW G L σ) := by
  unfold wm_mend_j56 at h
  refine ax_aload_n K 0 rfl dX2_mend_56 ?_
  refine mg_menuLong K dX2_mend_57 ?_
  refine ax_iload_n K 1 rfl dX2_mend_60 ?_
  refine ml_menuLong K h.1 dX2_mend_61 ?_
  replace h := h.2
  refine ax_istore (lv' := [(4, .int (mA_menuLong σ (v1).toNatClampNeg)), (0, .ref (L 0)), (1, .int v1), (2, .int v2), (3, .int v3)]) K dX2_mend_62 (by decide) rfl ?_
  refine ax_aload_n K 1 rfl dX2_mend_64 ?_
  refine rm_all K (by decide) dX2_mend_65 (Nat.le_of_ble_eq_true rfl) h (fun r65 σ65 h => ?_)
  refine ax_istore (lv' := [(5, .int r65), (4, .int (mA_menuLong σ (v1).toNatClampNeg)), (0, .ref (L 0)), (1, .int v1), (2, .int v2), (3, .int v3)]) K dX2_mend_68 (by decide) rfl ?_
  exact ax_sub [2, 3, 4, 5, 1, 0] rfl (h.elim fun n70 h => km_mend_l70 K E (km_mend_j274 K E) n70 v1 v2 v3 (mA_menuLong σ (v1).toNatClampNeg) r65 σ65 h)
set_option maxHeartbeats 4000000 in
theorem km_mend_j43 {Z : AZ} {G : AG} {L : Nat → Nat} {P : Int32 → St → Prop} (K : AK Z G cX2_mend RX2 9 (rmH 6)) (E : AEi Z cX2_mend .int (mW G L) 0 0 P) (v1 : Int32) (v2 : Int32) (s0 : Int32) (σ : St) (h : wm_mend_j43 P  v1 v2 s0 σ) : AX Z 0 0 43 [(0, .ref (L 0)), (1, .int v1), (2, .int v2)] [.int s0] (mW G L σ) := by
  unfold wm_mend_j43 at h
  refine ax_istore_n (lv' := [(3, .int s0), (0, .ref (L 0)), (1, .int v1), (2, .int v2)]) K dX2_mend_43 (by decide) rfl ?_
  refine ax_iload_n K 3 rfl dX2_mend_44 ?_
  refine ax_iconst (v := (-1 : Int32)) K (by decide) dX2_mend_45 ?_
  refine ax_icmp_eq (tgt := 56) K dX2_mend_46 (by decide) (fun c46 => ?_) (fun c46 => ?_)
  · have h := ax_it h c46
    exact ax_sub [1, 2, 3, 0] rfl (km_mend_j56 K E  v1 v2 s0 σ h)
  · have h := ax_ie h c46
    refine ax_aload_n K 1 rfl dX2_mend_49 ?_
    refine mg_store K dX2_mend_50 ?_
    refine ax_iload_n K 3 rfl dX2_mend_53 ?_
    refine ax_iconst (v := (0 : Int32)) K (by decide) dX2_mend_54 ?_
    refine ms_store K h.1 dX2_mend_55 ?_
    replace h := h.2
    exact ax_sub [1, 2, 3, 0] rfl (km_mend_j56 K E  v1 v2 s0 (mU_store σ v2 (0 : Int32)) h)
set_option maxHeartbeats 4000000 in
theorem mm_mend {l : Launch} {G : AG} {L : Nat → Nat} {σ : St} {v1 : Int32} {v2 : Int32} {P : Int32 → St → Prop} (h : wm_mend σ v1 v2 P) : CtW l G yX2_mend cX2_mend 9 (some .int) (rmH 6) [.ref (L 0), .int v1, .int v2] (mW G L) σ (pI P) := by
  refine CtW.ofI (by decide) (Nat.le_of_ble_eq_true rfl) fun Z _ K E => ?_
  unfold wm_mend at h
  show AX Z 0 0 0 [(0, .ref (L 0)), (1, .int v1), (2, .int v2)] [] (mW G L σ)
  refine ax_aload_n K 0 rfl dX2_mend_0 ?_
  refine ax_iconst (v := (0 : Int32)) K (by decide) dX2_mend_1 ?_
  refine mp_thrown K dX2_mend_2 ?_
  refine ax_iload_n K 2 rfl dX2_mend_5 ?_
  refine ax_iconst (v := (-1 : Int32)) K (by decide) dX2_mend_6 ?_
  refine ax_bipush (v := (7 : Int32)) K (by decide) dX2_mend_7 ?_
  refine rm_in K (by decide) dX2_mend_9 (Nat.le_of_ble_eq_true rfl) h (fun r9 h => ?_)
  refine ax_if_ne (tgt := 17) K dX2_mend_12 (by decide) (fun c12 => ?_) (fun c12 => ?_)
  · have h := ax_ie h c12
    refine ax_aload_n K 0 rfl dX2_mend_17 ?_
    refine ax_iload_n K 1 rfl dX2_mend_18 ?_
    refine rm_isWhole K (by decide) dX2_mend_19 (Nat.le_of_ble_eq_true rfl) h (fun r19 σ19 h => ?_)
    refine ax_if_ne (tgt := 28) K dX2_mend_22 (by decide) (fun c22 => ?_) (fun c22 => ?_)
    · have h := ax_ie h c22
      refine ax_iload_n K 2 rfl dX2_mend_28 ?_
      refine ax_iconst (v := (-1 : Int32)) K (by decide) dX2_mend_29 ?_
      refine ax_icmp_ne (tgt := 37) K dX2_mend_30 (by decide) (fun c30 => ?_) (fun c30 => ?_)
      · have h := ax_ie h c30
        refine ax_aload_n K 0 rfl dX2_mend_37 ?_
        refine mg_store K dX2_mend_38 ?_
        refine ax_iload_n K 2 rfl dX2_mend_41 ?_
        refine ml_store K h.1 dX2_mend_42 ?_
        replace h := h.2
        exact ax_sub [0, 1, 2] rfl (km_mend_j43 K E  v1 v2 (mA_store σ19 (v2).toNatClampNeg) σ19 h)
      · have h := ax_it h c30
        refine ax_iconst (v := (0 : Int32)) K (by decide) dX2_mend_33 ?_
        refine ax_goto (tgt := 43) K dX2_mend_34 (by decide) ?_
        exact ax_sub [0, 1, 2] rfl (km_mend_j43 K E  v1 v2 (0 : Int32) σ19 h)
    · have h := ax_it h c22
      refine ax_bipush (v := (-3 : Int32)) K (by decide) dX2_mend_25 ?_
      exact E _ _ _ _ dX2_mend_27 rfl h
  · have h := ax_it h c12
    refine ax_iconst (v := (-1 : Int32)) K (by decide) dX2_mend_15 ?_
    exact E _ _ _ _ dX2_mend_16 rfl h

/-! m.shut -/
set_option maxHeartbeats 4000000 in
theorem km_shut_j93 {Z : AZ} {G : AG} {L : Nat → Nat} {P : Int32 → St → Prop} (K : AK Z G cX2_shut RX2 5 (rmH 6)) (E : AEi Z cX2_shut .int (mW G L) 0 0 P) {K45 : Int32 → Int32 → Int32 → Int32 → St → Prop} (hK45 : ∀ (v1 : Int32) (v2 : Int32) (v3 : Int32) (v4 : Int32) (σ : St), K45 v1 v2 v3 v4 σ → AX Z 0 0 45 [(0, .ref (L 0)), (1, .int v1), (2, .int v2), (3, .int v3), (4, .int v4)] [] (mW G L σ)) (v1 : Int32) (v2 : Int32) (v3 : Int32) (v4 : Int32) (σ : St) (h : wm_shut_j93 P K45 v1 v2 v3 v4 σ) : AX Z 0 0 93 [(0, .ref (L 0)), (1, .int v1), (2, .int v2), (3, .int v3), (4, .int v4)] [] (mW G L σ) := by
  unfold wm_shut_j93 at h
  refine ax_iinc (lv' := [(4, .int (v4 + (1 : Int32))), (0, .ref (L 0)), (1, .int v1), (2, .int v2), (3, .int v3)]) (v := (v4 + (1 : Int32))) K 4 dX2_shut_93 rfl (by rfl) (by decide) rfl ?_
  refine ax_goto (tgt := 45) K dX2_shut_96 (by decide) ?_
  exact ax_sub [1, 2, 3, 4, 0] rfl (hK45 v1 v2 v3 (v4 + (1 : Int32)) σ h)
set_option maxHeartbeats 4000000 in
theorem km_shut_l45 {Z : AZ} {G : AG} {L : Nat → Nat} {P : Int32 → St → Prop} (K : AK Z G cX2_shut RX2 5 (rmH 6)) (E : AEi Z cX2_shut .int (mW G L) 0 0 P) {K34 : Int32 → Int32 → Int32 → St → Prop} (hK34 : ∀ (v1 : Int32) (v2 : Int32) (v3 : Int32) (σ : St), K34 v1 v2 v3 σ → AX Z 0 0 34 [(0, .ref (L 0)), (1, .int v1), (2, .int v2), (3, .int v3)] [] (mW G L σ)) : ∀ (n : Nat) (v1 : Int32) (v2 : Int32) (v3 : Int32) (v4 : Int32) (σ : St), wm_shut_l45 P K34 n v1 v2 v3 v4 σ → AX Z 0 0 45 [(0, .ref (L 0)), (1, .int v1), (2, .int v2), (3, .int v3), (4, .int v4)] [] (mW G L σ) := by
  intro n
  induction n with
  | zero => intro v1 v2 v3 v4 σ h; exact False.elim h
  | succ n ih =>
    intro v1 v2 v3 v4 σ h
    rw [wm_shut_l45_s] at h
    refine ax_iload K 4 rfl dX2_shut_45 ?_
    refine ax_aload_n K 0 rfl dX2_shut_47 ?_
    refine mg_dishes K dX2_shut_48 ?_
    refine ax_icmp_ge (tgt := 99) K dX2_shut_51 (by decide) (fun c51 => ?_) (fun c51 => ?_)
    · have h := ax_it h c51
      refine ax_iinc (lv' := [(3, .int (v3 + (1 : Int32))), (0, .ref (L 0)), (1, .int v1), (2, .int v2), (4, .int v4)]) (v := (v3 + (1 : Int32))) K 3 dX2_shut_99 rfl (by rfl) (by decide) rfl ?_
      refine ax_goto (tgt := 34) K dX2_shut_102 (by decide) ?_
      exact ax_sub [1, 2, 3, 0] rfl (hK34 v1 v2 (v3 + (1 : Int32)) σ h)
    · have h := ax_ie h c51
      refine ax_iload_n K 3 rfl dX2_shut_54 ?_
      refine ax_iload K 4 rfl dX2_shut_55 ?_
      refine rm_has K (by decide) dX2_shut_57 (Nat.le_of_ble_eq_true rfl) h (fun r57 h => ?_)
      refine ax_if_eq (tgt := 93) K dX2_shut_60 (by decide) (fun c60 => ?_) (fun c60 => ?_)
      · have h := ax_it h c60
        exact ax_sub [0, 1, 2, 3, 4] rfl (km_shut_j93 K E ih v1 v2 v3 v4 σ h)
      · have h := ax_ie h c60
        refine ax_aload_n K 0 rfl dX2_shut_63 ?_
        refine mg_rows K dX2_shut_64 ?_
        refine ax_iload_n K 3 rfl dX2_shut_67 ?_
        refine ax_iload K 4 rfl dX2_shut_68 ?_
        refine rm_place K (by decide) dX2_shut_70 (Nat.le_of_ble_eq_true rfl) h (fun r70 h => ?_)
        refine ml_rows K h.1 dX2_shut_73 ?_
        replace h := h.2
        refine ax_lconst (v := (0 : Int64)) K (by decide) dX2_shut_74 ?_
        refine ax_lcmp K dX2_shut_75 ?_
        refine ax_if_le (tgt := 93) K dX2_shut_76 (by decide) (fun c76 => ?_) (fun c76 => ?_)
        · have h := ax_it h c76
          exact ax_sub [0, 1, 2, 3, 4] rfl (km_shut_j93 K E ih v1 v2 v3 v4 σ h)
        · have h := ax_ie h c76
          refine ax_iload_n K 3 rfl dX2_shut_79 ?_
          refine rm_bitCount K (by decide) dX2_shut_80 (Nat.le_of_ble_eq_true rfl) ?_
          refine ax_iload_n K 1 rfl dX2_shut_83 ?_
          refine ax_icmp_le (tgt := 93) K dX2_shut_84 (by decide) (fun c84 => ?_) (fun c84 => ?_)
          · have h := ax_it h c84
            exact ax_sub [0, 1, 2, 3, 4] rfl (km_shut_j93 K E ih v1 v2 v3 v4 σ h)
          · have h := ax_ie h c84
            refine ax_iload_n K 2 rfl dX2_shut_87 ?_
            refine ax_iload_n K 3 rfl dX2_shut_88 ?_
            refine ax_iconst (v := (-1 : Int32)) K (by decide) dX2_shut_89 ?_
            refine ax_ixor K dX2_shut_90 ?_
            refine ax_iand K dX2_shut_91 ?_
            refine ax_istore_n (lv' := [(2, .int (v2 &&& (v3 ^^^ (-1 : Int32)))), (0, .ref (L 0)), (1, .int v1), (3, .int v3), (4, .int v4)]) K dX2_shut_92 (by decide) rfl ?_
            exact ax_sub [1, 2, 0, 3, 4] rfl (km_shut_j93 K E ih v1 (v2 &&& (v3 ^^^ (-1 : Int32))) v3 v4 σ h)
set_option maxHeartbeats 4000000 in
theorem km_shut_l34 {Z : AZ} {G : AG} {L : Nat → Nat} {P : Int32 → St → Prop} (K : AK Z G cX2_shut RX2 5 (rmH 6)) (E : AEi Z cX2_shut .int (mW G L) 0 0 P) : ∀ (n : Nat) (v1 : Int32) (v2 : Int32) (v3 : Int32) (σ : St), wm_shut_l34 P  n v1 v2 v3 σ → AX Z 0 0 34 [(0, .ref (L 0)), (1, .int v1), (2, .int v2), (3, .int v3)] [] (mW G L σ) := by
  intro n
  induction n with
  | zero => intro v1 v2 v3 σ h; exact False.elim h
  | succ n ih =>
    intro v1 v2 v3 σ h
    rw [wm_shut_l34_s] at h
    refine ax_iload_n K 3 rfl dX2_shut_34 ?_
    refine ax_aload_n K 0 rfl dX2_shut_35 ?_
    refine rm_all K (by decide) dX2_shut_36 (Nat.le_of_ble_eq_true rfl) h (fun r36 σ36 h => ?_)
    refine ax_icmp_gt (tgt := 105) K dX2_shut_39 (by decide) (fun c39 => ?_) (fun c39 => ?_)
    · have h := ax_it h c39
      refine ax_iload_n K 2 rfl dX2_shut_105 ?_
      exact E _ _ _ _ dX2_shut_106 rfl h
    · have h := ax_ie h c39
      refine ax_iconst (v := (0 : Int32)) K (by decide) dX2_shut_42 ?_
      refine ax_istore (lv' := [(4, .int (0 : Int32)), (0, .ref (L 0)), (1, .int v1), (2, .int v2), (3, .int v3)]) K dX2_shut_43 (by decide) rfl ?_
      exact ax_sub [1, 2, 3, 4, 0] rfl (h.elim fun n45 h => km_shut_l45 K E ih n45 v1 v2 v3 (0 : Int32) σ36 h)
set_option maxHeartbeats 4000000 in
theorem mm_shut {l : Launch} {G : AG} {L : Nat → Nat} {σ : St} {v1 : Int32} {P : Int32 → St → Prop} (h : wm_shut σ v1 P) : CtW l G yX2_shut cX2_shut 5 (some .int) (rmH 6) [.ref (L 0), .int v1] (mW G L) σ (pI P) := by
  refine CtW.ofI (by decide) (Nat.le_of_ble_eq_true rfl) fun Z _ K E => ?_
  unfold wm_shut at h
  show AX Z 0 0 0 [(0, .ref (L 0)), (1, .int v1)] [] (mW G L σ)
  refine ax_aload_n K 0 rfl dX2_shut_0 ?_
  refine ax_iconst (v := (0 : Int32)) K (by decide) dX2_shut_1 ?_
  refine mp_thrown K dX2_shut_2 ?_
  refine ax_iload_n K 1 rfl dX2_shut_5 ?_
  refine ax_iconst (v := (0 : Int32)) K (by decide) dX2_shut_6 ?_
  refine ax_bipush (v := (9 : Int32)) K (by decide) dX2_shut_7 ?_
  refine rm_in K (by decide) dX2_shut_9 (Nat.le_of_ble_eq_true rfl) h (fun r9 h => ?_)
  refine ax_if_ne (tgt := 17) K dX2_shut_12 (by decide) (fun c12 => ?_) (fun c12 => ?_)
  · have h := ax_ie h c12
    refine ax_aload_n K 0 rfl dX2_shut_17 ?_
    refine ax_iconst (v := (0 : Int32)) K (by decide) dX2_shut_18 ?_
    refine ax_iconst (v := (-1 : Int32)) K (by decide) dX2_shut_19 ?_
    refine ax_aload_n K 0 rfl dX2_shut_20 ?_
    refine rm_all K (by decide) dX2_shut_21 (Nat.le_of_ble_eq_true rfl) h (fun r21 σ21 h => ?_)
    refine rm_findRows K (by decide) dX2_shut_24 (Nat.le_of_ble_eq_true rfl) h (fun σ24 h => ?_)
    refine ax_aload_n K 0 rfl dX2_shut_27 ?_
    refine rm_all K (by decide) dX2_shut_28 (Nat.le_of_ble_eq_true rfl) h (fun r28 σ28 h => ?_)
    refine ax_istore_n (lv' := [(2, .int r28), (0, .ref (L 0)), (1, .int v1)]) K dX2_shut_31 (by decide) rfl ?_
    refine ax_iconst (v := (0 : Int32)) K (by decide) dX2_shut_32 ?_
    refine ax_istore_n (lv' := [(3, .int (0 : Int32)), (2, .int r28), (0, .ref (L 0)), (1, .int v1)]) K dX2_shut_33 (by decide) rfl ?_
    exact ax_sub [2, 3, 1, 0] rfl (h.elim fun n34 h => km_shut_l34 K E  n34 v1 r28 (0 : Int32) σ28 h)
  · have h := ax_it h c12
    refine ax_iconst (v := (-1 : Int32)) K (by decide) dX2_shut_15 ?_
    exact E _ _ _ _ dX2_shut_16 rfl h

/-! m.sure -/
set_option maxHeartbeats 4000000 in
theorem km_sure_j29 {Z : AZ} {G : AG} {L : Nat → Nat} {P : Int32 → St → Prop} (K : AK Z G cX2_sure RX2 8 (rmH 6)) (E : AEi Z cX2_sure .int (mW G L) 0 0 P) (σ : St) (h : wm_sure_j29 P  σ) : AX Z 0 0 29 [(0, .ref (L 0))] [] (mW G L σ) := by
  unfold wm_sure_j29 at h
  refine ax_bipush (v := (-3 : Int32)) K (by decide) dX2_sure_29 ?_
  exact E _ _ _ _ dX2_sure_31 rfl h
set_option maxHeartbeats 4000000 in
theorem km_sure_j121 {Z : AZ} {G : AG} {L : Nat → Nat} {P : Int32 → St → Prop} (K : AK Z G cX2_sure RX2 8 (rmH 6)) (E : AEi Z cX2_sure .int (mW G L) 0 0 P) {K57 : Int32 → Int32 → Int64 → Int32 → Int32 → Int32 → St → Prop} (hK57 : ∀ (v1 : Int32) (v2 : Int32) (v3 : Int64) (v5 : Int32) (v6 : Int32) (v7 : Int32) (σ : St), K57 v1 v2 v3 v5 v6 v7 σ → AX Z 0 0 57 [(0, .ref (L 0)), (1, .int v1), (2, .int v2), (3, .long v3), (5, .int v5), (6, .int v6), (7, .int v7)] [] (mW G L σ)) (v1 : Int32) (v2 : Int32) (v3 : Int64) (v5 : Int32) (v6 : Int32) (v7 : Int32) (σ : St) (h : wm_sure_j121 P K57 v1 v2 v3 v5 v6 v7 σ) : AX Z 0 0 121 [(0, .ref (L 0)), (1, .int v1), (2, .int v2), (3, .long v3), (5, .int v5), (6, .int v6), (7, .int v7)] [] (mW G L σ) := by
  unfold wm_sure_j121 at h
  refine ax_iinc (lv' := [(7, .int (v7 + (1 : Int32))), (0, .ref (L 0)), (1, .int v1), (2, .int v2), (3, .long v3), (5, .int v5), (6, .int v6)]) (v := (v7 + (1 : Int32))) K 6 dX2_sure_121 rfl (by rfl) (by decide) rfl ?_
  refine ax_goto (tgt := 57) K dX2_sure_124 (by decide) ?_
  exact ax_sub [1, 2, 3, 4, 5, 6, 0] rfl (hK57 v1 v2 v3 v5 v6 (v7 + (1 : Int32)) σ h)
set_option maxHeartbeats 4000000 in
theorem km_sure_j89 {Z : AZ} {G : AG} {L : Nat → Nat} {P : Int32 → St → Prop} (K : AK Z G cX2_sure RX2 8 (rmH 6)) (E : AEi Z cX2_sure .int (mW G L) 0 0 P) {K57 : Int32 → Int32 → Int64 → Int32 → Int32 → Int32 → St → Prop} (hK57 : ∀ (v1 : Int32) (v2 : Int32) (v3 : Int64) (v5 : Int32) (v6 : Int32) (v7 : Int32) (σ : St), K57 v1 v2 v3 v5 v6 v7 σ → AX Z 0 0 57 [(0, .ref (L 0)), (1, .int v1), (2, .int v2), (3, .long v3), (5, .int v5), (6, .int v6), (7, .int v7)] [] (mW G L σ)) (v1 : Int32) (v2 : Int32) (v3 : Int64) (v5 : Int32) (v6 : Int32) (v7 : Int32) (σ : St) (h : wm_sure_j89 P K57 v1 v2 v3 v5 v6 v7 σ) : AX Z 0 0 89 [(0, .ref (L 0)), (1, .int v1), (2, .int v2), (3, .long v3), (5, .int v5), (6, .int v6), (7, .int v7)] [] (mW G L σ) := by
  unfold wm_sure_j89 at h
  refine ax_aload_n K 0 rfl dX2_sure_89 ?_
  refine mg_menus K dX2_sure_90 ?_
  refine ax_bipush (v := (10 : Int32)) K (by decide) dX2_sure_93 ?_
  refine ax_iload_n K 1 rfl dX2_sure_95 ?_
  refine ax_imul K dX2_sure_96 ?_
  refine ax_iload_n K 2 rfl dX2_sure_97 ?_
  refine ax_iadd K dX2_sure_98 ?_
  refine ax_iload K 6 rfl dX2_sure_99 ?_
  refine ms_menus K h.1 dX2_sure_101 ?_
  replace h := h.2
  refine ax_aload_n K 0 rfl dX2_sure_102 ?_
  refine ax_iload_n K 1 rfl dX2_sure_103 ?_
  refine rm_findFills K (by decide) dX2_sure_104 (Nat.le_of_ble_eq_true rfl) h (fun r104 σ104 h => ?_)
  refine ax_lload_n K 3 rfl dX2_sure_107 ?_
  refine ax_lcmp K dX2_sure_108 ?_
  refine ax_if_ne (tgt := 121) K dX2_sure_109 (by decide) (fun c109 => ?_) (fun c109 => ?_)
  · have h := ax_ie h c109
    exact ax_sub [0, 1, 2, 3, 4, 5, 6] rfl (km_sure_j121 K E hK57 v1 v2 v3 v5 v6 v7 σ104 h)
  · have h := ax_it h c109
    refine ax_iload K 5 rfl dX2_sure_112 ?_
    refine ax_iconst (v := (1 : Int32)) K (by decide) dX2_sure_114 ?_
    refine ax_iload K 6 rfl dX2_sure_115 ?_
    refine ax_ishl K dX2_sure_117 ?_
    refine ax_ior K dX2_sure_118 ?_
    refine ax_istore (lv' := [(6, .int (v6 ||| ((1 : Int32) <<< (v7 &&& 31)))), (0, .ref (L 0)), (1, .int v1), (2, .int v2), (3, .long v3), (5, .int v5), (7, .int v7)]) K dX2_sure_119 (by decide) rfl ?_
    exact ax_sub [1, 2, 3, 4, 5, 0, 6] rfl (km_sure_j121 K E hK57 v1 v2 v3 v5 (v6 ||| ((1 : Int32) <<< (v7 &&& 31))) v7 σ104 h)
set_option maxHeartbeats 4000000 in
theorem km_sure_l57 {Z : AZ} {G : AG} {L : Nat → Nat} {P : Int32 → St → Prop} (K : AK Z G cX2_sure RX2 8 (rmH 6)) (E : AEi Z cX2_sure .int (mW G L) 0 0 P) {K127 : Int32 → Int32 → Int32 → Int32 → St → Prop} (hK127 : ∀ (v1 : Int32) (v2 : Int32) (v5 : Int32) (v6 : Int32) (σ : St), K127 v1 v2 v5 v6 σ → AX Z 0 0 127 [(0, .ref (L 0)), (1, .int v1), (2, .int v2), (5, .int v5), (6, .int v6)] [] (mW G L σ)) : ∀ (n : Nat) (v1 : Int32) (v2 : Int32) (v3 : Int64) (v5 : Int32) (v6 : Int32) (v7 : Int32) (σ : St), wm_sure_l57 P K127 n v1 v2 v3 v5 v6 v7 σ → AX Z 0 0 57 [(0, .ref (L 0)), (1, .int v1), (2, .int v2), (3, .long v3), (5, .int v5), (6, .int v6), (7, .int v7)] [] (mW G L σ) := by
  intro n
  induction n with
  | zero => intro v1 v2 v3 v5 v6 v7 σ h; exact False.elim h
  | succ n ih =>
    intro v1 v2 v3 v5 v6 v7 σ h
    rw [wm_sure_l57_s] at h
    refine ax_iload K 6 rfl dX2_sure_57 ?_
    refine ax_aload_n K 0 rfl dX2_sure_59 ?_
    refine mg_dishes K dX2_sure_60 ?_
    refine ax_icmp_ge (tgt := 127) K dX2_sure_63 (by decide) (fun c63 => ?_) (fun c63 => ?_)
    · have h := ax_it h c63
      exact ax_sub [0, 1, 2, 4, 5] rfl (hK127 v1 v2 v5 v6 σ h)
    · have h := ax_ie h c63
      refine ax_lload_n K 3 rfl dX2_sure_66 ?_
      refine ax_lconst (v := (0 : Int64)) K (by decide) dX2_sure_67 ?_
      refine ax_lcmp K dX2_sure_68 ?_
      refine ax_if_le (tgt := 127) K dX2_sure_69 (by decide) (fun c69 => ?_) (fun c69 => ?_)
      · have h := ax_it h c69
        exact ax_sub [0, 1, 2, 4, 5] rfl (hK127 v1 v2 v5 v6 σ h)
      · have h := ax_ie h c69
        refine ax_iload K 4 rfl dX2_sure_72 ?_
        refine ax_bipush (v := (99 : Int32)) K (by decide) dX2_sure_74 ?_
        refine ax_icmp_eq (tgt := 89) K dX2_sure_76 (by decide) (fun c76 => ?_) (fun c76 => ?_)
        · have h := ax_it h c76
          exact ax_sub [0, 1, 2, 3, 4, 5, 6] rfl (km_sure_j89 K E ih v1 v2 v3 v5 v6 v7 σ h)
        · have h := ax_ie h c76
          refine ax_iload K 4 rfl dX2_sure_79 ?_
          refine ax_iload K 6 rfl dX2_sure_81 ?_
          refine ax_icmp_eq (tgt := 89) K dX2_sure_83 (by decide) (fun c83 => ?_) (fun c83 => ?_)
          · have h := ax_it h c83
            exact ax_sub [0, 1, 2, 3, 4, 5, 6] rfl (km_sure_j89 K E ih v1 v2 v3 v5 v6 v7 σ h)
          · have h := ax_ie h c83
            refine ax_goto (tgt := 121) K dX2_sure_86 (by decide) ?_
            exact ax_sub [0, 1, 2, 3, 4, 5, 6] rfl (km_sure_j121 K E ih v1 v2 v3 v5 v6 v7 σ h)
set_option maxHeartbeats 4000000 in
theorem km_sure_j127 {Z : AZ} {G : AG} {L : Nat → Nat} {P : Int32 → St → Prop} (K : AK Z G cX2_sure RX2 8 (rmH 6)) (E : AEi Z cX2_sure .int (mW G L) 0 0 P) (v1 : Int32) (v2 : Int32) (v5 : Int32) (v6 : Int32) (σ : St) (h : wm_sure_j127 P  v1 v2 v5 v6 σ) : AX Z 0 0 127 [(0, .ref (L 0)), (1, .int v1), (2, .int v2), (5, .int v5), (6, .int v6)] [] (mW G L σ) := by
  unfold wm_sure_j127 at h
  refine ax_aload_n K 0 rfl dX2_sure_127 ?_
  refine mg_menus K dX2_sure_128 ?_
  refine ax_bipush (v := (10 : Int32)) K (by decide) dX2_sure_131 ?_
  refine ax_iload_n K 1 rfl dX2_sure_133 ?_
  refine ax_imul K dX2_sure_134 ?_
  refine ax_iload_n K 2 rfl dX2_sure_135 ?_
  refine ax_iadd K dX2_sure_136 ?_
  refine ax_iload K 3 rfl dX2_sure_137 ?_
  refine ms_menus K h.1 dX2_sure_139 ?_
  replace h := h.2
  refine ax_iload K 4 rfl dX2_sure_140 ?_
  exact E _ _ _ _ dX2_sure_142 rfl h
set_option maxHeartbeats 4000000 in
theorem mm_sure {l : Launch} {G : AG} {L : Nat → Nat} {σ : St} {v1 : Int32} {v2 : Int32} {P : Int32 → St → Prop} (h : wm_sure σ v1 v2 P) : CtW l G yX2_sure cX2_sure 8 (some .int) (rmH 6) [.ref (L 0), .int v1, .int v2] (mW G L) σ (pI P) := by
  refine CtW.ofI (by decide) (Nat.le_of_ble_eq_true rfl) fun Z _ K E => ?_
  unfold wm_sure at h
  show AX Z 0 0 0 [(0, .ref (L 0)), (1, .int v1), (2, .int v2)] [] (mW G L σ)
  refine ax_aload_n K 0 rfl dX2_sure_0 ?_
  refine ax_iconst (v := (0 : Int32)) K (by decide) dX2_sure_1 ?_
  refine mp_thrown K dX2_sure_2 ?_
  refine ax_aload_n K 0 rfl dX2_sure_5 ?_
  refine ax_iload_n K 1 rfl dX2_sure_6 ?_
  refine rm_isMenu K (by decide) dX2_sure_7 (Nat.le_of_ble_eq_true rfl) h (fun r7 σ7 h => ?_)
  refine ax_if_eq (tgt := 29) K dX2_sure_10 (by decide) (fun c10 => ?_) (fun c10 => ?_)
  · have h := ax_it h c10
    exact ax_sub [0] rfl (km_sure_j29 K E  σ7 h)
  · have h := ax_ie h c10
    refine ax_iload_n K 2 rfl dX2_sure_13 ?_
    refine ax_iconst (v := (0 : Int32)) K (by decide) dX2_sure_14 ?_
    refine ax_aload_n K 0 rfl dX2_sure_15 ?_
    refine mg_menuLong K dX2_sure_16 ?_
    refine ax_iload_n K 1 rfl dX2_sure_19 ?_
    refine ml_menuLong K h.1 dX2_sure_20 ?_
    replace h := h.2
    refine ax_iconst (v := (1 : Int32)) K (by decide) dX2_sure_21 ?_
    refine ax_isub K dX2_sure_22 ?_
    refine rm_in K (by decide) dX2_sure_23 (Nat.le_of_ble_eq_true rfl) h (fun r23 h => ?_)
    refine ax_if_ne (tgt := 32) K dX2_sure_26 (by decide) (fun c26 => ?_) (fun c26 => ?_)
    · have h := ax_ie h c26
      refine ax_aload_n K 0 rfl dX2_sure_32 ?_
      refine ax_iload_n K 1 rfl dX2_sure_33 ?_
      refine rm_findFills K (by decide) dX2_sure_34 (Nat.le_of_ble_eq_true rfl) h (fun r34 σ34 h => ?_)
      refine ax_lstore_n (lv' := [(3, .long r34), (0, .ref (L 0)), (1, .int v1), (2, .int v2)]) K dX2_sure_37 (by decide) rfl ?_
      refine ax_aload_n K 1 rfl dX2_sure_38 ?_
      refine mg_menus K dX2_sure_39 ?_
      refine ax_bipush (v := (10 : Int32)) K (by decide) dX2_sure_42 ?_
      refine ax_iload_n K 2 rfl dX2_sure_44 ?_
      refine ax_imul K dX2_sure_45 ?_
      refine ax_iload_n K 3 rfl dX2_sure_46 ?_
      refine ax_iadd K dX2_sure_47 ?_
      refine ml_menus K h.1 dX2_sure_48 ?_
      replace h := h.2
      refine ax_istore (lv' := [(5, .int (mA_menus σ34 ((((10 : Int32) * v1) + v2)).toNatClampNeg)), (3, .long r34), (0, .ref (L 0)), (1, .int v1), (2, .int v2)]) K dX2_sure_49 (by decide) rfl ?_
      refine ax_iconst (v := (0 : Int32)) K (by decide) dX2_sure_51 ?_
      refine ax_istore (lv' := [(6, .int (0 : Int32)), (5, .int (mA_menus σ34 ((((10 : Int32) * v1) + v2)).toNatClampNeg)), (3, .long r34), (0, .ref (L 0)), (1, .int v1), (2, .int v2)]) K dX2_sure_52 (by decide) rfl ?_
      refine ax_iconst (v := (0 : Int32)) K (by decide) dX2_sure_54 ?_
      refine ax_istore (lv' := [(7, .int (0 : Int32)), (6, .int (0 : Int32)), (5, .int (mA_menus σ34 ((((10 : Int32) * v1) + v2)).toNatClampNeg)), (3, .long r34), (0, .ref (L 0)), (1, .int v1), (2, .int v2)]) K dX2_sure_55 (by decide) rfl ?_
      exact ax_sub [4, 5, 6, 3, 2, 1, 0] rfl (h.elim fun n57 h => km_sure_l57 K E (km_sure_j127 K E) n57 v1 v2 r34 (mA_menus σ34 ((((10 : Int32) * v1) + v2)).toNatClampNeg) (0 : Int32) (0 : Int32) σ34 h)
    · have h := ax_it h c26
      exact ax_sub [0] rfl (km_sure_j29 K E  σ7 h)

/-! m.tellFrom -/
set_option maxHeartbeats 4000000 in
theorem mm_tellFrom {l : Launch} {G : AG} {L : Nat → Nat} {σ : St} {v1 : Int32} {v2 : Int32} {P : Int32 → St → Prop} (h : wm_tellFrom σ v1 v2 P) : CtW l G yX2_tellFrom cX2_tellFrom 3 (some .boolean) (rmH 6) [.ref (L 0), .int v1, .int v2] (mW G L) σ (pI P) := by
  refine CtW.ofI (by decide) (Nat.le_of_ble_eq_true rfl) fun Z _ K E => ?_
  unfold wm_tellFrom at h
  show AX Z 0 0 0 [(0, .ref (L 0)), (1, .int v1), (2, .int v2)] [] (mW G L σ)
  refine ax_aload_n K 0 rfl dX2_tellFrom_0 ?_
  refine ax_aload_n K 0 rfl dX2_tellFrom_1 ?_
  refine rm_all K (by decide) dX2_tellFrom_2 (Nat.le_of_ble_eq_true rfl) h (fun r2 σ2 h => ?_)
  refine rm_findEnds K (by decide) dX2_tellFrom_5 (Nat.le_of_ble_eq_true rfl) h (fun σ5 h => ?_)
  refine ax_aload_n K 0 rfl dX2_tellFrom_8 ?_
  refine ax_iconst (v := (0 : Int32)) K (by decide) dX2_tellFrom_9 ?_
  refine ax_iconst (v := (-1 : Int32)) K (by decide) dX2_tellFrom_10 ?_
  refine ax_iload_n K 1 rfl dX2_tellFrom_11 ?_
  refine rm_may K (by decide) dX2_tellFrom_12 (Nat.le_of_ble_eq_true rfl) h (fun r12 σ12 h => ?_)
  refine ax_if_eq (tgt := 33) K dX2_tellFrom_15 (by decide) (fun c15 => ?_) (fun c15 => ?_)
  · have h := ax_it h c15
    refine ax_iconst (v := (0 : Int32)) K (by decide) dX2_tellFrom_33 ?_
    exact E _ _ _ _ dX2_tellFrom_34 rfl h
  · have h := ax_ie h c15
    refine ax_aload_n K 0 rfl dX2_tellFrom_18 ?_
    refine mg_canEnd K dX2_tellFrom_19 ?_
    refine ax_iconst (v := (1 : Int32)) K (by decide) dX2_tellFrom_22 ?_
    refine ax_iload_n K 1 rfl dX2_tellFrom_23 ?_
    refine ax_ishl K dX2_tellFrom_24 ?_
    refine ax_iload_n K 1 rfl dX2_tellFrom_25 ?_
    refine rm_place K (by decide) dX2_tellFrom_26 (Nat.le_of_ble_eq_true rfl) h (fun r26 h => ?_)
    refine ml_canEnd K h.1 dX2_tellFrom_29 ?_
    replace h := h.2
    refine ax_if_ne (tgt := 35) K dX2_tellFrom_30 (by decide) (fun c30 => ?_) (fun c30 => ?_)
    · have h := ax_ie h c30
      refine ax_aload_n K 0 rfl dX2_tellFrom_35 ?_
      refine ax_iconst (v := (0 : Int32)) K (by decide) dX2_tellFrom_36 ?_
      refine mp_rowMany K dX2_tellFrom_37 ?_
      refine ax_aload_n K 0 rfl dX2_tellFrom_40 ?_
      refine ax_iload_n K 1 rfl dX2_tellFrom_41 ?_
      refine rm_tell K (by decide) dX2_tellFrom_42 (Nat.le_of_ble_eq_true rfl) h (fun σ42 h => ?_)
      refine ax_aload_n K 0 rfl dX2_tellFrom_45 ?_
      refine ax_iconst (v := (1 : Int32)) K (by decide) dX2_tellFrom_46 ?_
      refine ax_iload_n K 1 rfl dX2_tellFrom_47 ?_
      refine ax_ishl K dX2_tellFrom_48 ?_
      refine ax_iload_n K 1 rfl dX2_tellFrom_49 ?_
      refine ax_aload_n K 0 rfl dX2_tellFrom_50 ?_
      refine rm_all K (by decide) dX2_tellFrom_51 (Nat.le_of_ble_eq_true rfl) h (fun r51 σ51 h => ?_)
      refine rm_tellWay K (by decide) dX2_tellFrom_54 (Nat.le_of_ble_eq_true rfl) h (fun σ54 h => ?_)
      refine ax_iconst (v := (1 : Int32)) K (by decide) dX2_tellFrom_57 ?_
      exact E _ _ _ _ dX2_tellFrom_58 rfl h
    · have h := ax_it h c30
      refine ax_iconst (v := (0 : Int32)) K (by decide) dX2_tellFrom_33 ?_
      exact E _ _ _ _ dX2_tellFrom_34 rfl h
theorem rm_tellFrom {Z : AZ} {G : AG} {cc : ByteArray} {mL hh pc : Nat} {lv : List (Nat × Value)} {rest : List Value} {L : Nat → Nat} {σ : St} (K : AK Z G cc RX2 mL (rmH hh)) (hlt : 6 < hh) (d : decode cc pc = .ok (.invokevirtual 328, 3)) (hrest : (rest.map fun v => v.category).sum ≤ 8) {v1 : Int32} {v2 : Int32} {P : Int32 → St → Prop} (h : sm_tellFrom σ v1 v2 P) (kk : ∀ (r : Int32) (σ' : St), P r σ' → AX Z 0 0 (pc + 3) lv (.int r :: rest) (mW G L σ')) : AX Z 0 0 pc lv (.int v2 :: .int v1 :: .ref (L 0) :: rest) (mW G L σ) :=
  ax_callV (N0 := 2) (As := [.int v1, .int v2]) K (mm_tellFrom (sm_tellFrom_ok h)) q1450 q1452 qs99 q118 q1453 ⟨rfl, by decide, by decide, by decide⟩ rfl ⟨by show 6 + 1 + 1 ≤ hh + 1; omega, by show 8 + (3 + 11) + 60 * (6 + 1) ≤ 60 * (hh + 1); omega⟩ ⟨Nat.zero_le _, Nat.zero_le _⟩ rfl rfl rfl hrest d (fun r σ' hp => by obtain ⟨v, rfl, hp⟩ := hp; exact kk v σ' hp)
/-! m.ways -/
set_option maxHeartbeats 4000000 in
theorem km_ways_j100 {Z : AZ} {G : AG} {L : Nat → Nat} {P : Int64 → St → Prop} (K : AK Z G cX2_ways RX2 6 (rmH 6)) (E : AEl Z cX2_ways (mW G L) 0 0 P) {K52 : Int32 → Int64 → Int32 → Int32 → St → Prop} (hK52 : ∀ (v1 : Int32) (v2 : Int64) (v4 : Int32) (v5 : Int32) (σ : St), K52 v1 v2 v4 v5 σ → AX Z 0 0 52 [(0, .ref (L 0)), (1, .int v1), (2, .long v2), (4, .int v4), (5, .int v5)] [] (mW G L σ)) (v1 : Int32) (v2 : Int64) (v4 : Int32) (v5 : Int32) (σ : St) (h : wm_ways_j100 P K52 v1 v2 v4 v5 σ) : AX Z 0 0 100 [(0, .ref (L 0)), (1, .int v1), (2, .long v2), (4, .int v4), (5, .int v5)] [] (mW G L σ) := by
  unfold wm_ways_j100 at h
  refine ax_iinc (lv' := [(5, .int (v5 + (1 : Int32))), (0, .ref (L 0)), (1, .int v1), (2, .long v2), (4, .int v4)]) (v := (v5 + (1 : Int32))) K 4 dX2_ways_100 rfl (by rfl) (by decide) rfl ?_
  refine ax_goto (tgt := 52) K dX2_ways_103 (by decide) ?_
  exact ax_sub [1, 2, 3, 4, 0] rfl (hK52 v1 v2 v4 (v5 + (1 : Int32)) σ h)
set_option maxHeartbeats 4000000 in
theorem km_ways_l52 {Z : AZ} {G : AG} {L : Nat → Nat} {P : Int64 → St → Prop} (K : AK Z G cX2_ways RX2 6 (rmH 6)) (E : AEl Z cX2_ways (mW G L) 0 0 P) {K40 : Int32 → Int64 → Int32 → St → Prop} (hK40 : ∀ (v1 : Int32) (v2 : Int64) (v4 : Int32) (σ : St), K40 v1 v2 v4 σ → AX Z 0 0 40 [(0, .ref (L 0)), (1, .int v1), (2, .long v2), (4, .int v4)] [] (mW G L σ)) : ∀ (n : Nat) (v1 : Int32) (v2 : Int64) (v4 : Int32) (v5 : Int32) (σ : St), wm_ways_l52 P K40 n v1 v2 v4 v5 σ → AX Z 0 0 52 [(0, .ref (L 0)), (1, .int v1), (2, .long v2), (4, .int v4), (5, .int v5)] [] (mW G L σ) := by
  intro n
  induction n with
  | zero => intro v1 v2 v4 v5 σ h; exact False.elim h
  | succ n ih =>
    intro v1 v2 v4 v5 σ h
    rw [wm_ways_l52_s] at h
    refine ax_iload K 4 rfl dX2_ways_52 ?_
    refine ax_aload_n K 0 rfl dX2_ways_54 ?_
    refine mg_dishes K dX2_ways_55 ?_
    refine ax_icmp_ge (tgt := 106) K dX2_ways_58 (by decide) (fun c58 => ?_) (fun c58 => ?_)
    · have h := ax_it h c58
      refine ax_iinc (lv' := [(4, .int (v4 + (1 : Int32))), (0, .ref (L 0)), (1, .int v1), (2, .long v2), (5, .int v5)]) (v := (v4 + (1 : Int32))) K 3 dX2_ways_106 rfl (by rfl) (by decide) rfl ?_
      refine ax_goto (tgt := 40) K dX2_ways_109 (by decide) ?_
      exact ax_sub [1, 2, 3, 0] rfl (hK40 v1 v2 (v4 + (1 : Int32)) σ h)
    · have h := ax_ie h c58
      refine ax_iload K 3 rfl dX2_ways_61 ?_
      refine ax_iload K 4 rfl dX2_ways_63 ?_
      refine rm_isState K (by decide) dX2_ways_65 (Nat.le_of_ble_eq_true rfl) h (fun r65 h => ?_)
      refine ax_if_eq (tgt := 100) K dX2_ways_68 (by decide) (fun c68 => ?_) (fun c68 => ?_)
      · have h := ax_it h c68
        exact ax_sub [0, 1, 2, 3, 4] rfl (km_ways_j100 K E ih v1 v2 v4 v5 σ h)
      · have h := ax_ie h c68
        refine ax_iload K 3 rfl dX2_ways_71 ?_
        refine rm_bitCount K (by decide) dX2_ways_73 (Nat.le_of_ble_eq_true rfl) ?_
        refine ax_aload_n K 0 rfl dX2_ways_76 ?_
        refine mg_servedMany K dX2_ways_77 ?_
        refine ax_iload_n K 1 rfl dX2_ways_80 ?_
        refine ax_iadd K dX2_ways_81 ?_
        refine ax_icmp_ne (tgt := 100) K dX2_ways_82 (by decide) (fun c82 => ?_) (fun c82 => ?_)
        · have h := ax_ie h c82
          exact ax_sub [0, 1, 2, 3, 4] rfl (km_ways_j100 K E ih v1 v2 v4 v5 σ h)
        · have h := ax_it h c82
          refine ax_lload_n K 2 rfl dX2_ways_85 ?_
          refine ax_aload_n K 0 rfl dX2_ways_86 ?_
          refine mg_rows K dX2_ways_87 ?_
          refine ax_iload K 3 rfl dX2_ways_90 ?_
          refine ax_iload K 4 rfl dX2_ways_92 ?_
          refine rm_place K (by decide) dX2_ways_94 (Nat.le_of_ble_eq_true rfl) h (fun r94 h => ?_)
          refine ml_rows K h.1 dX2_ways_97 ?_
          replace h := h.2
          refine ax_ladd K dX2_ways_98 ?_
          refine ax_lstore_n (lv' := [(2, .long (v2 + (mA_rows σ (r94).toNatClampNeg))), (0, .ref (L 0)), (1, .int v1), (4, .int v4), (5, .int v5)]) K dX2_ways_99 (by decide) rfl ?_
          exact ax_sub [1, 2, 0, 3, 4] rfl (km_ways_j100 K E ih v1 (v2 + (mA_rows σ (r94).toNatClampNeg)) v4 v5 σ h)
set_option maxHeartbeats 4000000 in
theorem km_ways_l40 {Z : AZ} {G : AG} {L : Nat → Nat} {P : Int64 → St → Prop} (K : AK Z G cX2_ways RX2 6 (rmH 6)) (E : AEl Z cX2_ways (mW G L) 0 0 P) : ∀ (n : Nat) (v1 : Int32) (v2 : Int64) (v4 : Int32) (σ : St), wm_ways_l40 P  n v1 v2 v4 σ → AX Z 0 0 40 [(0, .ref (L 0)), (1, .int v1), (2, .long v2), (4, .int v4)] [] (mW G L σ) := by
  intro n
  induction n with
  | zero => intro v1 v2 v4 σ h; exact False.elim h
  | succ n ih =>
    intro v1 v2 v4 σ h
    rw [wm_ways_l40_s] at h
    refine ax_iload K 3 rfl dX2_ways_40 ?_
    refine ax_aload_n K 0 rfl dX2_ways_42 ?_
    refine rm_all K (by decide) dX2_ways_43 (Nat.le_of_ble_eq_true rfl) h (fun r43 σ43 h => ?_)
    refine ax_icmp_gt (tgt := 112) K dX2_ways_46 (by decide) (fun c46 => ?_) (fun c46 => ?_)
    · have h := ax_it h c46
      refine ax_lload_n K 2 rfl dX2_ways_112 ?_
      exact E _ _ _ _ dX2_ways_113 h
    · have h := ax_ie h c46
      refine ax_iconst (v := (-1 : Int32)) K (by decide) dX2_ways_49 ?_
      refine ax_istore (lv' := [(5, .int (-1 : Int32)), (0, .ref (L 0)), (1, .int v1), (2, .long v2), (4, .int v4)]) K dX2_ways_50 (by decide) rfl ?_
      exact ax_sub [1, 2, 3, 4, 0] rfl (h.elim fun n52 h => km_ways_l52 K E ih n52 v1 v2 v4 (-1 : Int32) σ43 h)
set_option maxHeartbeats 4000000 in
theorem mm_ways {l : Launch} {G : AG} {L : Nat → Nat} {σ : St} {v1 : Int32} {P : Int64 → St → Prop} (h : wm_ways σ v1 P) : CtW l G yX2_ways cX2_ways 6 (some .long) (rmH 6) [.ref (L 0), .int v1] (mW G L) σ (pL P) := by
  refine CtW.ofL (by decide) (Nat.le_of_ble_eq_true rfl) fun Z _ K E => ?_
  unfold wm_ways at h
  show AX Z 0 0 0 [(0, .ref (L 0)), (1, .int v1)] [] (mW G L σ)
  refine ax_aload_n K 0 rfl dX2_ways_0 ?_
  refine ax_iconst (v := (0 : Int32)) K (by decide) dX2_ways_1 ?_
  refine mp_thrown K dX2_ways_2 ?_
  refine ax_iload_n K 1 rfl dX2_ways_5 ?_
  refine ax_iconst (v := (0 : Int32)) K (by decide) dX2_ways_6 ?_
  refine ax_bipush (v := (10 : Int32)) K (by decide) dX2_ways_7 ?_
  refine rm_in K (by decide) dX2_ways_9 (Nat.le_of_ble_eq_true rfl) h (fun r9 h => ?_)
  refine ax_if_ne (tgt := 19) K dX2_ways_12 (by decide) (fun c12 => ?_) (fun c12 => ?_)
  · have h := ax_ie h c12
    refine ax_aload_n K 0 rfl dX2_ways_19 ?_
    refine ax_aload_n K 0 rfl dX2_ways_20 ?_
    refine rm_servedSet K (by decide) dX2_ways_21 (Nat.le_of_ble_eq_true rfl) h (fun r21 σ21 h => ?_)
    refine ax_aload_n K 0 rfl dX2_ways_24 ?_
    refine rm_servedLast K (by decide) dX2_ways_25 (Nat.le_of_ble_eq_true rfl) h (fun r25 σ25 h => ?_)
    refine ax_aload_n K 0 rfl dX2_ways_28 ?_
    refine rm_all K (by decide) dX2_ways_29 (Nat.le_of_ble_eq_true rfl) h (fun r29 σ29 h => ?_)
    refine rm_findRows K (by decide) dX2_ways_32 (Nat.le_of_ble_eq_true rfl) h (fun σ32 h => ?_)
    refine ax_lconst (v := (0 : Int64)) K (by decide) dX2_ways_35 ?_
    refine ax_lstore_n (lv' := [(2, .long (0 : Int64)), (0, .ref (L 0)), (1, .int v1)]) K dX2_ways_36 (by decide) rfl ?_
    refine ax_iconst (v := (0 : Int32)) K (by decide) dX2_ways_37 ?_
    refine ax_istore (lv' := [(4, .int (0 : Int32)), (2, .long (0 : Int64)), (0, .ref (L 0)), (1, .int v1)]) K dX2_ways_38 (by decide) rfl ?_
    exact ax_sub [2, 3, 1, 0] rfl (h.elim fun n40 h => km_ways_l40 K E  n40 v1 (0 : Int64) (0 : Int32) σ32 h)
  · have h := ax_it h c12
    refine ax_ldc2 (v := (-1 : Int64)) K q1441 dX2_ways_15 ?_
    exact E _ _ _ _ dX2_ways_18 h

/-! m.bears -/
set_option maxHeartbeats 4000000 in
theorem km_bears_j44 {Z : AZ} {G : AG} {L : Nat → Nat} {P : Int32 → St → Prop} (K : AK Z G cX2_bears RX2 4 (rmH 7)) (E : AEi Z cX2_bears .int (mW G L) 0 0 P) {K19 : Int32 → Int32 → Int32 → St → Prop} (hK19 : ∀ (v1 : Int32) (v2 : Int32) (v3 : Int32) (σ : St), K19 v1 v2 v3 σ → AX Z 0 0 19 [(0, .ref (L 0)), (1, .int v1), (2, .int v2), (3, .int v3)] [] (mW G L σ)) (v1 : Int32) (v3 : Int32) (s0 : Int32) (s1 : Int32) (σ : St) (h : wm_bears_j44 P K19 v1 v3 s0 s1 σ) : AX Z 0 0 44 [(0, .ref (L 0)), (1, .int v1), (3, .int v3)] [.int s1, .int s0] (mW G L σ) := by
  unfold wm_bears_j44 at h
  refine ax_ior K dX2_bears_44 ?_
  refine ax_istore_n (lv' := [(2, .int (s0 ||| s1)), (0, .ref (L 0)), (1, .int v1), (3, .int v3)]) K dX2_bears_45 (by decide) rfl ?_
  refine ax_iinc (lv' := [(3, .int (v3 + (1 : Int32))), (2, .int (s0 ||| s1)), (0, .ref (L 0)), (1, .int v1)]) (v := (v3 + (1 : Int32))) K 3 dX2_bears_46 rfl (by rfl) (by decide) rfl ?_
  refine ax_goto (tgt := 19) K dX2_bears_49 (by decide) ?_
  exact ax_sub [2, 3, 1, 0] rfl (hK19 v1 (s0 ||| s1) (v3 + (1 : Int32)) σ h)
set_option maxHeartbeats 4000000 in
theorem km_bears_l19 {Z : AZ} {G : AG} {L : Nat → Nat} {P : Int32 → St → Prop} (K : AK Z G cX2_bears RX2 4 (rmH 7)) (E : AEi Z cX2_bears .int (mW G L) 0 0 P) : ∀ (n : Nat) (v1 : Int32) (v2 : Int32) (v3 : Int32) (σ : St), wm_bears_l19 P  n v1 v2 v3 σ → AX Z 0 0 19 [(0, .ref (L 0)), (1, .int v1), (2, .int v2), (3, .int v3)] [] (mW G L σ) := by
  intro n
  induction n with
  | zero => intro v1 v2 v3 σ h; exact False.elim h
  | succ n ih =>
    intro v1 v2 v3 σ h
    rw [wm_bears_l19_s] at h
    refine ax_iload_n K 3 rfl dX2_bears_19 ?_
    refine ax_aload_n K 0 rfl dX2_bears_20 ?_
    refine mg_dishes K dX2_bears_21 ?_
    refine ax_icmp_ge (tgt := 52) K dX2_bears_24 (by decide) (fun c24 => ?_) (fun c24 => ?_)
    · have h := ax_it h c24
      refine ax_aload_n K 0 rfl dX2_bears_52 ?_
      refine ax_iload_n K 2 rfl dX2_bears_53 ?_
      refine rm_longestBy K (by decide) dX2_bears_54 (Nat.le_of_ble_eq_true rfl) h (fun r54 σ54 h => ?_)
      exact E _ _ _ _ dX2_bears_57 rfl h
    · have h := ax_ie h c24
      refine ax_iload_n K 2 rfl dX2_bears_27 ?_
      refine ax_aload_n K 0 rfl dX2_bears_28 ?_
      refine ax_iload_n K 1 rfl dX2_bears_29 ?_
      refine ax_iload_n K 3 rfl dX2_bears_30 ?_
      refine rm_isHungry K (by decide) dX2_bears_31 (Nat.le_of_ble_eq_true rfl) h (fun r31 σ31 h => ?_)
      refine ax_if_eq (tgt := 41) K dX2_bears_34 (by decide) (fun c34 => ?_) (fun c34 => ?_)
      · have h := ax_it h c34
        refine ax_iconst (v := (1 : Int32)) K (by decide) dX2_bears_41 ?_
        refine ax_iload_n K 3 rfl dX2_bears_42 ?_
        refine ax_ishl K dX2_bears_43 ?_
        exact ax_sub [0, 1, 3] rfl (km_bears_j44 K E ih v1 v3 v2 ((1 : Int32) <<< (v3 &&& 31)) σ31 h)
      · have h := ax_ie h c34
        refine ax_iconst (v := (0 : Int32)) K (by decide) dX2_bears_37 ?_
        refine ax_goto (tgt := 44) K dX2_bears_38 (by decide) ?_
        exact ax_sub [0, 1, 3] rfl (km_bears_j44 K E ih v1 v3 v2 (0 : Int32) σ31 h)
set_option maxHeartbeats 4000000 in
theorem mm_bears {l : Launch} {G : AG} {L : Nat → Nat} {σ : St} {v1 : Int32} {P : Int32 → St → Prop} (h : wm_bears σ v1 P) : CtW l G yX2_bears cX2_bears 4 (some .int) (rmH 7) [.ref (L 0), .int v1] (mW G L) σ (pI P) := by
  refine CtW.ofI (by decide) (Nat.le_of_ble_eq_true rfl) fun Z _ K E => ?_
  unfold wm_bears at h
  show AX Z 0 0 0 [(0, .ref (L 0)), (1, .int v1)] [] (mW G L σ)
  refine ax_aload_n K 0 rfl dX2_bears_0 ?_
  refine ax_iconst (v := (0 : Int32)) K (by decide) dX2_bears_1 ?_
  refine mp_thrown K dX2_bears_2 ?_
  refine ax_aload_n K 0 rfl dX2_bears_5 ?_
  refine ax_iload_n K 1 rfl dX2_bears_6 ?_
  refine rm_isGuest K (by decide) dX2_bears_7 (Nat.le_of_ble_eq_true rfl) h (fun r7 σ7 h => ?_)
  refine ax_if_ne (tgt := 15) K dX2_bears_10 (by decide) (fun c10 => ?_) (fun c10 => ?_)
  · have h := ax_ie h c10
    refine ax_iconst (v := (0 : Int32)) K (by decide) dX2_bears_15 ?_
    refine ax_istore_n (lv' := [(2, .int (0 : Int32)), (0, .ref (L 0)), (1, .int v1)]) K dX2_bears_16 (by decide) rfl ?_
    refine ax_iconst (v := (0 : Int32)) K (by decide) dX2_bears_17 ?_
    refine ax_istore_n (lv' := [(3, .int (0 : Int32)), (2, .int (0 : Int32)), (0, .ref (L 0)), (1, .int v1)]) K dX2_bears_18 (by decide) rfl ?_
    exact ax_sub [2, 3, 1, 0] rfl (h.elim fun n19 h => km_bears_l19 K E  n19 v1 (0 : Int32) (0 : Int32) σ7 h)
  · have h := ax_it h c10
    refine ax_iconst (v := (-1 : Int32)) K (by decide) dX2_bears_13 ?_
    exact E _ _ _ _ dX2_bears_14 rfl h

/-! m.betweenBy -/
set_option maxHeartbeats 4000000 in
theorem km_betweenBy_j117 {Z : AZ} {G : AG} {L : Nat → Nat} {P : Int32 → St → Prop} (K : AK Z G cX2_betweenBy RX2 7 (rmH 7)) (E : AEi Z cX2_betweenBy .int (mW G L) 0 0 P) {K57 : Int32 → Int32 → Int32 → Int32 → Int32 → Int32 → St → Prop} (hK57 : ∀ (v1 : Int32) (v2 : Int32) (v3 : Int32) (v4 : Int32) (v5 : Int32) (v6 : Int32) (σ : St), K57 v1 v2 v3 v4 v5 v6 σ → AX Z 0 0 57 [(0, .ref (L 0)), (1, .int v1), (2, .int v2), (3, .int v3), (4, .int v4), (5, .int v5), (6, .int v6)] [] (mW G L σ)) (v1 : Int32) (v2 : Int32) (v3 : Int32) (v4 : Int32) (v5 : Int32) (v6 : Int32) (σ : St) (h : wm_betweenBy_j117 P K57 v1 v2 v3 v4 v5 v6 σ) : AX Z 0 0 117 [(0, .ref (L 0)), (1, .int v1), (2, .int v2), (3, .int v3), (4, .int v4), (5, .int v5), (6, .int v6)] [] (mW G L σ) := by
  unfold wm_betweenBy_j117 at h
  refine ax_iinc (lv' := [(6, .int (v6 + (1 : Int32))), (0, .ref (L 0)), (1, .int v1), (2, .int v2), (3, .int v3), (4, .int v4), (5, .int v5)]) (v := (v6 + (1 : Int32))) K 6 dX2_betweenBy_117 rfl (by rfl) (by decide) rfl ?_
  refine ax_goto (tgt := 57) K dX2_betweenBy_120 (by decide) ?_
  exact ax_sub [1, 2, 3, 4, 5, 6, 0] rfl (hK57 v1 v2 v3 v4 v5 (v6 + (1 : Int32)) σ h)
set_option maxHeartbeats 4000000 in
theorem km_betweenBy_j105 {Z : AZ} {G : AG} {L : Nat → Nat} {P : Int32 → St → Prop} (K : AK Z G cX2_betweenBy RX2 7 (rmH 7)) (E : AEi Z cX2_betweenBy .int (mW G L) 0 0 P) {K57 : Int32 → Int32 → Int32 → Int32 → Int32 → Int32 → St → Prop} (hK57 : ∀ (v1 : Int32) (v2 : Int32) (v3 : Int32) (v4 : Int32) (v5 : Int32) (v6 : Int32) (σ : St), K57 v1 v2 v3 v4 v5 v6 σ → AX Z 0 0 57 [(0, .ref (L 0)), (1, .int v1), (2, .int v2), (3, .int v3), (4, .int v4), (5, .int v5), (6, .int v6)] [] (mW G L σ)) (v1 : Int32) (v2 : Int32) (v3 : Int32) (v4 : Int32) (v5 : Int32) (v6 : Int32) (σ : St) (h : wm_betweenBy_j105 P K57 v1 v2 v3 v4 v5 v6 σ) : AX Z 0 0 105 [(0, .ref (L 0)), (1, .int v1), (2, .int v2), (3, .int v3), (4, .int v4), (5, .int v5), (6, .int v6)] [] (mW G L σ) := by
  unfold wm_betweenBy_j105 at h
  refine ax_aload_n K 0 rfl dX2_betweenBy_105 ?_
  refine mg_isEnd K dX2_betweenBy_106 ?_
  refine ax_iload K 6 rfl dX2_betweenBy_109 ?_
  refine ax_iload_n K 2 rfl dX2_betweenBy_111 ?_
  refine rm_place K (by decide) dX2_betweenBy_112 (Nat.le_of_ble_eq_true rfl) h (fun r112 h => ?_)
  refine ax_iconst (v := (1 : Int32)) K (by decide) dX2_betweenBy_115 ?_
  refine ms_isEnd K h.1 dX2_betweenBy_116 ?_
  replace h := h.2
  exact ax_sub [0, 1, 2, 3, 4, 5, 6] rfl (km_betweenBy_j117 K E hK57 v1 v2 v3 v4 v5 v6 (mU_isEnd σ r112 (vp_nar .boolean (1 : Int32))) h)
set_option maxHeartbeats 4000000 in
theorem km_betweenBy_l57 {Z : AZ} {G : AG} {L : Nat → Nat} {P : Int32 → St → Prop} (K : AK Z G cX2_betweenBy RX2 7 (rmH 7)) (E : AEi Z cX2_betweenBy .int (mW G L) 0 0 P) {K21 : Int32 → Int32 → Int32 → Int32 → St → Prop} (hK21 : ∀ (v1 : Int32) (v2 : Int32) (v3 : Int32) (v4 : Int32) (σ : St), K21 v1 v2 v3 v4 σ → AX Z 0 0 21 [(0, .ref (L 0)), (1, .int v1), (2, .int v2), (3, .int v3), (4, .int v4)] [] (mW G L σ)) : ∀ (n : Nat) (v1 : Int32) (v2 : Int32) (v3 : Int32) (v4 : Int32) (v5 : Int32) (v6 : Int32) (σ : St), wm_betweenBy_l57 P K21 n v1 v2 v3 v4 v5 v6 σ → AX Z 0 0 57 [(0, .ref (L 0)), (1, .int v1), (2, .int v2), (3, .int v3), (4, .int v4), (5, .int v5), (6, .int v6)] [] (mW G L σ) := by
  intro n
  induction n with
  | zero => intro v1 v2 v3 v4 v5 v6 σ h; exact False.elim h
  | succ n ih =>
    intro v1 v2 v3 v4 v5 v6 σ h
    rw [wm_betweenBy_l57_s] at h
    refine ax_iload K 6 rfl dX2_betweenBy_57 ?_
    refine ax_aload_n K 0 rfl dX2_betweenBy_59 ?_
    refine rm_all K (by decide) dX2_betweenBy_60 (Nat.le_of_ble_eq_true rfl) h (fun r60 σ60 h => ?_)
    refine ax_icmp_gt (tgt := 123) K dX2_betweenBy_63 (by decide) (fun c63 => ?_) (fun c63 => ?_)
    · have h := ax_it h c63
      refine ax_aload_n K 0 rfl dX2_betweenBy_123 ?_
      refine ax_iload_n K 1 rfl dX2_betweenBy_124 ?_
      refine ax_iload K 5 rfl dX2_betweenBy_125 ?_
      refine rm_tellFrom K (by decide) dX2_betweenBy_127 (Nat.le_of_ble_eq_true rfl) h (fun r127 σ127 h => ?_)
      refine ax_if_eq (tgt := 136) K dX2_betweenBy_130 (by decide) (fun c130 => ?_) (fun c130 => ?_)
      · have h := ax_it h c130
        refine ax_iinc (lv' := [(4, .int (v4 + (1 : Int32))), (0, .ref (L 0)), (1, .int v1), (2, .int v2), (3, .int v3), (5, .int v5), (6, .int v6)]) (v := (v4 + (1 : Int32))) K 4 dX2_betweenBy_136 rfl (by rfl) (by decide) rfl ?_
        refine ax_goto (tgt := 21) K dX2_betweenBy_139 (by decide) ?_
        exact ax_sub [1, 2, 3, 4, 0] rfl (hK21 v1 v2 v3 (v4 + (1 : Int32)) σ127 h)
      · have h := ax_ie h c130
        refine ax_iload K 5 rfl dX2_betweenBy_133 ?_
        exact E _ _ _ _ dX2_betweenBy_135 rfl h
    · have h := ax_ie h c63
      refine ax_iload K 6 rfl dX2_betweenBy_66 ?_
      refine ax_iload_n K 2 rfl dX2_betweenBy_68 ?_
      refine rm_has K (by decide) dX2_betweenBy_69 (Nat.le_of_ble_eq_true rfl) h (fun r69 h => ?_)
      refine ax_if_eq (tgt := 117) K dX2_betweenBy_72 (by decide) (fun c72 => ?_) (fun c72 => ?_)
      · have h := ax_it h c72
        exact ax_sub [0, 1, 2, 3, 4, 5, 6] rfl (km_betweenBy_j117 K E ih v1 v2 v3 v4 v5 v6 σ60 h)
      · have h := ax_ie h c72
        refine ax_iload K 6 rfl dX2_betweenBy_75 ?_
        refine ax_iload_n K 1 rfl dX2_betweenBy_77 ?_
        refine rm_has K (by decide) dX2_betweenBy_78 (Nat.le_of_ble_eq_true rfl) h (fun r78 h => ?_)
        refine ax_if_eq (tgt := 117) K dX2_betweenBy_81 (by decide) (fun c81 => ?_) (fun c81 => ?_)
        · have h := ax_it h c81
          exact ax_sub [0, 1, 2, 3, 4, 5, 6] rfl (km_betweenBy_j117 K E ih v1 v2 v3 v4 v5 v6 σ60 h)
        · have h := ax_ie h c81
          refine ax_iload K 6 rfl dX2_betweenBy_84 ?_
          refine rm_bitCount K (by decide) dX2_betweenBy_86 (Nat.le_of_ble_eq_true rfl) ?_
          refine ax_iload K 5 rfl dX2_betweenBy_89 ?_
          refine ax_icmp_ne (tgt := 117) K dX2_betweenBy_91 (by decide) (fun c91 => ?_) (fun c91 => ?_)
          · have h := ax_ie h c91
            exact ax_sub [0, 1, 2, 3, 4, 5, 6] rfl (km_betweenBy_j117 K E ih v1 v2 v3 v4 v5 v6 σ60 h)
          · have h := ax_it h c91
            refine ax_iload_n K 1 rfl dX2_betweenBy_94 ?_
            refine ax_iload_n K 2 rfl dX2_betweenBy_95 ?_
            refine ax_icmp_ne (tgt := 105) K dX2_betweenBy_96 (by decide) (fun c96 => ?_) (fun c96 => ?_)
            · have h := ax_ie h c96
              exact ax_sub [0, 1, 2, 3, 4, 5, 6] rfl (km_betweenBy_j105 K E ih v1 v2 v3 v4 v5 v6 σ60 h)
            · have h := ax_it h c96
              refine ax_iload K 5 rfl dX2_betweenBy_99 ?_
              refine ax_iconst (v := (1 : Int32)) K (by decide) dX2_betweenBy_101 ?_
              refine ax_icmp_ne (tgt := 117) K dX2_betweenBy_102 (by decide) (fun c102 => ?_) (fun c102 => ?_)
              · have h := ax_ie h c102
                exact ax_sub [0, 1, 2, 3, 4, 5, 6] rfl (km_betweenBy_j117 K E ih v1 v2 v3 v4 v5 v6 σ60 h)
              · have h := ax_it h c102
                exact ax_sub [0, 1, 2, 3, 4, 5, 6] rfl (km_betweenBy_j105 K E ih v1 v2 v3 v4 v5 v6 σ60 h)
set_option maxHeartbeats 4000000 in
theorem km_betweenBy_j48 {Z : AZ} {G : AG} {L : Nat → Nat} {P : Int32 → St → Prop} (K : AK Z G cX2_betweenBy RX2 7 (rmH 7)) (E : AEi Z cX2_betweenBy .int (mW G L) 0 0 P) {K21 : Int32 → Int32 → Int32 → Int32 → St → Prop} (hK21 : ∀ (v1 : Int32) (v2 : Int32) (v3 : Int32) (v4 : Int32) (σ : St), K21 v1 v2 v3 v4 σ → AX Z 0 0 21 [(0, .ref (L 0)), (1, .int v1), (2, .int v2), (3, .int v3), (4, .int v4)] [] (mW G L σ)) (v1 : Int32) (v2 : Int32) (v3 : Int32) (v4 : Int32) (s0 : Int32) (σ : St) (h : wm_betweenBy_j48 P K21 v1 v2 v3 v4 s0 σ) : AX Z 0 0 48 [(0, .ref (L 0)), (1, .int v1), (2, .int v2), (3, .int v3), (4, .int v4)] [.int s0] (mW G L σ) := by
  unfold wm_betweenBy_j48 at h
  refine ax_istore (lv' := [(5, .int s0), (0, .ref (L 0)), (1, .int v1), (2, .int v2), (3, .int v3), (4, .int v4)]) K dX2_betweenBy_48 (by decide) rfl ?_
  refine ax_aload_n K 1 rfl dX2_betweenBy_50 ?_
  refine rm_noEnds K (by decide) dX2_betweenBy_51 (Nat.le_of_ble_eq_true rfl) h (fun σ51 h => ?_)
  refine ax_iconst (v := (0 : Int32)) K (by decide) dX2_betweenBy_54 ?_
  refine ax_istore (lv' := [(6, .int (0 : Int32)), (5, .int s0), (0, .ref (L 0)), (1, .int v1), (2, .int v2), (3, .int v3), (4, .int v4)]) K dX2_betweenBy_55 (by decide) rfl ?_
  exact ax_sub [2, 3, 4, 5, 6, 1, 0] rfl (h.elim fun n57 h => km_betweenBy_l57 K E hK21 n57 v1 v2 v3 v4 s0 (0 : Int32) σ51 h)
set_option maxHeartbeats 4000000 in
theorem km_betweenBy_l21 {Z : AZ} {G : AG} {L : Nat → Nat} {P : Int32 → St → Prop} (K : AK Z G cX2_betweenBy RX2 7 (rmH 7)) (E : AEi Z cX2_betweenBy .int (mW G L) 0 0 P) : ∀ (n : Nat) (v1 : Int32) (v2 : Int32) (v3 : Int32) (v4 : Int32) (σ : St), wm_betweenBy_l21 P  n v1 v2 v3 v4 σ → AX Z 0 0 21 [(0, .ref (L 0)), (1, .int v1), (2, .int v2), (3, .int v3), (4, .int v4)] [] (mW G L σ) := by
  intro n
  induction n with
  | zero => intro v1 v2 v3 v4 σ h; exact False.elim h
  | succ n ih =>
    intro v1 v2 v3 v4 σ h
    rw [wm_betweenBy_l21_s] at h
    refine ax_iload K 4 rfl dX2_betweenBy_21 ?_
    refine ax_aload_n K 0 rfl dX2_betweenBy_23 ?_
    refine mg_dishes K dX2_betweenBy_24 ?_
    refine ax_icmp_ge (tgt := 142) K dX2_betweenBy_27 (by decide) (fun c27 => ?_) (fun c27 => ?_)
    · have h := ax_it h c27
      refine ax_bipush (v := (-2 : Int32)) K (by decide) dX2_betweenBy_142 ?_
      exact E _ _ _ _ dX2_betweenBy_144 rfl h
    · have h := ax_ie h c27
      refine ax_iload_n K 3 rfl dX2_betweenBy_30 ?_
      refine ax_if_eq (tgt := 44) K dX2_betweenBy_31 (by decide) (fun c31 => ?_) (fun c31 => ?_)
      · have h := ax_it h c31
        refine ax_iload K 4 rfl dX2_betweenBy_44 ?_
        refine ax_iconst (v := (1 : Int32)) K (by decide) dX2_betweenBy_46 ?_
        refine ax_iadd K dX2_betweenBy_47 ?_
        exact ax_sub [0, 1, 2, 3, 4] rfl (km_betweenBy_j48 K E ih v1 v2 v3 v4 (v4 + (1 : Int32)) σ h)
      · have h := ax_ie h c31
        refine ax_aload_n K 0 rfl dX2_betweenBy_34 ?_
        refine mg_dishes K dX2_betweenBy_35 ?_
        refine ax_iload K 4 rfl dX2_betweenBy_38 ?_
        refine ax_isub K dX2_betweenBy_40 ?_
        refine ax_goto (tgt := 48) K dX2_betweenBy_41 (by decide) ?_
        exact ax_sub [0, 1, 2, 3, 4] rfl (km_betweenBy_j48 K E ih v1 v2 v3 v4 ((mI_dishes σ) - v4) σ h)
set_option maxHeartbeats 4000000 in
theorem mm_betweenBy {l : Launch} {G : AG} {L : Nat → Nat} {σ : St} {v1 : Int32} {v2 : Int32} {v3 : Int32} {P : Int32 → St → Prop} (h : wm_betweenBy σ v1 v2 v3 P) : CtW l G yX2_betweenBy cX2_betweenBy 7 (some .int) (rmH 7) [.ref (L 0), .int v1, .int v2, .int v3] (mW G L) σ (pI P) := by
  refine CtW.ofI (by decide) (Nat.le_of_ble_eq_true rfl) fun Z _ K E => ?_
  unfold wm_betweenBy at h
  show AX Z 0 0 0 [(0, .ref (L 0)), (1, .int v1), (2, .int v2), (3, .int v3)] [] (mW G L σ)
  refine ax_aload_n K 0 rfl dX2_betweenBy_0 ?_
  refine ax_iload_n K 1 rfl dX2_betweenBy_1 ?_
  refine rm_isDish K (by decide) dX2_betweenBy_2 (Nat.le_of_ble_eq_true rfl) h (fun r2 σ2 h => ?_)
  refine ax_if_eq (tgt := 16) K dX2_betweenBy_5 (by decide) (fun c5 => ?_) (fun c5 => ?_)
  · have h := ax_it h c5
    refine ax_iconst (v := (-1 : Int32)) K (by decide) dX2_betweenBy_16 ?_
    exact E _ _ _ _ dX2_betweenBy_17 rfl h
  · have h := ax_ie h c5
    refine ax_aload_n K 0 rfl dX2_betweenBy_8 ?_
    refine ax_iload_n K 2 rfl dX2_betweenBy_9 ?_
    refine rm_isDish K (by decide) dX2_betweenBy_10 (Nat.le_of_ble_eq_true rfl) h (fun r10 σ10 h => ?_)
    refine ax_if_ne (tgt := 18) K dX2_betweenBy_13 (by decide) (fun c13 => ?_) (fun c13 => ?_)
    · have h := ax_ie h c13
      refine ax_iconst (v := (0 : Int32)) K (by decide) dX2_betweenBy_18 ?_
      refine ax_istore (lv' := [(4, .int (0 : Int32)), (0, .ref (L 0)), (1, .int v1), (2, .int v2), (3, .int v3)]) K dX2_betweenBy_19 (by decide) rfl ?_
      exact ax_sub [1, 2, 3, 4, 0] rfl (h.elim fun n21 h => km_betweenBy_l21 K E  n21 v1 v2 v3 (0 : Int32) σ10 h)
    · have h := ax_it h c13
      refine ax_iconst (v := (-1 : Int32)) K (by decide) dX2_betweenBy_16 ?_
      exact E _ _ _ _ dX2_betweenBy_17 rfl h
theorem rm_betweenBy {Z : AZ} {G : AG} {cc : ByteArray} {mL hh pc : Nat} {lv : List (Nat × Value)} {rest : List Value} {L : Nat → Nat} {σ : St} (K : AK Z G cc RX2 mL (rmH hh)) (hlt : 7 < hh) (d : decode cc pc = .ok (.invokevirtual 331, 3)) (hrest : (rest.map fun v => v.category).sum ≤ 8) {v1 : Int32} {v2 : Int32} {v3 : Int32} {P : Int32 → St → Prop} (h : sm_betweenBy σ v1 v2 v3 P) (kk : ∀ (r : Int32) (σ' : St), P r σ' → AX Z 0 0 (pc + 3) lv (.int r :: rest) (mW G L σ')) : AX Z 0 0 pc lv (.int v3 :: .int v2 :: .int v1 :: .ref (L 0) :: rest) (mW G L σ) :=
  ax_callV (N0 := 3) (As := [.int v1, .int v2, .int v3]) K (mm_betweenBy (sm_betweenBy_ok h)) q1446 q1448 qs98 q118 q1449 ⟨rfl, by decide, by decide, by decide⟩ rfl ⟨by show 7 + 1 + 1 ≤ hh + 1; omega, by show 8 + (7 + 11) + 60 * (7 + 1) ≤ 60 * (hh + 1); omega⟩ ⟨Nat.zero_le _, Nat.zero_le _⟩ rfl rfl rfl hrest d (fun r σ' hp => by obtain ⟨v, rfl, hp⟩ := hp; exact kk v σ' hp)
/-! m.game -/
set_option maxHeartbeats 4000000 in
theorem km_game_j73 {Z : AZ} {G : AG} {L : Nat → Nat} {P : Int32 → St → Prop} (K : AK Z G cX2_game RX2 2 (rmH 7)) (E : AEi Z cX2_game .int (mW G L) 0 0 P) (s0 : Int32) (σ : St) (h : wm_game_j73 P  s0 σ) : AX Z 0 0 73 [(0, .ref (L 0))] [.int s0] (mW G L σ) := by
  unfold wm_game_j73 at h
  exact E _ _ _ _ dX2_game_73 rfl h
set_option maxHeartbeats 4000000 in
theorem km_game_j46 {Z : AZ} {G : AG} {L : Nat → Nat} {P : Int32 → St → Prop} (K : AK Z G cX2_game RX2 2 (rmH 7)) (E : AEi Z cX2_game .int (mW G L) 0 0 P) (v1 : Int32) (s1 : Int32) (σ : St) (h : wm_game_j46 P  v1 s1 σ) : AX Z 0 0 46 [(0, .ref (L 0)), (1, .int v1)] [.int s1, .ref (L 0)] (mW G L σ) := by
  unfold wm_game_j46 at h
  refine rm_tell K (by decide) dX2_game_46 (Nat.le_of_ble_eq_true rfl) h (fun σ46 h => ?_)
  refine ax_aload_n K 0 rfl dX2_game_49 ?_
  refine ax_aload_n K 0 rfl dX2_game_50 ?_
  refine mg_moreThen K dX2_game_51 ?_
  refine ax_iload_n K 1 rfl dX2_game_54 ?_
  refine ml_moreThen K h.1 dX2_game_55 ?_
  replace h := h.2
  refine rm_tell K (by decide) dX2_game_56 (Nat.le_of_ble_eq_true rfl) h (fun σ56 h => ?_)
  refine ax_aload_n K 0 rfl dX2_game_59 ?_
  refine mg_shames K dX2_game_60 ?_
  refine ax_iload_n K 1 rfl dX2_game_63 ?_
  refine ml_shames K h.1 dX2_game_64 ?_
  replace h := h.2
  refine ax_if_eq (tgt := 72) K dX2_game_65 (by decide) (fun c65 => ?_) (fun c65 => ?_)
  · have h := ax_it h c65
    refine ax_iconst (v := (0 : Int32)) K (by decide) dX2_game_72 ?_
    exact ax_sub [0] rfl (km_game_j73 K E  (0 : Int32) σ56 h)
  · have h := ax_ie h c65
    refine ax_iconst (v := (1 : Int32)) K (by decide) dX2_game_68 ?_
    refine ax_goto (tgt := 73) K dX2_game_69 (by decide) ?_
    exact ax_sub [0] rfl (km_game_j73 K E  (1 : Int32) σ56 h)
set_option maxHeartbeats 4000000 in
theorem mm_game {l : Launch} {G : AG} {L : Nat → Nat} {σ : St} {P : Int32 → St → Prop} (h : wm_game σ P) : CtW l G yX2_game cX2_game 2 (some .int) (rmH 7) [.ref (L 0)] (mW G L) σ (pI P) := by
  refine CtW.ofI (by decide) (Nat.le_of_ble_eq_true rfl) fun Z _ K E => ?_
  unfold wm_game at h
  show AX Z 0 0 0 [(0, .ref (L 0))] [] (mW G L σ)
  refine ax_aload_n K 0 rfl dX2_game_0 ?_
  refine ax_iconst (v := (0 : Int32)) K (by decide) dX2_game_1 ?_
  refine mp_thrown K dX2_game_2 ?_
  refine ax_aload_n K 0 rfl dX2_game_5 ?_
  refine rm_findGame K (by decide) dX2_game_6 (Nat.le_of_ble_eq_true rfl) h (fun σ6 h => ?_)
  refine ax_aload_n K 0 rfl dX2_game_9 ?_
  refine rm_servedSet K (by decide) dX2_game_10 (Nat.le_of_ble_eq_true rfl) h (fun r10 σ10 h => ?_)
  refine ax_aload_n K 0 rfl dX2_game_13 ?_
  refine rm_servedLast K (by decide) dX2_game_14 (Nat.le_of_ble_eq_true rfl) h (fun r14 σ14 h => ?_)
  refine rm_place K (by decide) dX2_game_17 (Nat.le_of_ble_eq_true rfl) h (fun r17 h => ?_)
  refine ax_istore_n (lv' := [(1, .int r17), (0, .ref (L 0))]) K dX2_game_20 (by decide) rfl ?_
  refine ax_aload_n K 1 rfl dX2_game_21 ?_
  refine ax_iconst (v := (0 : Int32)) K (by decide) dX2_game_22 ?_
  refine mp_rowMany K dX2_game_23 ?_
  refine ax_aload_n K 1 rfl dX2_game_26 ?_
  refine ax_aload_n K 1 rfl dX2_game_27 ?_
  refine mg_shames K dX2_game_28 ?_
  refine ax_iload_n K 0 rfl dX2_game_31 ?_
  refine ml_shames K h.1 dX2_game_32 ?_
  replace h := h.2
  refine ax_if_eq (tgt := 45) K dX2_game_33 (by decide) (fun c33 => ?_) (fun c33 => ?_)
  · have h := ax_it h c33
    refine ax_iconst (v := (-1 : Int32)) K (by decide) dX2_game_45 ?_
    exact ax_sub [1, 0] rfl (km_game_j46 K E  r17 (-1 : Int32) (mS_rowMany σ14 (0 : Int32)) h)
  · have h := ax_ie h c33
    refine ax_aload_n K 1 rfl dX2_game_36 ?_
    refine mg_firstThen K dX2_game_37 ?_
    refine ax_iload_n K 0 rfl dX2_game_40 ?_
    refine ml_firstThen K h.1 dX2_game_41 ?_
    replace h := h.2
    refine ax_goto (tgt := 46) K dX2_game_42 (by decide) ?_
    exact ax_sub [1, 0] rfl (km_game_j46 K E  r17 (mA_firstThen (mS_rowMany σ14 (0 : Int32)) (r17).toNatClampNeg) (mS_rowMany σ14 (0 : Int32)) h)

/-! m.longest -/
set_option maxHeartbeats 4000000 in
theorem mm_longest {l : Launch} {G : AG} {L : Nat → Nat} {σ : St} {P : Int32 → St → Prop} (h : wm_longest σ P) : CtW l G yX2_longest cX2_longest 1 (some .int) (rmH 7) [.ref (L 0)] (mW G L) σ (pI P) := by
  refine CtW.ofI (by decide) (Nat.le_of_ble_eq_true rfl) fun Z _ K E => ?_
  unfold wm_longest at h
  show AX Z 0 0 0 [(0, .ref (L 0))] [] (mW G L σ)
  refine ax_aload_n K 0 rfl dX2_longest_0 ?_
  refine ax_iconst (v := (0 : Int32)) K (by decide) dX2_longest_1 ?_
  refine mp_thrown K dX2_longest_2 ?_
  refine ax_aload_n K 0 rfl dX2_longest_5 ?_
  refine ax_aload_n K 0 rfl dX2_longest_6 ?_
  refine rm_all K (by decide) dX2_longest_7 (Nat.le_of_ble_eq_true rfl) h (fun r7 σ7 h => ?_)
  refine rm_longestBy K (by decide) dX2_longest_10 (Nat.le_of_ble_eq_true rfl) h (fun r10 σ10 h => ?_)
  exact E _ _ _ _ dX2_longest_13 rfl h

/-! m.round -/
set_option maxHeartbeats 4000000 in
theorem km_round_j100 {Z : AZ} {G : AG} {L : Nat → Nat} {P : Int32 → St → Prop} (K : AK Z G cX2_round RX2 5 (rmH 7)) (E : AEi Z cX2_round .int (mW G L) 0 0 P) {K42 : Int32 → Int32 → Int32 → Int32 → St → Prop} (hK42 : ∀ (v1 : Int32) (v2 : Int32) (v3 : Int32) (v4 : Int32) (σ : St), K42 v1 v2 v3 v4 σ → AX Z 0 0 42 [(0, .ref (L 0)), (1, .int v1), (2, .int v2), (3, .int v3), (4, .int v4)] [] (mW G L σ)) (v1 : Int32) (v2 : Int32) (v3 : Int32) (v4 : Int32) (σ : St) (h : wm_round_j100 P K42 v1 v2 v3 v4 σ) : AX Z 0 0 100 [(0, .ref (L 0)), (1, .int v1), (2, .int v2), (3, .int v3), (4, .int v4)] [] (mW G L σ) := by
  unfold wm_round_j100 at h
  refine ax_iinc (lv' := [(4, .int (v4 + (1 : Int32))), (0, .ref (L 0)), (1, .int v1), (2, .int v2), (3, .int v3)]) (v := (v4 + (1 : Int32))) K 4 dX2_round_100 rfl (by rfl) (by decide) rfl ?_
  refine ax_goto (tgt := 42) K dX2_round_103 (by decide) ?_
  exact ax_sub [1, 2, 3, 4, 0] rfl (hK42 v1 v2 v3 (v4 + (1 : Int32)) σ h)
set_option maxHeartbeats 4000000 in
theorem km_round_l42 {Z : AZ} {G : AG} {L : Nat → Nat} {P : Int32 → St → Prop} (K : AK Z G cX2_round RX2 5 (rmH 7)) (E : AEi Z cX2_round .int (mW G L) 0 0 P) {K31 : Int32 → Int32 → Int32 → St → Prop} (hK31 : ∀ (v1 : Int32) (v2 : Int32) (v3 : Int32) (σ : St), K31 v1 v2 v3 σ → AX Z 0 0 31 [(0, .ref (L 0)), (1, .int v1), (2, .int v2), (3, .int v3)] [] (mW G L σ)) : ∀ (n : Nat) (v1 : Int32) (v2 : Int32) (v3 : Int32) (v4 : Int32) (σ : St), wm_round_l42 P K31 n v1 v2 v3 v4 σ → AX Z 0 0 42 [(0, .ref (L 0)), (1, .int v1), (2, .int v2), (3, .int v3), (4, .int v4)] [] (mW G L σ) := by
  intro n
  induction n with
  | zero => intro v1 v2 v3 v4 σ h; exact False.elim h
  | succ n ih =>
    intro v1 v2 v3 v4 σ h
    rw [wm_round_l42_s] at h
    refine ax_iload K 4 rfl dX2_round_42 ?_
    refine ax_aload_n K 0 rfl dX2_round_44 ?_
    refine mg_dishes K dX2_round_45 ?_
    refine ax_icmp_ge (tgt := 106) K dX2_round_48 (by decide) (fun c48 => ?_) (fun c48 => ?_)
    · have h := ax_it h c48
      refine ax_iinc (lv' := [(3, .int (v3 + (1 : Int32))), (0, .ref (L 0)), (1, .int v1), (2, .int v2), (4, .int v4)]) (v := (v3 + (1 : Int32))) K 3 dX2_round_106 rfl (by rfl) (by decide) rfl ?_
      refine ax_goto (tgt := 31) K dX2_round_109 (by decide) ?_
      exact ax_sub [1, 2, 3, 0] rfl (hK31 v1 v2 (v3 + (1 : Int32)) σ h)
    · have h := ax_ie h c48
      refine ax_iload_n K 3 rfl dX2_round_51 ?_
      refine ax_iload K 4 rfl dX2_round_52 ?_
      refine rm_has K (by decide) dX2_round_54 (Nat.le_of_ble_eq_true rfl) h (fun r54 h => ?_)
      refine ax_if_eq (tgt := 100) K dX2_round_57 (by decide) (fun c57 => ?_) (fun c57 => ?_)
      · have h := ax_it h c57
        exact ax_sub [0, 1, 2, 3, 4] rfl (km_round_j100 K E ih v1 v2 v3 v4 σ h)
      · have h := ax_ie h c57
        refine ax_iload K 4 rfl dX2_round_60 ?_
        refine ax_iload_n K 2 rfl dX2_round_62 ?_
        refine ax_icmp_eq (tgt := 100) K dX2_round_63 (by decide) (fun c63 => ?_) (fun c63 => ?_)
        · have h := ax_it h c63
          exact ax_sub [0, 1, 2, 3, 4] rfl (km_round_j100 K E ih v1 v2 v3 v4 σ h)
        · have h := ax_ie h c63
          refine ax_iload_n K 3 rfl dX2_round_66 ?_
          refine rm_bitCount K (by decide) dX2_round_67 (Nat.le_of_ble_eq_true rfl) ?_
          refine ax_iload_n K 1 rfl dX2_round_70 ?_
          refine ax_icmp_ne (tgt := 100) K dX2_round_71 (by decide) (fun c71 => ?_) (fun c71 => ?_)
          · have h := ax_ie h c71
            exact ax_sub [0, 1, 2, 3, 4] rfl (km_round_j100 K E ih v1 v2 v3 v4 σ h)
          · have h := ax_it h c71
            refine ax_aload_n K 0 rfl dX2_round_74 ?_
            refine ax_iload K 4 rfl dX2_round_75 ?_
            refine ax_iload_n K 2 rfl dX2_round_77 ?_
            refine rm_shared K (by decide) dX2_round_78 (Nat.le_of_ble_eq_true rfl) h (fun r78 σ78 h => ?_)
            refine ax_aload_n K 0 rfl dX2_round_81 ?_
            refine mg_share K dX2_round_82 ?_
            refine ax_icmp_lt (tgt := 100) K dX2_round_85 (by decide) (fun c85 => ?_) (fun c85 => ?_)
            · have h := ax_it h c85
              exact ax_sub [0, 1, 2, 3, 4] rfl (km_round_j100 K E ih v1 v2 v3 v4 σ78 h)
            · have h := ax_ie h c85
              refine ax_aload_n K 0 rfl dX2_round_88 ?_
              refine mg_isEnd K dX2_round_89 ?_
              refine ax_iload_n K 3 rfl dX2_round_92 ?_
              refine ax_iload K 4 rfl dX2_round_93 ?_
              refine rm_place K (by decide) dX2_round_95 (Nat.le_of_ble_eq_true rfl) h (fun r95 h => ?_)
              refine ax_iconst (v := (1 : Int32)) K (by decide) dX2_round_98 ?_
              refine ms_isEnd K h.1 dX2_round_99 ?_
              replace h := h.2
              exact ax_sub [0, 1, 2, 3, 4] rfl (km_round_j100 K E ih v1 v2 v3 v4 (mU_isEnd σ78 r95 (vp_nar .boolean (1 : Int32))) h)
set_option maxHeartbeats 4000000 in
theorem km_round_l31 {Z : AZ} {G : AG} {L : Nat → Nat} {P : Int32 → St → Prop} (K : AK Z G cX2_round RX2 5 (rmH 7)) (E : AEi Z cX2_round .int (mW G L) 0 0 P) {K17 : Int32 → Int32 → St → Prop} (hK17 : ∀ (v1 : Int32) (v2 : Int32) (σ : St), K17 v1 v2 σ → AX Z 0 0 17 [(0, .ref (L 0)), (1, .int v1), (2, .int v2)] [] (mW G L σ)) : ∀ (n : Nat) (v1 : Int32) (v2 : Int32) (v3 : Int32) (σ : St), wm_round_l31 P K17 n v1 v2 v3 σ → AX Z 0 0 31 [(0, .ref (L 0)), (1, .int v1), (2, .int v2), (3, .int v3)] [] (mW G L σ) := by
  intro n
  induction n with
  | zero => intro v1 v2 v3 σ h; exact False.elim h
  | succ n ih =>
    intro v1 v2 v3 σ h
    rw [wm_round_l31_s] at h
    refine ax_iload_n K 3 rfl dX2_round_31 ?_
    refine ax_aload_n K 0 rfl dX2_round_32 ?_
    refine rm_all K (by decide) dX2_round_33 (Nat.le_of_ble_eq_true rfl) h (fun r33 σ33 h => ?_)
    refine ax_icmp_gt (tgt := 112) K dX2_round_36 (by decide) (fun c36 => ?_) (fun c36 => ?_)
    · have h := ax_it h c36
      refine ax_aload_n K 0 rfl dX2_round_112 ?_
      refine ax_iload_n K 2 rfl dX2_round_113 ?_
      refine ax_iload_n K 1 rfl dX2_round_114 ?_
      refine rm_tellFrom K (by decide) dX2_round_115 (Nat.le_of_ble_eq_true rfl) h (fun r115 σ115 h => ?_)
      refine ax_if_eq (tgt := 123) K dX2_round_118 (by decide) (fun c118 => ?_) (fun c118 => ?_)
      · have h := ax_it h c118
        refine ax_iinc (lv' := [(2, .int (v2 + (1 : Int32))), (0, .ref (L 0)), (1, .int v1), (3, .int v3)]) (v := (v2 + (1 : Int32))) K 2 dX2_round_123 rfl (by rfl) (by decide) rfl ?_
        refine ax_goto (tgt := 17) K dX2_round_126 (by decide) ?_
        exact ax_sub [1, 2, 0] rfl (hK17 v1 (v2 + (1 : Int32)) σ115 h)
      · have h := ax_ie h c118
        refine ax_iload_n K 1 rfl dX2_round_121 ?_
        exact E _ _ _ _ dX2_round_122 rfl h
    · have h := ax_ie h c36
      refine ax_iconst (v := (0 : Int32)) K (by decide) dX2_round_39 ?_
      refine ax_istore (lv' := [(4, .int (0 : Int32)), (0, .ref (L 0)), (1, .int v1), (2, .int v2), (3, .int v3)]) K dX2_round_40 (by decide) rfl ?_
      exact ax_sub [1, 2, 3, 4, 0] rfl (h.elim fun n42 h => km_round_l42 K E ih n42 v1 v2 v3 (0 : Int32) σ33 h)
set_option maxHeartbeats 4000000 in
theorem km_round_l17 {Z : AZ} {G : AG} {L : Nat → Nat} {P : Int32 → St → Prop} (K : AK Z G cX2_round RX2 5 (rmH 7)) (E : AEi Z cX2_round .int (mW G L) 0 0 P) {K10 : Int32 → St → Prop} (hK10 : ∀ (v1 : Int32) (σ : St), K10 v1 σ → AX Z 0 0 10 [(0, .ref (L 0)), (1, .int v1)] [] (mW G L σ)) : ∀ (n : Nat) (v1 : Int32) (v2 : Int32) (σ : St), wm_round_l17 P K10 n v1 v2 σ → AX Z 0 0 17 [(0, .ref (L 0)), (1, .int v1), (2, .int v2)] [] (mW G L σ) := by
  intro n
  induction n with
  | zero => intro v1 v2 σ h; exact False.elim h
  | succ n ih =>
    intro v1 v2 σ h
    rw [wm_round_l17_s] at h
    refine ax_iload_n K 2 rfl dX2_round_17 ?_
    refine ax_aload_n K 0 rfl dX2_round_18 ?_
    refine mg_dishes K dX2_round_19 ?_
    refine ax_icmp_ge (tgt := 129) K dX2_round_22 (by decide) (fun c22 => ?_) (fun c22 => ?_)
    · have h := ax_it h c22
      refine ax_iinc (lv' := [(1, .int (v1 + (-1 : Int32))), (0, .ref (L 0)), (2, .int v2)]) (v := (v1 + (-1 : Int32))) K 1 dX2_round_129 rfl (by rfl) (by decide) rfl ?_
      refine ax_goto (tgt := 10) K dX2_round_132 (by decide) ?_
      exact ax_sub [1, 0] rfl (hK10 (v1 + (-1 : Int32)) σ h)
    · have h := ax_ie h c22
      refine ax_aload_n K 0 rfl dX2_round_25 ?_
      refine rm_noEnds K (by decide) dX2_round_26 (Nat.le_of_ble_eq_true rfl) h (fun σ26 h => ?_)
      refine ax_iconst (v := (0 : Int32)) K (by decide) dX2_round_29 ?_
      refine ax_istore_n (lv' := [(3, .int (0 : Int32)), (0, .ref (L 0)), (1, .int v1), (2, .int v2)]) K dX2_round_30 (by decide) rfl ?_
      exact ax_sub [1, 2, 3, 0] rfl (h.elim fun n31 h => km_round_l31 K E ih n31 v1 v2 (0 : Int32) σ26 h)
set_option maxHeartbeats 4000000 in
theorem km_round_l10 {Z : AZ} {G : AG} {L : Nat → Nat} {P : Int32 → St → Prop} (K : AK Z G cX2_round RX2 5 (rmH 7)) (E : AEi Z cX2_round .int (mW G L) 0 0 P) : ∀ (n : Nat) (v1 : Int32) (σ : St), wm_round_l10 P  n v1 σ → AX Z 0 0 10 [(0, .ref (L 0)), (1, .int v1)] [] (mW G L σ) := by
  intro n
  induction n with
  | zero => intro v1 σ h; exact False.elim h
  | succ n ih =>
    intro v1 σ h
    rw [wm_round_l10_s] at h
    refine ax_iload_n K 1 rfl dX2_round_10 ?_
    refine ax_iconst (v := (3 : Int32)) K (by decide) dX2_round_11 ?_
    refine ax_icmp_lt (tgt := 135) K dX2_round_12 (by decide) (fun c12 => ?_) (fun c12 => ?_)
    · have h := ax_it h c12
      refine ax_bipush (v := (-2 : Int32)) K (by decide) dX2_round_135 ?_
      exact E _ _ _ _ dX2_round_137 rfl h
    · have h := ax_ie h c12
      refine ax_iconst (v := (0 : Int32)) K (by decide) dX2_round_15 ?_
      refine ax_istore_n (lv' := [(2, .int (0 : Int32)), (0, .ref (L 0)), (1, .int v1)]) K dX2_round_16 (by decide) rfl ?_
      exact ax_sub [1, 2, 0] rfl (h.elim fun n17 h => km_round_l17 K E ih n17 v1 (0 : Int32) σ h)
set_option maxHeartbeats 4000000 in
theorem mm_round {l : Launch} {G : AG} {L : Nat → Nat} {σ : St} {P : Int32 → St → Prop} (h : wm_round σ P) : CtW l G yX2_round cX2_round 5 (some .int) (rmH 7) [.ref (L 0)] (mW G L) σ (pI P) := by
  refine CtW.ofI (by decide) (Nat.le_of_ble_eq_true rfl) fun Z _ K E => ?_
  unfold wm_round at h
  show AX Z 0 0 0 [(0, .ref (L 0))] [] (mW G L σ)
  refine ax_aload_n K 0 rfl dX2_round_0 ?_
  refine ax_iconst (v := (0 : Int32)) K (by decide) dX2_round_1 ?_
  refine mp_thrown K dX2_round_2 ?_
  refine ax_aload_n K 0 rfl dX2_round_5 ?_
  refine mg_dishes K dX2_round_6 ?_
  refine ax_istore_n (lv' := [(1, .int (mI_dishes (mS_thrown σ (0 : Int32)))), (0, .ref (L 0))]) K dX2_round_9 (by decide) rfl ?_
  exact ax_sub [1, 0] rfl (h.elim fun n10 h => km_round_l10 K E  n10 (mI_dishes (mS_thrown σ (0 : Int32))) (mS_thrown σ (0 : Int32)) h)

/-! m.between -/
set_option maxHeartbeats 4000000 in
theorem mm_between {l : Launch} {G : AG} {L : Nat → Nat} {σ : St} {v1 : Int32} {v2 : Int32} {P : Int32 → St → Prop} (h : wm_between σ v1 v2 P) : CtW l G yX2_between cX2_between 3 (some .int) (rmH 8) [.ref (L 0), .int v1, .int v2] (mW G L) σ (pI P) := by
  refine CtW.ofI (by decide) (Nat.le_of_ble_eq_true rfl) fun Z _ K E => ?_
  unfold wm_between at h
  show AX Z 0 0 0 [(0, .ref (L 0)), (1, .int v1), (2, .int v2)] [] (mW G L σ)
  refine ax_aload_n K 0 rfl dX2_between_0 ?_
  refine ax_iconst (v := (0 : Int32)) K (by decide) dX2_between_1 ?_
  refine mp_thrown K dX2_between_2 ?_
  refine ax_aload_n K 0 rfl dX2_between_5 ?_
  refine ax_iload_n K 1 rfl dX2_between_6 ?_
  refine ax_iload_n K 2 rfl dX2_between_7 ?_
  refine ax_iconst (v := (1 : Int32)) K (by decide) dX2_between_8 ?_
  refine rm_betweenBy K (by decide) dX2_between_9 (Nat.le_of_ble_eq_true rfl) h (fun r9 σ9 h => ?_)
  exact E _ _ _ _ dX2_between_12 rfl h

/-! m.shortest -/
set_option maxHeartbeats 4000000 in
theorem mm_shortest {l : Launch} {G : AG} {L : Nat → Nat} {σ : St} {v1 : Int32} {v2 : Int32} {P : Int32 → St → Prop} (h : wm_shortest σ v1 v2 P) : CtW l G yX2_shortest cX2_shortest 3 (some .int) (rmH 8) [.ref (L 0), .int v1, .int v2] (mW G L) σ (pI P) := by
  refine CtW.ofI (by decide) (Nat.le_of_ble_eq_true rfl) fun Z _ K E => ?_
  unfold wm_shortest at h
  show AX Z 0 0 0 [(0, .ref (L 0)), (1, .int v1), (2, .int v2)] [] (mW G L σ)
  refine ax_aload_n K 0 rfl dX2_shortest_0 ?_
  refine ax_iconst (v := (0 : Int32)) K (by decide) dX2_shortest_1 ?_
  refine mp_thrown K dX2_shortest_2 ?_
  refine ax_aload_n K 0 rfl dX2_shortest_5 ?_
  refine ax_iload_n K 1 rfl dX2_shortest_6 ?_
  refine ax_iload_n K 2 rfl dX2_shortest_7 ?_
  refine ax_iconst (v := (0 : Int32)) K (by decide) dX2_shortest_8 ?_
  refine rm_betweenBy K (by decide) dX2_shortest_9 (Nat.le_of_ble_eq_true rfl) h (fun r9 σ9 h => ?_)
  exact E _ _ _ _ dX2_shortest_12 rfl h

def CF_thing (h0 : Nat) (F : PM) : Prop := ∀ (l : Launch) (G : AG) (L : Nat → Nat) (σ : St) (v1 : Int32) (P : Int32 → St → Prop), F σ v1 P → CtW l G yX2_thing cX2_thing 4 (some .int) (rmH h0) [.ref (L 0), .int v1] (mW G L) σ (pI P)
theorem rF_thing {Z : AZ} {G : AG} {cc : ByteArray} {mL hh pc : Nat} {lv : List (Nat × Value)} {rest : List Value} {L : Nat → Nat} {σ : St} {h0 : Nat} {F : PM} (HF : CF_thing h0 F) (K : AK Z G cc RX2 mL (rmH hh)) (hlt : h0 < hh) (d : decode cc pc = .ok (.invokevirtual 184, 3)) (hrest : (rest.map fun v => v.category).sum ≤ 8) {v1 : Int32} {P : Int32 → St → Prop} (h : F σ v1 P) (kk : ∀ (r : Int32) (σ' : St), P r σ' → AX Z 0 0 (pc + 3) lv (.int r :: rest) (mW G L σ')) : AX Z 0 0 pc lv (.int v1 :: .ref (L 0) :: rest) (mW G L σ) :=
  ax_callV (N0 := 1) (As := [.int v1]) K (HF _ _ _ _ _ _ h) q1246 q1248 qs71 q118 q1249 ⟨rfl, by decide, by decide, by decide⟩ rfl ⟨by show h0 + 1 + 1 ≤ hh + 1; omega, by show 8 + (4 + 11) + 60 * (h0 + 1) ≤ 60 * (hh + 1); omega⟩ ⟨Nat.zero_le _, Nat.zero_le _⟩ rfl rfl rfl hrest d (fun r σ' hp => by obtain ⟨v, rfl, hp⟩ := hp; exact kk v σ' hp)
def CF_product (h0 : Nat) (F : PM) : Prop := ∀ (l : Launch) (G : AG) (L : Nat → Nat) (σ : St) (v1 : Int32) (P : Int32 → St → Prop), F σ v1 P → CtW l G yX2_product cX2_product 5 (some .int) (rmH h0) [.ref (L 0), .int v1] (mW G L) σ (pI P)
theorem rF_product {Z : AZ} {G : AG} {cc : ByteArray} {mL hh pc : Nat} {lv : List (Nat × Value)} {rest : List Value} {L : Nat → Nat} {σ : St} {h0 : Nat} {F : PM} (HF : CF_product h0 F) (K : AK Z G cc RX2 mL (rmH hh)) (hlt : h0 < hh) (d : decode cc pc = .ok (.invokevirtual 181, 3)) (hrest : (rest.map fun v => v.category).sum ≤ 8) {v1 : Int32} {P : Int32 → St → Prop} (h : F σ v1 P) (kk : ∀ (r : Int32) (σ' : St), P r σ' → AX Z 0 0 (pc + 3) lv (.int r :: rest) (mW G L σ')) : AX Z 0 0 pc lv (.int v1 :: .ref (L 0) :: rest) (mW G L σ) :=
  ax_callV (N0 := 1) (As := [.int v1]) K (HF _ _ _ _ _ _ h) q1242 q1244 qs70 q118 q1245 ⟨rfl, by decide, by decide, by decide⟩ rfl ⟨by show h0 + 1 + 1 ≤ hh + 1; omega, by show 8 + (5 + 11) + 60 * (h0 + 1) ≤ 60 * (hh + 1); omega⟩ ⟨Nat.zero_le _, Nat.zero_le _⟩ rfl rfl rfl hrest d (fun r σ' hp => by obtain ⟨v, rfl, hp⟩ := hp; exact kk v σ' hp)
def CF_sum (h0 : Nat) (F : PM) : Prop := ∀ (l : Launch) (G : AG) (L : Nat → Nat) (σ : St) (v1 : Int32) (P : Int32 → St → Prop), F σ v1 P → CtW l G yX2_sum cX2_sum 5 (some .int) (rmH h0) [.ref (L 0), .int v1] (mW G L) σ (pI P)
theorem rF_sum {Z : AZ} {G : AG} {cc : ByteArray} {mL hh pc : Nat} {lv : List (Nat × Value)} {rest : List Value} {L : Nat → Nat} {σ : St} {h0 : Nat} {F : PM} (HF : CF_sum h0 F) (K : AK Z G cc RX2 mL (rmH hh)) (hlt : h0 < hh) (d : decode cc pc = .ok (.invokevirtual 178, 3)) (hrest : (rest.map fun v => v.category).sum ≤ 8) {v1 : Int32} {P : Int32 → St → Prop} (h : F σ v1 P) (kk : ∀ (r : Int32) (σ' : St), P r σ' → AX Z 0 0 (pc + 3) lv (.int r :: rest) (mW G L σ')) : AX Z 0 0 pc lv (.int v1 :: .ref (L 0) :: rest) (mW G L σ) :=
  ax_callV (N0 := 1) (As := [.int v1]) K (HF _ _ _ _ _ _ h) q1238 q1240 qs69 q118 q1241 ⟨rfl, by decide, by decide, by decide⟩ rfl ⟨by show h0 + 1 + 1 ≤ hh + 1; omega, by show 8 + (5 + 11) + 60 * (h0 + 1) ≤ 60 * (hh + 1); omega⟩ ⟨Nat.zero_le _, Nat.zero_le _⟩ rfl rfl rfl hrest d (fun r σ' hp => by obtain ⟨v, rfl, hp⟩ := hp; exact kk v σ' hp)
def CF_held (h0 : Nat) (F : PM) : Prop := ∀ (l : Launch) (G : AG) (L : Nat → Nat) (σ : St) (v1 : Int32) (P : Int32 → St → Prop), F σ v1 P → CtW l G yX2_held cX2_held 3 (some .int) (rmH h0) [.ref (L 0), .int v1] (mW G L) σ (pI P)
theorem rF_held {Z : AZ} {G : AG} {cc : ByteArray} {mL hh pc : Nat} {lv : List (Nat × Value)} {rest : List Value} {L : Nat → Nat} {σ : St} {h0 : Nat} {F : PM} (HF : CF_held h0 F) (K : AK Z G cc RX2 mL (rmH hh)) (hlt : h0 < hh) (d : decode cc pc = .ok (.invokevirtual 187, 3)) (hrest : (rest.map fun v => v.category).sum ≤ 8) {v1 : Int32} {P : Int32 → St → Prop} (h : F σ v1 P) (kk : ∀ (r : Int32) (σ' : St), P r σ' → AX Z 0 0 (pc + 3) lv (.int r :: rest) (mW G L σ')) : AX Z 0 0 pc lv (.int v1 :: .ref (L 0) :: rest) (mW G L σ) :=
  ax_callV (N0 := 1) (As := [.int v1]) K (HF _ _ _ _ _ _ h) q1234 q1236 qs68 q118 q1237 ⟨rfl, by decide, by decide, by decide⟩ rfl ⟨by show h0 + 1 + 1 ≤ hh + 1; omega, by show 8 + (3 + 11) + 60 * (h0 + 1) ≤ 60 * (hh + 1); omega⟩ ⟨Nat.zero_le _, Nat.zero_le _⟩ rfl rfl rfl hrest d (fun r σ' hp => by obtain ⟨v, rfl, hp⟩ := hp; exact kk v σ' hp)

/-! m.product -/
set_option maxHeartbeats 4000000 in
theorem km_product_j87 {FT : PM} {h0 : Nat} (h1 : 1 ≤ h0) (HFT : CF_thing h0 FT) {Z : AZ} {G : AG} {L : Nat → Nat} {P : Int32 → St → Prop} (K : AK Z G cX2_product RX2 5 (rmH (h0 + 1))) (E : AEi Z cX2_product .int (mW G L) 0 0 P) {K6 : Int32 → Int32 → St → Prop} (hK6 : ∀ (v1 : Int32) (v2 : Int32) (σ : St), K6 v1 v2 σ → AX Z 0 0 6 [(0, .ref (L 0)), (1, .int v1), (2, .int v2)] [] (mW G L σ)) (v1 : Int32) (s0 : Int32) (σ : St) (h : wm_product_j87 FT P K6 v1 s0 σ) : AX Z 0 0 87 [(0, .ref (L 0)), (1, .int v1)] [.int s0] (mW G L σ) := by
  unfold wm_product_j87 at h
  refine ax_istore_n (lv' := [(2, .int s0), (0, .ref (L 0)), (1, .int v1)]) K dX2_product_87 (by decide) rfl ?_
  refine ax_goto (tgt := 6) K dX2_product_88 (by decide) ?_
  exact ax_sub [1, 2, 0] rfl (hK6 v1 s0 σ h)
set_option maxHeartbeats 4000000 in
theorem km_product_j45 {FT : PM} {h0 : Nat} (h1 : 1 ≤ h0) (HFT : CF_thing h0 FT) {Z : AZ} {G : AG} {L : Nat → Nat} {P : Int32 → St → Prop} (K : AK Z G cX2_product RX2 5 (rmH (h0 + 1))) (E : AEi Z cX2_product .int (mW G L) 0 0 P) {K6 : Int32 → Int32 → St → Prop} (hK6 : ∀ (v1 : Int32) (v2 : Int32) (σ : St), K6 v1 v2 σ → AX Z 0 0 6 [(0, .ref (L 0)), (1, .int v1), (2, .int v2)] [] (mW G L σ)) (v1 : Int32) (v2 : Int32) (s0 : Int32) (σ : St) (h : wm_product_j45 FT P K6 v1 v2 s0 σ) : AX Z 0 0 45 [(0, .ref (L 0)), (1, .int v1), (2, .int v2)] [.int s0] (mW G L σ) := by
  unfold wm_product_j45 at h
  refine ax_istore_n (lv' := [(3, .int s0), (0, .ref (L 0)), (1, .int v1), (2, .int v2)]) K dX2_product_45 (by decide) rfl ?_
  refine ax_aload_n K 1 rfl dX2_product_46 ?_
  refine ax_dup K rfl dX2_product_47 ?_
  refine mg_at K dX2_product_48 ?_
  refine ax_iconst (v := (1 : Int32)) K (by decide) dX2_product_51 ?_
  refine ax_iadd K dX2_product_52 ?_
  refine mp_at K dX2_product_53 ?_
  refine ax_aload_n K 1 rfl dX2_product_56 ?_
  refine ax_iload_n K 2 rfl dX2_product_57 ?_
  refine rF_thing HFT K (by omega) dX2_product_58 (Nat.le_of_ble_eq_true rfl) h (fun r58 σ58 h => ?_)
  refine ax_istore (lv' := [(4, .int r58), (3, .int s0), (0, .ref (L 0)), (1, .int v1), (2, .int v2)]) K dX2_product_61 (by decide) rfl ?_
  refine ax_iload_n K 1 rfl dX2_product_63 ?_
  refine ax_if_eq (tgt := 74) K dX2_product_64 (by decide) (fun c64 => ?_) (fun c64 => ?_)
  · have h := ax_it h c64
    refine ax_iload K 0 rfl dX2_product_74 ?_
    refine ax_if_ne (tgt := 83) K dX2_product_76 (by decide) (fun c76 => ?_) (fun c76 => ?_)
    · have h := ax_ie h c76
      refine ax_iload_n K 4 rfl dX2_product_83 ?_
      refine ax_iload K 0 rfl dX2_product_84 ?_
      refine ax_idiv K h.1 dX2_product_86 ?_
      replace h := h.2
      exact ax_sub [2, 3] rfl (km_product_j87 h1 HFT K E hK6 v1 (v2 / r58) σ58 h)
    · have h := ax_it h c76
      refine ax_iconst (v := (0 : Int32)) K (by decide) dX2_product_79 ?_
      refine ax_goto (tgt := 87) K dX2_product_80 (by decide) ?_
      exact ax_sub [2, 3] rfl (km_product_j87 h1 HFT K E hK6 v1 (0 : Int32) σ58 h)
  · have h := ax_ie h c64
    refine ax_iload_n K 4 rfl dX2_product_67 ?_
    refine ax_iload K 0 rfl dX2_product_68 ?_
    refine ax_imul K dX2_product_70 ?_
    refine ax_goto (tgt := 87) K dX2_product_71 (by decide) ?_
    exact ax_sub [2, 3] rfl (km_product_j87 h1 HFT K E hK6 v1 (v2 * r58) σ58 h)
set_option maxHeartbeats 4000000 in
theorem km_product_j31 {FT : PM} {h0 : Nat} (h1 : 1 ≤ h0) (HFT : CF_thing h0 FT) {Z : AZ} {G : AG} {L : Nat → Nat} {P : Int32 → St → Prop} (K : AK Z G cX2_product RX2 5 (rmH (h0 + 1))) (E : AEi Z cX2_product .int (mW G L) 0 0 P) {K6 : Int32 → Int32 → St → Prop} (hK6 : ∀ (v1 : Int32) (v2 : Int32) (σ : St), K6 v1 v2 σ → AX Z 0 0 6 [(0, .ref (L 0)), (1, .int v1), (2, .int v2)] [] (mW G L σ)) (v1 : Int32) (v2 : Int32) (σ : St) (h : wm_product_j31 FT P K6 v1 v2 σ) : AX Z 0 0 31 [(0, .ref (L 0)), (1, .int v1), (2, .int v2)] [] (mW G L σ) := by
  unfold wm_product_j31 at h
  refine ax_aload_n K 0 rfl dX2_product_31 ?_
  refine rm_here K (by omega) dX2_product_32 (Nat.le_of_ble_eq_true rfl) h (fun r32 σ32 h => ?_)
  refine ax_bipush (v := (42 : Int32)) K (by decide) dX2_product_35 ?_
  refine ax_icmp_ne (tgt := 44) K dX2_product_37 (by decide) (fun c37 => ?_) (fun c37 => ?_)
  · have h := ax_ie h c37
    refine ax_iconst (v := (0 : Int32)) K (by decide) dX2_product_44 ?_
    exact ax_sub [0, 1, 2] rfl (km_product_j45 h1 HFT K E hK6 v1 v2 (0 : Int32) σ32 h)
  · have h := ax_it h c37
    refine ax_iconst (v := (1 : Int32)) K (by decide) dX2_product_40 ?_
    refine ax_goto (tgt := 45) K dX2_product_41 (by decide) ?_
    exact ax_sub [0, 1, 2] rfl (km_product_j45 h1 HFT K E hK6 v1 v2 (1 : Int32) σ32 h)
set_option maxHeartbeats 4000000 in
theorem km_product_l6 {FT : PM} {h0 : Nat} (h1 : 1 ≤ h0) (HFT : CF_thing h0 FT) {Z : AZ} {G : AG} {L : Nat → Nat} {P : Int32 → St → Prop} (K : AK Z G cX2_product RX2 5 (rmH (h0 + 1))) (E : AEi Z cX2_product .int (mW G L) 0 0 P) {K91 : Int32 → St → Prop} (hK91 : ∀ (v2 : Int32) (σ : St), K91 v2 σ → AX Z 0 0 91 [(0, .ref (L 0)), (2, .int v2)] [] (mW G L σ)) : ∀ (n : Nat) (v1 : Int32) (v2 : Int32) (σ : St), wm_product_l6 FT P K91 n v1 v2 σ → AX Z 0 0 6 [(0, .ref (L 0)), (1, .int v1), (2, .int v2)] [] (mW G L σ) := by
  intro n
  induction n with
  | zero => intro v1 v2 σ h; exact False.elim h
  | succ n ih =>
    intro v1 v2 σ h
    rw [wm_product_l6_s] at h
    refine ax_aload_n K 0 rfl dX2_product_6 ?_
    refine rm_fine K (by omega) dX2_product_7 (Nat.le_of_ble_eq_true rfl) h (fun r7 σ7 h => ?_)
    refine ax_if_eq (tgt := 91) K dX2_product_10 (by decide) (fun c10 => ?_) (fun c10 => ?_)
    · have h := ax_it h c10
      exact ax_sub [0, 2] rfl (hK91 v2 σ7 h)
    · have h := ax_ie h c10
      refine ax_aload_n K 0 rfl dX2_product_13 ?_
      refine rm_here K (by omega) dX2_product_14 (Nat.le_of_ble_eq_true rfl) h (fun r14 σ14 h => ?_)
      refine ax_bipush (v := (42 : Int32)) K (by decide) dX2_product_17 ?_
      refine ax_icmp_eq (tgt := 31) K dX2_product_19 (by decide) (fun c19 => ?_) (fun c19 => ?_)
      · have h := ax_it h c19
        exact ax_sub [0, 1, 2] rfl (km_product_j31 h1 HFT K E ih v1 v2 σ14 h)
      · have h := ax_ie h c19
        refine ax_aload_n K 0 rfl dX2_product_22 ?_
        refine rm_here K (by omega) dX2_product_23 (Nat.le_of_ble_eq_true rfl) h (fun r23 σ23 h => ?_)
        refine ax_bipush (v := (47 : Int32)) K (by decide) dX2_product_26 ?_
        refine ax_icmp_ne (tgt := 91) K dX2_product_28 (by decide) (fun c28 => ?_) (fun c28 => ?_)
        · have h := ax_ie h c28
          exact ax_sub [0, 2] rfl (hK91 v2 σ23 h)
        · have h := ax_it h c28
          exact ax_sub [0, 1, 2] rfl (km_product_j31 h1 HFT K E ih v1 v2 σ23 h)
set_option maxHeartbeats 4000000 in
theorem km_product_j91 {FT : PM} {h0 : Nat} (h1 : 1 ≤ h0) (HFT : CF_thing h0 FT) {Z : AZ} {G : AG} {L : Nat → Nat} {P : Int32 → St → Prop} (K : AK Z G cX2_product RX2 5 (rmH (h0 + 1))) (E : AEi Z cX2_product .int (mW G L) 0 0 P) (v2 : Int32) (σ : St) (h : wm_product_j91 FT P  v2 σ) : AX Z 0 0 91 [(0, .ref (L 0)), (2, .int v2)] [] (mW G L σ) := by
  unfold wm_product_j91 at h
  refine ax_iload_n K 1 rfl dX2_product_91 ?_
  exact E _ _ _ _ dX2_product_92 rfl h
set_option maxHeartbeats 4000000 in
theorem mm_product {FT : PM} {h0 : Nat} (h1 : 1 ≤ h0) (HFT : CF_thing h0 FT) {l : Launch} {G : AG} {L : Nat → Nat} {σ : St} {v1 : Int32} {P : Int32 → St → Prop} (h : wm_product FT σ v1 P) : CtW l G yX2_product cX2_product 5 (some .int) (rmH (h0 + 1)) [.ref (L 0), .int v1] (mW G L) σ (pI P) := by
  refine CtW.ofI (by decide) (Nat.le_of_ble_eq_true rfl) fun Z _ K E => ?_
  unfold wm_product at h
  show AX Z 0 0 0 [(0, .ref (L 0)), (1, .int v1)] [] (mW G L σ)
  refine ax_aload_n K 0 rfl dX2_product_0 ?_
  refine ax_iload_n K 1 rfl dX2_product_1 ?_
  refine rF_thing HFT K (by omega) dX2_product_2 (Nat.le_of_ble_eq_true rfl) h (fun r2 σ2 h => ?_)
  refine ax_istore_n (lv' := [(2, .int r2), (0, .ref (L 0)), (1, .int v1)]) K dX2_product_5 (by decide) rfl ?_
  exact ax_sub [1, 2, 0] rfl (h.elim fun n6 h => km_product_l6 h1 HFT K E (km_product_j91 h1 HFT K E) n6 v1 r2 σ2 h)

/-! m.sum -/
set_option maxHeartbeats 4000000 in
theorem km_sum_j78 {FQ : PM} {h0 : Nat} (h1 : 1 ≤ h0) (HFQ : CF_product h0 FQ) {Z : AZ} {G : AG} {L : Nat → Nat} {P : Int32 → St → Prop} (K : AK Z G cX2_sum RX2 5 (rmH (h0 + 1))) (E : AEi Z cX2_sum .int (mW G L) 0 0 P) {K6 : Int32 → Int32 → St → Prop} (hK6 : ∀ (v1 : Int32) (v2 : Int32) (σ : St), K6 v1 v2 σ → AX Z 0 0 6 [(0, .ref (L 0)), (1, .int v1), (2, .int v2)] [] (mW G L σ)) (v1 : Int32) (s0 : Int32) (σ : St) (h : wm_sum_j78 FQ P K6 v1 s0 σ) : AX Z 0 0 78 [(0, .ref (L 0)), (1, .int v1)] [.int s0] (mW G L σ) := by
  unfold wm_sum_j78 at h
  refine ax_istore_n (lv' := [(2, .int s0), (0, .ref (L 0)), (1, .int v1)]) K dX2_sum_78 (by decide) rfl ?_
  refine ax_goto (tgt := 6) K dX2_sum_79 (by decide) ?_
  exact ax_sub [1, 2, 0] rfl (hK6 v1 s0 σ h)
set_option maxHeartbeats 4000000 in
theorem km_sum_j45 {FQ : PM} {h0 : Nat} (h1 : 1 ≤ h0) (HFQ : CF_product h0 FQ) {Z : AZ} {G : AG} {L : Nat → Nat} {P : Int32 → St → Prop} (K : AK Z G cX2_sum RX2 5 (rmH (h0 + 1))) (E : AEi Z cX2_sum .int (mW G L) 0 0 P) {K6 : Int32 → Int32 → St → Prop} (hK6 : ∀ (v1 : Int32) (v2 : Int32) (σ : St), K6 v1 v2 σ → AX Z 0 0 6 [(0, .ref (L 0)), (1, .int v1), (2, .int v2)] [] (mW G L σ)) (v1 : Int32) (v2 : Int32) (s0 : Int32) (σ : St) (h : wm_sum_j45 FQ P K6 v1 v2 s0 σ) : AX Z 0 0 45 [(0, .ref (L 0)), (1, .int v1), (2, .int v2)] [.int s0] (mW G L σ) := by
  unfold wm_sum_j45 at h
  refine ax_istore_n (lv' := [(3, .int s0), (0, .ref (L 0)), (1, .int v1), (2, .int v2)]) K dX2_sum_45 (by decide) rfl ?_
  refine ax_aload_n K 1 rfl dX2_sum_46 ?_
  refine ax_dup K rfl dX2_sum_47 ?_
  refine mg_at K dX2_sum_48 ?_
  refine ax_iconst (v := (1 : Int32)) K (by decide) dX2_sum_51 ?_
  refine ax_iadd K dX2_sum_52 ?_
  refine mp_at K dX2_sum_53 ?_
  refine ax_aload_n K 1 rfl dX2_sum_56 ?_
  refine ax_iload_n K 2 rfl dX2_sum_57 ?_
  refine rF_product HFQ K (by omega) dX2_sum_58 (Nat.le_of_ble_eq_true rfl) h (fun r58 σ58 h => ?_)
  refine ax_istore (lv' := [(4, .int r58), (3, .int s0), (0, .ref (L 0)), (1, .int v1), (2, .int v2)]) K dX2_sum_61 (by decide) rfl ?_
  refine ax_iload_n K 1 rfl dX2_sum_63 ?_
  refine ax_if_eq (tgt := 74) K dX2_sum_64 (by decide) (fun c64 => ?_) (fun c64 => ?_)
  · have h := ax_it h c64
    refine ax_iload_n K 4 rfl dX2_sum_74 ?_
    refine ax_iload K 0 rfl dX2_sum_75 ?_
    refine ax_isub K dX2_sum_77 ?_
    exact ax_sub [2, 3] rfl (km_sum_j78 h1 HFQ K E hK6 v1 (v2 - r58) σ58 h)
  · have h := ax_ie h c64
    refine ax_iload_n K 4 rfl dX2_sum_67 ?_
    refine ax_iload K 0 rfl dX2_sum_68 ?_
    refine ax_iadd K dX2_sum_70 ?_
    refine ax_goto (tgt := 78) K dX2_sum_71 (by decide) ?_
    exact ax_sub [2, 3] rfl (km_sum_j78 h1 HFQ K E hK6 v1 (v2 + r58) σ58 h)
set_option maxHeartbeats 4000000 in
theorem km_sum_j31 {FQ : PM} {h0 : Nat} (h1 : 1 ≤ h0) (HFQ : CF_product h0 FQ) {Z : AZ} {G : AG} {L : Nat → Nat} {P : Int32 → St → Prop} (K : AK Z G cX2_sum RX2 5 (rmH (h0 + 1))) (E : AEi Z cX2_sum .int (mW G L) 0 0 P) {K6 : Int32 → Int32 → St → Prop} (hK6 : ∀ (v1 : Int32) (v2 : Int32) (σ : St), K6 v1 v2 σ → AX Z 0 0 6 [(0, .ref (L 0)), (1, .int v1), (2, .int v2)] [] (mW G L σ)) (v1 : Int32) (v2 : Int32) (σ : St) (h : wm_sum_j31 FQ P K6 v1 v2 σ) : AX Z 0 0 31 [(0, .ref (L 0)), (1, .int v1), (2, .int v2)] [] (mW G L σ) := by
  unfold wm_sum_j31 at h
  refine ax_aload_n K 0 rfl dX2_sum_31 ?_
  refine rm_here K (by omega) dX2_sum_32 (Nat.le_of_ble_eq_true rfl) h (fun r32 σ32 h => ?_)
  refine ax_bipush (v := (43 : Int32)) K (by decide) dX2_sum_35 ?_
  refine ax_icmp_ne (tgt := 44) K dX2_sum_37 (by decide) (fun c37 => ?_) (fun c37 => ?_)
  · have h := ax_ie h c37
    refine ax_iconst (v := (0 : Int32)) K (by decide) dX2_sum_44 ?_
    exact ax_sub [0, 1, 2] rfl (km_sum_j45 h1 HFQ K E hK6 v1 v2 (0 : Int32) σ32 h)
  · have h := ax_it h c37
    refine ax_iconst (v := (1 : Int32)) K (by decide) dX2_sum_40 ?_
    refine ax_goto (tgt := 45) K dX2_sum_41 (by decide) ?_
    exact ax_sub [0, 1, 2] rfl (km_sum_j45 h1 HFQ K E hK6 v1 v2 (1 : Int32) σ32 h)
set_option maxHeartbeats 4000000 in
theorem km_sum_l6 {FQ : PM} {h0 : Nat} (h1 : 1 ≤ h0) (HFQ : CF_product h0 FQ) {Z : AZ} {G : AG} {L : Nat → Nat} {P : Int32 → St → Prop} (K : AK Z G cX2_sum RX2 5 (rmH (h0 + 1))) (E : AEi Z cX2_sum .int (mW G L) 0 0 P) {K82 : Int32 → St → Prop} (hK82 : ∀ (v2 : Int32) (σ : St), K82 v2 σ → AX Z 0 0 82 [(0, .ref (L 0)), (2, .int v2)] [] (mW G L σ)) : ∀ (n : Nat) (v1 : Int32) (v2 : Int32) (σ : St), wm_sum_l6 FQ P K82 n v1 v2 σ → AX Z 0 0 6 [(0, .ref (L 0)), (1, .int v1), (2, .int v2)] [] (mW G L σ) := by
  intro n
  induction n with
  | zero => intro v1 v2 σ h; exact False.elim h
  | succ n ih =>
    intro v1 v2 σ h
    rw [wm_sum_l6_s] at h
    refine ax_aload_n K 0 rfl dX2_sum_6 ?_
    refine rm_fine K (by omega) dX2_sum_7 (Nat.le_of_ble_eq_true rfl) h (fun r7 σ7 h => ?_)
    refine ax_if_eq (tgt := 82) K dX2_sum_10 (by decide) (fun c10 => ?_) (fun c10 => ?_)
    · have h := ax_it h c10
      exact ax_sub [0, 2] rfl (hK82 v2 σ7 h)
    · have h := ax_ie h c10
      refine ax_aload_n K 0 rfl dX2_sum_13 ?_
      refine rm_here K (by omega) dX2_sum_14 (Nat.le_of_ble_eq_true rfl) h (fun r14 σ14 h => ?_)
      refine ax_bipush (v := (43 : Int32)) K (by decide) dX2_sum_17 ?_
      refine ax_icmp_eq (tgt := 31) K dX2_sum_19 (by decide) (fun c19 => ?_) (fun c19 => ?_)
      · have h := ax_it h c19
        exact ax_sub [0, 1, 2] rfl (km_sum_j31 h1 HFQ K E ih v1 v2 σ14 h)
      · have h := ax_ie h c19
        refine ax_aload_n K 0 rfl dX2_sum_22 ?_
        refine rm_here K (by omega) dX2_sum_23 (Nat.le_of_ble_eq_true rfl) h (fun r23 σ23 h => ?_)
        refine ax_bipush (v := (45 : Int32)) K (by decide) dX2_sum_26 ?_
        refine ax_icmp_ne (tgt := 82) K dX2_sum_28 (by decide) (fun c28 => ?_) (fun c28 => ?_)
        · have h := ax_ie h c28
          exact ax_sub [0, 2] rfl (hK82 v2 σ23 h)
        · have h := ax_it h c28
          exact ax_sub [0, 1, 2] rfl (km_sum_j31 h1 HFQ K E ih v1 v2 σ23 h)
set_option maxHeartbeats 4000000 in
theorem km_sum_j82 {FQ : PM} {h0 : Nat} (h1 : 1 ≤ h0) (HFQ : CF_product h0 FQ) {Z : AZ} {G : AG} {L : Nat → Nat} {P : Int32 → St → Prop} (K : AK Z G cX2_sum RX2 5 (rmH (h0 + 1))) (E : AEi Z cX2_sum .int (mW G L) 0 0 P) (v2 : Int32) (σ : St) (h : wm_sum_j82 FQ P  v2 σ) : AX Z 0 0 82 [(0, .ref (L 0)), (2, .int v2)] [] (mW G L σ) := by
  unfold wm_sum_j82 at h
  refine ax_iload_n K 1 rfl dX2_sum_82 ?_
  exact E _ _ _ _ dX2_sum_83 rfl h
set_option maxHeartbeats 4000000 in
theorem mm_sum {FQ : PM} {h0 : Nat} (h1 : 1 ≤ h0) (HFQ : CF_product h0 FQ) {l : Launch} {G : AG} {L : Nat → Nat} {σ : St} {v1 : Int32} {P : Int32 → St → Prop} (h : wm_sum FQ σ v1 P) : CtW l G yX2_sum cX2_sum 5 (some .int) (rmH (h0 + 1)) [.ref (L 0), .int v1] (mW G L) σ (pI P) := by
  refine CtW.ofI (by decide) (Nat.le_of_ble_eq_true rfl) fun Z _ K E => ?_
  unfold wm_sum at h
  show AX Z 0 0 0 [(0, .ref (L 0)), (1, .int v1)] [] (mW G L σ)
  refine ax_aload_n K 0 rfl dX2_sum_0 ?_
  refine ax_iload_n K 1 rfl dX2_sum_1 ?_
  refine rF_product HFQ K (by omega) dX2_sum_2 (Nat.le_of_ble_eq_true rfl) h (fun r2 σ2 h => ?_)
  refine ax_istore_n (lv' := [(2, .int r2), (0, .ref (L 0)), (1, .int v1)]) K dX2_sum_5 (by decide) rfl ?_
  exact ax_sub [1, 2, 0] rfl (h.elim fun n6 h => km_sum_l6 h1 HFQ K E (km_sum_j82 h1 HFQ K E) n6 v1 r2 σ2 h)

/-! m.held -/
set_option maxHeartbeats 4000000 in
theorem km_held_j29 {FS : PM} {h0 : Nat} (h1 : 2 ≤ h0) (HFS : CF_sum h0 FS) {Z : AZ} {G : AG} {L : Nat → Nat} {P : Int32 → St → Prop} (K : AK Z G cX2_held RX2 3 (rmH (h0 + 1))) (E : AEi Z cX2_held .int (mW G L) 0 0 P) (s0 : Int32) (σ : St) (h : wm_held_j29 FS P  s0 σ) : AX Z 0 0 29 [(0, .ref (L 0))] [.int s0] (mW G L σ) := by
  unfold wm_held_j29 at h
  exact E _ _ _ _ dX2_held_29 rfl h
set_option maxHeartbeats 4000000 in
theorem km_held_j53 {FS : PM} {h0 : Nat} (h1 : 2 ≤ h0) (HFS : CF_sum h0 FS) {Z : AZ} {G : AG} {L : Nat → Nat} {P : Int32 → St → Prop} (K : AK Z G cX2_held RX2 3 (rmH (h0 + 1))) (E : AEi Z cX2_held .int (mW G L) 0 0 P) (s0 : Int32) (σ : St) (h : wm_held_j53 FS P  s0 σ) : AX Z 0 0 53 [(0, .ref (L 0))] [.int s0] (mW G L σ) := by
  unfold wm_held_j53 at h
  exact E _ _ _ _ dX2_held_53 rfl h
set_option maxHeartbeats 4000000 in
theorem km_held_j77 {FS : PM} {h0 : Nat} (h1 : 2 ≤ h0) (HFS : CF_sum h0 FS) {Z : AZ} {G : AG} {L : Nat → Nat} {P : Int32 → St → Prop} (K : AK Z G cX2_held RX2 3 (rmH (h0 + 1))) (E : AEi Z cX2_held .int (mW G L) 0 0 P) (s0 : Int32) (σ : St) (h : wm_held_j77 FS P  s0 σ) : AX Z 0 0 77 [(0, .ref (L 0))] [.int s0] (mW G L σ) := by
  unfold wm_held_j77 at h
  exact E _ _ _ _ dX2_held_77 rfl h
set_option maxHeartbeats 4000000 in
theorem mm_held {FS : PM} {h0 : Nat} (h1 : 2 ≤ h0) (HFS : CF_sum h0 FS) {l : Launch} {G : AG} {L : Nat → Nat} {σ : St} {v1 : Int32} {P : Int32 → St → Prop} (h : wm_held FS σ v1 P) : CtW l G yX2_held cX2_held 3 (some .int) (rmH (h0 + 1)) [.ref (L 0), .int v1] (mW G L) σ (pI P) := by
  refine CtW.ofI (by decide) (Nat.le_of_ble_eq_true rfl) fun Z _ K E => ?_
  unfold wm_held at h
  show AX Z 0 0 0 [(0, .ref (L 0)), (1, .int v1)] [] (mW G L σ)
  refine ax_aload_n K 0 rfl dX2_held_0 ?_
  refine ax_iload_n K 1 rfl dX2_held_1 ?_
  refine rF_sum HFS K (by omega) dX2_held_2 (Nat.le_of_ble_eq_true rfl) h (fun r2 σ2 h => ?_)
  refine ax_istore_n (lv' := [(2, .int r2), (0, .ref (L 0)), (1, .int v1)]) K dX2_held_5 (by decide) rfl ?_
  refine ax_aload_n K 1 rfl dX2_held_6 ?_
  refine ax_bipush (v := (60 : Int32)) K (by decide) dX2_held_7 ?_
  refine rm_passes K (by omega) dX2_held_9 (Nat.le_of_ble_eq_true rfl) h (fun r9 σ9 h => ?_)
  refine ax_if_eq (tgt := 30) K dX2_held_12 (by decide) (fun c12 => ?_) (fun c12 => ?_)
  · have h := ax_it h c12
    refine ax_aload_n K 1 rfl dX2_held_30 ?_
    refine ax_bipush (v := (62 : Int32)) K (by decide) dX2_held_31 ?_
    refine rm_passes K (by omega) dX2_held_33 (Nat.le_of_ble_eq_true rfl) h (fun r33 σ33 h => ?_)
    refine ax_if_eq (tgt := 54) K dX2_held_36 (by decide) (fun c36 => ?_) (fun c36 => ?_)
    · have h := ax_it h c36
      refine ax_aload_n K 1 rfl dX2_held_54 ?_
      refine ax_bipush (v := (61 : Int32)) K (by decide) dX2_held_55 ?_
      refine rm_passes K (by omega) dX2_held_57 (Nat.le_of_ble_eq_true rfl) h (fun r57 σ57 h => ?_)
      refine ax_if_eq (tgt := 78) K dX2_held_60 (by decide) (fun c60 => ?_) (fun c60 => ?_)
      · have h := ax_it h c60
        refine ax_iload_n K 0 rfl dX2_held_78 ?_
        exact E _ _ _ _ dX2_held_79 rfl h
      · have h := ax_ie h c60
        refine ax_iload_n K 0 rfl dX2_held_63 ?_
        refine ax_aload_n K 1 rfl dX2_held_64 ?_
        refine ax_iload_n K 2 rfl dX2_held_65 ?_
        refine rF_sum HFS K (by omega) dX2_held_66 (Nat.le_of_ble_eq_true rfl) h (fun r66 σ66 h => ?_)
        refine ax_icmp_ne (tgt := 76) K dX2_held_69 (by decide) (fun c69 => ?_) (fun c69 => ?_)
        · have h := ax_ie h c69
          refine ax_iconst (v := (0 : Int32)) K (by decide) dX2_held_76 ?_
          exact ax_sub [1] rfl (km_held_j77 h1 HFS K E  (0 : Int32) σ66 h)
        · have h := ax_it h c69
          refine ax_iconst (v := (1 : Int32)) K (by decide) dX2_held_72 ?_
          refine ax_goto (tgt := 77) K dX2_held_73 (by decide) ?_
          exact ax_sub [1] rfl (km_held_j77 h1 HFS K E  (1 : Int32) σ66 h)
    · have h := ax_ie h c36
      refine ax_iload_n K 0 rfl dX2_held_39 ?_
      refine ax_aload_n K 1 rfl dX2_held_40 ?_
      refine ax_iload_n K 2 rfl dX2_held_41 ?_
      refine rF_sum HFS K (by omega) dX2_held_42 (Nat.le_of_ble_eq_true rfl) h (fun r42 σ42 h => ?_)
      refine ax_icmp_le (tgt := 52) K dX2_held_45 (by decide) (fun c45 => ?_) (fun c45 => ?_)
      · have h := ax_it h c45
        refine ax_iconst (v := (0 : Int32)) K (by decide) dX2_held_52 ?_
        exact ax_sub [1] rfl (km_held_j53 h1 HFS K E  (0 : Int32) σ42 h)
      · have h := ax_ie h c45
        refine ax_iconst (v := (1 : Int32)) K (by decide) dX2_held_48 ?_
        refine ax_goto (tgt := 53) K dX2_held_49 (by decide) ?_
        exact ax_sub [1] rfl (km_held_j53 h1 HFS K E  (1 : Int32) σ42 h)
  · have h := ax_ie h c12
    refine ax_iload_n K 0 rfl dX2_held_15 ?_
    refine ax_aload_n K 1 rfl dX2_held_16 ?_
    refine ax_iload_n K 2 rfl dX2_held_17 ?_
    refine rF_sum HFS K (by omega) dX2_held_18 (Nat.le_of_ble_eq_true rfl) h (fun r18 σ18 h => ?_)
    refine ax_icmp_ge (tgt := 28) K dX2_held_21 (by decide) (fun c21 => ?_) (fun c21 => ?_)
    · have h := ax_it h c21
      refine ax_iconst (v := (0 : Int32)) K (by decide) dX2_held_28 ?_
      exact ax_sub [1] rfl (km_held_j29 h1 HFS K E  (0 : Int32) σ18 h)
    · have h := ax_ie h c21
      refine ax_iconst (v := (1 : Int32)) K (by decide) dX2_held_24 ?_
      refine ax_goto (tgt := 29) K dX2_held_25 (by decide) ?_
      exact ax_sub [1] rfl (km_held_j29 h1 HFS K E  (1 : Int32) σ18 h)

/-! m.thing -/
set_option maxHeartbeats 4000000 in
theorem km_thing_j76 {FT : PM} {FH : PM} {h0 : Nat} (h1 : 1 ≤ h0) (HFT : CF_thing h0 FT) (HFH : CF_held (h0 + 3) FH) {Z : AZ} {G : AG} {L : Nat → Nat} {P : Int32 → St → Prop} (K : AK Z G cX2_thing RX2 4 (rmH (h0 + 4))) (E : AEi Z cX2_thing .int (mW G L) 0 0 P) (v3 : Int32) (σ : St) (h : wm_thing_j76 FT FH P  v3 σ) : AX Z 0 0 76 [(0, .ref (L 0)), (3, .int v3)] [] (mW G L σ) := by
  unfold wm_thing_j76 at h
  refine ax_iload_n K 1 rfl dX2_thing_76 ?_
  exact E _ _ _ _ dX2_thing_77 rfl h
set_option maxHeartbeats 4000000 in
theorem km_thing_j180 {FT : PM} {FH : PM} {h0 : Nat} (h1 : 1 ≤ h0) (HFT : CF_thing h0 FT) (HFH : CF_held (h0 + 3) FH) {Z : AZ} {G : AG} {L : Nat → Nat} {P : Int32 → St → Prop} (K : AK Z G cX2_thing RX2 4 (rmH (h0 + 4))) (E : AEi Z cX2_thing .int (mW G L) 0 0 P) (s0 : Int32) (σ : St) (h : wm_thing_j180 FT FH P  s0 σ) : AX Z 0 0 180 [(0, .ref (L 0))] [.int s0] (mW G L σ) := by
  unfold wm_thing_j180 at h
  exact E _ _ _ _ dX2_thing_180 rfl h
set_option maxHeartbeats 4000000 in
theorem km_thing_j153 {FT : PM} {FH : PM} {h0 : Nat} (h1 : 1 ≤ h0) (HFT : CF_thing h0 FT) (HFH : CF_held (h0 + 3) FH) {Z : AZ} {G : AG} {L : Nat → Nat} {P : Int32 → St → Prop} (K : AK Z G cX2_thing RX2 4 (rmH (h0 + 4))) (E : AEi Z cX2_thing .int (mW G L) 0 0 P) (v2 : Int32) (σ : St) (h : wm_thing_j153 FT FH P  v2 σ) : AX Z 0 0 153 [(0, .ref (L 0)), (2, .int v2)] [] (mW G L σ) := by
  unfold wm_thing_j153 at h
  refine ax_aload_n K 0 rfl dX2_thing_153 ?_
  refine ax_dup K rfl dX2_thing_154 ?_
  refine mg_at K dX2_thing_155 ?_
  refine ax_iconst (v := (1 : Int32)) K (by decide) dX2_thing_158 ?_
  refine ax_iadd K dX2_thing_159 ?_
  refine mp_at K dX2_thing_160 ?_
  refine ax_aload_n K 0 rfl dX2_thing_163 ?_
  refine mg_askedGuest K dX2_thing_164 ?_
  refine ax_iconst (v := (-1 : Int32)) K (by decide) dX2_thing_167 ?_
  refine ax_icmp_ne (tgt := 175) K dX2_thing_168 (by decide) (fun c168 => ?_) (fun c168 => ?_)
  · have h := ax_ie h c168
    refine ax_aload_n K 0 rfl dX2_thing_175 ?_
    refine ax_iload_n K 1 rfl dX2_thing_176 ?_
    refine rm_letter K (by omega) dX2_thing_177 (Nat.le_of_ble_eq_true rfl) h (fun r177 σ177 h => ?_)
    exact ax_sub [0] rfl (km_thing_j180 h1 HFT HFH K E  r177 σ177 h)
  · have h := ax_it h c168
    refine ax_iconst (v := (0 : Int32)) K (by decide) dX2_thing_171 ?_
    refine ax_goto (tgt := 180) K dX2_thing_172 (by decide) ?_
    exact ax_sub [0] rfl (km_thing_j180 h1 HFT HFH K E  (0 : Int32) (mS_at σ ((mI_at σ) + (1 : Int32))) h)
set_option maxHeartbeats 4000000 in
theorem km_thing_j78 {FT : PM} {FH : PM} {h0 : Nat} (h1 : 1 ≤ h0) (HFT : CF_thing h0 FT) (HFH : CF_held (h0 + 3) FH) {Z : AZ} {G : AG} {L : Nat → Nat} {P : Int32 → St → Prop} (K : AK Z G cX2_thing RX2 4 (rmH (h0 + 4))) (E : AEi Z cX2_thing .int (mW G L) 0 0 P) (v2 : Int32) (σ : St) (h : wm_thing_j78 FT FH P  v2 σ) : AX Z 0 0 78 [(0, .ref (L 0)), (2, .int v2)] [] (mW G L σ) := by
  unfold wm_thing_j78 at h
  refine ax_iload_n K 1 rfl dX2_thing_78 ?_
  refine ax_bipush (v := (48 : Int32)) K (by decide) dX2_thing_79 ?_
  refine ax_bipush (v := (57 : Int32)) K (by decide) dX2_thing_81 ?_
  refine rm_in K (by omega) dX2_thing_83 (Nat.le_of_ble_eq_true rfl) h (fun r83 h => ?_)
  refine ax_if_eq (tgt := 95) K dX2_thing_86 (by decide) (fun c86 => ?_) (fun c86 => ?_)
  · have h := ax_it h c86
    refine ax_iload_n K 1 rfl dX2_thing_95 ?_
    refine ax_bipush (v := (108 : Int32)) K (by decide) dX2_thing_96 ?_
    refine ax_icmp_eq (tgt := 153) K dX2_thing_98 (by decide) (fun c98 => ?_) (fun c98 => ?_)
    · have h := ax_it h c98
      exact ax_sub [0, 1] rfl (km_thing_j153 h1 HFT HFH K E  v2 σ h)
    · have h := ax_ie h c98
      refine ax_iload_n K 1 rfl dX2_thing_101 ?_
      refine ax_bipush (v := (98 : Int32)) K (by decide) dX2_thing_102 ?_
      refine ax_icmp_eq (tgt := 153) K dX2_thing_104 (by decide) (fun c104 => ?_) (fun c104 => ?_)
      · have h := ax_it h c104
        exact ax_sub [0, 1] rfl (km_thing_j153 h1 HFT HFH K E  v2 σ h)
      · have h := ax_ie h c104
        refine ax_iload_n K 1 rfl dX2_thing_107 ?_
        refine ax_bipush (v := (110 : Int32)) K (by decide) dX2_thing_108 ?_
        refine ax_icmp_eq (tgt := 153) K dX2_thing_110 (by decide) (fun c110 => ?_) (fun c110 => ?_)
        · have h := ax_it h c110
          exact ax_sub [0, 1] rfl (km_thing_j153 h1 HFT HFH K E  v2 σ h)
        · have h := ax_ie h c110
          refine ax_iload_n K 1 rfl dX2_thing_113 ?_
          refine ax_bipush (v := (99 : Int32)) K (by decide) dX2_thing_114 ?_
          refine ax_icmp_eq (tgt := 153) K dX2_thing_116 (by decide) (fun c116 => ?_) (fun c116 => ?_)
          · have h := ax_it h c116
            exact ax_sub [0, 1] rfl (km_thing_j153 h1 HFT HFH K E  v2 σ h)
          · have h := ax_ie h c116
            refine ax_iload_n K 1 rfl dX2_thing_119 ?_
            refine ax_bipush (v := (104 : Int32)) K (by decide) dX2_thing_120 ?_
            refine ax_icmp_eq (tgt := 153) K dX2_thing_122 (by decide) (fun c122 => ?_) (fun c122 => ?_)
            · have h := ax_it h c122
              exact ax_sub [0, 1] rfl (km_thing_j153 h1 HFT HFH K E  v2 σ h)
            · have h := ax_ie h c122
              refine ax_iload_n K 1 rfl dX2_thing_125 ?_
              refine ax_bipush (v := (111 : Int32)) K (by decide) dX2_thing_126 ?_
              refine ax_icmp_eq (tgt := 153) K dX2_thing_128 (by decide) (fun c128 => ?_) (fun c128 => ?_)
              · have h := ax_it h c128
                exact ax_sub [0, 1] rfl (km_thing_j153 h1 HFT HFH K E  v2 σ h)
              · have h := ax_ie h c128
                refine ax_iload_n K 1 rfl dX2_thing_131 ?_
                refine ax_bipush (v := (103 : Int32)) K (by decide) dX2_thing_132 ?_
                refine ax_icmp_eq (tgt := 153) K dX2_thing_134 (by decide) (fun c134 => ?_) (fun c134 => ?_)
                · have h := ax_it h c134
                  exact ax_sub [0, 1] rfl (km_thing_j153 h1 HFT HFH K E  v2 σ h)
                · have h := ax_ie h c134
                  refine ax_iload_n K 1 rfl dX2_thing_137 ?_
                  refine ax_bipush (v := (100 : Int32)) K (by decide) dX2_thing_138 ?_
                  refine ax_icmp_eq (tgt := 153) K dX2_thing_140 (by decide) (fun c140 => ?_) (fun c140 => ?_)
                  · have h := ax_it h c140
                    exact ax_sub [0, 1] rfl (km_thing_j153 h1 HFT HFH K E  v2 σ h)
                  · have h := ax_ie h c140
                    refine ax_aload_n K 0 rfl dX2_thing_143 ?_
                    refine ax_aload_n K 0 rfl dX2_thing_144 ?_
                    refine mg_at K dX2_thing_145 ?_
                    refine rm_fault K (by omega) dX2_thing_148 (Nat.le_of_ble_eq_true rfl) h (fun σ148 h => ?_)
                    refine ax_iconst (v := (0 : Int32)) K (by decide) dX2_thing_151 ?_
                    exact E _ _ _ _ dX2_thing_152 rfl h
  · have h := ax_ie h c86
    refine ax_aload_n K 0 rfl dX2_thing_89 ?_
    refine ax_iconst (v := (3 : Int32)) K (by decide) dX2_thing_90 ?_
    refine rm_number K (by omega) dX2_thing_91 (Nat.le_of_ble_eq_true rfl) h (fun r91 σ91 h => ?_)
    exact E _ _ _ _ dX2_thing_94 rfl h
set_option maxHeartbeats 4000000 in
theorem mm_thing {FT : PM} {FH : PM} {h0 : Nat} (h1 : 1 ≤ h0) (HFT : CF_thing h0 FT) (HFH : CF_held (h0 + 3) FH) {l : Launch} {G : AG} {L : Nat → Nat} {σ : St} {v1 : Int32} {P : Int32 → St → Prop} (h : wm_thing FT FH σ v1 P) : CtW l G yX2_thing cX2_thing 4 (some .int) (rmH (h0 + 4)) [.ref (L 0), .int v1] (mW G L) σ (pI P) := by
  refine CtW.ofI (by decide) (Nat.le_of_ble_eq_true rfl) fun Z _ K E => ?_
  unfold wm_thing at h
  show AX Z 0 0 0 [(0, .ref (L 0)), (1, .int v1)] [] (mW G L σ)
  refine ax_aload_n K 0 rfl dX2_thing_0 ?_
  refine ax_bipush (v := (45 : Int32)) K (by decide) dX2_thing_1 ?_
  refine rm_passes K (by omega) dX2_thing_3 (Nat.le_of_ble_eq_true rfl) h (fun r3 σ3 h => ?_)
  refine ax_if_eq (tgt := 16) K dX2_thing_6 (by decide) (fun c6 => ?_) (fun c6 => ?_)
  · have h := ax_it h c6
    refine ax_aload_n K 0 rfl dX2_thing_16 ?_
    refine rm_fine K (by omega) dX2_thing_17 (Nat.le_of_ble_eq_true rfl) h (fun r17 σ17 h => ?_)
    refine ax_if_ne (tgt := 25) K dX2_thing_20 (by decide) (fun c20 => ?_) (fun c20 => ?_)
    · have h := ax_ie h c20
      refine ax_aload_n K 0 rfl dX2_thing_25 ?_
      refine rm_here K (by omega) dX2_thing_26 (Nat.le_of_ble_eq_true rfl) h (fun r26 σ26 h => ?_)
      refine ax_istore_n (lv' := [(2, .int r26), (0, .ref (L 0)), (1, .int v1)]) K dX2_thing_29 (by decide) rfl ?_
      refine ax_iload_n K 0 rfl dX2_thing_30 ?_
      refine ax_bipush (v := (40 : Int32)) K (by decide) dX2_thing_31 ?_
      refine ax_icmp_ne (tgt := 78) K dX2_thing_33 (by decide) (fun c33 => ?_) (fun c33 => ?_)
      · have h := ax_ie h c33
        exact ax_sub [1, 0] rfl (km_thing_j78 h1 HFT HFH K E  r26 σ26 h)
      · have h := ax_it h c33
        refine ax_iload_n K 2 rfl dX2_thing_36 ?_
        refine ax_iconst (v := (4 : Int32)) K (by decide) dX2_thing_37 ?_
        refine ax_icmp_ge (tgt := 78) K dX2_thing_38 (by decide) (fun c38 => ?_) (fun c38 => ?_)
        · have h := ax_it h c38
          exact ax_sub [1, 0] rfl (km_thing_j78 h1 HFT HFH K E  r26 σ26 h)
        · have h := ax_ie h c38
          refine ax_aload_n K 1 rfl dX2_thing_41 ?_
          refine ax_dup K rfl dX2_thing_42 ?_
          refine mg_at K dX2_thing_43 ?_
          refine ax_iconst (v := (1 : Int32)) K (by decide) dX2_thing_46 ?_
          refine ax_iadd K dX2_thing_47 ?_
          refine mp_at K dX2_thing_48 ?_
          refine ax_aload_n K 1 rfl dX2_thing_51 ?_
          refine ax_iload_n K 2 rfl dX2_thing_52 ?_
          refine ax_iconst (v := (1 : Int32)) K (by decide) dX2_thing_53 ?_
          refine ax_iadd K dX2_thing_54 ?_
          refine rF_held HFH K (by omega) dX2_thing_55 (Nat.le_of_ble_eq_true rfl) h (fun r55 σ55 h => ?_)
          refine ax_istore_n (lv' := [(3, .int r55), (2, .int r26), (0, .ref (L 0)), (1, .int v1)]) K dX2_thing_58 (by decide) rfl ?_
          refine ax_aload_n K 2 rfl dX2_thing_59 ?_
          refine ax_bipush (v := (41 : Int32)) K (by decide) dX2_thing_60 ?_
          refine rm_passes K (by omega) dX2_thing_62 (Nat.le_of_ble_eq_true rfl) h (fun r62 σ62 h => ?_)
          refine ax_if_ne (tgt := 76) K dX2_thing_65 (by decide) (fun c65 => ?_) (fun c65 => ?_)
          · have h := ax_ie h c65
            exact ax_sub [2, 0] rfl (km_thing_j76 h1 HFT HFH K E  r55 σ62 h)
          · have h := ax_it h c65
            refine ax_aload_n K 2 rfl dX2_thing_68 ?_
            refine ax_aload_n K 2 rfl dX2_thing_69 ?_
            refine mg_at K dX2_thing_70 ?_
            refine rm_fault K (by omega) dX2_thing_73 (Nat.le_of_ble_eq_true rfl) h (fun σ73 h => ?_)
            exact ax_sub [2, 0] rfl (km_thing_j76 h1 HFT HFH K E  r55 σ73 h)
    · have h := ax_it h c20
      refine ax_iconst (v := (0 : Int32)) K (by decide) dX2_thing_23 ?_
      exact E _ _ _ _ dX2_thing_24 rfl h
  · have h := ax_ie h c6
    refine ax_aload_n K 0 rfl dX2_thing_9 ?_
    refine ax_iload_n K 1 rfl dX2_thing_10 ?_
    refine rF_thing HFT K (by omega) dX2_thing_11 (Nat.le_of_ble_eq_true rfl) h (fun r11 σ11 h => ?_)
    refine ax_ineg K dX2_thing_14 ?_
    exact E _ _ _ _ dX2_thing_15 rfl h

theorem CF_all : ∀ k, CF_thing (4 * k + 1) (smT k) := by
  intro k
  induction k with
  | zero => intro l G L σ v P h; exact False.elim h
  | succ k ih =>
    have hq : CF_product (4 * k + 1 + 1) (smQ k) := fun l G L σ v P h => mm_product (by omega) ih h
    have hs : CF_sum (4 * k + 1 + 1 + 1) (smS k) := fun l G L σ v P h => mm_sum (by omega) hq h
    have hh : CF_held (4 * k + 1 + 3) (smH k) := fun l G L σ v P h => mm_held (by omega) hs h
    exact fun l G L σ v P h => mm_thing (h0 := 4 * k + 1) (by omega) ih hh h
theorem CF_held42 : CF_held 172 (smH 42) := by
  have ih := CF_all 42
  have hq : CF_product (4 * 42 + 1 + 1) (smQ 42) := fun l G L σ v P h => mm_product (by omega) ih h
  have hs : CF_sum (4 * 42 + 1 + 1 + 1) (smS 42) := fun l G L σ v P h => mm_sum (by omega) hq h
  exact fun l G L σ v P h => mm_held (by omega) hs h
theorem rm_held {Z : AZ} {G : AG} {cc : ByteArray} {mL hh pc : Nat} {lv : List (Nat × Value)} {rest : List Value} {L : Nat → Nat} {σ : St} (K : AK Z G cc RX2 mL (rmH hh)) (hlt : 172 < hh) (d : decode cc pc = .ok (.invokevirtual 187, 3)) (hrest : (rest.map fun v => v.category).sum ≤ 8) {v1 : Int32} {P : Int32 → St → Prop} (h : sm_held σ v1 P) (kk : ∀ (r : Int32) (σ' : St), P r σ' → AX Z 0 0 (pc + 3) lv (.int r :: rest) (mW G L σ')) : AX Z 0 0 pc lv (.int v1 :: .ref (L 0) :: rest) (mW G L σ) := rF_held CF_held42 K hlt d hrest h kk
/-! m.joyOf -/
set_option maxHeartbeats 4000000 in
theorem mm_joyOf {l : Launch} {G : AG} {L : Nat → Nat} {σ : St} {v1 : Int32} {v2 : Int32} {P : Int32 → St → Prop} (h : wm_joyOf σ v1 v2 P) : CtW l G yX2_joyOf cX2_joyOf 3 (some .int) (rmH 173) [.ref (L 0), .int v1, .int v2] (mW G L) σ (pI P) := by
  refine CtW.ofI (by decide) (Nat.le_of_ble_eq_true rfl) fun Z _ K E => ?_
  unfold wm_joyOf at h
  show AX Z 0 0 0 [(0, .ref (L 0)), (1, .int v1), (2, .int v2)] [] (mW G L σ)
  refine ax_aload_n K 0 rfl dX2_joyOf_0 ?_
  refine mg_ruleSize K dX2_joyOf_1 ?_
  refine ax_if_ne (tgt := 24) K dX2_joyOf_4 (by decide) (fun c4 => ?_) (fun c4 => ?_)
  · have h := ax_ie h c4
    refine ax_aload_n K 0 rfl dX2_joyOf_24 ?_
    refine ax_aload_n K 0 rfl dX2_joyOf_25 ?_
    refine mg_rule K dX2_joyOf_26 ?_
    refine ax_aload_n K 0 rfl dX2_joyOf_29 ?_
    refine mg_ruleSize K dX2_joyOf_30 ?_
    refine ax_bipush (v := (40 : Int32)) K (by decide) dX2_joyOf_33 ?_
    refine rm_begin_rule K (by decide) dX2_joyOf_35 (Nat.le_of_ble_eq_true rfl) h (fun σ35 h => ?_)
    refine ax_aload_n K 0 rfl dX2_joyOf_38 ?_
    refine ax_iload_n K 1 rfl dX2_joyOf_39 ?_
    refine mp_askedGuest K dX2_joyOf_40 ?_
    refine ax_aload_n K 0 rfl dX2_joyOf_43 ?_
    refine ax_iload_n K 2 rfl dX2_joyOf_44 ?_
    refine mp_askedDish K dX2_joyOf_45 ?_
    refine ax_sipush (v := (-999 : Int32)) K (by decide) dX2_joyOf_48 ?_
    refine ax_sipush (v := (999 : Int32)) K (by decide) dX2_joyOf_51 ?_
    refine ax_aload_n K 0 rfl dX2_joyOf_54 ?_
    refine ax_iconst (v := (0 : Int32)) K (by decide) dX2_joyOf_55 ?_
    refine rm_held K (by decide) dX2_joyOf_56 (Nat.le_of_ble_eq_true rfl) h (fun r56 σ56 h => ?_)
    refine rm_min K (by decide) (Nat.le_of_ble_eq_true rfl) dX2_joyOf_59 ?_
    refine rm_max K (by decide) (Nat.le_of_ble_eq_true rfl) dX2_joyOf_62 ?_
    exact E _ _ _ _ dX2_joyOf_65 rfl h
  · have h := ax_it h c4
    refine ax_aload_n K 0 rfl dX2_joyOf_7 ?_
    refine mg_stuffs K dX2_joyOf_8 ?_
    refine ax_iload_n K 2 rfl dX2_joyOf_11 ?_
    refine ml_stuffs K h.1 dX2_joyOf_12 ?_
    replace h := h.2
    refine ax_aload_n K 0 rfl dX2_joyOf_13 ?_
    refine mg_loves K dX2_joyOf_14 ?_
    refine ax_iload_n K 1 rfl dX2_joyOf_17 ?_
    refine ml_loves K h.1 dX2_joyOf_18 ?_
    replace h := h.2
    refine ax_iand K dX2_joyOf_19 ?_
    refine rm_bitCount K (by decide) dX2_joyOf_20 (Nat.le_of_ble_eq_true rfl) ?_
    exact E _ _ _ _ dX2_joyOf_23 rfl h
theorem rm_joyOf {Z : AZ} {G : AG} {cc : ByteArray} {mL hh pc : Nat} {lv : List (Nat × Value)} {rest : List Value} {L : Nat → Nat} {σ : St} (K : AK Z G cc RX2 mL (rmH hh)) (hlt : 173 < hh) (d : decode cc pc = .ok (.invokevirtual 213, 3)) (hrest : (rest.map fun v => v.category).sum ≤ 8) {v1 : Int32} {v2 : Int32} {P : Int32 → St → Prop} (h : sm_joyOf σ v1 v2 P) (kk : ∀ (r : Int32) (σ' : St), P r σ' → AX Z 0 0 (pc + 3) lv (.int r :: rest) (mW G L σ')) : AX Z 0 0 pc lv (.int v2 :: .int v1 :: .ref (L 0) :: rest) (mW G L σ) :=
  ax_callV (N0 := 2) (As := [.int v1, .int v2]) K (mm_joyOf (sm_joyOf_ok h)) q1275 q1277 qs77 q118 q1278 ⟨rfl, by decide, by decide, by decide⟩ rfl ⟨by show 173 + 1 + 1 ≤ hh + 1; omega, by show 8 + (3 + 11) + 60 * (173 + 1) ≤ 60 * (hh + 1); omega⟩ ⟨Nat.zero_le _, Nat.zero_le _⟩ rfl rfl rfl hrest d (fun r σ' hp => by obtain ⟨v, rfl, hp⟩ := hp; exact kk v σ' hp)
/-! m.rule -/
set_option maxHeartbeats 4000000 in
theorem km_rule_l73 {Z : AZ} {G : AG} {L : Nat → Nat} {P : Int32 → St → Prop} (K : AK Z G cX2_rule RX2 3 (rmH 173)) (E : AEi Z cX2_rule .int (mW G L) 0 0 P) : ∀ (n : Nat) (v1 : Int32) (v2 : Int32) (σ : St), wm_rule_l73 P  n v1 v2 σ → AX Z 0 0 73 [(0, .ref (L 0)), (1, .int v1), (2, .int v2)] [] (mW G L σ) := by
  intro n
  induction n with
  | zero => intro v1 v2 σ h; exact False.elim h
  | succ n ih =>
    intro v1 v2 σ h
    rw [wm_rule_l73_s] at h
    refine ax_iload_n K 2 rfl dX2_rule_73 ?_
    refine ax_iload_n K 1 rfl dX2_rule_74 ?_
    refine ax_icmp_ge (tgt := 96) K dX2_rule_75 (by decide) (fun c75 => ?_) (fun c75 => ?_)
    · have h := ax_it h c75
      refine ax_aload_n K 0 rfl dX2_rule_96 ?_
      refine ax_iload_n K 1 rfl dX2_rule_97 ?_
      refine mp_ruleSize K dX2_rule_98 ?_
      refine ax_iconst (v := (0 : Int32)) K (by decide) dX2_rule_101 ?_
      exact E _ _ _ _ dX2_rule_102 rfl h
    · have h := ax_ie h c75
      refine ax_aload_n K 0 rfl dX2_rule_78 ?_
      refine mg_rule K dX2_rule_79 ?_
      refine ax_iload_n K 2 rfl dX2_rule_82 ?_
      refine ax_aload_n K 0 rfl dX2_rule_83 ?_
      refine mg_text K dX2_rule_84 ?_
      refine ax_iload_n K 2 rfl dX2_rule_87 ?_
      refine ml_text K h.1 dX2_rule_88 ?_
      replace h := h.2
      refine ms_rule K h.1 dX2_rule_89 ?_
      replace h := h.2
      refine ax_iinc (lv' := [(2, .int (v2 + (1 : Int32))), (0, .ref (L 0)), (1, .int v1)]) (v := (v2 + (1 : Int32))) K 2 dX2_rule_90 rfl (by rfl) (by decide) rfl ?_
      refine ax_goto (tgt := 73) K dX2_rule_93 (by decide) ?_
      exact ax_sub [1, 2, 0] rfl (ih v1 (v2 + (1 : Int32)) (mU_rule σ v2 (vp_nar .byte (mA_text σ (v2).toNatClampNeg))) h)
set_option maxHeartbeats 4000000 in
theorem km_rule_j71 {Z : AZ} {G : AG} {L : Nat → Nat} {P : Int32 → St → Prop} (K : AK Z G cX2_rule RX2 3 (rmH 173)) (E : AEi Z cX2_rule .int (mW G L) 0 0 P) (v1 : Int32) (σ : St) (h : wm_rule_j71 P  v1 σ) : AX Z 0 0 71 [(0, .ref (L 0)), (1, .int v1)] [] (mW G L σ) := by
  unfold wm_rule_j71 at h
  refine ax_iconst (v := (0 : Int32)) K (by decide) dX2_rule_71 ?_
  refine ax_istore_n (lv' := [(2, .int (0 : Int32)), (0, .ref (L 0)), (1, .int v1)]) K dX2_rule_72 (by decide) rfl ?_
  exact ax_sub [1, 2, 0] rfl (h.elim fun n73 h => km_rule_l73 K E  n73 v1 (0 : Int32) σ h)
set_option maxHeartbeats 4000000 in
theorem km_rule_j57 {Z : AZ} {G : AG} {L : Nat → Nat} {P : Int32 → St → Prop} (K : AK Z G cX2_rule RX2 3 (rmH 173)) (E : AEi Z cX2_rule .int (mW G L) 0 0 P) (v1 : Int32) (σ : St) (h : wm_rule_j57 P  v1 σ) : AX Z 0 0 57 [(0, .ref (L 0)), (1, .int v1)] [] (mW G L σ) := by
  unfold wm_rule_j57 at h
  refine ax_aload_n K 0 rfl dX2_rule_57 ?_
  refine rm_fine K (by decide) dX2_rule_58 (Nat.le_of_ble_eq_true rfl) h (fun r58 σ58 h => ?_)
  refine ax_if_ne (tgt := 71) K dX2_rule_61 (by decide) (fun c61 => ?_) (fun c61 => ?_)
  · have h := ax_ie h c61
    exact ax_sub [0, 1] rfl (km_rule_j71 K E  v1 σ58 h)
  · have h := ax_it h c61
    refine ax_iconst (v := (-1 : Int32)) K (by decide) dX2_rule_64 ?_
    refine ax_aload_n K 0 rfl dX2_rule_65 ?_
    refine mg_wrong K dX2_rule_66 ?_
    refine ax_isub K dX2_rule_69 ?_
    exact E _ _ _ _ dX2_rule_70 rfl h
set_option maxHeartbeats 4000000 in
theorem mm_rule {l : Launch} {G : AG} {L : Nat → Nat} {σ : St} {P : Int32 → St → Prop} (h : wm_rule σ P) : CtW l G yX2_rule cX2_rule 3 (some .int) (rmH 173) [.ref (L 0)] (mW G L) σ (pI P) := by
  refine CtW.ofI (by decide) (Nat.le_of_ble_eq_true rfl) fun Z _ K E => ?_
  unfold wm_rule at h
  show AX Z 0 0 0 [(0, .ref (L 0))] [] (mW G L σ)
  refine ax_aload_n K 0 rfl dX2_rule_0 ?_
  refine ax_iconst (v := (0 : Int32)) K (by decide) dX2_rule_1 ?_
  refine mp_thrown K dX2_rule_2 ?_
  refine ax_aload_n K 0 rfl dX2_rule_5 ?_
  refine mg_typed K dX2_rule_6 ?_
  refine ax_istore_n (lv' := [(1, .int (mI_typed (mS_thrown σ (0 : Int32)))), (0, .ref (L 0))]) K dX2_rule_9 (by decide) rfl ?_
  refine ax_aload_n K 1 rfl dX2_rule_10 ?_
  refine ax_aload_n K 1 rfl dX2_rule_11 ?_
  refine mg_text K dX2_rule_12 ?_
  refine ax_iload_n K 0 rfl dX2_rule_15 ?_
  refine ax_bipush (v := (40 : Int32)) K (by decide) dX2_rule_16 ?_
  refine rm_begin_text K (by decide) dX2_rule_18 (Nat.le_of_ble_eq_true rfl) h (fun σ18 h => ?_)
  refine ax_aload_n K 1 rfl dX2_rule_21 ?_
  refine ax_iconst (v := (0 : Int32)) K (by decide) dX2_rule_22 ?_
  refine mp_typed K dX2_rule_23 ?_
  refine ax_aload_n K 1 rfl dX2_rule_26 ?_
  refine ax_iconst (v := (-1 : Int32)) K (by decide) dX2_rule_27 ?_
  refine mp_askedGuest K dX2_rule_28 ?_
  refine ax_iload_n K 0 rfl dX2_rule_31 ?_
  refine ax_if_le (tgt := 71) K dX2_rule_32 (by decide) (fun c32 => ?_) (fun c32 => ?_)
  · have h := ax_it h c32
    exact ax_sub [1, 0] rfl (km_rule_j71 K E  (mI_typed (mS_thrown σ (0 : Int32))) (mS_askedGuest (mS_typed σ18 (0 : Int32)) (-1 : Int32)) h)
  · have h := ax_ie h c32
    refine ax_aload_n K 1 rfl dX2_rule_35 ?_
    refine ax_iconst (v := (0 : Int32)) K (by decide) dX2_rule_36 ?_
    refine rm_held K (by decide) dX2_rule_37 (Nat.le_of_ble_eq_true rfl) h (fun r37 σ37 h => ?_)
    refine ax_pop K rfl dX2_rule_40 ?_
    refine ax_aload_n K 1 rfl dX2_rule_41 ?_
    refine mg_at K dX2_rule_42 ?_
    refine ax_iload_n K 0 rfl dX2_rule_45 ?_
    refine ax_icmp_ge (tgt := 57) K dX2_rule_46 (by decide) (fun c46 => ?_) (fun c46 => ?_)
    · have h := ax_it h c46
      exact ax_sub [1, 0] rfl (km_rule_j57 K E  (mI_typed (mS_thrown σ (0 : Int32))) σ37 h)
    · have h := ax_ie h c46
      refine ax_aload_n K 1 rfl dX2_rule_49 ?_
      refine ax_aload_n K 1 rfl dX2_rule_50 ?_
      refine mg_at K dX2_rule_51 ?_
      refine rm_fault K (by decide) dX2_rule_54 (Nat.le_of_ble_eq_true rfl) h (fun σ54 h => ?_)
      exact ax_sub [1, 0] rfl (km_rule_j57 K E  (mI_typed (mS_thrown σ (0 : Int32))) σ54 h)

/-! m.eats -/
set_option maxHeartbeats 4000000 in
theorem km_eats_j99 {Z : AZ} {G : AG} {L : Nat → Nat} {P : Int32 → St → Prop} (K : AK Z G cX2_eats RX2 8 (rmH 174)) (E : AEi Z cX2_eats .int (mW G L) 0 0 P) {K37 : Int32 → Int32 → Int32 → Int32 → Int32 → Int32 → St → Prop} (hK37 : ∀ (v1 : Int32) (v2 : Int32) (v3 : Int32) (v4 : Int32) (v5 : Int32) (v6 : Int32) (σ : St), K37 v1 v2 v3 v4 v5 v6 σ → AX Z 0 0 37 [(0, .ref (L 0)), (1, .int v1), (2, .int v2), (3, .int v3), (4, .int v4), (5, .int v5), (6, .int v6)] [] (mW G L σ)) (v1 : Int32) (v2 : Int32) (v3 : Int32) (v4 : Int32) (v5 : Int32) (v6 : Int32) (σ : St) (h : wm_eats_j99 P K37 v1 v2 v3 v4 v5 v6 σ) : AX Z 0 0 99 [(0, .ref (L 0)), (1, .int v1), (2, .int v2), (3, .int v3), (4, .int v4), (5, .int v5), (6, .int v6)] [] (mW G L σ) := by
  unfold wm_eats_j99 at h
  refine ax_iinc (lv' := [(6, .int (v6 + (1 : Int32))), (0, .ref (L 0)), (1, .int v1), (2, .int v2), (3, .int v3), (4, .int v4), (5, .int v5)]) (v := (v6 + (1 : Int32))) K 6 dX2_eats_99 rfl (by rfl) (by decide) rfl ?_
  refine ax_goto (tgt := 37) K dX2_eats_102 (by decide) ?_
  exact ax_sub [1, 2, 3, 4, 5, 6, 0] rfl (hK37 v1 v2 v3 v4 v5 (v6 + (1 : Int32)) σ h)
set_option maxHeartbeats 4000000 in
theorem km_eats_l37 {Z : AZ} {G : AG} {L : Nat → Nat} {P : Int32 → St → Prop} (K : AK Z G cX2_eats RX2 8 (rmH 174)) (E : AEi Z cX2_eats .int (mW G L) 0 0 P) : ∀ (n : Nat) (v1 : Int32) (v2 : Int32) (v3 : Int32) (v4 : Int32) (v5 : Int32) (v6 : Int32) (σ : St), wm_eats_l37 P  n v1 v2 v3 v4 v5 v6 σ → AX Z 0 0 37 [(0, .ref (L 0)), (1, .int v1), (2, .int v2), (3, .int v3), (4, .int v4), (5, .int v5), (6, .int v6)] [] (mW G L σ) := by
  intro n
  induction n with
  | zero => intro v1 v2 v3 v4 v5 v6 σ h; exact False.elim h
  | succ n ih =>
    intro v1 v2 v3 v4 v5 v6 σ h
    rw [wm_eats_l37_s] at h
    refine ax_iload K 6 rfl dX2_eats_37 ?_
    refine ax_aload_n K 0 rfl dX2_eats_39 ?_
    refine mg_menuLong K dX2_eats_40 ?_
    refine ax_iload_n K 1 rfl dX2_eats_43 ?_
    refine ml_menuLong K h.1 dX2_eats_44 ?_
    replace h := h.2
    refine ax_icmp_ge (tgt := 105) K dX2_eats_45 (by decide) (fun c45 => ?_) (fun c45 => ?_)
    · have h := ax_it h c45
      refine ax_aload_n K 0 rfl dX2_eats_105 ?_
      refine ax_iconst (v := (0 : Int32)) K (by decide) dX2_eats_106 ?_
      refine mp_rowMany K dX2_eats_107 ?_
      refine ax_aload_n K 0 rfl dX2_eats_110 ?_
      refine ax_iload K 4 rfl dX2_eats_111 ?_
      refine rm_tell K (by decide) dX2_eats_113 (Nat.le_of_ble_eq_true rfl) h (fun σ113 h => ?_)
      refine ax_aload_n K 0 rfl dX2_eats_116 ?_
      refine ax_aload_n K 0 rfl dX2_eats_117 ?_
      refine ax_iload_n K 1 rfl dX2_eats_118 ?_
      refine ax_iload_n K 2 rfl dX2_eats_119 ?_
      refine rm_ateOf K (by decide) dX2_eats_120 (Nat.le_of_ble_eq_true rfl) h (fun r120 σ120 h => ?_)
      refine rm_tell K (by decide) dX2_eats_123 (Nat.le_of_ble_eq_true rfl) h (fun σ123 h => ?_)
      refine ax_aload_n K 0 rfl dX2_eats_126 ?_
      refine ax_iload K 5 rfl dX2_eats_127 ?_
      refine rm_tell K (by decide) dX2_eats_129 (Nat.le_of_ble_eq_true rfl) h (fun σ129 h => ?_)
      refine ax_iload_n K 3 rfl dX2_eats_132 ?_
      exact E _ _ _ _ dX2_eats_133 rfl h
    · have h := ax_ie h c45
      refine ax_aload_n K 0 rfl dX2_eats_48 ?_
      refine mg_menus K dX2_eats_49 ?_
      refine ax_bipush (v := (10 : Int32)) K (by decide) dX2_eats_52 ?_
      refine ax_iload_n K 1 rfl dX2_eats_54 ?_
      refine ax_imul K dX2_eats_55 ?_
      refine ax_iload K 6 rfl dX2_eats_56 ?_
      refine ax_iadd K dX2_eats_58 ?_
      refine ml_menus K h.1 dX2_eats_59 ?_
      replace h := h.2
      refine ax_istore (lv' := [(7, .int (mA_menus σ ((((10 : Int32) * v1) + v6)).toNatClampNeg)), (0, .ref (L 0)), (1, .int v1), (2, .int v2), (3, .int v3), (4, .int v4), (5, .int v5), (6, .int v6)]) K dX2_eats_60 (by decide) rfl ?_
      refine ax_aload_n K 1 rfl dX2_eats_62 ?_
      refine ax_iload_n K 3 rfl dX2_eats_63 ?_
      refine ax_iload K 0 rfl dX2_eats_64 ?_
      refine rm_isHungry K (by decide) dX2_eats_66 (Nat.le_of_ble_eq_true rfl) h (fun r66 σ66 h => ?_)
      refine ax_if_eq (tgt := 75) K dX2_eats_69 (by decide) (fun c69 => ?_) (fun c69 => ?_)
      · have h := ax_it h c69
        refine ax_iinc (lv' := [(3, .int (v3 + (1 : Int32))), (7, .int (mA_menus σ ((((10 : Int32) * v1) + v6)).toNatClampNeg)), (0, .ref (L 0)), (1, .int v1), (2, .int v2), (4, .int v4), (5, .int v5), (6, .int v6)]) (v := (v3 + (1 : Int32))) K 4 dX2_eats_75 rfl (by rfl) (by decide) rfl ?_
        refine ax_iload K 5 rfl dX2_eats_78 ?_
        refine ax_iconst (v := (1 : Int32)) K (by decide) dX2_eats_80 ?_
        refine ax_iload K 7 rfl dX2_eats_81 ?_
        refine ax_ishl K dX2_eats_83 ?_
        refine ax_ior K dX2_eats_84 ?_
        refine ax_istore (lv' := [(4, .int (v4 ||| ((1 : Int32) <<< (v6 &&& 31)))), (3, .int (v3 + (1 : Int32))), (7, .int (mA_menus σ ((((10 : Int32) * v1) + v6)).toNatClampNeg)), (0, .ref (L 0)), (1, .int v1), (2, .int v2), (5, .int v5), (6, .int v6)]) K dX2_eats_85 (by decide) rfl ?_
        refine ax_iload K 6 rfl dX2_eats_87 ?_
        refine ax_aload_n K 3 rfl dX2_eats_89 ?_
        refine ax_iload_n K 5 rfl dX2_eats_90 ?_
        refine ax_iload K 2 rfl dX2_eats_91 ?_
        refine rm_joyOf K (by decide) dX2_eats_93 (Nat.le_of_ble_eq_true rfl) h (fun r93 σ93 h => ?_)
        refine ax_iadd K dX2_eats_96 ?_
        refine ax_istore (lv' := [(5, .int (v5 + r93)), (4, .int (v4 ||| ((1 : Int32) <<< (v6 &&& 31)))), (3, .int (v3 + (1 : Int32))), (7, .int (mA_menus σ ((((10 : Int32) * v1) + v6)).toNatClampNeg)), (0, .ref (L 0)), (1, .int v1), (2, .int v2), (6, .int v6)]) K dX2_eats_97 (by decide) rfl ?_
        exact ax_sub [4, 5, 6, 2, 1, 0, 7] rfl (km_eats_j99 K E ih v1 v2 (v3 + (1 : Int32)) (v4 ||| ((1 : Int32) <<< (v6 &&& 31))) (v5 + r93) v6 σ93 h)
      · have h := ax_ie h c69
        refine ax_goto (tgt := 99) K dX2_eats_72 (by decide) ?_
        exact ax_sub [1, 2, 3, 4, 5, 6, 7] rfl (km_eats_j99 K E ih v1 v2 v3 v4 v5 v6 σ66 h)
set_option maxHeartbeats 4000000 in
theorem mm_eats {l : Launch} {G : AG} {L : Nat → Nat} {σ : St} {v1 : Int32} {v2 : Int32} {P : Int32 → St → Prop} (h : wm_eats σ v1 v2 P) : CtW l G yX2_eats cX2_eats 8 (some .int) (rmH 174) [.ref (L 0), .int v1, .int v2] (mW G L) σ (pI P) := by
  refine CtW.ofI (by decide) (Nat.le_of_ble_eq_true rfl) fun Z _ K E => ?_
  unfold wm_eats at h
  show AX Z 0 0 0 [(0, .ref (L 0)), (1, .int v1), (2, .int v2)] [] (mW G L σ)
  refine ax_aload_n K 0 rfl dX2_eats_0 ?_
  refine ax_iconst (v := (0 : Int32)) K (by decide) dX2_eats_1 ?_
  refine mp_thrown K dX2_eats_2 ?_
  refine ax_aload_n K 0 rfl dX2_eats_5 ?_
  refine ax_iload_n K 2 rfl dX2_eats_6 ?_
  refine rm_isGuest K (by decide) dX2_eats_7 (Nat.le_of_ble_eq_true rfl) h (fun r7 σ7 h => ?_)
  refine ax_if_ne (tgt := 15) K dX2_eats_10 (by decide) (fun c10 => ?_) (fun c10 => ?_)
  · have h := ax_ie h c10
    refine ax_aload_n K 0 rfl dX2_eats_15 ?_
    refine ax_iload_n K 1 rfl dX2_eats_16 ?_
    refine rm_isWhole K (by decide) dX2_eats_17 (Nat.le_of_ble_eq_true rfl) h (fun r17 σ17 h => ?_)
    refine ax_if_ne (tgt := 26) K dX2_eats_20 (by decide) (fun c20 => ?_) (fun c20 => ?_)
    · have h := ax_ie h c20
      refine ax_iconst (v := (0 : Int32)) K (by decide) dX2_eats_26 ?_
      refine ax_istore_n (lv' := [(3, .int (0 : Int32)), (0, .ref (L 0)), (1, .int v1), (2, .int v2)]) K dX2_eats_27 (by decide) rfl ?_
      refine ax_iconst (v := (0 : Int32)) K (by decide) dX2_eats_28 ?_
      refine ax_istore (lv' := [(4, .int (0 : Int32)), (3, .int (0 : Int32)), (0, .ref (L 0)), (1, .int v1), (2, .int v2)]) K dX2_eats_29 (by decide) rfl ?_
      refine ax_iconst (v := (0 : Int32)) K (by decide) dX2_eats_31 ?_
      refine ax_istore (lv' := [(5, .int (0 : Int32)), (4, .int (0 : Int32)), (3, .int (0 : Int32)), (0, .ref (L 0)), (1, .int v1), (2, .int v2)]) K dX2_eats_32 (by decide) rfl ?_
      refine ax_iconst (v := (0 : Int32)) K (by decide) dX2_eats_34 ?_
      refine ax_istore (lv' := [(6, .int (0 : Int32)), (5, .int (0 : Int32)), (4, .int (0 : Int32)), (3, .int (0 : Int32)), (0, .ref (L 0)), (1, .int v1), (2, .int v2)]) K dX2_eats_35 (by decide) rfl ?_
      exact ax_sub [4, 5, 6, 3, 2, 1, 0] rfl (h.elim fun n37 h => km_eats_l37 K E  n37 v1 v2 (0 : Int32) (0 : Int32) (0 : Int32) (0 : Int32) σ17 h)
    · have h := ax_it h c20
      refine ax_bipush (v := (-3 : Int32)) K (by decide) dX2_eats_23 ?_
      exact E _ _ _ _ dX2_eats_25 rfl h
  · have h := ax_it h c10
    refine ax_iconst (v := (-1 : Int32)) K (by decide) dX2_eats_13 ?_
    exact E _ _ _ _ dX2_eats_14 rfl h

