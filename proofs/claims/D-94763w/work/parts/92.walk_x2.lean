/-! x.fair -/
set_option maxHeartbeats 4000000 in
theorem kx_fair_l55 {Z : AZ} {G : AG} {L : Nat → Nat} {P : Int32 → St → Prop} (K : AK Z G cX1_fair RX1 7 (rmH 62)) (E : AEi Z cX1_fair .int (xW G L) 0 0 P) {K108 : Int32 → Int32 → Int32 → Int32 → Int32 → St → Prop} (hK108 : ∀ (v1 : Int32) (v2 : Int32) (v3 : Int32) (s1 : Int32) (s2 : Int32) (σ : St), K108 v1 v2 v3 s1 s2 σ → AX Z 0 0 108 [(0, .ref (L 0)), (1, .int v1), (2, .int v2), (3, .int v3)] [.int s2, .int s1, .ref (L 23)] (xW G L σ)) : ∀ (n : Nat) (v1 : Int32) (v2 : Int32) (v3 : Int32) (v4 : Int32) (v5 : Int32) (v6 : Int32) (σ : St), wx_fair_l55 P K108 n v1 v2 v3 v4 v5 v6 σ → AX Z 0 0 55 [(0, .ref (L 0)), (1, .int v1), (2, .int v2), (3, .int v3), (4, .int v4), (5, .int v5), (6, .int v6)] [] (xW G L σ) := by
  intro n
  induction n with
  | zero => intro v1 v2 v3 v4 v5 v6 σ h; exact False.elim h
  | succ n ih =>
    intro v1 v2 v3 v4 v5 v6 σ h
    rw [wx_fair_l55_s] at h
    refine ax_iload K 6 rfl dX1_fair_55 ?_
    refine ax_aload_n K 0 rfl dX1_fair_57 ?_
    refine xg_guests K dX1_fair_58 ?_
    refine ax_icmp_ge (tgt := 85) K dX1_fair_61 (by decide) (fun c61 => ?_) (fun c61 => ?_)
    · have h := ax_it h c61
      refine ax_aload_n K 0 rfl dX1_fair_85 ?_
      refine xg_worth K dX1_fair_86 ?_
      refine ax_iload_n K 3 rfl dX1_fair_89 ?_
      refine ax_aload_n K 0 rfl dX1_fair_90 ?_
      refine ax_iload K 4 rfl dX1_fair_91 ?_
      refine rx_costOf K (by decide) dX1_fair_93 (Nat.le_of_ble_eq_true rfl) h (fun r93 σ93 h => ?_)
      refine ax_iload_n K 2 rfl dX1_fair_96 ?_
      refine ax_icmp_gt (tgt := 105) K dX1_fair_97 (by decide) (fun c97 => ?_) (fun c97 => ?_)
      · have h := ax_it h c97
        refine ax_ldcw (v := (-1000000 : Int32)) K q687 dX1_fair_105 ?_
        exact ax_sub [0, 1, 2, 3] rfl (hK108 v1 v2 v3 v3 (-1000000 : Int32) σ93 h)
      · have h := ax_ie h c97
        refine ax_iload K 5 rfl dX1_fair_100 ?_
        refine ax_goto (tgt := 108) K dX1_fair_102 (by decide) ?_
        exact ax_sub [0, 1, 2, 3] rfl (hK108 v1 v2 v3 v3 v5 σ93 h)
    · have h := ax_ie h c61
      refine ax_iload K 5 rfl dX1_fair_64 ?_
      refine ax_aload_n K 0 rfl dX1_fair_66 ?_
      refine ax_iload K 6 rfl dX1_fair_67 ?_
      refine ax_iload K 4 rfl dX1_fair_69 ?_
      refine rx_joyIn K (by decide) dX1_fair_71 (Nat.le_of_ble_eq_true rfl) h (fun r71 σ71 h => ?_)
      refine rx_min K (by decide) (Nat.le_of_ble_eq_true rfl) dX1_fair_74 ?_
      refine ax_istore (lv' := [(5, .int (jmin v5 r71)), (0, .ref (L 0)), (1, .int v1), (2, .int v2), (3, .int v3), (4, .int v4), (6, .int v6)]) K dX1_fair_77 (by decide) rfl ?_
      refine ax_iinc (lv' := [(6, .int (v6 + (1 : Int32))), (5, .int (jmin v5 r71)), (0, .ref (L 0)), (1, .int v1), (2, .int v2), (3, .int v3), (4, .int v4)]) (v := (v6 + (1 : Int32))) K 6 dX1_fair_79 rfl (by rfl) (by decide) rfl ?_
      refine ax_goto (tgt := 55) K dX1_fair_82 (by decide) ?_
      exact ax_sub [2, 3, 4, 5, 6, 1, 0] rfl (ih v1 v2 v3 v4 (jmin v5 r71) (v6 + (1 : Int32)) σ71 h)
set_option maxHeartbeats 4000000 in
theorem kx_fair_j108 {Z : AZ} {G : AG} {L : Nat → Nat} {P : Int32 → St → Prop} (K : AK Z G cX1_fair RX1 7 (rmH 62)) (E : AEi Z cX1_fair .int (xW G L) 0 0 P) {K27 : Int32 → Int32 → Int32 → St → Prop} (hK27 : ∀ (v1 : Int32) (v2 : Int32) (v3 : Int32) (σ : St), K27 v1 v2 v3 σ → AX Z 0 0 27 [(0, .ref (L 0)), (1, .int v1), (2, .int v2), (3, .int v3)] [] (xW G L σ)) (v1 : Int32) (v2 : Int32) (v3 : Int32) (s1 : Int32) (s2 : Int32) (σ : St) (h : wx_fair_j108 P K27 v1 v2 v3 s1 s2 σ) : AX Z 0 0 108 [(0, .ref (L 0)), (1, .int v1), (2, .int v2), (3, .int v3)] [.int s2, .int s1, .ref (L 23)] (xW G L σ) := by
  unfold wx_fair_j108 at h
  refine xs_worth K h.1 dX1_fair_108 ?_
  replace h := h.2
  refine ax_iinc (lv' := [(3, .int (v3 + (1 : Int32))), (0, .ref (L 0)), (1, .int v1), (2, .int v2)]) (v := (v3 + (1 : Int32))) K 3 dX1_fair_109 rfl (by rfl) (by decide) rfl ?_
  refine ax_goto (tgt := 27) K dX1_fair_112 (by decide) ?_
  exact ax_sub [1, 2, 3, 0] rfl (hK27 v1 v2 (v3 + (1 : Int32)) (xU_worth σ s1 s2) h)
set_option maxHeartbeats 4000000 in
theorem kx_fair_l27 {Z : AZ} {G : AG} {L : Nat → Nat} {P : Int32 → St → Prop} (K : AK Z G cX1_fair RX1 7 (rmH 62)) (E : AEi Z cX1_fair .int (xW G L) 0 0 P) {K133 : Int32 → St → Prop} (hK133 : ∀ (s0 : Int32) (σ : St), K133 s0 σ → AX Z 0 0 133 [(0, .ref (L 0))] [.int s0] (xW G L σ)) : ∀ (n : Nat) (v1 : Int32) (v2 : Int32) (v3 : Int32) (σ : St), wx_fair_l27 P K133 n v1 v2 v3 σ → AX Z 0 0 27 [(0, .ref (L 0)), (1, .int v1), (2, .int v2), (3, .int v3)] [] (xW G L σ) := by
  intro n
  induction n with
  | zero => intro v1 v2 v3 σ h; exact False.elim h
  | succ n ih =>
    intro v1 v2 v3 σ h
    rw [wx_fair_l27_s] at h
    refine ax_iload_n K 3 rfl dX1_fair_27 ?_
    refine ax_iconst (v := (1 : Int32)) K (by decide) dX1_fair_28 ?_
    refine ax_aload_n K 0 rfl dX1_fair_29 ?_
    refine xg_dishes K dX1_fair_30 ?_
    refine ax_ishl K dX1_fair_33 ?_
    refine ax_icmp_ge (tgt := 115) K dX1_fair_34 (by decide) (fun c34 => ?_) (fun c34 => ?_)
    · have h := ax_it h c34
      refine ax_aload_n K 0 rfl dX1_fair_115 ?_
      refine ax_iload_n K 1 rfl dX1_fair_116 ?_
      refine ax_iconst (v := (1 : Int32)) K (by decide) dX1_fair_117 ?_
      refine rx_bestSet K (by decide) dX1_fair_118 (Nat.le_of_ble_eq_true rfl) h (fun r118 σ118 h => ?_)
      refine ax_ldcw (v := (-1000000 : Int32)) K q687 dX1_fair_121 ?_
      refine ax_icmp_ne (tgt := 132) K dX1_fair_124 (by decide) (fun c124 => ?_) (fun c124 => ?_)
      · have h := ax_ie h c124
        refine ax_iconst (v := (1 : Int32)) K (by decide) dX1_fair_132 ?_
        exact ax_sub [0] rfl (hK133 (1 : Int32) σ118 h)
      · have h := ax_it h c124
        refine ax_bipush (v := (-2 : Int32)) K (by decide) dX1_fair_127 ?_
        refine ax_goto (tgt := 133) K dX1_fair_129 (by decide) ?_
        exact ax_sub [0] rfl (hK133 (-2 : Int32) σ118 h)
    · have h := ax_ie h c34
      refine ax_iload_n K 3 rfl dX1_fair_37 ?_
      refine ax_aload_n K 0 rfl dX1_fair_38 ?_
      refine rx_setNow K (by decide) dX1_fair_39 (Nat.le_of_ble_eq_true rfl) h (fun r39 σ39 h => ?_)
      refine ax_iconst (v := (-1 : Int32)) K (by decide) dX1_fair_42 ?_
      refine ax_ixor K dX1_fair_43 ?_
      refine ax_iand K dX1_fair_44 ?_
      refine ax_istore (lv' := [(4, .int (v3 &&& (r39 ^^^ (-1 : Int32)))), (0, .ref (L 0)), (1, .int v1), (2, .int v2), (3, .int v3)]) K dX1_fair_45 (by decide) rfl ?_
      refine ax_ldcw (v := (1000000 : Int32)) K q717 dX1_fair_47 ?_
      refine ax_istore (lv' := [(5, .int (1000000 : Int32)), (4, .int (v3 &&& (r39 ^^^ (-1 : Int32)))), (0, .ref (L 0)), (1, .int v1), (2, .int v2), (3, .int v3)]) K dX1_fair_50 (by decide) rfl ?_
      refine ax_iconst (v := (0 : Int32)) K (by decide) dX1_fair_52 ?_
      refine ax_istore (lv' := [(6, .int (0 : Int32)), (5, .int (1000000 : Int32)), (4, .int (v3 &&& (r39 ^^^ (-1 : Int32)))), (0, .ref (L 0)), (1, .int v1), (2, .int v2), (3, .int v3)]) K dX1_fair_53 (by decide) rfl ?_
      exact ax_sub [3, 4, 5, 6, 2, 1, 0] rfl (h.elim fun n55 h => kx_fair_l55 K E (kx_fair_j108 K E ih) n55 v1 v2 v3 (v3 &&& (r39 ^^^ (-1 : Int32))) (1000000 : Int32) (0 : Int32) σ39 h)
set_option maxHeartbeats 4000000 in
theorem kx_fair_j133 {Z : AZ} {G : AG} {L : Nat → Nat} {P : Int32 → St → Prop} (K : AK Z G cX1_fair RX1 7 (rmH 62)) (E : AEi Z cX1_fair .int (xW G L) 0 0 P) (s0 : Int32) (σ : St) (h : wx_fair_j133 P  s0 σ) : AX Z 0 0 133 [(0, .ref (L 0))] [.int s0] (xW G L σ) := by
  unfold wx_fair_j133 at h
  exact E _ _ _ _ dX1_fair_133 rfl h
set_option maxHeartbeats 4000000 in
theorem mx_fair {l : Launch} {G : AG} {L : Nat → Nat} {σ : St} {v1 : Int32} {v2 : Int32} {P : Int32 → St → Prop} (h : wx_fair σ v1 v2 P) : CtW l G yX1_fair cX1_fair 7 (some .int) (rmH 62) [.ref (L 0), .int v1, .int v2] (xW G L) σ (pI P) := by
  refine CtW.ofI (by decide) (Nat.le_of_ble_eq_true rfl) fun Z _ K E => ?_
  unfold wx_fair at h
  show AX Z 0 0 0 [(0, .ref (L 0)), (1, .int v1), (2, .int v2)] [] (xW G L σ)
  refine ax_aload_n K 0 rfl dX1_fair_0 ?_
  refine ax_iload_n K 1 rfl dX1_fair_1 ?_
  refine ax_iload_n K 2 rfl dX1_fair_2 ?_
  refine rx_isPurse K (by decide) dX1_fair_3 (Nat.le_of_ble_eq_true rfl) h (fun r3 σ3 h => ?_)
  refine ax_if_ne (tgt := 11) K dX1_fair_6 (by decide) (fun c6 => ?_) (fun c6 => ?_)
  · have h := ax_ie h c6
    refine ax_aload_n K 0 rfl dX1_fair_11 ?_
    refine xg_guests K dX1_fair_12 ?_
    refine ax_if_ne (tgt := 21) K dX1_fair_15 (by decide) (fun c15 => ?_) (fun c15 => ?_)
    · have h := ax_ie h c15
      refine ax_aload_n K 0 rfl dX1_fair_21 ?_
      refine rx_laysOut K (by decide) dX1_fair_22 (Nat.le_of_ble_eq_true rfl) h (fun σ22 h => ?_)
      refine ax_iconst (v := (0 : Int32)) K (by decide) dX1_fair_25 ?_
      refine ax_istore_n (lv' := [(3, .int (0 : Int32)), (0, .ref (L 0)), (1, .int v1), (2, .int v2)]) K dX1_fair_26 (by decide) rfl ?_
      exact ax_sub [1, 2, 3, 0] rfl (h.elim fun n27 h => kx_fair_l27 K E (kx_fair_j133 K E) n27 v1 v2 (0 : Int32) σ22 h)
    · have h := ax_it h c15
      refine ax_bipush (v := (-2 : Int32)) K (by decide) dX1_fair_18 ?_
      exact E _ _ _ _ dX1_fair_20 rfl h
  · have h := ax_it h c6
    refine ax_iconst (v := (-1 : Int32)) K (by decide) dX1_fair_9 ?_
    exact E _ _ _ _ dX1_fair_10 rfl h

/-! x.gladdest -/
set_option maxHeartbeats 4000000 in
theorem kx_gladdest_j49 {Z : AZ} {G : AG} {L : Nat → Nat} {P : Int32 → St → Prop} (K : AK Z G cX1_gladdest RX1 5 (rmH 62)) (E : AEi Z cX1_gladdest .int (xW G L) 0 0 P) {K5 : Int32 → Int32 → Int32 → Int32 → St → Prop} (hK5 : ∀ (v1 : Int32) (v2 : Int32) (v3 : Int32) (v4 : Int32) (σ : St), K5 v1 v2 v3 v4 σ → AX Z 0 0 5 [(0, .ref (L 0)), (1, .int v1), (2, .int v2), (3, .int v3), (4, .int v4)] [] (xW G L σ)) (v1 : Int32) (v2 : Int32) (v4 : Int32) (s0 : Int32) (σ : St) (h : wx_gladdest_j49 P K5 v1 v2 v4 s0 σ) : AX Z 0 0 49 [(0, .ref (L 0)), (1, .int v1), (2, .int v2), (4, .int v4)] [.int s0] (xW G L σ) := by
  unfold wx_gladdest_j49 at h
  refine ax_istore_n (lv' := [(3, .int s0), (0, .ref (L 0)), (1, .int v1), (2, .int v2), (4, .int v4)]) K dX1_gladdest_49 (by decide) rfl ?_
  refine ax_iinc (lv' := [(4, .int (v4 + (1 : Int32))), (3, .int s0), (0, .ref (L 0)), (1, .int v1), (2, .int v2)]) (v := (v4 + (1 : Int32))) K 4 dX1_gladdest_50 rfl (by rfl) (by decide) rfl ?_
  refine ax_goto (tgt := 5) K dX1_gladdest_53 (by decide) ?_
  exact ax_sub [2, 3, 4, 1, 0] rfl (hK5 v1 v2 s0 (v4 + (1 : Int32)) σ h)
set_option maxHeartbeats 4000000 in
theorem kx_gladdest_j43 {Z : AZ} {G : AG} {L : Nat → Nat} {P : Int32 → St → Prop} (K : AK Z G cX1_gladdest RX1 5 (rmH 62)) (E : AEi Z cX1_gladdest .int (xW G L) 0 0 P) {K5 : Int32 → Int32 → Int32 → Int32 → St → Prop} (hK5 : ∀ (v1 : Int32) (v2 : Int32) (v3 : Int32) (v4 : Int32) (σ : St), K5 v1 v2 v3 v4 σ → AX Z 0 0 5 [(0, .ref (L 0)), (1, .int v1), (2, .int v2), (3, .int v3), (4, .int v4)] [] (xW G L σ)) (v1 : Int32) (v2 : Int32) (v4 : Int32) (σ : St) (h : wx_gladdest_j43 P K5 v1 v2 v4 σ) : AX Z 0 0 43 [(0, .ref (L 0)), (1, .int v1), (2, .int v2), (4, .int v4)] [] (xW G L σ) := by
  unfold wx_gladdest_j43 at h
  refine ax_iload K 3 rfl dX1_gladdest_43 ?_
  refine ax_goto (tgt := 49) K dX1_gladdest_45 (by decide) ?_
  exact ax_sub [0, 1, 2, 3] rfl (kx_gladdest_j49 K E hK5 v1 v2 v4 v4 σ h)
set_option maxHeartbeats 4000000 in
theorem kx_gladdest_j48 {Z : AZ} {G : AG} {L : Nat → Nat} {P : Int32 → St → Prop} (K : AK Z G cX1_gladdest RX1 5 (rmH 62)) (E : AEi Z cX1_gladdest .int (xW G L) 0 0 P) {K5 : Int32 → Int32 → Int32 → Int32 → St → Prop} (hK5 : ∀ (v1 : Int32) (v2 : Int32) (v3 : Int32) (v4 : Int32) (σ : St), K5 v1 v2 v3 v4 σ → AX Z 0 0 5 [(0, .ref (L 0)), (1, .int v1), (2, .int v2), (3, .int v3), (4, .int v4)] [] (xW G L σ)) (v1 : Int32) (v2 : Int32) (v3 : Int32) (v4 : Int32) (σ : St) (h : wx_gladdest_j48 P K5 v1 v2 v3 v4 σ) : AX Z 0 0 48 [(0, .ref (L 0)), (1, .int v1), (2, .int v2), (3, .int v3), (4, .int v4)] [] (xW G L σ) := by
  unfold wx_gladdest_j48 at h
  refine ax_iload_n K 3 rfl dX1_gladdest_48 ?_
  exact ax_sub [0, 1, 2, 4] rfl (kx_gladdest_j49 K E hK5 v1 v2 v4 v3 σ h)
set_option maxHeartbeats 4000000 in
theorem kx_gladdest_l5 {Z : AZ} {G : AG} {L : Nat → Nat} {P : Int32 → St → Prop} (K : AK Z G cX1_gladdest RX1 5 (rmH 62)) (E : AEi Z cX1_gladdest .int (xW G L) 0 0 P) : ∀ (n : Nat) (v1 : Int32) (v2 : Int32) (v3 : Int32) (v4 : Int32) (σ : St), wx_gladdest_l5 P  n v1 v2 v3 v4 σ → AX Z 0 0 5 [(0, .ref (L 0)), (1, .int v1), (2, .int v2), (3, .int v3), (4, .int v4)] [] (xW G L σ) := by
  intro n
  induction n with
  | zero => intro v1 v2 v3 v4 σ h; exact False.elim h
  | succ n ih =>
    intro v1 v2 v3 v4 σ h
    rw [wx_gladdest_l5_s] at h
    refine ax_iload K 4 rfl dX1_gladdest_5 ?_
    refine ax_aload_n K 0 rfl dX1_gladdest_7 ?_
    refine xg_dishes K dX1_gladdest_8 ?_
    refine ax_icmp_ge (tgt := 56) K dX1_gladdest_11 (by decide) (fun c11 => ?_) (fun c11 => ?_)
    · have h := ax_it h c11
      refine ax_iload_n K 3 rfl dX1_gladdest_56 ?_
      exact E _ _ _ _ dX1_gladdest_57 rfl h
    · have h := ax_ie h c11
      refine ax_aload_n K 0 rfl dX1_gladdest_14 ?_
      refine ax_iload_n K 1 rfl dX1_gladdest_15 ?_
      refine ax_iload_n K 2 rfl dX1_gladdest_16 ?_
      refine ax_iload K 4 rfl dX1_gladdest_17 ?_
      refine rx_goesOn K (by decide) dX1_gladdest_19 (Nat.le_of_ble_eq_true rfl) h (fun r19 σ19 h => ?_)
      refine ax_if_eq (tgt := 48) K dX1_gladdest_22 (by decide) (fun c22 => ?_) (fun c22 => ?_)
      · have h := ax_it h c22
        exact ax_sub [0, 1, 2, 3, 4] rfl (kx_gladdest_j48 K E ih v1 v2 v3 v4 σ19 h)
      · have h := ax_ie h c22
        refine ax_iload_n K 3 rfl dX1_gladdest_25 ?_
        refine ax_if_lt (tgt := 43) K dX1_gladdest_26 (by decide) (fun c26 => ?_) (fun c26 => ?_)
        · have h := ax_it h c26
          exact ax_sub [0, 1, 2, 4] rfl (kx_gladdest_j43 K E ih v1 v2 v4 σ19 h)
        · have h := ax_ie h c26
          refine ax_aload_n K 0 rfl dX1_gladdest_29 ?_
          refine ax_iload K 4 rfl dX1_gladdest_30 ?_
          refine rx_joyOfAll K (by decide) dX1_gladdest_32 (Nat.le_of_ble_eq_true rfl) h (fun r32 σ32 h => ?_)
          refine ax_aload_n K 0 rfl dX1_gladdest_35 ?_
          refine ax_iload_n K 3 rfl dX1_gladdest_36 ?_
          refine rx_joyOfAll K (by decide) dX1_gladdest_37 (Nat.le_of_ble_eq_true rfl) h (fun r37 σ37 h => ?_)
          refine ax_icmp_le (tgt := 48) K dX1_gladdest_40 (by decide) (fun c40 => ?_) (fun c40 => ?_)
          · have h := ax_it h c40
            exact ax_sub [0, 1, 2, 3, 4] rfl (kx_gladdest_j48 K E ih v1 v2 v3 v4 σ37 h)
          · have h := ax_ie h c40
            exact ax_sub [0, 1, 2, 4] rfl (kx_gladdest_j43 K E ih v1 v2 v4 σ37 h)
set_option maxHeartbeats 4000000 in
theorem mx_gladdest {l : Launch} {G : AG} {L : Nat → Nat} {σ : St} {v1 : Int32} {v2 : Int32} {P : Int32 → St → Prop} (h : wx_gladdest σ v1 v2 P) : CtW l G yX1_gladdest cX1_gladdest 5 (some .int) (rmH 62) [.ref (L 0), .int v1, .int v2] (xW G L) σ (pI P) := by
  refine CtW.ofI (by decide) (Nat.le_of_ble_eq_true rfl) fun Z _ K E => ?_
  unfold wx_gladdest at h
  show AX Z 0 0 0 [(0, .ref (L 0)), (1, .int v1), (2, .int v2)] [] (xW G L σ)
  refine ax_iconst (v := (-1 : Int32)) K (by decide) dX1_gladdest_0 ?_
  refine ax_istore_n (lv' := [(3, .int (-1 : Int32)), (0, .ref (L 0)), (1, .int v1), (2, .int v2)]) K dX1_gladdest_1 (by decide) rfl ?_
  refine ax_iconst (v := (0 : Int32)) K (by decide) dX1_gladdest_2 ?_
  refine ax_istore (lv' := [(4, .int (0 : Int32)), (3, .int (-1 : Int32)), (0, .ref (L 0)), (1, .int v1), (2, .int v2)]) K dX1_gladdest_3 (by decide) rfl ?_
  exact ax_sub [2, 3, 4, 1, 0] rfl (h.elim fun n5 h => kx_gladdest_l5 K E  n5 v1 v2 (-1 : Int32) (0 : Int32) σ h)
theorem rx_gladdest {Z : AZ} {G : AG} {cc : ByteArray} {mL hh pc : Nat} {lv : List (Nat × Value)} {rest : List Value} {L : Nat → Nat} {σ : St} (K : AK Z G cc RX1 mL (rmH hh)) (hlt : 62 < hh) (d : decode cc pc = .ok (.invokevirtual 411, 3)) (hrest : (rest.map fun v => v.category).sum ≤ 8) {v1 : Int32} {v2 : Int32} {P : Int32 → St → Prop} (h : sx_gladdest σ v1 v2 P) (kk : ∀ (r : Int32) (σ' : St), P r σ' → AX Z 0 0 (pc + 3) lv (.int r :: rest) (xW G L σ')) : AX Z 0 0 pc lv (.int v2 :: .int v1 :: .ref (L 0) :: rest) (xW G L σ) :=
  ax_callV (N0 := 2) (As := [.int v1, .int v2]) K (mx_gladdest (sx_gladdest_ok h)) q830 q832 qs47 q117 q833 ⟨rfl, by decide, by decide, by decide⟩ rfl ⟨by show 62 + 1 + 1 ≤ hh + 1; omega, by show 8 + (5 + 11) + 60 * (62 + 1) ≤ 60 * (hh + 1); omega⟩ ⟨Nat.zero_le _, Nat.zero_le _⟩ rfl rfl rfl hrest d (fun r σ' hp => by obtain ⟨v, rfl, hp⟩ := hp; exact kk v σ' hp)
/-! x.playsGreedy -/
set_option maxHeartbeats 4000000 in
theorem kx_playsGreedy_j96 {Z : AZ} {G : AG} {L : Nat → Nat} {P : St → Prop} (K : AK Z G cX1_playsGreedy RX1 10 (rmH 63)) (E : AEv Z cX1_playsGreedy (xW G L) 0 0 P) (s1 : Int32) (s2 : Int32) (σ : St) (h : wx_playsGreedy_j96 P  s1 s2 σ) : AX Z 0 0 96 [(0, .ref (L 0))] [.int s2, .int s1, .ref (L 25)] (xW G L σ) := by
  unfold wx_playsGreedy_j96 at h
  refine xs_greedyLength K h.1 dX1_playsGreedy_96 ?_
  replace h := h.2
  exact E _ _ _ dX1_playsGreedy_97 h
set_option maxHeartbeats 4000000 in
theorem kx_playsGreedy_j71 {Z : AZ} {G : AG} {L : Nat → Nat} {P : St → Prop} (K : AK Z G cX1_playsGreedy RX1 10 (rmH 63)) (E : AEv Z cX1_playsGreedy (xW G L) 0 0 P) (v4 : Int32) (v5 : Int32) (v6 : Int32) (s1 : Int32) (s2 : Int32) (σ : St) (h : wx_playsGreedy_j71 P  v4 v5 v6 s1 s2 σ) : AX Z 0 0 71 [(0, .ref (L 0)), (4, .int v4), (5, .int v5), (6, .int v6)] [.int s2, .int s1, .ref (L 24)] (xW G L σ) := by
  unfold wx_playsGreedy_j71 at h
  refine xs_greedyValue K h.1 dX1_playsGreedy_71 ?_
  replace h := h.2
  refine ax_aload_n K 0 rfl dX1_playsGreedy_72 ?_
  refine xg_greedyLength K dX1_playsGreedy_73 ?_
  refine ax_iload K 1 rfl dX1_playsGreedy_76 ?_
  refine ax_iload K 2 rfl dX1_playsGreedy_78 ?_
  refine ax_if_ge (tgt := 87) K dX1_playsGreedy_80 (by decide) (fun c80 => ?_) (fun c80 => ?_)
  · have h := ax_it h c80
    refine ax_iconst (v := (1 : Int32)) K (by decide) dX1_playsGreedy_87 ?_
    refine ax_aload_n K 0 rfl dX1_playsGreedy_88 ?_
    refine xg_greedyLength K dX1_playsGreedy_89 ?_
    refine ax_iload K 3 rfl dX1_playsGreedy_92 ?_
    refine xl_greedyLength K h.1 dX1_playsGreedy_94 ?_
    replace h := h.2
    refine ax_iadd K dX1_playsGreedy_95 ?_
    exact ax_sub [0] rfl (kx_playsGreedy_j96 K E  v4 ((1 : Int32) + (xA_greedyLength (xU_greedyValue σ s1 s2) (v6).toNatClampNeg)) (xU_greedyValue σ s1 s2) h)
  · have h := ax_ie h c80
    refine ax_iconst (v := (0 : Int32)) K (by decide) dX1_playsGreedy_83 ?_
    refine ax_goto (tgt := 96) K dX1_playsGreedy_84 (by decide) ?_
    exact ax_sub [0] rfl (kx_playsGreedy_j96 K E  v4 (0 : Int32) (xU_greedyValue σ s1 s2) h)
set_option maxHeartbeats 4000000 in
theorem kx_playsGreedy_j47 {Z : AZ} {G : AG} {L : Nat → Nat} {P : St → Prop} (K : AK Z G cX1_playsGreedy RX1 10 (rmH 63)) (E : AEv Z cX1_playsGreedy (xW G L) 0 0 P) (v4 : Int32) (v5 : Int32) (s0 : Int32) (σ : St) (h : wx_playsGreedy_j47 P  v4 v5 s0 σ) : AX Z 0 0 47 [(0, .ref (L 0)), (4, .int v4), (5, .int v5)] [.int s0] (xW G L σ) := by
  unfold wx_playsGreedy_j47 at h
  refine ax_istore (lv' := [(6, .int s0), (0, .ref (L 0)), (4, .int v4), (5, .int v5)]) K dX1_playsGreedy_47 (by decide) rfl ?_
  refine ax_aload_n K 1 rfl dX1_playsGreedy_49 ?_
  refine xg_greedyValue K dX1_playsGreedy_50 ?_
  refine ax_iload K 2 rfl dX1_playsGreedy_53 ?_
  refine ax_iload K 3 rfl dX1_playsGreedy_55 ?_
  refine ax_if_ge (tgt := 64) K dX1_playsGreedy_57 (by decide) (fun c57 => ?_) (fun c57 => ?_)
  · have h := ax_it h c57
    refine ax_aload_n K 1 rfl dX1_playsGreedy_64 ?_
    refine xg_greedyValue K dX1_playsGreedy_65 ?_
    refine ax_iload K 0 rfl dX1_playsGreedy_68 ?_
    refine xl_greedyValue K h.1 dX1_playsGreedy_70 ?_
    replace h := h.2
    exact ax_sub [1, 2, 3, 0] rfl (kx_playsGreedy_j71 K E  v4 v5 s0 v4 (xA_greedyValue σ (s0).toNatClampNeg) σ h)
  · have h := ax_ie h c57
    refine ax_iconst (v := (1 : Int32)) K (by decide) dX1_playsGreedy_60 ?_
    refine ax_goto (tgt := 71) K dX1_playsGreedy_61 (by decide) ?_
    exact ax_sub [1, 2, 3, 0] rfl (kx_playsGreedy_j71 K E  v4 v5 s0 v4 (1 : Int32) σ h)
set_option maxHeartbeats 4000000 in
theorem kx_playsGreedy_j219 {Z : AZ} {G : AG} {L : Nat → Nat} {P : St → Prop} (K : AK Z G cX1_playsGreedy RX1 10 (rmH 63)) (E : AEv Z cX1_playsGreedy (xW G L) 0 0 P) {K107 : Int32 → Int32 → Int32 → Int32 → Int32 → Int32 → St → Prop} (hK107 : ∀ (v1 : Int32) (v2 : Int32) (v4 : Int32) (v5 : Int32) (v6 : Int32) (v7 : Int32) (σ : St), K107 v1 v2 v4 v5 v6 v7 σ → AX Z 0 0 107 [(0, .ref (L 0)), (1, .int v1), (2, .int v2), (4, .int v4), (5, .int v5), (6, .int v6), (7, .int v7)] [] (xW G L σ)) (v1 : Int32) (v2 : Int32) (v4 : Int32) (v5 : Int32) (v6 : Int32) (v7 : Int32) (σ : St) (h : wx_playsGreedy_j219 P K107 v1 v2 v4 v5 v6 v7 σ) : AX Z 0 0 219 [(0, .ref (L 0)), (1, .int v1), (2, .int v2), (4, .int v4), (5, .int v5), (6, .int v6), (7, .int v7)] [] (xW G L σ) := by
  unfold wx_playsGreedy_j219 at h
  refine ax_iinc (lv' := [(7, .int (v7 + (1 : Int32))), (0, .ref (L 0)), (1, .int v1), (2, .int v2), (4, .int v4), (5, .int v5), (6, .int v6)]) (v := (v7 + (1 : Int32))) K 6 dX1_playsGreedy_219 rfl (by rfl) (by decide) rfl ?_
  refine ax_goto (tgt := 107) K dX1_playsGreedy_222 (by decide) ?_
  exact ax_sub [1, 2, 3, 4, 5, 6, 0] rfl (hK107 v1 v2 v4 v5 v6 (v7 + (1 : Int32)) σ h)
set_option maxHeartbeats 4000000 in
theorem kx_playsGreedy_j205 {Z : AZ} {G : AG} {L : Nat → Nat} {P : St → Prop} (K : AK Z G cX1_playsGreedy RX1 10 (rmH 63)) (E : AEv Z cX1_playsGreedy (xW G L) 0 0 P) {K107 : Int32 → Int32 → Int32 → Int32 → Int32 → Int32 → St → Prop} (hK107 : ∀ (v1 : Int32) (v2 : Int32) (v4 : Int32) (v5 : Int32) (v6 : Int32) (v7 : Int32) (σ : St), K107 v1 v2 v4 v5 v6 v7 σ → AX Z 0 0 107 [(0, .ref (L 0)), (1, .int v1), (2, .int v2), (4, .int v4), (5, .int v5), (6, .int v6), (7, .int v7)] [] (xW G L σ)) (v1 : Int32) (v2 : Int32) (v4 : Int32) (v5 : Int32) (v6 : Int32) (v7 : Int32) (v8 : Int32) (σ : St) (h : wx_playsGreedy_j205 P K107 v1 v2 v4 v5 v6 v7 v8 σ) : AX Z 0 0 205 [(0, .ref (L 0)), (1, .int v1), (2, .int v2), (4, .int v4), (5, .int v5), (6, .int v6), (7, .int v7), (8, .int v8)] [] (xW G L σ) := by
  unfold wx_playsGreedy_j205 at h
  refine ax_iload K 4 rfl dX1_playsGreedy_205 ?_
  refine ax_aload_n K 0 rfl dX1_playsGreedy_207 ?_
  refine xg_greedyValue K dX1_playsGreedy_208 ?_
  refine ax_iload K 7 rfl dX1_playsGreedy_211 ?_
  refine xl_greedyValue K h.1 dX1_playsGreedy_213 ?_
  replace h := h.2
  refine rx_max K (by decide) (Nat.le_of_ble_eq_true rfl) dX1_playsGreedy_214 ?_
  refine ax_istore (lv' := [(5, .int (jmax v5 (xA_greedyValue σ (v8).toNatClampNeg))), (0, .ref (L 0)), (1, .int v1), (2, .int v2), (4, .int v4), (6, .int v6), (7, .int v7), (8, .int v8)]) K dX1_playsGreedy_217 (by decide) rfl ?_
  exact ax_sub [1, 2, 3, 4, 0, 5, 6] rfl (kx_playsGreedy_j219 K E hK107 v1 v2 v4 (jmax v5 (xA_greedyValue σ (v8).toNatClampNeg)) v6 v7 σ h)
set_option maxHeartbeats 4000000 in
theorem kx_playsGreedy_j191 {Z : AZ} {G : AG} {L : Nat → Nat} {P : St → Prop} (K : AK Z G cX1_playsGreedy RX1 10 (rmH 63)) (E : AEv Z cX1_playsGreedy (xW G L) 0 0 P) {K107 : Int32 → Int32 → Int32 → Int32 → Int32 → Int32 → St → Prop} (hK107 : ∀ (v1 : Int32) (v2 : Int32) (v4 : Int32) (v5 : Int32) (v6 : Int32) (v7 : Int32) (σ : St), K107 v1 v2 v4 v5 v6 v7 σ → AX Z 0 0 107 [(0, .ref (L 0)), (1, .int v1), (2, .int v2), (4, .int v4), (5, .int v5), (6, .int v6), (7, .int v7)] [] (xW G L σ)) (v1 : Int32) (v2 : Int32) (v4 : Int32) (v5 : Int32) (v7 : Int32) (v8 : Int32) (s0 : Int32) (σ : St) (h : wx_playsGreedy_j191 P K107 v1 v2 v4 v5 v7 v8 s0 σ) : AX Z 0 0 191 [(0, .ref (L 0)), (1, .int v1), (2, .int v2), (4, .int v4), (5, .int v5), (7, .int v7), (8, .int v8)] [.int s0] (xW G L σ) := by
  unfold wx_playsGreedy_j191 at h
  refine ax_istore (lv' := [(6, .int s0), (0, .ref (L 0)), (1, .int v1), (2, .int v2), (4, .int v4), (5, .int v5), (7, .int v7), (8, .int v8)]) K dX1_playsGreedy_191 (by decide) rfl ?_
  refine ax_goto (tgt := 205) K dX1_playsGreedy_193 (by decide) ?_
  exact ax_sub [1, 2, 3, 4, 5, 0, 6, 7] rfl (kx_playsGreedy_j205 K E hK107 v1 v2 v4 v5 s0 v7 v8 σ h)
set_option maxHeartbeats 4000000 in
theorem kx_playsGreedy_l107 {Z : AZ} {G : AG} {L : Nat → Nat} {P : St → Prop} (K : AK Z G cX1_playsGreedy RX1 10 (rmH 63)) (E : AEv Z cX1_playsGreedy (xW G L) 0 0 P) : ∀ (n : Nat) (v1 : Int32) (v2 : Int32) (v4 : Int32) (v5 : Int32) (v6 : Int32) (v7 : Int32) (σ : St), wx_playsGreedy_l107 P  n v1 v2 v4 v5 v6 v7 σ → AX Z 0 0 107 [(0, .ref (L 0)), (1, .int v1), (2, .int v2), (4, .int v4), (5, .int v5), (6, .int v6), (7, .int v7)] [] (xW G L σ) := by
  intro n
  induction n with
  | zero => intro v1 v2 v4 v5 v6 v7 σ h; exact False.elim h
  | succ n ih =>
    intro v1 v2 v4 v5 v6 v7 σ h
    rw [wx_playsGreedy_l107_s] at h
    refine ax_iload K 6 rfl dX1_playsGreedy_107 ?_
    refine ax_aload_n K 0 rfl dX1_playsGreedy_109 ?_
    refine xg_dishes K dX1_playsGreedy_110 ?_
    refine ax_icmp_ge (tgt := 225) K dX1_playsGreedy_113 (by decide) (fun c113 => ?_) (fun c113 => ?_)
    · have h := ax_it h c113
      refine ax_aload_n K 0 rfl dX1_playsGreedy_225 ?_
      refine xg_greedyValue K dX1_playsGreedy_226 ?_
      refine ax_iload K 3 rfl dX1_playsGreedy_229 ?_
      refine ax_iload K 4 rfl dX1_playsGreedy_231 ?_
      refine xs_greedyValue K h.1 dX1_playsGreedy_233 ?_
      replace h := h.2
      refine ax_aload_n K 0 rfl dX1_playsGreedy_234 ?_
      refine xg_greedyLength K dX1_playsGreedy_235 ?_
      refine ax_iload K 3 rfl dX1_playsGreedy_238 ?_
      refine ax_iload K 5 rfl dX1_playsGreedy_240 ?_
      refine xs_greedyLength K h.1 dX1_playsGreedy_242 ?_
      replace h := h.2
      exact E _ _ _ dX1_playsGreedy_243 h
    · have h := ax_ie h c113
      refine ax_aload_n K 0 rfl dX1_playsGreedy_116 ?_
      refine ax_iload_n K 1 rfl dX1_playsGreedy_117 ?_
      refine ax_iload_n K 2 rfl dX1_playsGreedy_118 ?_
      refine ax_iload K 6 rfl dX1_playsGreedy_119 ?_
      refine rx_goesOn K (by decide) dX1_playsGreedy_121 (Nat.le_of_ble_eq_true rfl) h (fun r121 σ121 h => ?_)
      refine ax_if_ne (tgt := 130) K dX1_playsGreedy_124 (by decide) (fun c124 => ?_) (fun c124 => ?_)
      · have h := ax_ie h c124
        refine ax_iconst (v := (2 : Int32)) K (by decide) dX1_playsGreedy_130 ?_
        refine ax_iload_n K 1 rfl dX1_playsGreedy_131 ?_
        refine ax_iconst (v := (1 : Int32)) K (by decide) dX1_playsGreedy_132 ?_
        refine ax_iload K 6 rfl dX1_playsGreedy_133 ?_
        refine ax_ishl K dX1_playsGreedy_135 ?_
        refine ax_ior K dX1_playsGreedy_136 ?_
        refine ax_iload K 6 rfl dX1_playsGreedy_137 ?_
        refine rx_stateOf K (by decide) dX1_playsGreedy_139 (Nat.le_of_ble_eq_true rfl) h (fun r139 h => ?_)
        refine ax_imul K dX1_playsGreedy_142 ?_
        refine ax_istore (lv' := [(8, .int ((2 : Int32) * r139)), (0, .ref (L 0)), (1, .int v1), (2, .int v2), (4, .int v4), (5, .int v5), (6, .int v6), (7, .int v7)]) K dX1_playsGreedy_143 (by decide) rfl ?_
        refine ax_iconst (v := (1 : Int32)) K (by decide) dX1_playsGreedy_145 ?_
        refine ax_aload_n K 1 rfl dX1_playsGreedy_146 ?_
        refine xg_greedyLength K dX1_playsGreedy_147 ?_
        refine ax_iload K 0 rfl dX1_playsGreedy_150 ?_
        refine xl_greedyLength K h.1 dX1_playsGreedy_152 ?_
        replace h := h.2
        refine ax_iadd K dX1_playsGreedy_153 ?_
        refine ax_istore (lv' := [(9, .int ((1 : Int32) + (xA_greedyLength σ121 (((2 : Int32) * r139)).toNatClampNeg))), (8, .int ((2 : Int32) * r139)), (0, .ref (L 0)), (1, .int v1), (2, .int v2), (4, .int v4), (5, .int v5), (6, .int v6), (7, .int v7)]) K dX1_playsGreedy_154 (by decide) rfl ?_
        refine ax_aload_n K 2 rfl dX1_playsGreedy_156 ?_
        refine xg_greedyValue K dX1_playsGreedy_157 ?_
        refine ax_iload K 1 rfl dX1_playsGreedy_160 ?_
        refine xl_greedyValue K h.1 dX1_playsGreedy_162 ?_
        replace h := h.2
        refine ax_iload K 6 rfl dX1_playsGreedy_163 ?_
        refine ax_icmp_ne (tgt := 196) K dX1_playsGreedy_165 (by decide) (fun c165 => ?_) (fun c165 => ?_)
        · have h := ax_ie h c165
          refine ax_iload K 6 rfl dX1_playsGreedy_196 ?_
          refine ax_if_ne (tgt := 205) K dX1_playsGreedy_198 (by decide) (fun c198 => ?_) (fun c198 => ?_)
          · have h := ax_ie h c198
            exact ax_sub [2, 3, 4, 5, 6, 7, 8, 1] rfl (kx_playsGreedy_j205 K E ih v1 v2 v4 v5 v6 v7 ((2 : Int32) * r139) σ121 h)
          · have h := ax_it h c198
            refine ax_iload K 0 rfl dX1_playsGreedy_201 ?_
            refine ax_istore (lv' := [(6, .int ((1 : Int32) + (xA_greedyLength σ121 (((2 : Int32) * r139)).toNatClampNeg))), (9, .int ((1 : Int32) + (xA_greedyLength σ121 (((2 : Int32) * r139)).toNatClampNeg))), (8, .int ((2 : Int32) * r139)), (0, .ref (L 0)), (1, .int v1), (2, .int v2), (4, .int v4), (5, .int v5), (7, .int v7)]) K dX1_playsGreedy_203 (by decide) rfl ?_
            exact ax_sub [3, 4, 5, 6, 7, 0, 8, 2] rfl (kx_playsGreedy_j205 K E ih v1 v2 v4 v5 ((1 : Int32) + (xA_greedyLength σ121 (((2 : Int32) * r139)).toNatClampNeg)) v7 ((2 : Int32) * r139) σ121 h)
        · have h := ax_it h c165
          refine ax_iload K 6 rfl dX1_playsGreedy_168 ?_
          refine ax_iconst (v := (1 : Int32)) K (by decide) dX1_playsGreedy_170 ?_
          refine ax_icmp_ne (tgt := 184) K dX1_playsGreedy_171 (by decide) (fun c171 => ?_) (fun c171 => ?_)
          · have h := ax_ie h c171
            refine ax_iload K 7 rfl dX1_playsGreedy_184 ?_
            refine ax_iload K 0 rfl dX1_playsGreedy_186 ?_
            refine rx_max K (by decide) (Nat.le_of_ble_eq_true rfl) dX1_playsGreedy_188 ?_
            exact ax_sub [2, 3, 4, 5, 6, 8, 1] rfl (kx_playsGreedy_j191 K E ih v1 v2 v4 v5 v7 ((2 : Int32) * r139) (jmax v6 ((1 : Int32) + (xA_greedyLength σ121 (((2 : Int32) * r139)).toNatClampNeg))) σ121 h)
          · have h := ax_it h c171
            refine ax_iload K 7 rfl dX1_playsGreedy_174 ?_
            refine ax_iload K 0 rfl dX1_playsGreedy_176 ?_
            refine rx_min K (by decide) (Nat.le_of_ble_eq_true rfl) dX1_playsGreedy_178 ?_
            refine ax_goto (tgt := 191) K dX1_playsGreedy_181 (by decide) ?_
            exact ax_sub [2, 3, 4, 5, 6, 8, 1] rfl (kx_playsGreedy_j191 K E ih v1 v2 v4 v5 v7 ((2 : Int32) * r139) (jmin v6 ((1 : Int32) + (xA_greedyLength σ121 (((2 : Int32) * r139)).toNatClampNeg))) σ121 h)
      · have h := ax_it h c124
        refine ax_goto (tgt := 219) K dX1_playsGreedy_127 (by decide) ?_
        exact ax_sub [0, 1, 2, 3, 4, 5, 6] rfl (kx_playsGreedy_j219 K E ih v1 v2 v4 v5 v6 v7 σ121 h)
set_option maxHeartbeats 4000000 in
theorem mx_playsGreedy {l : Launch} {G : AG} {L : Nat → Nat} {σ : St} {v1 : Int32} {v2 : Int32} {v3 : Int32} {P : St → Prop} (h : wx_playsGreedy σ v1 v2 v3 P) : CtW l G yX1_playsGreedy cX1_playsGreedy 10 none (rmH 63) [.ref (L 0), .int v1, .int v2, .int v3] (xW G L) σ (pV P) := by
  refine CtW.ofV (by decide) (Nat.le_of_ble_eq_true rfl) fun Z _ K E => ?_
  unfold wx_playsGreedy at h
  show AX Z 0 0 0 [(0, .ref (L 0)), (1, .int v1), (2, .int v2), (3, .int v3)] [] (xW G L σ)
  refine ax_iconst (v := (2 : Int32)) K (by decide) dX1_playsGreedy_0 ?_
  refine ax_iload_n K 1 rfl dX1_playsGreedy_1 ?_
  refine ax_iload_n K 2 rfl dX1_playsGreedy_2 ?_
  refine rx_stateOf K (by decide) dX1_playsGreedy_3 (Nat.le_of_ble_eq_true rfl) h (fun r3 h => ?_)
  refine ax_imul K dX1_playsGreedy_6 ?_
  refine ax_iload_n K 3 rfl dX1_playsGreedy_7 ?_
  refine ax_iadd K dX1_playsGreedy_8 ?_
  refine ax_istore (lv' := [(4, .int (((2 : Int32) * r3) + v3)), (0, .ref (L 0)), (1, .int v1), (2, .int v2), (3, .int v3)]) K dX1_playsGreedy_9 (by decide) rfl ?_
  refine ax_iload_n K 4 rfl dX1_playsGreedy_11 ?_
  refine ax_if_ne (tgt := 98) K dX1_playsGreedy_12 (by decide) (fun c12 => ?_) (fun c12 => ?_)
  · have h := ax_ie h c12
    refine ax_iconst (v := (0 : Int32)) K (by decide) dX1_playsGreedy_98 ?_
    refine ax_istore (lv' := [(5, .int (0 : Int32)), (4, .int (((2 : Int32) * r3) + v3)), (0, .ref (L 0)), (1, .int v1), (2, .int v2), (3, .int v3)]) K dX1_playsGreedy_99 (by decide) rfl ?_
    refine ax_iconst (v := (0 : Int32)) K (by decide) dX1_playsGreedy_101 ?_
    refine ax_istore (lv' := [(6, .int (0 : Int32)), (5, .int (0 : Int32)), (4, .int (((2 : Int32) * r3) + v3)), (0, .ref (L 0)), (1, .int v1), (2, .int v2), (3, .int v3)]) K dX1_playsGreedy_102 (by decide) rfl ?_
    refine ax_iconst (v := (0 : Int32)) K (by decide) dX1_playsGreedy_104 ?_
    refine ax_istore (lv' := [(7, .int (0 : Int32)), (6, .int (0 : Int32)), (5, .int (0 : Int32)), (4, .int (((2 : Int32) * r3) + v3)), (0, .ref (L 0)), (1, .int v1), (2, .int v2), (3, .int v3)]) K dX1_playsGreedy_105 (by decide) rfl ?_
    exact ax_sub [4, 5, 6, 3, 2, 1, 0] rfl (h.elim fun n107 h => kx_playsGreedy_l107 K E  n107 v1 v2 (((2 : Int32) * r3) + v3) (0 : Int32) (0 : Int32) (0 : Int32) σ h)
  · have h := ax_it h c12
    refine ax_aload_n K 1 rfl dX1_playsGreedy_15 ?_
    refine ax_iload_n K 2 rfl dX1_playsGreedy_16 ?_
    refine ax_iload_n K 3 rfl dX1_playsGreedy_17 ?_
    refine rx_gladdest K (by decide) dX1_playsGreedy_18 (Nat.le_of_ble_eq_true rfl) h (fun r18 σ18 h => ?_)
    refine ax_istore (lv' := [(5, .int r18), (4, .int (((2 : Int32) * r3) + v3)), (0, .ref (L 0)), (1, .int v1), (2, .int v2), (3, .int v3)]) K dX1_playsGreedy_21 (by decide) rfl ?_
    refine ax_iload K 0 rfl dX1_playsGreedy_23 ?_
    refine ax_if_ge (tgt := 32) K dX1_playsGreedy_25 (by decide) (fun c25 => ?_) (fun c25 => ?_)
    · have h := ax_it h c25
      refine ax_iconst (v := (2 : Int32)) K (by decide) dX1_playsGreedy_32 ?_
      refine ax_iload_n K 3 rfl dX1_playsGreedy_33 ?_
      refine ax_iconst (v := (1 : Int32)) K (by decide) dX1_playsGreedy_34 ?_
      refine ax_iload K 0 rfl dX1_playsGreedy_35 ?_
      refine ax_ishl K dX1_playsGreedy_37 ?_
      refine ax_ior K dX1_playsGreedy_38 ?_
      refine ax_iload K 0 rfl dX1_playsGreedy_39 ?_
      refine rx_stateOf K (by decide) dX1_playsGreedy_41 (Nat.le_of_ble_eq_true rfl) h (fun r41 h => ?_)
      refine ax_imul K dX1_playsGreedy_44 ?_
      refine ax_iconst (v := (1 : Int32)) K (by decide) dX1_playsGreedy_45 ?_
      refine ax_iadd K dX1_playsGreedy_46 ?_
      exact ax_sub [2, 1, 0] rfl (kx_playsGreedy_j47 K E  (((2 : Int32) * r3) + v3) r18 (((2 : Int32) * r41) + (1 : Int32)) σ18 h)
    · have h := ax_ie h c25
      refine ax_iconst (v := (0 : Int32)) K (by decide) dX1_playsGreedy_28 ?_
      refine ax_goto (tgt := 47) K dX1_playsGreedy_29 (by decide) ?_
      exact ax_sub [2, 1, 0] rfl (kx_playsGreedy_j47 K E  (((2 : Int32) * r3) + v3) r18 (0 : Int32) σ18 h)
theorem rx_playsGreedy {Z : AZ} {G : AG} {cc : ByteArray} {mL hh pc : Nat} {lv : List (Nat × Value)} {rest : List Value} {L : Nat → Nat} {σ : St} (K : AK Z G cc RX1 mL (rmH hh)) (hlt : 63 < hh) (d : decode cc pc = .ok (.invokevirtual 414, 3)) (hrest : (rest.map fun v => v.category).sum ≤ 8) {v1 : Int32} {v2 : Int32} {v3 : Int32} {P : St → Prop} (h : sx_playsGreedy σ v1 v2 v3 P) (kk : ∀ (σ' : St), P σ' → AX Z 0 0 (pc + 3) lv (rest) (xW G L σ')) : AX Z 0 0 pc lv (.int v3 :: .int v2 :: .int v1 :: .ref (L 0) :: rest) (xW G L σ) :=
  ax_callV (N0 := 3) (As := [.int v1, .int v2, .int v3]) K (mx_playsGreedy (sx_playsGreedy_ok h)) q826 q828 qs46 q117 q829 ⟨rfl, by decide, by decide, by decide⟩ rfl ⟨by show 63 + 1 + 1 ≤ hh + 1; omega, by show 8 + (10 + 11) + 60 * (63 + 1) ≤ 60 * (hh + 1); omega⟩ ⟨Nat.zero_le _, Nat.zero_le _⟩ rfl rfl rfl hrest d (fun r σ' hp => by obtain ⟨rfl, hp⟩ := hp; exact kk σ' hp)
/-! x.greedy -/
set_option maxHeartbeats 4000000 in
theorem kx_greedy_j53 {Z : AZ} {G : AG} {L : Nat → Nat} {P : Int32 → St → Prop} (K : AK Z G cX1_greedy RX1 3 (rmH 64)) (E : AEi Z cX1_greedy .int (xW G L) 0 0 P) {K19 : Int32 → Int32 → St → Prop} (hK19 : ∀ (v1 : Int32) (v2 : Int32) (σ : St), K19 v1 v2 σ → AX Z 0 0 19 [(0, .ref (L 0)), (1, .int v1), (2, .int v2)] [] (xW G L σ)) (v1 : Int32) (v2 : Int32) (σ : St) (h : wx_greedy_j53 P K19 v1 v2 σ) : AX Z 0 0 53 [(0, .ref (L 0)), (1, .int v1), (2, .int v2)] [] (xW G L σ) := by
  unfold wx_greedy_j53 at h
  refine ax_iinc (lv' := [(2, .int (v2 + (1 : Int32))), (0, .ref (L 0)), (1, .int v1)]) (v := (v2 + (1 : Int32))) K 2 dX1_greedy_53 rfl (by rfl) (by decide) rfl ?_
  refine ax_goto (tgt := 19) K dX1_greedy_56 (by decide) ?_
  exact ax_sub [1, 2, 0] rfl (hK19 v1 (v2 + (1 : Int32)) σ h)
set_option maxHeartbeats 4000000 in
theorem kx_greedy_l19 {Z : AZ} {G : AG} {L : Nat → Nat} {P : Int32 → St → Prop} (K : AK Z G cX1_greedy RX1 3 (rmH 64)) (E : AEi Z cX1_greedy .int (xW G L) 0 0 P) {K13 : Int32 → St → Prop} (hK13 : ∀ (v1 : Int32) (σ : St), K13 v1 σ → AX Z 0 0 13 [(0, .ref (L 0)), (1, .int v1)] [] (xW G L σ)) : ∀ (n : Nat) (v1 : Int32) (v2 : Int32) (σ : St), wx_greedy_l19 P K13 n v1 v2 σ → AX Z 0 0 19 [(0, .ref (L 0)), (1, .int v1), (2, .int v2)] [] (xW G L σ) := by
  intro n
  induction n with
  | zero => intro v1 v2 σ h; exact False.elim h
  | succ n ih =>
    intro v1 v2 σ h
    rw [wx_greedy_l19_s] at h
    refine ax_iload_n K 2 rfl dX1_greedy_19 ?_
    refine ax_aload_n K 0 rfl dX1_greedy_20 ?_
    refine xg_dishes K dX1_greedy_21 ?_
    refine ax_icmp_ge (tgt := 59) K dX1_greedy_24 (by decide) (fun c24 => ?_) (fun c24 => ?_)
    · have h := ax_it h c24
      refine ax_iinc (lv' := [(1, .int (v1 + (-1 : Int32))), (0, .ref (L 0)), (2, .int v2)]) (v := (v1 + (-1 : Int32))) K 1 dX1_greedy_59 rfl (by rfl) (by decide) rfl ?_
      refine ax_goto (tgt := 13) K dX1_greedy_62 (by decide) ?_
      exact ax_sub [1, 0] rfl (hK13 (v1 + (-1 : Int32)) σ h)
    · have h := ax_ie h c24
      refine ax_aload_n K 0 rfl dX1_greedy_27 ?_
      refine ax_iload_n K 1 rfl dX1_greedy_28 ?_
      refine ax_iload_n K 2 rfl dX1_greedy_29 ?_
      refine rx_isLastOf K (by decide) dX1_greedy_30 (Nat.le_of_ble_eq_true rfl) h (fun r30 σ30 h => ?_)
      refine ax_if_ne (tgt := 39) K dX1_greedy_33 (by decide) (fun c33 => ?_) (fun c33 => ?_)
      · have h := ax_ie h c33
        refine ax_aload_n K 0 rfl dX1_greedy_39 ?_
        refine ax_iload_n K 1 rfl dX1_greedy_40 ?_
        refine ax_iload_n K 2 rfl dX1_greedy_41 ?_
        refine ax_iconst (v := (0 : Int32)) K (by decide) dX1_greedy_42 ?_
        refine rx_playsGreedy K (by decide) dX1_greedy_43 (Nat.le_of_ble_eq_true rfl) h (fun σ43 h => ?_)
        refine ax_aload_n K 0 rfl dX1_greedy_46 ?_
        refine ax_iload_n K 1 rfl dX1_greedy_47 ?_
        refine ax_iload_n K 2 rfl dX1_greedy_48 ?_
        refine ax_iconst (v := (1 : Int32)) K (by decide) dX1_greedy_49 ?_
        refine rx_playsGreedy K (by decide) dX1_greedy_50 (Nat.le_of_ble_eq_true rfl) h (fun σ50 h => ?_)
        exact ax_sub [0, 1, 2] rfl (kx_greedy_j53 K E ih v1 v2 σ50 h)
      · have h := ax_it h c33
        refine ax_goto (tgt := 53) K dX1_greedy_36 (by decide) ?_
        exact ax_sub [0, 1, 2] rfl (kx_greedy_j53 K E ih v1 v2 σ30 h)
set_option maxHeartbeats 4000000 in
theorem kx_greedy_l13 {Z : AZ} {G : AG} {L : Nat → Nat} {P : Int32 → St → Prop} (K : AK Z G cX1_greedy RX1 3 (rmH 64)) (E : AEi Z cX1_greedy .int (xW G L) 0 0 P) : ∀ (n : Nat) (v1 : Int32) (σ : St), wx_greedy_l13 P  n v1 σ → AX Z 0 0 13 [(0, .ref (L 0)), (1, .int v1)] [] (xW G L σ) := by
  intro n
  induction n with
  | zero => intro v1 σ h; exact False.elim h
  | succ n ih =>
    intro v1 σ h
    rw [wx_greedy_l13_s] at h
    refine ax_iload_n K 1 rfl dX1_greedy_13 ?_
    refine ax_if_lt (tgt := 65) K dX1_greedy_14 (by decide) (fun c14 => ?_) (fun c14 => ?_)
    · have h := ax_it h c14
      refine ax_iconst (v := (2 : Int32)) K (by decide) dX1_greedy_65 ?_
      refine ax_aload_n K 0 rfl dX1_greedy_66 ?_
      refine rx_setNow K (by decide) dX1_greedy_67 (Nat.le_of_ble_eq_true rfl) h (fun r67 σ67 h => ?_)
      refine ax_aload_n K 0 rfl dX1_greedy_70 ?_
      refine rx_lastNow K (by decide) dX1_greedy_71 (Nat.le_of_ble_eq_true rfl) h (fun r71 σ71 h => ?_)
      refine rx_stateOf K (by decide) dX1_greedy_74 (Nat.le_of_ble_eq_true rfl) h (fun r74 h => ?_)
      refine ax_imul K dX1_greedy_77 ?_
      refine ax_istore_n (lv' := [(1, .int ((2 : Int32) * r74)), (0, .ref (L 0))]) K dX1_greedy_78 (by decide) rfl ?_
      refine ax_aload_n K 1 rfl dX1_greedy_79 ?_
      refine ax_iconst (v := (0 : Int32)) K (by decide) dX1_greedy_80 ?_
      refine xp_rowMany K dX1_greedy_81 ?_
      refine ax_aload_n K 1 rfl dX1_greedy_84 ?_
      refine ax_aload_n K 1 rfl dX1_greedy_85 ?_
      refine xg_greedyLength K dX1_greedy_86 ?_
      refine ax_iload_n K 0 rfl dX1_greedy_89 ?_
      refine xl_greedyLength K h.1 dX1_greedy_90 ?_
      replace h := h.2
      refine rx_tells K (by decide) dX1_greedy_91 (Nat.le_of_ble_eq_true rfl) h (fun σ91 h => ?_)
      refine ax_aload_n K 1 rfl dX1_greedy_94 ?_
      refine xg_greedyValue K dX1_greedy_95 ?_
      refine ax_iload_n K 0 rfl dX1_greedy_98 ?_
      refine xl_greedyValue K h.1 dX1_greedy_99 ?_
      replace h := h.2
      exact E _ _ _ _ dX1_greedy_100 rfl h
    · have h := ax_ie h c14
      refine ax_iconst (v := (-1 : Int32)) K (by decide) dX1_greedy_17 ?_
      refine ax_istore_n (lv' := [(2, .int (-1 : Int32)), (0, .ref (L 0)), (1, .int v1)]) K dX1_greedy_18 (by decide) rfl ?_
      exact ax_sub [1, 2, 0] rfl (h.elim fun n19 h => kx_greedy_l19 K E ih n19 v1 (-1 : Int32) σ h)
set_option maxHeartbeats 4000000 in
theorem mx_greedy {l : Launch} {G : AG} {L : Nat → Nat} {σ : St} {P : Int32 → St → Prop} (h : wx_greedy σ P) : CtW l G yX1_greedy cX1_greedy 3 (some .int) (rmH 64) [.ref (L 0)] (xW G L) σ (pI P) := by
  refine CtW.ofI (by decide) (Nat.le_of_ble_eq_true rfl) fun Z _ K E => ?_
  unfold wx_greedy at h
  show AX Z 0 0 0 [(0, .ref (L 0))] [] (xW G L σ)
  refine ax_aload_n K 0 rfl dX1_greedy_0 ?_
  refine rx_laysOut K (by decide) dX1_greedy_1 (Nat.le_of_ble_eq_true rfl) h (fun σ1 h => ?_)
  refine ax_iconst (v := (1 : Int32)) K (by decide) dX1_greedy_4 ?_
  refine ax_aload_n K 0 rfl dX1_greedy_5 ?_
  refine xg_dishes K dX1_greedy_6 ?_
  refine ax_ishl K dX1_greedy_9 ?_
  refine ax_iconst (v := (1 : Int32)) K (by decide) dX1_greedy_10 ?_
  refine ax_isub K dX1_greedy_11 ?_
  refine ax_istore_n (lv' := [(1, .int (((1 : Int32) <<< ((xI_dishes σ1) &&& 31)) - (1 : Int32))), (0, .ref (L 0))]) K dX1_greedy_12 (by decide) rfl ?_
  exact ax_sub [1, 0] rfl (h.elim fun n13 h => kx_greedy_l13 K E  n13 (((1 : Int32) <<< ((xI_dishes σ1) &&& 31)) - (1 : Int32)) σ1 h)

