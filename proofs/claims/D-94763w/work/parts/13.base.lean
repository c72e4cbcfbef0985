/-! PLAIN NAMES for what single instructions and the JDK's small methods answer -/
abbrev nzB (v : Int32) : Prop := narrow .boolean (.int v) = .int v
def σ00 : St := (fun _ => 0, fun _ _ => 0, fun _ _ => 0, fun _ => .null, [])
abbrev jmax (x y : Int32) : Int32 := if x < y then y else x
abbrev jmin (x y : Int32) : Int32 := if y < x then y else x
abbrev jushr (x y : Int32) : Int32 := (x.toUInt32 >>> (y.toUInt32 &&& Int32.toUInt32 31)).toInt32
abbrev jabs (x : Int32) : Int32 := if 0 ≤ x then x else 0 - x
def bc1 (v : Int32) : Int32 := v - ((jushr v (1 : Int32)) &&& (1431655765 : Int32))
def bc2 (v : Int32) : Int32 := (v &&& (858993459 : Int32)) + ((jushr v (2 : Int32)) &&& (858993459 : Int32))
def bc3 (v : Int32) : Int32 := (v + (jushr v (4 : Int32))) &&& (252645135 : Int32)
def bc4 (v : Int32) : Int32 := v + (jushr v (8 : Int32))
def bc5 (v : Int32) : Int32 := v + (jushr v (16 : Int32))
def bitC (v : Int32) : Int32 := bc5 (bc4 (bc3 (bc2 (bc1 v)))) &&& (63 : Int32)
theorem ax_iushr {Z : AZ} {G : AG} {cc : ByteArray} {own : String} {mL : Nat} {rm : Room} {k n pc : Nat} {lv : List (Nat × Value)} {rest : List Value} {ws : va_W} (K : AK Z G cc own mL rm) {x y : Int32} (d : decode cc pc = .ok (.iushr, 1)) (kk : AX Z k n (pc + 1) lv (.int (jushr x y) :: rest) ws) : AX Z k n pc lv (.int y :: .int x :: rest) ws := by
  obtain ⟨⟨p, l, e, R, s⟩, ⟨m, args, below, meth, c⟩, ⟨nL, D, cl, tys, A⟩, Q⟩ := Z
  exact fun H locs ls hP hD hS hl => lv_iushr K.1 K.2.1 d rfl (kk H locs ls hP hD hS hl)
theorem mi_bitCount {l : Launch} {G : AG} {σ : St} {v0 : Int32} {P : Int32 → Prop} (h : P (bitC v0)) : CtW l G yJ6_bitCount cJ6_bitCount 1 (some .int) (rmH 1) [.int v0] w0 σ (pI (fun v _ => P v)) := by
  refine CtW.ofI (by decide) (Nat.le_of_ble_eq_true rfl) fun Z _ K E => ?_
  show AX Z 0 0 0 [(0, .int v0)] [] []
  refine ax_iload_n K 0 rfl dJ6_bitCount_0 ?_
  refine ax_iload_n K 0 rfl dJ6_bitCount_1 ?_
  refine ax_iconst (v := (1 : Int32)) K (by decide) dJ6_bitCount_2 ?_
  refine ax_iushr K dJ6_bitCount_3 ?_
  refine ax_ldcw (v := (1431655765 : Int32)) K q578 dJ6_bitCount_4 ?_
  refine ax_iand K dJ6_bitCount_7 ?_
  refine ax_isub K dJ6_bitCount_8 ?_
  refine ax_istore_n (lv' := [(0, .int (bc1 v0))]) K dJ6_bitCount_9 (by decide) rfl ?_
  refine ax_iload_n K 0 rfl dJ6_bitCount_10 ?_
  refine ax_ldcw (v := (858993459 : Int32)) K q579 dJ6_bitCount_11 ?_
  refine ax_iand K dJ6_bitCount_14 ?_
  refine ax_iload_n K 0 rfl dJ6_bitCount_15 ?_
  refine ax_iconst (v := (2 : Int32)) K (by decide) dJ6_bitCount_16 ?_
  refine ax_iushr K dJ6_bitCount_17 ?_
  refine ax_ldcw (v := (858993459 : Int32)) K q579 dJ6_bitCount_18 ?_
  refine ax_iand K dJ6_bitCount_21 ?_
  refine ax_iadd K dJ6_bitCount_22 ?_
  refine ax_istore_n (lv' := [(0, .int (bc2 (bc1 v0)))]) K dJ6_bitCount_23 (by decide) rfl ?_
  refine ax_iload_n K 0 rfl dJ6_bitCount_24 ?_
  refine ax_iload_n K 0 rfl dJ6_bitCount_25 ?_
  refine ax_iconst (v := (4 : Int32)) K (by decide) dJ6_bitCount_26 ?_
  refine ax_iushr K dJ6_bitCount_27 ?_
  refine ax_iadd K dJ6_bitCount_28 ?_
  refine ax_ldcw (v := (252645135 : Int32)) K q580 dJ6_bitCount_29 ?_
  refine ax_iand K dJ6_bitCount_32 ?_
  refine ax_istore_n (lv' := [(0, .int (bc3 (bc2 (bc1 v0))))]) K dJ6_bitCount_33 (by decide) rfl ?_
  refine ax_iload_n K 0 rfl dJ6_bitCount_34 ?_
  refine ax_iload_n K 0 rfl dJ6_bitCount_35 ?_
  refine ax_bipush (v := (8 : Int32)) K (by decide) dJ6_bitCount_36 ?_
  refine ax_iushr K dJ6_bitCount_38 ?_
  refine ax_iadd K dJ6_bitCount_39 ?_
  refine ax_istore_n (lv' := [(0, .int (bc4 (bc3 (bc2 (bc1 v0)))))]) K dJ6_bitCount_40 (by decide) rfl ?_
  refine ax_iload_n K 0 rfl dJ6_bitCount_41 ?_
  refine ax_iload_n K 0 rfl dJ6_bitCount_42 ?_
  refine ax_bipush (v := (16 : Int32)) K (by decide) dJ6_bitCount_43 ?_
  refine ax_iushr K dJ6_bitCount_45 ?_
  refine ax_iadd K dJ6_bitCount_46 ?_
  refine ax_istore_n (lv' := [(0, .int (bc5 (bc4 (bc3 (bc2 (bc1 v0))))))]) K dJ6_bitCount_47 (by decide) rfl ?_
  refine ax_iload_n K 0 rfl dJ6_bitCount_48 ?_
  refine ax_bipush (v := (63 : Int32)) K (by decide) dJ6_bitCount_49 ?_
  refine ax_iand K dJ6_bitCount_51 ?_
  exact E _ _ (bitC v0) σ dJ6_bitCount_52 rfl h

theorem rx_bitCount {Z : AZ} {G : AG} {cc : ByteArray} {mL hh pc : Nat} {lv : List (Nat × Value)} {rest : List Value} {ws : va_W} (K : AK Z G cc RX1 mL (rmH hh)) (hlt : 1 < hh) (d : decode cc pc = .ok (.invokestatic 237, 3)) (hrest : (rest.map fun v => v.category).sum ≤ 8) {v0 : Int32} (kk : AX Z 0 0 (pc + 3) lv (.int (bitC v0) :: rest) ws) : AX Z 0 0 pc lv (.int v0 :: rest) ws :=
  ax_callS (N0 := 1) (σ := σ00) (As := [.int v0]) K (mi_bitCount (P := fun r => r = bitC v0) rfl) q575 q576 q130 q577 ⟨by decide, by decide, by decide⟩ rfl ⟨by show 1 + 1 + 1 ≤ hh + 1; omega, by show 8 + (1 + 11) + 60 * (1 + 1) ≤ 60 * (hh + 1); omega⟩ ⟨Nat.zero_le _, Nat.zero_le _⟩ rfl hrest d (fun r σ' hp => by obtain ⟨v, rfl, rfl⟩ := hp; exact kk)
theorem rx_max {Z : AZ} {G : AG} {cc : ByteArray} {mL hh pc : Nat} {lv : List (Nat × Value)} {rest : List Value} {ws : va_W} (K : AK Z G cc RX1 mL (rmH hh)) (hlt : 0 < hh) (hrest : (rest.map fun v => v.category).sum ≤ 8) {x y : Int32} (d : decode cc pc = .ok (.invokestatic 246, 3)) (kk : AX Z 0 0 (pc + 3) lv (.int (jmax x y) :: rest) ws) : AX Z 0 0 pc lv (.int y :: .int x :: rest) ws :=
  ax_mmax K q547 q430 q119 q431 (by show 1 ≤ hh + 1; omega) (by show _ ≤ 60 * (hh + 1); omega) (Nat.zero_le _) (Nat.zero_le _) d kk
theorem rx_min {Z : AZ} {G : AG} {cc : ByteArray} {mL hh pc : Nat} {lv : List (Nat × Value)} {rest : List Value} {ws : va_W} (K : AK Z G cc RX1 mL (rmH hh)) (hlt : 0 < hh) (hrest : (rest.map fun v => v.category).sum ≤ 8) {x y : Int32} (d : decode cc pc = .ok (.invokestatic 122, 3)) (kk : AX Z 0 0 (pc + 3) lv (.int (jmin x y) :: rest) ws) : AX Z 0 0 pc lv (.int y :: .int x :: rest) ws :=
  ax_mmin K q308 q309 q119 q310 (by show 1 ≤ hh + 1; omega) (by show _ ≤ 60 * (hh + 1); omega) (Nat.zero_le _) (Nat.zero_le _) d kk
theorem rm_bitCount {Z : AZ} {G : AG} {cc : ByteArray} {mL hh pc : Nat} {lv : List (Nat × Value)} {rest : List Value} {ws : va_W} (K : AK Z G cc RX2 mL (rmH hh)) (hlt : 1 < hh) (d : decode cc pc = .ok (.invokestatic 196, 3)) (hrest : (rest.map fun v => v.category).sum ≤ 8) {v0 : Int32} (kk : AX Z 0 0 (pc + 3) lv (.int (bitC v0) :: rest) ws) : AX Z 0 0 pc lv (.int v0 :: rest) ws :=
  ax_callS (N0 := 1) (σ := σ00) (As := [.int v0]) K (mi_bitCount (P := fun r => r = bitC v0) rfl) q1254 q576 q130 q577 ⟨by decide, by decide, by decide⟩ rfl ⟨by show 1 + 1 + 1 ≤ hh + 1; omega, by show 8 + (1 + 11) + 60 * (1 + 1) ≤ 60 * (hh + 1); omega⟩ ⟨Nat.zero_le _, Nat.zero_le _⟩ rfl hrest d (fun r σ' hp => by obtain ⟨v, rfl, rfl⟩ := hp; exact kk)
theorem rm_max {Z : AZ} {G : AG} {cc : ByteArray} {mL hh pc : Nat} {lv : List (Nat × Value)} {rest : List Value} {ws : va_W} (K : AK Z G cc RX2 mL (rmH hh)) (hlt : 0 < hh) (hrest : (rest.map fun v => v.category).sum ≤ 8) {x y : Int32} (d : decode cc pc = .ok (.invokestatic 210, 3)) (kk : AX Z 0 0 (pc + 3) lv (.int (jmax x y) :: rest) ws) : AX Z 0 0 pc lv (.int y :: .int x :: rest) ws :=
  ax_mmax K q1280 q430 q119 q431 (by show 1 ≤ hh + 1; omega) (by show _ ≤ 60 * (hh + 1); omega) (Nat.zero_le _) (Nat.zero_le _) d kk
theorem rm_min {Z : AZ} {G : AG} {cc : ByteArray} {mL hh pc : Nat} {lv : List (Nat × Value)} {rest : List Value} {ws : va_W} (K : AK Z G cc RX2 mL (rmH hh)) (hlt : 0 < hh) (hrest : (rest.map fun v => v.category).sum ≤ 8) {x y : Int32} (d : decode cc pc = .ok (.invokestatic 204, 3)) (kk : AX Z 0 0 (pc + 3) lv (.int (jmin x y) :: rest) ws) : AX Z 0 0 pc lv (.int y :: .int x :: rest) ws :=
  ax_mmin K q1279 q309 q119 q310 (by show 1 ≤ hh + 1; omega) (by show _ ≤ 60 * (hh + 1); omega) (Nat.zero_le _) (Nat.zero_le _) d kk
theorem rm_abs {Z : AZ} {G : AG} {cc : ByteArray} {mL hh pc : Nat} {lv : List (Nat × Value)} {rest : List Value} {ws : va_W} (K : AK Z G cc RX2 mL (rmH hh)) (hlt : 0 < hh) (hrest : (rest.map fun v => v.category).sum ≤ 8) {x : Int32} (d : decode cc pc = .ok (.invokestatic 359, 3)) (kk : AX Z 0 0 (pc + 3) lv (.int (jabs x) :: rest) ws) : AX Z 0 0 pc lv (.int x :: rest) ws := by
  obtain ⟨⟨p, l, e, R, s⟩, ⟨m, args, below, meth, c⟩, ⟨nL, D, cl, tys, A⟩, Q⟩ := Z
  have hR : R = rmH hh := K.2.2.2.2.2.2.2.2.1
  exact fun H locs ls hP hD hS hl => va_mabs K.1 K.2.1 (by rw [K.2.2.1, hl.1]) K.2.2.2.1 (K.2.2.2.2.1 _ q1524) (K.2.2.2.2.1 _ q1525) (K.2.2.2.2.1 _ q119) (K.2.2.2.2.1 _ q1526) (by rw [hR]; show 1 ≤ hh + 1; omega) (by rw [hR]; show _ ≤ 60 * (hh + 1); omega) (Nat.zero_le _) (Nat.zero_le _) d (kk H locs ls hP hD hS hl)
