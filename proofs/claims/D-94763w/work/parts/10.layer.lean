/-! THE LAYER: a method's run over a picture of its world; one row an instruction -/
abbrev AG : Type := va_G × (Nat → ClassId)
/-! THE STATE: whole fields, arrays of ints, of longs, fields that hold references, the nodes made so far -/
/-- a node: its address, its kind (0 number, 1 sign, 2 less, 3 act), its number or sign, its one and its other -/
abbrev Nd : Type := List (Nat × Nat × Int32 × Nat × Nat)
abbrev St : Type := (Nat → Int32) × (Nat → Nat → Int32) × (Nat → Nat → Int64) × (Nat → Value) × Nd
def nodeC (L : Nat → Nat) (q : Nat × Nat × Int32 × Nat × Nat) : Nat × va_E := (q.1, .inr (match q.2.1 with
  | 0 => (3, [.ref (L 0), .int q.2.2.1, .ref (L 0)])
  | 1 => (4, [.ref (L 0), .int q.2.2.1, .ref (L 0)])
  | 2 => (2, [.ref (L 0), .ref q.2.2.2.1, .ref (L 0)])
  | _ => (5, [.ref (L 0), .int q.2.2.1, .ref q.2.2.2.1, .ref q.2.2.2.2, .ref (L 0)])))
abbrev vwCl : List vw_C := [(RX1, TX1, 45), (RX2, TX2, 53), (RX4, TX4, 3), (RX5, TX5, 3), (RX6, TX6, 3), (RX7, TX7, 5)]
def gI (σ : St) (k : Nat) : Int32 := σ.1 k
def gA (σ : St) (k : Nat) : Nat → Int32 := σ.2.1 k
def gL (σ : St) (k : Nat) : Nat → Int64 := σ.2.2.1 k
def gR (σ : St) (k : Nat) : Value := σ.2.2.2.1 k
def gN (σ : St) : Nd := σ.2.2.2.2
def sI (σ : St) (k : Nat) (v : Int32) : St := (fun j => if j = k then v else σ.1 j, σ.2.1, σ.2.2.1, σ.2.2.2.1, σ.2.2.2.2)
def sA (σ : St) (k : Nat) (f : Nat → Int32) : St := (σ.1, fun j => if j = k then f else σ.2.1 j, σ.2.2.1, σ.2.2.2.1, σ.2.2.2.2)
def sL (σ : St) (k : Nat) (f : Nat → Int64) : St := (σ.1, σ.2.1, fun j => if j = k then f else σ.2.2.1 j, σ.2.2.2.1, σ.2.2.2.2)
def sR (σ : St) (k : Nat) (v : Value) : St := (σ.1, σ.2.1, σ.2.2.1, fun j => if j = k then v else σ.2.2.2.1 j, σ.2.2.2.2)
def sN (σ : St) (v : Nd) : St := (σ.1, σ.2.1, σ.2.2.1, σ.2.2.2.1, v)
/-- an array with one place changed -/
abbrev uA (σ : St) (k : Nat) (i : Int32) (v : Int32) : St := sA σ k (upd (gA σ k) i.toNatClampNeg v)
abbrev uL (σ : St) (k : Nat) (i : Int32) (v : Int64) : St := sL σ k (vp_updL (gL σ k) i.toNatClampNeg v)
theorem gI_sI (σ : St) (k j : Nat) v : gI (sI σ k v) j = if j = k then v else gI σ j := rfl
theorem gA_sI (σ : St) (k j : Nat) v : gA (sI σ k v) j = gA σ j := rfl
theorem gL_sI (σ : St) (k j : Nat) v : gL (sI σ k v) j = gL σ j := rfl
theorem gR_sI (σ : St) (k j : Nat) v : gR (sI σ k v) j = gR σ j := rfl
theorem gN_sI (σ : St) (k : Nat) v : gN (sI σ k v) = gN σ := rfl
theorem gI_sN (σ : St) (j : Nat) v : gI (sN σ v) j = gI σ j := rfl
theorem gI_sA (σ : St) (k j : Nat) v : gI (sA σ k v) j = gI σ j := rfl
theorem gA_sA (σ : St) (k j : Nat) v : gA (sA σ k v) j = if j = k then v else gA σ j := rfl
theorem gL_sA (σ : St) (k j : Nat) v : gL (sA σ k v) j = gL σ j := rfl
theorem gR_sA (σ : St) (k j : Nat) v : gR (sA σ k v) j = gR σ j := rfl
theorem gN_sA (σ : St) (k : Nat) v : gN (sA σ k v) = gN σ := rfl
theorem gA_sN (σ : St) (j : Nat) v : gA (sN σ v) j = gA σ j := rfl
theorem gI_sL (σ : St) (k j : Nat) v : gI (sL σ k v) j = gI σ j := rfl
theorem gA_sL (σ : St) (k j : Nat) v : gA (sL σ k v) j = gA σ j := rfl
theorem gL_sL (σ : St) (k j : Nat) v : gL (sL σ k v) j = if j = k then v else gL σ j := rfl
theorem gR_sL (σ : St) (k j : Nat) v : gR (sL σ k v) j = gR σ j := rfl
theorem gN_sL (σ : St) (k : Nat) v : gN (sL σ k v) = gN σ := rfl
theorem gL_sN (σ : St) (j : Nat) v : gL (sN σ v) j = gL σ j := rfl
theorem gI_sR (σ : St) (k j : Nat) v : gI (sR σ k v) j = gI σ j := rfl
theorem gA_sR (σ : St) (k j : Nat) v : gA (sR σ k v) j = gA σ j := rfl
theorem gL_sR (σ : St) (k j : Nat) v : gL (sR σ k v) j = gL σ j := rfl
theorem gR_sR (σ : St) (k j : Nat) v : gR (sR σ k v) j = if j = k then v else gR σ j := rfl
theorem gN_sR (σ : St) (k : Nat) v : gN (sR σ k v) = gN σ := rfl
theorem gR_sN (σ : St) (j : Nat) v : gR (sN σ v) j = gR σ j := rfl
theorem gN_sN (σ : St) v : gN (sN σ v) = v := rfl
/-- the reference that the model reads by: 1 its text, 2 its rule -/
def rdV (L : Nat → Nat) (c : Int32) : Value := if c = 1 then .ref (L 11) else if c = 2 then .ref (L 13) else .null
abbrev xA_stuffs (σ : St) : Nat → Int32 := gA σ 0
abbrev xU_stuffs (σ : St) (i : Int32) (v : Int32) : St := uA σ 0 i v
abbrev xA_cost (σ : St) : Nat → Int32 := gA σ 1
abbrev xU_cost (σ : St) (i : Int32) (v : Int32) : St := uA σ 1 i v
abbrev xA_hours (σ : St) : Nat → Int32 := gA σ 2
abbrev xU_hours (σ : St) (i : Int32) (v : Int32) : St := uA σ 2 i v
abbrev xA_loves (σ : St) : Nat → Int32 := gA σ 3
abbrev xU_loves (σ : St) (i : Int32) (v : Int32) : St := uA σ 3 i v
abbrev xA_bars (σ : St) : Nat → Int32 := gA σ 4
abbrev xU_bars (σ : St) (i : Int32) (v : Int32) : St := uA σ 4 i v
abbrev xA_stores (σ : St) : Nat → Int32 := gA σ 5
abbrev xU_stores (σ : St) (i : Int32) (v : Int32) : St := uA σ 5 i v
abbrev xA_law (σ : St) : Nat → Int32 := gA σ 6
abbrev xU_law (σ : St) (i : Int32) (v : Int32) : St := uA σ 6 i v
abbrev xA_served (σ : St) : Nat → Int32 := gA σ 7
abbrev xU_served (σ : St) (i : Int32) (v : Int32) : St := uA σ 7 i v
abbrev xI_dishes (σ : St) : Int32 := gI σ 8
abbrev xS_dishes (σ : St) (v : Int32) : St := sI σ 8 v
abbrev xI_guests (σ : St) : Int32 := gI σ 9
abbrev xS_guests (σ : St) (v : Int32) : St := sI σ 9 v
abbrev xI_hot (σ : St) : Int32 := gI σ 10
abbrev xS_hot (σ : St) (v : Int32) : St := sI σ 10 v
abbrev xI_servedMany (σ : St) : Int32 := gI σ 11
abbrev xS_servedMany (σ : St) (v : Int32) : St := sI σ 11 v
abbrev xA_text (σ : St) : Nat → Int32 := gA σ 12
abbrev xU_text (σ : St) (i : Int32) (v : Int32) : St := uA σ 12 i v
abbrev xI_signMany (σ : St) : Int32 := gI σ 13
abbrev xS_signMany (σ : St) (v : Int32) : St := sI σ 13 v
abbrev xI_at (σ : St) : Int32 := gI σ 14
abbrev xS_at (σ : St) (v : Int32) : St := sI σ 14 v
abbrev xI_end (σ : St) : Int32 := gI σ 15
abbrev xS_end (σ : St) (v : Int32) : St := sI σ 15 v
abbrev xI_nest (σ : St) : Int32 := gI σ 16
abbrev xS_nest (σ : St) (v : Int32) : St := sI σ 16 v
abbrev xA_readStuffs (σ : St) : Nat → Int32 := gA σ 17
abbrev xU_readStuffs (σ : St) (i : Int32) (v : Int32) : St := uA σ 17 i v
abbrev xA_readCost (σ : St) : Nat → Int32 := gA σ 18
abbrev xU_readCost (σ : St) (i : Int32) (v : Int32) : St := uA σ 18 i v
abbrev xA_readHours (σ : St) : Nat → Int32 := gA σ 19
abbrev xU_readHours (σ : St) (i : Int32) (v : Int32) : St := uA σ 19 i v
abbrev xA_readLoves (σ : St) : Nat → Int32 := gA σ 20
abbrev xU_readLoves (σ : St) (i : Int32) (v : Int32) : St := uA σ 20 i v
abbrev xA_readBars (σ : St) : Nat → Int32 := gA σ 21
abbrev xU_readBars (σ : St) (i : Int32) (v : Int32) : St := uA σ 21 i v
abbrev xI_readDishes (σ : St) : Int32 := gI σ 22
abbrev xS_readDishes (σ : St) (v : Int32) : St := sI σ 22 v
abbrev xI_readGuests (σ : St) : Int32 := gI σ 23
abbrev xS_readGuests (σ : St) (v : Int32) : St := sI σ 23 v
abbrev xI_readHot (σ : St) : Int32 := gI σ 24
abbrev xS_readHot (σ : St) (v : Int32) : St := sI σ 24 v
abbrev xR_rule (σ : St) : Value := gR σ 25
abbrev xS_rule (σ : St) (v : Value) : St := sR σ 25 v
abbrev xA_menu (σ : St) : Nat → Int32 := gA σ 26
abbrev xU_menu (σ : St) (i : Int32) (v : Int32) : St := uA σ 26 i v
abbrev xA_menuMany (σ : St) : Nat → Int32 := gA σ 27
abbrev xU_menuMany (σ : St) (i : Int32) (v : Int32) : St := uA σ 27 i v
abbrev xA_readMenu (σ : St) : Nat → Int32 := gA σ 28
abbrev xU_readMenu (σ : St) (i : Int32) (v : Int32) : St := uA σ 28 i v
abbrev xI_whyThen (σ : St) : Int32 := gI σ 29
abbrev xS_whyThen (σ : St) (v : Int32) : St := sI σ 29 v
abbrev xA_fine (σ : St) : Nat → Int32 := gA σ 30
abbrev xU_fine (σ : St) (i : Int32) (v : Int32) : St := uA σ 30 i v
abbrev xA_lasts (σ : St) : Nat → Int32 := gA σ 31
abbrev xU_lasts (σ : St) (i : Int32) (v : Int32) : St := uA σ 31 i v
abbrev xA_value (σ : St) : Nat → Int32 := gA σ 32
abbrev xU_value (σ : St) (i : Int32) (v : Int32) : St := uA σ 32 i v
abbrev xA_length (σ : St) : Nat → Int32 := gA σ 33
abbrev xU_length (σ : St) (i : Int32) (v : Int32) : St := uA σ 33 i v
abbrev xA_many (σ : St) : Nat → Int64 := gL σ 34
abbrev xU_many (σ : St) (i : Int32) (v : Int64) : St := uL σ 34 i v
abbrev xI_allowed (σ : St) : Int32 := gI σ 35
abbrev xS_allowed (σ : St) (v : Int32) : St := sI σ 35 v
abbrev xA_worth (σ : St) : Nat → Int32 := gA σ 36
abbrev xU_worth (σ : St) (i : Int32) (v : Int32) : St := uA σ 36 i v
abbrev xA_greedyValue (σ : St) : Nat → Int32 := gA σ 37
abbrev xU_greedyValue (σ : St) (i : Int32) (v : Int32) : St := uA σ 37 i v
abbrev xA_greedyLength (σ : St) : Nat → Int32 := gA σ 38
abbrev xU_greedyLength (σ : St) (i : Int32) (v : Int32) : St := uA σ 38 i v
abbrev xA_freeAt (σ : St) : Nat → Int32 := gA σ 39
abbrev xU_freeAt (σ : St) (i : Int32) (v : Int32) : St := uA σ 39 i v
abbrev xA_wideLasts (σ : St) : Nat → Int32 := gA σ 40
abbrev xU_wideLasts (σ : St) (i : Int32) (v : Int32) : St := uA σ 40 i v
abbrev xA_kept (σ : St) : Nat → Int32 := gA σ 41
abbrev xU_kept (σ : St) (i : Int32) (v : Int32) : St := uA σ 41 i v
abbrev xA_isKept (σ : St) : Nat → Int32 := gA σ 42
abbrev xU_isKept (σ : St) (i : Int32) (v : Int32) : St := uA σ 42 i v
abbrev xA_row (σ : St) : Nat → Int32 := gA σ 43
abbrev xU_row (σ : St) (i : Int32) (v : Int32) : St := uA σ 43 i v
abbrev xI_rowMany (σ : St) : Int32 := gI σ 44
abbrev xS_rowMany (σ : St) (v : Int32) : St := sI σ 44 v
def xF (L : Nat → Nat) (σ : St) : List Value := [.ref (L 1), .ref (L 2), .ref (L 3), .ref (L 4), .ref (L 5), .ref (L 6), .ref (L 7), .ref (L 8), .int (gI σ 8), .int (gI σ 9), .int (gI σ 10), .int (gI σ 11), .ref (L 9), .int (gI σ 13), .int (gI σ 14), .int (gI σ 15), .int (gI σ 16), .ref (L 10), .ref (L 11), .ref (L 12), .ref (L 13), .ref (L 14), .int (gI σ 22), .int (gI σ 23), .int (gI σ 24), gR σ 25, .ref (L 15), .ref (L 16), .ref (L 17), .int (gI σ 29), .ref (L 18), .ref (L 19), .ref (L 20), .ref (L 21), .ref (L 22), .int (gI σ 35), .ref (L 23), .ref (L 24), .ref (L 25), .ref (L 26), .ref (L 27), .ref (L 28), .ref (L 29), .ref (L 30), .int (gI σ 44)]
def xW (G : AG) (L : Nat → Nat) (σ : St) : va_W := (L 0, .inr (0, xF L σ)) :: (L 1, .inl (G.2 0, (10, .inl (gA σ 0)))) :: (L 2, .inl (G.2 0, (10, .inl (gA σ 1)))) :: (L 3, .inl (G.2 0, (10, .inl (gA σ 2)))) :: (L 4, .inl (G.2 0, (6, .inl (gA σ 3)))) :: (L 5, .inl (G.2 0, (6, .inl (gA σ 4)))) :: (L 6, .inl (G.2 0, (8, .inl (gA σ 5)))) :: (L 7, .inl (G.2 0, (3, .inl (gA σ 6)))) :: (L 8, .inl (G.2 0, (10, .inl (gA σ 7)))) :: (L 9, .inl (G.2 0, (80, .inl (gA σ 12)))) :: (L 10, .inl (G.2 0, (10, .inl (gA σ 17)))) :: (L 11, .inl (G.2 0, (10, .inl (gA σ 18)))) :: (L 12, .inl (G.2 0, (10, .inl (gA σ 19)))) :: (L 13, .inl (G.2 0, (6, .inl (gA σ 20)))) :: (L 14, .inl (G.2 0, (6, .inl (gA σ 21)))) :: (L 15, .inl (G.2 0, (30, .inl (gA σ 26)))) :: (L 16, .inl (G.2 0, (3, .inl (gA σ 27)))) :: (L 17, .inl (G.2 0, (10, .inl (gA σ 28)))) :: (L 18, .inl (G.2 0, (1024, .inl (gA σ 30)))) :: (L 19, .inl (G.2 0, (1024, .inl (gA σ 31)))) :: (L 20, .inl (G.2 0, (11264, .inl (gA σ 32)))) :: (L 21, .inl (G.2 0, (11264, .inl (gA σ 33)))) :: (L 22, .inl (G.2 1, (11264, .inr (.inl (gL σ 34))))) :: (L 23, .inl (G.2 0, (1024, .inl (gA σ 36)))) :: (L 24, .inl (G.2 0, (22528, .inl (gA σ 37)))) :: (L 25, .inl (G.2 0, (22528, .inl (gA σ 38)))) :: (L 26, .inl (G.2 0, (9, .inl (gA σ 39)))) :: (L 27, .inl (G.2 0, (2048, .inl (gA σ 40)))) :: (L 28, .inl (G.2 0, (46, .inl (gA σ 41)))) :: (L 29, .inl (G.2 2, (2, .inl (gA σ 42)))) :: (L 30, .inl (G.2 0, (16, .inl (gA σ 43)))) :: (gN σ).map (nodeC L)
abbrev mA_store (σ : St) : Nat → Int32 := gA σ 0
abbrev mU_store (σ : St) (i : Int32) (v : Int32) : St := uA σ 0 i v
abbrev mI_dishes (σ : St) : Int32 := gI σ 1
abbrev mS_dishes (σ : St) (v : Int32) : St := sI σ 1 v
abbrev mA_stuffs (σ : St) : Nat → Int32 := gA σ 2
abbrev mU_stuffs (σ : St) (i : Int32) (v : Int32) : St := uA σ 2 i v
abbrev mA_cost (σ : St) : Nat → Int32 := gA σ 3
abbrev mU_cost (σ : St) (i : Int32) (v : Int32) : St := uA σ 3 i v
abbrev mA_isHot (σ : St) : Nat → Int32 := gA σ 4
abbrev mU_isHot (σ : St) (i : Int32) (v : Int32) : St := uA σ 4 i v
abbrev mA_hours (σ : St) : Nat → Int32 := gA σ 5
abbrev mU_hours (σ : St) (i : Int32) (v : Int32) : St := uA σ 5 i v
abbrev mI_guests (σ : St) : Int32 := gI σ 6
abbrev mS_guests (σ : St) (v : Int32) : St := sI σ 6 v
abbrev mA_loves (σ : St) : Nat → Int32 := gA σ 7
abbrev mU_loves (σ : St) (i : Int32) (v : Int32) : St := uA σ 7 i v
abbrev mA_bars (σ : St) : Nat → Int32 := gA σ 8
abbrev mU_bars (σ : St) (i : Int32) (v : Int32) : St := uA σ 8 i v
abbrev mI_share (σ : St) : Int32 := gI σ 9
abbrev mS_share (σ : St) (v : Int32) : St := sI σ 9 v
abbrev mI_times (σ : St) : Int32 := gI σ 10
abbrev mS_times (σ : St) (v : Int32) : St := sI σ 10 v
abbrev mI_heat (σ : St) : Int32 := gI σ 11
abbrev mS_heat (σ : St) (v : Int32) : St := sI σ 11 v
abbrev mA_served (σ : St) : Nat → Int32 := gA σ 12
abbrev mU_served (σ : St) (i : Int32) (v : Int32) : St := uA σ 12 i v
abbrev mI_servedMany (σ : St) : Int32 := gI σ 13
abbrev mS_servedMany (σ : St) (v : Int32) : St := sI σ 13 v
abbrev mA_menus (σ : St) : Nat → Int32 := gA σ 14
abbrev mU_menus (σ : St) (i : Int32) (v : Int32) : St := uA σ 14 i v
abbrev mA_menuLong (σ : St) : Nat → Int32 := gA σ 15
abbrev mU_menuLong (σ : St) (i : Int32) (v : Int32) : St := uA σ 15 i v
abbrev mA_text (σ : St) : Nat → Int32 := gA σ 16
abbrev mU_text (σ : St) (i : Int32) (v : Int32) : St := uA σ 16 i v
abbrev mI_typed (σ : St) : Int32 := gI σ 17
abbrev mS_typed (σ : St) (v : Int32) : St := sI σ 17 v
abbrev mA_row (σ : St) : Nat → Int32 := gA σ 18
abbrev mU_row (σ : St) (i : Int32) (v : Int32) : St := uA σ 18 i v
abbrev mI_rowMany (σ : St) : Int32 := gI σ 19
abbrev mS_rowMany (σ : St) (v : Int32) : St := sI σ 19 v
abbrev mI_thrown (σ : St) : Int32 := gI σ 20
abbrev mS_thrown (σ : St) (v : Int32) : St := sI σ 20 v
abbrev mI_read (σ : St) : Int32 := gI σ 21
abbrev mI_size (σ : St) : Int32 := gI σ 22
abbrev mS_size (σ : St) (v : Int32) : St := sI σ 22 v
abbrev mI_top (σ : St) : Int32 := gI σ 23
abbrev mS_top (σ : St) (v : Int32) : St := sI σ 23 v
abbrev mI_at (σ : St) : Int32 := gI σ 24
abbrev mS_at (σ : St) (v : Int32) : St := sI σ 24 v
abbrev mI_wrong (σ : St) : Int32 := gI σ 25
abbrev mS_wrong (σ : St) (v : Int32) : St := sI σ 25 v
abbrev mA_rule (σ : St) : Nat → Int32 := gA σ 26
abbrev mU_rule (σ : St) (i : Int32) (v : Int32) : St := uA σ 26 i v
abbrev mI_ruleSize (σ : St) : Int32 := gI σ 27
abbrev mS_ruleSize (σ : St) (v : Int32) : St := sI σ 27 v
abbrev mI_askedGuest (σ : St) : Int32 := gI σ 28
abbrev mS_askedGuest (σ : St) (v : Int32) : St := sI σ 28 v
abbrev mI_askedDish (σ : St) : Int32 := gI σ 29
abbrev mS_askedDish (σ : St) (v : Int32) : St := sI σ 29 v
abbrev mI_whyNot (σ : St) : Int32 := gI σ 30
abbrev mS_whyNot (σ : St) (v : Int32) : St := sI σ 30 v
abbrev mI_costTill (σ : St) : Int32 := gI σ 31
abbrev mS_costTill (σ : St) (v : Int32) : St := sI σ 31 v
abbrev mI_hungryTill (σ : St) : Int32 := gI σ 32
abbrev mS_hungryTill (σ : St) (v : Int32) : St := sI σ 32 v
abbrev mI_setTill (σ : St) : Int32 := gI σ 33
abbrev mS_setTill (σ : St) (v : Int32) : St := sI σ 33 v
abbrev mI_lastTill (σ : St) : Int32 := gI σ 34
abbrev mS_lastTill (σ : St) (v : Int32) : St := sI σ 34 v
abbrev mA_isEnd (σ : St) : Nat → Int32 := gA σ 35
abbrev mU_isEnd (σ : St) (i : Int32) (v : Int32) : St := uA σ 35 i v
abbrev mA_canEnd (σ : St) : Nat → Int32 := gA σ 36
abbrev mU_canEnd (σ : St) (i : Int32) (v : Int32) : St := uA σ 36 i v
abbrev mA_rows (σ : St) : Nat → Int64 := gL σ 37
abbrev mU_rows (σ : St) (i : Int32) (v : Int64) : St := uL σ 37 i v
abbrev mA_scores (σ : St) : Nat → Int32 := gA σ 38
abbrev mU_scores (σ : St) (i : Int32) (v : Int32) : St := uA σ 38 i v
abbrev mI_bestScore (σ : St) : Int32 := gI σ 39
abbrev mS_bestScore (σ : St) (v : Int32) : St := sI σ 39 v
abbrev mA_shames (σ : St) : Nat → Int32 := gA σ 40
abbrev mU_shames (σ : St) (i : Int32) (v : Int32) : St := uA σ 40 i v
abbrev mA_moreThen (σ : St) : Nat → Int32 := gA σ 41
abbrev mU_moreThen (σ : St) (i : Int32) (v : Int32) : St := uA σ 41 i v
abbrev mA_firstThen (σ : St) : Nat → Int32 := gA σ 42
abbrev mU_firstThen (σ : St) (i : Int32) (v : Int32) : St := uA σ 42 i v
abbrev mA_isShamed (σ : St) : Nat → Int32 := gA σ 43
abbrev mU_isShamed (σ : St) (i : Int32) (v : Int32) : St := uA σ 43 i v
abbrev mA_moreOf (σ : St) : Nat → Int32 := gA σ 44
abbrev mU_moreOf (σ : St) (i : Int32) (v : Int32) : St := uA σ 44 i v
abbrev mA_changesFrom (σ : St) : Nat → Int32 := gA σ 45
abbrev mU_changesFrom (σ : St) (i : Int32) (v : Int32) : St := uA σ 45 i v
abbrev mA_fillsFrom (σ : St) : Nat → Int64 := gL σ 46
abbrev mU_fillsFrom (σ : St) (i : Int32) (v : Int64) : St := uL σ 46 i v
abbrev mA_freeAt (σ : St) : Nat → Int32 := gA σ 47
abbrev mU_freeAt (σ : St) (i : Int32) (v : Int32) : St := uA σ 47 i v
abbrev mA_lastsOf (σ : St) : Nat → Int32 := gA σ 48
abbrev mU_lastsOf (σ : St) (i : Int32) (v : Int32) : St := uA σ 48 i v
abbrev mI_came (σ : St) : Int32 := gI σ 49
abbrev mS_came (σ : St) (v : Int32) : St := sI σ 49 v
abbrev mA_kept (σ : St) : Nat → Int32 := gA σ 50
abbrev mU_kept (σ : St) (i : Int32) (v : Int32) : St := uA σ 50 i v
abbrev mA_isKept (σ : St) : Nat → Int32 := gA σ 51
abbrev mU_isKept (σ : St) (i : Int32) (v : Int32) : St := uA σ 51 i v
abbrev mA_keptCame (σ : St) : Nat → Int32 := gA σ 52
abbrev mU_keptCame (σ : St) (i : Int32) (v : Int32) : St := uA σ 52 i v
def mF (L : Nat → Nat) (σ : St) : List Value := [.ref (L 1), .int (gI σ 1), .ref (L 2), .ref (L 3), .ref (L 4), .ref (L 5), .int (gI σ 6), .ref (L 6), .ref (L 7), .int (gI σ 9), .int (gI σ 10), .int (gI σ 11), .ref (L 8), .int (gI σ 13), .ref (L 9), .ref (L 10), .ref (L 11), .int (gI σ 17), .ref (L 12), .int (gI σ 19), .int (gI σ 20), rdV L (gI σ 21), .int (gI σ 22), .int (gI σ 23), .int (gI σ 24), .int (gI σ 25), .ref (L 13), .int (gI σ 27), .int (gI σ 28), .int (gI σ 29), .int (gI σ 30), .int (gI σ 31), .int (gI σ 32), .int (gI σ 33), .int (gI σ 34), .ref (L 14), .ref (L 15), .ref (L 16), .ref (L 17), .int (gI σ 39), .ref (L 18), .ref (L 19), .ref (L 20), .ref (L 21), .ref (L 22), .ref (L 23), .ref (L 24), .ref (L 25), .ref (L 26), .int (gI σ 49), .ref (L 27), .ref (L 28), .ref (L 29)]
def mW (G : AG) (L : Nat → Nat) (σ : St) : va_W := (L 0, .inr (1, mF L σ)) :: (L 1, .inl (G.2 0, (8, .inl (gA σ 0)))) :: (L 2, .inl (G.2 0, (11, .inl (gA σ 2)))) :: (L 3, .inl (G.2 0, (11, .inl (gA σ 3)))) :: (L 4, .inl (G.2 2, (11, .inl (gA σ 4)))) :: (L 5, .inl (G.2 0, (11, .inl (gA σ 5)))) :: (L 6, .inl (G.2 0, (6, .inl (gA σ 7)))) :: (L 7, .inl (G.2 0, (6, .inl (gA σ 8)))) :: (L 8, .inl (G.2 0, (10, .inl (gA σ 12)))) :: (L 9, .inl (G.2 0, (30, .inl (gA σ 14)))) :: (L 10, .inl (G.2 0, (3, .inl (gA σ 15)))) :: (L 11, .inl (G.2 3, (80, .inl (gA σ 16)))) :: (L 12, .inl (G.2 0, (16, .inl (gA σ 18)))) :: (L 13, .inl (G.2 3, (40, .inl (gA σ 26)))) :: (L 14, .inl (G.2 2, (11264, .inl (gA σ 35)))) :: (L 15, .inl (G.2 2, (11264, .inl (gA σ 36)))) :: (L 16, .inl (G.2 1, (11264, .inr (.inl (gL σ 37))))) :: (L 17, .inl (G.2 0, (1024, .inl (gA σ 38)))) :: (L 18, .inl (G.2 2, (11264, .inl (gA σ 40)))) :: (L 19, .inl (G.2 0, (11264, .inl (gA σ 41)))) :: (L 20, .inl (G.2 0, (11264, .inl (gA σ 42)))) :: (L 21, .inl (G.2 2, (22528, .inl (gA σ 43)))) :: (L 22, .inl (G.2 0, (22528, .inl (gA σ 44)))) :: (L 23, .inl (G.2 0, (11264, .inl (gA σ 45)))) :: (L 24, .inl (G.2 1, (11264, .inr (.inl (gL σ 46))))) :: (L 25, .inl (G.2 0, (9, .inl (gA σ 47)))) :: (L 26, .inl (G.2 0, (2048, .inl (gA σ 48)))) :: (L 27, .inl (G.2 0, (44, .inl (gA σ 50)))) :: (L 28, .inl (G.2 2, (2, .inl (gA σ 51)))) :: (L 29, .inl (G.2 0, (2, .inl (gA σ 52)))) :: []
def AZ : Type := (Program × Launch × Env × Room × State) × (MethodId × Array Value × List Frame × Method × Code) × (Nat × va_G × List vw_C × List (ClassId × FieldType) × (Nat → Prop)) × (State → Prop)
def tyG (G : AG) : List (ClassId × FieldType) := [(G.2 0, .int), (G.2 1, .long), (G.2 2, .boolean), (G.2 3, .byte)]
/-- from here the method goes on to an end that Q says -/
def AX (Z : AZ) (k n pc : Nat) (lv : List (Nat × Value)) (st : List Value) (ws : va_W) : Prop :=
  match Z with
  | ((p, l, e, R, s), (m, args, below, meth, c), (nL, D, cl, _, A), Q) => ∀ (H : Heap) (locs : List Loc) (ls : Array Slot), va_P D cl ws H → va_D A ws → va_S A s.heap H locs → lv_has ls nL lv → W p l e R s m args below meth c H locs k n Q (F0 m pc ls st)
/-- what stays through a run -/
def AK (Z : AZ) (G : AG) (cc : ByteArray) (own : String) (mL : Nat) (rm : Room) : Prop :=
  match Z with
  | ((p, _, _, R, s), (m, args, _, meth, c), (nL, D, cl, tys, A), _) => p.tables.exec = Jvm.exec ∧ c.code = cc ∧ c.maxLocals = nL ∧ s.vm.findClass own = some m.cls ∧ (∀ w ∈ lw_all, w.before args s = true) ∧ va_K D cl tys s ∧ (∀ q : Nat, s.heap.size ≤ q → A q) ∧ nL = mL ∧ R = rm ∧ D = G.1 ∧ cl = vwCl ∧ tys = tyG G ∧ meth.locks = false

theorem ax_iconst {Z : AZ} {G : AG} {cc : ByteArray} {own : String} {mL : Nat} {rm : Room} {k n pc : Nat} {lv : List (Nat × Value)} {rest : List Value} {ws : va_W} (K : AK Z G cc own mL rm) {i : Int} {v : Int32} (hv : Int32.ofInt i = v) (d : decode cc pc = .ok (.iconst i, 1)) (kk : AX Z k n (pc + 1) lv (.int v :: rest) ws) : AX Z k n pc lv (rest) ws := by
  obtain ⟨⟨p, l, e, R, s⟩, ⟨m, args, below, meth, c⟩, ⟨nL, D, cl, tys, A⟩, Q⟩ := Z
  exact fun H locs ls hP hD hS hl => lv_iconst K.1 K.2.1 d hv (kk H locs ls hP hD hS hl)
theorem ax_bipush {Z : AZ} {G : AG} {cc : ByteArray} {own : String} {mL : Nat} {rm : Room} {k n pc : Nat} {lv : List (Nat × Value)} {rest : List Value} {ws : va_W} (K : AK Z G cc own mL rm) {i : Int} {v : Int32} (hv : (Int8.ofInt i).toInt32 = v) (d : decode cc pc = .ok (.bipush i, 2)) (kk : AX Z k n (pc + 2) lv (.int v :: rest) ws) : AX Z k n pc lv (rest) ws := by
  obtain ⟨⟨p, l, e, R, s⟩, ⟨m, args, below, meth, c⟩, ⟨nL, D, cl, tys, A⟩, Q⟩ := Z
  exact fun H locs ls hP hD hS hl => lv_bipush K.1 K.2.1 d hv (kk H locs ls hP hD hS hl)
theorem ax_sipush {Z : AZ} {G : AG} {cc : ByteArray} {own : String} {mL : Nat} {rm : Room} {k n pc : Nat} {lv : List (Nat × Value)} {rest : List Value} {ws : va_W} (K : AK Z G cc own mL rm) {i : Int} {v : Int32} (hv : (Int16.ofInt i).toInt32 = v) (d : decode cc pc = .ok (.sipush i, 3)) (kk : AX Z k n (pc + 3) lv (.int v :: rest) ws) : AX Z k n pc lv (rest) ws := by
  obtain ⟨⟨p, l, e, R, s⟩, ⟨m, args, below, meth, c⟩, ⟨nL, D, cl, tys, A⟩, Q⟩ := Z
  exact fun H locs ls hP hD hS hl => lv_sipush K.1 K.2.1 d hv (kk H locs ls hP hD hS hl)
theorem ax_lconst {Z : AZ} {G : AG} {cc : ByteArray} {own : String} {mL : Nat} {rm : Room} {k n pc : Nat} {lv : List (Nat × Value)} {rest : List Value} {ws : va_W} (K : AK Z G cc own mL rm) {i : Fin 2} {v : Int64} (hv : Int64.ofNat (i : Nat) = v) (d : decode cc pc = .ok (.lconst i, 1)) (kk : AX Z k n (pc + 1) lv (.long v :: rest) ws) : AX Z k n pc lv (rest) ws := by
  obtain ⟨⟨p, l, e, R, s⟩, ⟨m, args, below, meth, c⟩, ⟨nL, D, cl, tys, A⟩, Q⟩ := Z
  exact fun H locs ls hP hD hS hl => lv_lconst K.1 K.2.1 d hv (kk H locs ls hP hD hS hl)
theorem ax_iload_n {Z : AZ} {G : AG} {cc : ByteArray} {own : String} {mL : Nat} {rm : Room} {k n pc : Nat} {lv : List (Nat × Value)} {rest : List Value} {ws : va_W} (K : AK Z G cc own mL rm) (j : Nat) {f : Fin 4} {x : Int32} (hj : lv[j]? = some ((f : Nat), .int x)) (d : decode cc pc = .ok (.iload_n f, 1)) (kk : AX Z k n (pc + 1) lv (.int x :: rest) ws) : AX Z k n pc lv (rest) ws := by
  obtain ⟨⟨p, l, e, R, s⟩, ⟨m, args, below, meth, c⟩, ⟨nL, D, cl, tys, A⟩, Q⟩ := Z
  exact fun H locs ls hP hD hS hl => lv_iload_n K.1 K.2.1 d rfl (lv_at hl j hj) (kk H locs ls hP hD hS hl)
theorem ax_iload {Z : AZ} {G : AG} {cc : ByteArray} {own : String} {mL : Nat} {rm : Room} {k n pc : Nat} {lv : List (Nat × Value)} {rest : List Value} {ws : va_W} (K : AK Z G cc own mL rm) (j : Nat) {i : Nat} {x : Int32} (hj : lv[j]? = some (i, .int x)) (d : decode cc pc = .ok (.iload i, 2)) (kk : AX Z k n (pc + 2) lv (.int x :: rest) ws) : AX Z k n pc lv (rest) ws := by
  obtain ⟨⟨p, l, e, R, s⟩, ⟨m, args, below, meth, c⟩, ⟨nL, D, cl, tys, A⟩, Q⟩ := Z
  exact fun H locs ls hP hD hS hl => lv_iload K.1 K.2.1 d (lv_at hl j hj) (kk H locs ls hP hD hS hl)
theorem ax_lload_n {Z : AZ} {G : AG} {cc : ByteArray} {own : String} {mL : Nat} {rm : Room} {k n pc : Nat} {lv : List (Nat × Value)} {rest : List Value} {ws : va_W} (K : AK Z G cc own mL rm) (j : Nat) {f : Fin 4} {x : Int64} (hj : lv[j]? = some ((f : Nat), .long x)) (d : decode cc pc = .ok (.lload_n f, 1)) (kk : AX Z k n (pc + 1) lv (.long x :: rest) ws) : AX Z k n pc lv (rest) ws := by
  obtain ⟨⟨p, l, e, R, s⟩, ⟨m, args, below, meth, c⟩, ⟨nL, D, cl, tys, A⟩, Q⟩ := Z
  exact fun H locs ls hP hD hS hl => lv_lload_n K.1 K.2.1 d rfl (lv_at hl j hj) (kk H locs ls hP hD hS hl)
theorem ax_lload {Z : AZ} {G : AG} {cc : ByteArray} {own : String} {mL : Nat} {rm : Room} {k n pc : Nat} {lv : List (Nat × Value)} {rest : List Value} {ws : va_W} (K : AK Z G cc own mL rm) (j : Nat) {i : Nat} {x : Int64} (hj : lv[j]? = some (i, .long x)) (d : decode cc pc = .ok (.lload i, 2)) (kk : AX Z k n (pc + 2) lv (.long x :: rest) ws) : AX Z k n pc lv (rest) ws := by
  obtain ⟨⟨p, l, e, R, s⟩, ⟨m, args, below, meth, c⟩, ⟨nL, D, cl, tys, A⟩, Q⟩ := Z
  exact fun H locs ls hP hD hS hl => lv_lload K.1 K.2.1 d (lv_at hl j hj) (kk H locs ls hP hD hS hl)
theorem ax_aload_n {Z : AZ} {G : AG} {cc : ByteArray} {own : String} {mL : Nat} {rm : Room} {k n pc : Nat} {lv : List (Nat × Value)} {rest : List Value} {ws : va_W} (K : AK Z G cc own mL rm) (j : Nat) {f : Fin 4} {x : Nat} (hj : lv[j]? = some ((f : Nat), .ref x)) (d : decode cc pc = .ok (.aload_n f, 1)) (kk : AX Z k n (pc + 1) lv (.ref x :: rest) ws) : AX Z k n pc lv (rest) ws := by
  obtain ⟨⟨p, l, e, R, s⟩, ⟨m, args, below, meth, c⟩, ⟨nL, D, cl, tys, A⟩, Q⟩ := Z
  exact fun H locs ls hP hD hS hl => lv_aload_n K.1 K.2.1 d rfl (lv_at hl j hj) (kk H locs ls hP hD hS hl)
theorem ax_aload {Z : AZ} {G : AG} {cc : ByteArray} {own : String} {mL : Nat} {rm : Room} {k n pc : Nat} {lv : List (Nat × Value)} {rest : List Value} {ws : va_W} (K : AK Z G cc own mL rm) (j : Nat) {i : Nat} {x : Nat} (hj : lv[j]? = some (i, .ref x)) (d : decode cc pc = .ok (.aload i, 2)) (kk : AX Z k n (pc + 2) lv (.ref x :: rest) ws) : AX Z k n pc lv (rest) ws := by
  obtain ⟨⟨p, l, e, R, s⟩, ⟨m, args, below, meth, c⟩, ⟨nL, D, cl, tys, A⟩, Q⟩ := Z
  exact fun H locs ls hP hD hS hl => lv_aload K.1 K.2.1 d (lv_at hl j hj) (kk H locs ls hP hD hS hl)
theorem ax_istore {Z : AZ} {G : AG} {cc : ByteArray} {own : String} {mL : Nat} {rm : Room} {k n pc : Nat} {lv : List (Nat × Value)} {rest : List Value} {ws : va_W} (K : AK Z G cc own mL rm) {lv' : List (Nat × Value)} {i : Nat} {x : Int32} (d : decode cc pc = .ok (.istore i, 2)) (hi : i < mL) (hl2 : (i, Value.int x) :: lv.filter (fun q => !(q.1 == i) && !(q.1 + 1 == i && q.2.category == 2)) = lv') (kk : AX Z k n (pc + 2) lv' (rest) ws) : AX Z k n pc lv (Value.int x :: rest) ws := by
  obtain ⟨⟨p, l, e, R, s⟩, ⟨m, args, below, meth, c⟩, ⟨nL, D, cl, tys, A⟩, Q⟩ := Z
  have hn := K.2.2.2.2.2.2.2.1
  exact fun H locs ls hP hD hS hl => lv_istore K.1 K.2.1 d hl (by rw [hn]; exact hi) hl2 (fun ls hl => kk H locs ls hP hD hS hl)
theorem ax_lstore {Z : AZ} {G : AG} {cc : ByteArray} {own : String} {mL : Nat} {rm : Room} {k n pc : Nat} {lv : List (Nat × Value)} {rest : List Value} {ws : va_W} (K : AK Z G cc own mL rm) {lv' : List (Nat × Value)} {i : Nat} {x : Int64} (d : decode cc pc = .ok (.lstore i, 2)) (hi : i + 1 < mL) (hl2 : (i, Value.long x) :: lv.filter (fun q => !(q.1 == i) && (!(q.1 == i + 1) && !(q.1 + 1 == i && q.2.category == 2))) = lv') (kk : AX Z k n (pc + 2) lv' (rest) ws) : AX Z k n pc lv (Value.long x :: rest) ws := by
  obtain ⟨⟨p, l, e, R, s⟩, ⟨m, args, below, meth, c⟩, ⟨nL, D, cl, tys, A⟩, Q⟩ := Z
  have hn := K.2.2.2.2.2.2.2.1
  exact fun H locs ls hP hD hS hl => lv_lstore K.1 K.2.1 d hl (by rw [hn]; exact hi) hl2 (fun ls hl => kk H locs ls hP hD hS hl)
theorem ax_astore {Z : AZ} {G : AG} {cc : ByteArray} {own : String} {mL : Nat} {rm : Room} {k n pc : Nat} {lv : List (Nat × Value)} {rest : List Value} {ws : va_W} (K : AK Z G cc own mL rm) {lv' : List (Nat × Value)} {i : Nat} {x : Nat} (d : decode cc pc = .ok (.astore i, 2)) (hi : i < mL) (hl2 : (i, Value.ref x) :: lv.filter (fun q => !(q.1 == i) && !(q.1 + 1 == i && q.2.category == 2)) = lv') (kk : AX Z k n (pc + 2) lv' (rest) ws) : AX Z k n pc lv (Value.ref x :: rest) ws := by
  obtain ⟨⟨p, l, e, R, s⟩, ⟨m, args, below, meth, c⟩, ⟨nL, D, cl, tys, A⟩, Q⟩ := Z
  have hn := K.2.2.2.2.2.2.2.1
  exact fun H locs ls hP hD hS hl => lv_astore K.1 K.2.1 d hl (by rw [hn]; exact hi) hl2 (fun ls hl => kk H locs ls hP hD hS hl)
theorem ax_istore_n {Z : AZ} {G : AG} {cc : ByteArray} {own : String} {mL : Nat} {rm : Room} {k n pc : Nat} {lv : List (Nat × Value)} {rest : List Value} {ws : va_W} (K : AK Z G cc own mL rm) {lv' : List (Nat × Value)} {f : Fin 4} {x : Int32} (d : decode cc pc = .ok (.istore_n f, 1)) (hi : (f : Nat) < mL) (hl2 : ((f : Nat), Value.int x) :: lv.filter (fun q => !(q.1 == (f : Nat)) && !(q.1 + 1 == (f : Nat) && q.2.category == 2)) = lv') (kk : AX Z k n (pc + 1) lv' (rest) ws) : AX Z k n pc lv (Value.int x :: rest) ws := by
  obtain ⟨⟨p, l, e, R, s⟩, ⟨m, args, below, meth, c⟩, ⟨nL, D, cl, tys, A⟩, Q⟩ := Z
  have hn := K.2.2.2.2.2.2.2.1
  exact fun H locs ls hP hD hS hl => lv_istore_n K.1 K.2.1 d rfl hl (by rw [hn]; exact hi) hl2 (fun ls hl => kk H locs ls hP hD hS hl)
theorem ax_lstore_n {Z : AZ} {G : AG} {cc : ByteArray} {own : String} {mL : Nat} {rm : Room} {k n pc : Nat} {lv : List (Nat × Value)} {rest : List Value} {ws : va_W} (K : AK Z G cc own mL rm) {lv' : List (Nat × Value)} {f : Fin 4} {x : Int64} (d : decode cc pc = .ok (.lstore_n f, 1)) (hi : (f : Nat) + 1 < mL) (hl2 : ((f : Nat), Value.long x) :: lv.filter (fun q => !(q.1 == (f : Nat)) && (!(q.1 == (f : Nat) + 1) && !(q.1 + 1 == (f : Nat) && q.2.category == 2))) = lv') (kk : AX Z k n (pc + 1) lv' (rest) ws) : AX Z k n pc lv (Value.long x :: rest) ws := by
  obtain ⟨⟨p, l, e, R, s⟩, ⟨m, args, below, meth, c⟩, ⟨nL, D, cl, tys, A⟩, Q⟩ := Z
  have hn := K.2.2.2.2.2.2.2.1
  exact fun H locs ls hP hD hS hl => lv_lstore_n K.1 K.2.1 d rfl hl (by rw [hn]; exact hi) hl2 (fun ls hl => kk H locs ls hP hD hS hl)
theorem ax_astore_n {Z : AZ} {G : AG} {cc : ByteArray} {own : String} {mL : Nat} {rm : Room} {k n pc : Nat} {lv : List (Nat × Value)} {rest : List Value} {ws : va_W} (K : AK Z G cc own mL rm) {lv' : List (Nat × Value)} {f : Fin 4} {x : Nat} (d : decode cc pc = .ok (.astore_n f, 1)) (hi : (f : Nat) < mL) (hl2 : ((f : Nat), Value.ref x) :: lv.filter (fun q => !(q.1 == (f : Nat)) && !(q.1 + 1 == (f : Nat) && q.2.category == 2)) = lv') (kk : AX Z k n (pc + 1) lv' (rest) ws) : AX Z k n pc lv (Value.ref x :: rest) ws := by
  obtain ⟨⟨p, l, e, R, s⟩, ⟨m, args, below, meth, c⟩, ⟨nL, D, cl, tys, A⟩, Q⟩ := Z
  have hn := K.2.2.2.2.2.2.2.1
  exact fun H locs ls hP hD hS hl => lv_astore_n K.1 K.2.1 d rfl hl (by rw [hn]; exact hi) hl2 (fun ls hl => kk H locs ls hP hD hS hl)
theorem ax_iinc {Z : AZ} {G : AG} {cc : ByteArray} {own : String} {mL : Nat} {rm : Room} {k n pc : Nat} {lv : List (Nat × Value)} {rest : List Value} {ws : va_W} (K : AK Z G cc own mL rm) {lv' : List (Nat × Value)} (j : Nat) {i : Nat} {z : Int} {x v : Int32} (d : decode cc pc = .ok (.iinc i z, 3)) (hj : lv[j]? = some (i, .int x)) (hv : x + Int32.ofInt z = v) (hi : i < mL) (hl2 : (i, Value.int v) :: lv.filter (fun q => !(q.1 == i) && !(q.1 + 1 == i && q.2.category == 2)) = lv') (kk : AX Z k n (pc + 3) lv' rest ws) : AX Z k n pc lv rest ws := by
  obtain ⟨⟨p, l, e, R, s⟩, ⟨m, args, below, meth, c⟩, ⟨nL, D, cl, tys, A⟩, Q⟩ := Z
  have hn := K.2.2.2.2.2.2.2.1
  exact fun H locs ls hP hD hS hl => lv_iinc K.1 K.2.1 d hl (k := j) hj hv (by rw [hn]; exact hi) hl2 (fun ls hl => kk H locs ls hP hD hS hl)
theorem ax_iadd {Z : AZ} {G : AG} {cc : ByteArray} {own : String} {mL : Nat} {rm : Room} {k n pc : Nat} {lv : List (Nat × Value)} {rest : List Value} {ws : va_W} (K : AK Z G cc own mL rm) {x y : Int32} (d : decode cc pc = .ok (.iadd, 1)) (kk : AX Z k n (pc + 1) lv (.int (x + y) :: rest) ws) : AX Z k n pc lv (.int y :: .int x :: rest) ws := by
  obtain ⟨⟨p, l, e, R, s⟩, ⟨m, args, below, meth, c⟩, ⟨nL, D, cl, tys, A⟩, Q⟩ := Z
  exact fun H locs ls hP hD hS hl => lv_iadd K.1 K.2.1 d (kk H locs ls hP hD hS hl)
theorem ax_isub {Z : AZ} {G : AG} {cc : ByteArray} {own : String} {mL : Nat} {rm : Room} {k n pc : Nat} {lv : List (Nat × Value)} {rest : List Value} {ws : va_W} (K : AK Z G cc own mL rm) {x y : Int32} (d : decode cc pc = .ok (.isub, 1)) (kk : AX Z k n (pc + 1) lv (.int (x - y) :: rest) ws) : AX Z k n pc lv (.int y :: .int x :: rest) ws := by
  obtain ⟨⟨p, l, e, R, s⟩, ⟨m, args, below, meth, c⟩, ⟨nL, D, cl, tys, A⟩, Q⟩ := Z
  exact fun H locs ls hP hD hS hl => lv_isub K.1 K.2.1 d (kk H locs ls hP hD hS hl)
theorem ax_imul {Z : AZ} {G : AG} {cc : ByteArray} {own : String} {mL : Nat} {rm : Room} {k n pc : Nat} {lv : List (Nat × Value)} {rest : List Value} {ws : va_W} (K : AK Z G cc own mL rm) {x y : Int32} (d : decode cc pc = .ok (.imul, 1)) (kk : AX Z k n (pc + 1) lv (.int (x * y) :: rest) ws) : AX Z k n pc lv (.int y :: .int x :: rest) ws := by
  obtain ⟨⟨p, l, e, R, s⟩, ⟨m, args, below, meth, c⟩, ⟨nL, D, cl, tys, A⟩, Q⟩ := Z
  exact fun H locs ls hP hD hS hl => lv_imul K.1 K.2.1 d (kk H locs ls hP hD hS hl)
theorem ax_iand {Z : AZ} {G : AG} {cc : ByteArray} {own : String} {mL : Nat} {rm : Room} {k n pc : Nat} {lv : List (Nat × Value)} {rest : List Value} {ws : va_W} (K : AK Z G cc own mL rm) {x y : Int32} (d : decode cc pc = .ok (.iand, 1)) (kk : AX Z k n (pc + 1) lv (.int (x &&& y) :: rest) ws) : AX Z k n pc lv (.int y :: .int x :: rest) ws := by
  obtain ⟨⟨p, l, e, R, s⟩, ⟨m, args, below, meth, c⟩, ⟨nL, D, cl, tys, A⟩, Q⟩ := Z
  exact fun H locs ls hP hD hS hl => lv_iand K.1 K.2.1 d (kk H locs ls hP hD hS hl)
theorem ax_ior {Z : AZ} {G : AG} {cc : ByteArray} {own : String} {mL : Nat} {rm : Room} {k n pc : Nat} {lv : List (Nat × Value)} {rest : List Value} {ws : va_W} (K : AK Z G cc own mL rm) {x y : Int32} (d : decode cc pc = .ok (.ior, 1)) (kk : AX Z k n (pc + 1) lv (.int (x ||| y) :: rest) ws) : AX Z k n pc lv (.int y :: .int x :: rest) ws := by
  obtain ⟨⟨p, l, e, R, s⟩, ⟨m, args, below, meth, c⟩, ⟨nL, D, cl, tys, A⟩, Q⟩ := Z
  exact fun H locs ls hP hD hS hl => lv_ior K.1 K.2.1 d (kk H locs ls hP hD hS hl)
theorem ax_ixor {Z : AZ} {G : AG} {cc : ByteArray} {own : String} {mL : Nat} {rm : Room} {k n pc : Nat} {lv : List (Nat × Value)} {rest : List Value} {ws : va_W} (K : AK Z G cc own mL rm) {x y : Int32} (d : decode cc pc = .ok (.ixor, 1)) (kk : AX Z k n (pc + 1) lv (.int (x ^^^ y) :: rest) ws) : AX Z k n pc lv (.int y :: .int x :: rest) ws := by
  obtain ⟨⟨p, l, e, R, s⟩, ⟨m, args, below, meth, c⟩, ⟨nL, D, cl, tys, A⟩, Q⟩ := Z
  exact fun H locs ls hP hD hS hl => lv_ixor K.1 K.2.1 d (kk H locs ls hP hD hS hl)
theorem ax_ishl {Z : AZ} {G : AG} {cc : ByteArray} {own : String} {mL : Nat} {rm : Room} {k n pc : Nat} {lv : List (Nat × Value)} {rest : List Value} {ws : va_W} (K : AK Z G cc own mL rm) {x y : Int32} (d : decode cc pc = .ok (.ishl, 1)) (kk : AX Z k n (pc + 1) lv (.int (x <<< (y &&& 31)) :: rest) ws) : AX Z k n pc lv (.int y :: .int x :: rest) ws := by
  obtain ⟨⟨p, l, e, R, s⟩, ⟨m, args, below, meth, c⟩, ⟨nL, D, cl, tys, A⟩, Q⟩ := Z
  exact fun H locs ls hP hD hS hl => lv_ishl K.1 K.2.1 d (kk H locs ls hP hD hS hl)
theorem ax_ishr {Z : AZ} {G : AG} {cc : ByteArray} {own : String} {mL : Nat} {rm : Room} {k n pc : Nat} {lv : List (Nat × Value)} {rest : List Value} {ws : va_W} (K : AK Z G cc own mL rm) {x y : Int32} (d : decode cc pc = .ok (.ishr, 1)) (kk : AX Z k n (pc + 1) lv (.int (x >>> (y &&& 31)) :: rest) ws) : AX Z k n pc lv (.int y :: .int x :: rest) ws := by
  obtain ⟨⟨p, l, e, R, s⟩, ⟨m, args, below, meth, c⟩, ⟨nL, D, cl, tys, A⟩, Q⟩ := Z
  exact fun H locs ls hP hD hS hl => lv_ishr K.1 K.2.1 d (kk H locs ls hP hD hS hl)
theorem ax_idiv {Z : AZ} {G : AG} {cc : ByteArray} {own : String} {mL : Nat} {rm : Room} {k n pc : Nat} {lv : List (Nat × Value)} {rest : List Value} {ws : va_W} (K : AK Z G cc own mL rm) {x y : Int32} (hne : ¬ y = 0) (d : decode cc pc = .ok (.idiv, 1)) (kk : AX Z k n (pc + 1) lv (.int (x / y) :: rest) ws) : AX Z k n pc lv (.int y :: .int x :: rest) ws := by
  obtain ⟨⟨p, l, e, R, s⟩, ⟨m, args, below, meth, c⟩, ⟨nL, D, cl, tys, A⟩, Q⟩ := Z
  exact fun H locs ls hP hD hS hl => lv_idiv K.1 K.2.1 d hne (kk H locs ls hP hD hS hl)
theorem ax_ineg {Z : AZ} {G : AG} {cc : ByteArray} {own : String} {mL : Nat} {rm : Room} {k n pc : Nat} {lv : List (Nat × Value)} {rest : List Value} {ws : va_W} (K : AK Z G cc own mL rm) {x : Int32} (d : decode cc pc = .ok (.ineg, 1)) (kk : AX Z k n (pc + 1) lv (.int (-x) :: rest) ws) : AX Z k n pc lv (.int x :: rest) ws := by
  obtain ⟨⟨p, l, e, R, s⟩, ⟨m, args, below, meth, c⟩, ⟨nL, D, cl, tys, A⟩, Q⟩ := Z
  exact fun H locs ls hP hD hS hl => lv_ineg K.1 K.2.1 d (kk H locs ls hP hD hS hl)
theorem ax_ladd {Z : AZ} {G : AG} {cc : ByteArray} {own : String} {mL : Nat} {rm : Room} {k n pc : Nat} {lv : List (Nat × Value)} {rest : List Value} {ws : va_W} (K : AK Z G cc own mL rm) {x y : Int64} (d : decode cc pc = .ok (.ladd, 1)) (kk : AX Z k n (pc + 1) lv (.long (x + y) :: rest) ws) : AX Z k n pc lv (.long y :: .long x :: rest) ws := by
  obtain ⟨⟨p, l, e, R, s⟩, ⟨m, args, below, meth, c⟩, ⟨nL, D, cl, tys, A⟩, Q⟩ := Z
  exact fun H locs ls hP hD hS hl => lv_ladd K.1 K.2.1 d (kk H locs ls hP hD hS hl)
theorem ax_lcmp {Z : AZ} {G : AG} {cc : ByteArray} {own : String} {mL : Nat} {rm : Room} {k n pc : Nat} {lv : List (Nat × Value)} {rest : List Value} {ws : va_W} (K : AK Z G cc own mL rm) {x y : Int64} (d : decode cc pc = .ok (.lcmp, 1)) (kk : AX Z k n (pc + 1) lv (.int (lg_cmp x y) :: rest) ws) : AX Z k n pc lv (.long y :: .long x :: rest) ws := by
  obtain ⟨⟨p, l, e, R, s⟩, ⟨m, args, below, meth, c⟩, ⟨nL, D, cl, tys, A⟩, Q⟩ := Z
  exact fun H locs ls hP hD hS hl => W.lcmp K.1 K.2.1 d (kk H locs ls hP hD hS hl)
theorem ax_i2l {Z : AZ} {G : AG} {cc : ByteArray} {own : String} {mL : Nat} {rm : Room} {k n pc : Nat} {lv : List (Nat × Value)} {rest : List Value} {ws : va_W} (K : AK Z G cc own mL rm) {x : Int32} (d : decode cc pc = .ok (.i2l, 1)) (kk : AX Z k n (pc + 1) lv (.long x.toInt64 :: rest) ws) : AX Z k n pc lv (.int x :: rest) ws := by
  obtain ⟨⟨p, l, e, R, s⟩, ⟨m, args, below, meth, c⟩, ⟨nL, D, cl, tys, A⟩, Q⟩ := Z
  exact fun H locs ls hP hD hS hl => lv_i2l K.1 K.2.1 d rfl (kk H locs ls hP hD hS hl)
theorem ax_i2b {Z : AZ} {G : AG} {cc : ByteArray} {own : String} {mL : Nat} {rm : Room} {k n pc : Nat} {lv : List (Nat × Value)} {rest : List Value} {ws : va_W} (K : AK Z G cc own mL rm) {x : Int32} (d : decode cc pc = .ok (.i2b, 1)) (kk : AX Z k n (pc + 1) lv (.int x.toInt8.toInt32 :: rest) ws) : AX Z k n pc lv (.int x :: rest) ws := by
  obtain ⟨⟨p, l, e, R, s⟩, ⟨m, args, below, meth, c⟩, ⟨nL, D, cl, tys, A⟩, Q⟩ := Z
  exact fun H locs ls hP hD hS hl => lv_i2b K.1 K.2.1 d rfl (kk H locs ls hP hD hS hl)
theorem ax_i2s {Z : AZ} {G : AG} {cc : ByteArray} {own : String} {mL : Nat} {rm : Room} {k n pc : Nat} {lv : List (Nat × Value)} {rest : List Value} {ws : va_W} (K : AK Z G cc own mL rm) {x : Int32} (d : decode cc pc = .ok (.i2s, 1)) (kk : AX Z k n (pc + 1) lv (.int x.toInt16.toInt32 :: rest) ws) : AX Z k n pc lv (.int x :: rest) ws := by
  obtain ⟨⟨p, l, e, R, s⟩, ⟨m, args, below, meth, c⟩, ⟨nL, D, cl, tys, A⟩, Q⟩ := Z
  exact fun H locs ls hP hD hS hl => lv_i2s K.1 K.2.1 d rfl (kk H locs ls hP hD hS hl)
theorem ax_i2c {Z : AZ} {G : AG} {cc : ByteArray} {own : String} {mL : Nat} {rm : Room} {k n pc : Nat} {lv : List (Nat × Value)} {rest : List Value} {ws : va_W} (K : AK Z G cc own mL rm) {x : Int32} (d : decode cc pc = .ok (.i2c, 1)) (kk : AX Z k n (pc + 1) lv (.int (x.toUInt32 % 65536).toInt32 :: rest) ws) : AX Z k n pc lv (.int x :: rest) ws := by
  obtain ⟨⟨p, l, e, R, s⟩, ⟨m, args, below, meth, c⟩, ⟨nL, D, cl, tys, A⟩, Q⟩ := Z
  exact fun H locs ls hP hD hS hl => lv_i2c K.1 K.2.1 d rfl (kk H locs ls hP hD hS hl)
theorem ax_dup {Z : AZ} {G : AG} {cc : ByteArray} {own : String} {mL : Nat} {rm : Room} {k n pc : Nat} {lv : List (Nat × Value)} {rest : List Value} {ws : va_W} (K : AK Z G cc own mL rm) {v : Value} (hv : v.category = 1) (d : decode cc pc = .ok (.dup, 1)) (kk : AX Z k n (pc + 1) lv (v :: v :: rest) ws) : AX Z k n pc lv (v :: rest) ws := by
  obtain ⟨⟨p, l, e, R, s⟩, ⟨m, args, below, meth, c⟩, ⟨nL, D, cl, tys, A⟩, Q⟩ := Z
  exact fun H locs ls hP hD hS hl => lv_dup K.1 K.2.1 d hv (kk H locs ls hP hD hS hl)
theorem ax_pop {Z : AZ} {G : AG} {cc : ByteArray} {own : String} {mL : Nat} {rm : Room} {k n pc : Nat} {lv : List (Nat × Value)} {rest : List Value} {ws : va_W} (K : AK Z G cc own mL rm) {v : Value} (hv : v.category = 1) (d : decode cc pc = .ok (.pop, 1)) (kk : AX Z k n (pc + 1) lv (rest) ws) : AX Z k n pc lv (v :: rest) ws := by
  obtain ⟨⟨p, l, e, R, s⟩, ⟨m, args, below, meth, c⟩, ⟨nL, D, cl, tys, A⟩, Q⟩ := Z
  exact fun H locs ls hP hD hS hl => lv_pop K.1 K.2.1 d hv (kk H locs ls hP hD hS hl)
theorem ax_dup2 {Z : AZ} {G : AG} {cc : ByteArray} {own : String} {mL : Nat} {rm : Room} {k n pc : Nat} {lv : List (Nat × Value)} {rest : List Value} {ws : va_W} (K : AK Z G cc own mL rm) {v w : Value} (hv : v.category = 1) (hw : w.category = 1) (d : decode cc pc = .ok (.dup2, 1)) (kk : AX Z k n (pc + 1) lv (v :: w :: v :: w :: rest) ws) : AX Z k n pc lv (v :: w :: rest) ws := by
  obtain ⟨⟨p, l, e, R, s⟩, ⟨m, args, below, meth, c⟩, ⟨nL, D, cl, tys, A⟩, Q⟩ := Z
  exact fun H locs ls hP hD hS hl => lv_dup2_11 K.1 K.2.1 d hv hw (kk H locs ls hP hD hS hl)
theorem ax_dup_x1 {Z : AZ} {G : AG} {cc : ByteArray} {own : String} {mL : Nat} {rm : Room} {k n pc : Nat} {lv : List (Nat × Value)} {rest : List Value} {ws : va_W} (K : AK Z G cc own mL rm) {v w : Value} (hv : v.category = 1) (hw : w.category = 1) (d : decode cc pc = .ok (.dup_x1, 1)) (kk : AX Z k n (pc + 1) lv (v :: w :: v :: rest) ws) : AX Z k n pc lv (v :: w :: rest) ws := by
  obtain ⟨⟨p, l, e, R, s⟩, ⟨m, args, below, meth, c⟩, ⟨nL, D, cl, tys, A⟩, Q⟩ := Z
  exact fun H locs ls hP hD hS hl => lv_dup_x1 K.1 K.2.1 d hv hw (kk H locs ls hP hD hS hl)
theorem ax_null {Z : AZ} {G : AG} {cc : ByteArray} {own : String} {mL : Nat} {rm : Room} {k n pc : Nat} {lv : List (Nat × Value)} {rest : List Value} {ws : va_W} (K : AK Z G cc own mL rm)  (d : decode cc pc = .ok (.aconst_null, 1)) (kk : AX Z k n (pc + 1) lv (.null :: rest) ws) : AX Z k n pc lv (rest) ws := by
  obtain ⟨⟨p, l, e, R, s⟩, ⟨m, args, below, meth, c⟩, ⟨nL, D, cl, tys, A⟩, Q⟩ := Z
  exact fun H locs ls hP hD hS hl => lv_null K.1 K.2.1 d (kk H locs ls hP hD hS hl)
theorem ax_ldc {Z : AZ} {G : AG} {cc : ByteArray} {own : String} {mL : Nat} {rm : Room} {k n pc : Nat} {lv : List (Nat × Value)} {rest : List Value} {ws : va_W} (K : AK Z G cc own mL rm) {i : Nat} {v : Int32} (hc : Cond.constant own i v ∈ lw_all) (d : decode cc pc = .ok (.ldc i, 2)) (kk : AX Z k n (pc + 2) lv (.int v :: rest) ws) : AX Z k n pc lv (rest) ws := by
  obtain ⟨⟨p, l, e, R, s⟩, ⟨m, args, below, meth, c⟩, ⟨nL, D, cl, tys, A⟩, Q⟩ := Z
  exact fun H locs ls hP hD hS hl => lv_ldc K.1 K.2.1 K.2.2.2.1 (K.2.2.2.2.1 _ hc) d (kk H locs ls hP hD hS hl)
theorem ax_ldcw {Z : AZ} {G : AG} {cc : ByteArray} {own : String} {mL : Nat} {rm : Room} {k n pc : Nat} {lv : List (Nat × Value)} {rest : List Value} {ws : va_W} (K : AK Z G cc own mL rm) {i : Nat} {v : Int32} (hc : Cond.constant own i v ∈ lw_all) (d : decode cc pc = .ok (.ldc_w i, 3)) (kk : AX Z k n (pc + 3) lv (.int v :: rest) ws) : AX Z k n pc lv (rest) ws := by
  obtain ⟨⟨p, l, e, R, s⟩, ⟨m, args, below, meth, c⟩, ⟨nL, D, cl, tys, A⟩, Q⟩ := Z
  exact fun H locs ls hP hD hS hl => lv_ldcw K.1 K.2.1 K.2.2.2.1 (K.2.2.2.2.1 _ hc) d (kk H locs ls hP hD hS hl)
theorem ax_ldc2 {Z : AZ} {G : AG} {cc : ByteArray} {own : String} {mL : Nat} {rm : Room} {k n pc : Nat} {lv : List (Nat × Value)} {rest : List Value} {ws : va_W} (K : AK Z G cc own mL rm) {i : Nat} {v : Int64} (hc : Cond.constantLong own i v ∈ lw_all) (d : decode cc pc = .ok (.ldc2_w i, 3)) (kk : AX Z k n (pc + 3) lv (.long v :: rest) ws) : AX Z k n pc lv (rest) ws := by
  obtain ⟨⟨p, l, e, R, s⟩, ⟨m, args, below, meth, c⟩, ⟨nL, D, cl, tys, A⟩, Q⟩ := Z
  exact fun H locs ls hP hD hS hl => lv_ldc2 K.1 K.2.1 K.2.2.2.1 (K.2.2.2.2.1 _ hc) d (kk H locs ls hP hD hS hl)
theorem ax_goto {Z : AZ} {G : AG} {cc : ByteArray} {own : String} {mL : Nat} {rm : Room} {k n pc : Nat} {lv : List (Nat × Value)} {rest : List Value} {ws : va_W} (K : AK Z G cc own mL rm) {off : Int} {tgt : Nat} (d : decode cc pc = .ok (.goto off, 3)) (ht : (pc : Int) + off = (tgt : Int)) (kk : AX Z k n tgt lv rest ws) : AX Z k n pc lv rest ws := by
  obtain ⟨⟨p, l, e, R, s⟩, ⟨m, args, below, meth, c⟩, ⟨nL, D, cl, tys, A⟩, Q⟩ := Z
  exact fun H locs ls hP hD hS hl => lv_goto K.1 K.2.1 d ht (kk H locs ls hP hD hS hl)
theorem ax_if_eq {Z : AZ} {G : AG} {cc : ByteArray} {own : String} {mL : Nat} {rm : Room} {k n pc : Nat} {lv : List (Nat × Value)} {rest : List Value} {ws : va_W} (K : AK Z G cc own mL rm) {x : Int32} {off : Int} {tgt : Nat} (d : decode cc pc = .ok (.ifCond .eq off, 3)) (ht : (pc : Int) + off = (tgt : Int)) (kt : x = 0 → AX Z k n tgt lv rest ws) (kf : ¬ x = 0 → AX Z k n (pc + 3) lv rest ws) : AX Z k n pc lv (.int x :: rest) ws := by
  obtain ⟨⟨p, l, e, R, s⟩, ⟨m, args, below, meth, c⟩, ⟨nL, D, cl, tys, A⟩, Q⟩ := Z
  exact fun H locs ls hP hD hS hl => lv_if_eq K.1 K.2.1 d ht (fun h => kt h H locs ls hP hD hS hl) (fun h => kf h H locs ls hP hD hS hl)
theorem ax_if_ne {Z : AZ} {G : AG} {cc : ByteArray} {own : String} {mL : Nat} {rm : Room} {k n pc : Nat} {lv : List (Nat × Value)} {rest : List Value} {ws : va_W} (K : AK Z G cc own mL rm) {x : Int32} {off : Int} {tgt : Nat} (d : decode cc pc = .ok (.ifCond .ne off, 3)) (ht : (pc : Int) + off = (tgt : Int)) (kt : ¬ x = 0 → AX Z k n tgt lv rest ws) (kf : x = 0 → AX Z k n (pc + 3) lv rest ws) : AX Z k n pc lv (.int x :: rest) ws := by
  obtain ⟨⟨p, l, e, R, s⟩, ⟨m, args, below, meth, c⟩, ⟨nL, D, cl, tys, A⟩, Q⟩ := Z
  exact fun H locs ls hP hD hS hl => lv_if_ne K.1 K.2.1 d ht (fun h => kt h H locs ls hP hD hS hl) (fun h => kf h H locs ls hP hD hS hl)
theorem ax_if_lt {Z : AZ} {G : AG} {cc : ByteArray} {own : String} {mL : Nat} {rm : Room} {k n pc : Nat} {lv : List (Nat × Value)} {rest : List Value} {ws : va_W} (K : AK Z G cc own mL rm) {x : Int32} {off : Int} {tgt : Nat} (d : decode cc pc = .ok (.ifCond .lt off, 3)) (ht : (pc : Int) + off = (tgt : Int)) (kt : x < 0 → AX Z k n tgt lv rest ws) (kf : ¬ x < 0 → AX Z k n (pc + 3) lv rest ws) : AX Z k n pc lv (.int x :: rest) ws := by
  obtain ⟨⟨p, l, e, R, s⟩, ⟨m, args, below, meth, c⟩, ⟨nL, D, cl, tys, A⟩, Q⟩ := Z
  exact fun H locs ls hP hD hS hl => lv_if_lt K.1 K.2.1 d ht (fun h => kt h H locs ls hP hD hS hl) (fun h => kf h H locs ls hP hD hS hl)
theorem ax_if_ge {Z : AZ} {G : AG} {cc : ByteArray} {own : String} {mL : Nat} {rm : Room} {k n pc : Nat} {lv : List (Nat × Value)} {rest : List Value} {ws : va_W} (K : AK Z G cc own mL rm) {x : Int32} {off : Int} {tgt : Nat} (d : decode cc pc = .ok (.ifCond .ge off, 3)) (ht : (pc : Int) + off = (tgt : Int)) (kt : 0 ≤ x → AX Z k n tgt lv rest ws) (kf : ¬ 0 ≤ x → AX Z k n (pc + 3) lv rest ws) : AX Z k n pc lv (.int x :: rest) ws := by
  obtain ⟨⟨p, l, e, R, s⟩, ⟨m, args, below, meth, c⟩, ⟨nL, D, cl, tys, A⟩, Q⟩ := Z
  exact fun H locs ls hP hD hS hl => lv_if_ge K.1 K.2.1 d ht (fun h => kt h H locs ls hP hD hS hl) (fun h => kf h H locs ls hP hD hS hl)
theorem ax_if_gt {Z : AZ} {G : AG} {cc : ByteArray} {own : String} {mL : Nat} {rm : Room} {k n pc : Nat} {lv : List (Nat × Value)} {rest : List Value} {ws : va_W} (K : AK Z G cc own mL rm) {x : Int32} {off : Int} {tgt : Nat} (d : decode cc pc = .ok (.ifCond .gt off, 3)) (ht : (pc : Int) + off = (tgt : Int)) (kt : 0 < x → AX Z k n tgt lv rest ws) (kf : ¬ 0 < x → AX Z k n (pc + 3) lv rest ws) : AX Z k n pc lv (.int x :: rest) ws := by
  obtain ⟨⟨p, l, e, R, s⟩, ⟨m, args, below, meth, c⟩, ⟨nL, D, cl, tys, A⟩, Q⟩ := Z
  exact fun H locs ls hP hD hS hl => lv_if_gt K.1 K.2.1 d ht (fun h => kt h H locs ls hP hD hS hl) (fun h => kf h H locs ls hP hD hS hl)
theorem ax_if_le {Z : AZ} {G : AG} {cc : ByteArray} {own : String} {mL : Nat} {rm : Room} {k n pc : Nat} {lv : List (Nat × Value)} {rest : List Value} {ws : va_W} (K : AK Z G cc own mL rm) {x : Int32} {off : Int} {tgt : Nat} (d : decode cc pc = .ok (.ifCond .le off, 3)) (ht : (pc : Int) + off = (tgt : Int)) (kt : x ≤ 0 → AX Z k n tgt lv rest ws) (kf : ¬ x ≤ 0 → AX Z k n (pc + 3) lv rest ws) : AX Z k n pc lv (.int x :: rest) ws := by
  obtain ⟨⟨p, l, e, R, s⟩, ⟨m, args, below, meth, c⟩, ⟨nL, D, cl, tys, A⟩, Q⟩ := Z
  exact fun H locs ls hP hD hS hl => lv_if_le K.1 K.2.1 d ht (fun h => kt h H locs ls hP hD hS hl) (fun h => kf h H locs ls hP hD hS hl)
theorem ax_icmp_eq {Z : AZ} {G : AG} {cc : ByteArray} {own : String} {mL : Nat} {rm : Room} {k n pc : Nat} {lv : List (Nat × Value)} {rest : List Value} {ws : va_W} (K : AK Z G cc own mL rm) {x y : Int32} {off : Int} {tgt : Nat} (d : decode cc pc = .ok (.if_icmp .eq off, 3)) (ht : (pc : Int) + off = (tgt : Int)) (kt : x = y → AX Z k n tgt lv rest ws) (kf : ¬ x = y → AX Z k n (pc + 3) lv rest ws) : AX Z k n pc lv (.int y :: .int x :: rest) ws := by
  obtain ⟨⟨p, l, e, R, s⟩, ⟨m, args, below, meth, c⟩, ⟨nL, D, cl, tys, A⟩, Q⟩ := Z
  exact fun H locs ls hP hD hS hl => lv_icmp_eq K.1 K.2.1 d ht (fun h => kt h H locs ls hP hD hS hl) (fun h => kf h H locs ls hP hD hS hl)
theorem ax_icmp_ne {Z : AZ} {G : AG} {cc : ByteArray} {own : String} {mL : Nat} {rm : Room} {k n pc : Nat} {lv : List (Nat × Value)} {rest : List Value} {ws : va_W} (K : AK Z G cc own mL rm) {x y : Int32} {off : Int} {tgt : Nat} (d : decode cc pc = .ok (.if_icmp .ne off, 3)) (ht : (pc : Int) + off = (tgt : Int)) (kt : ¬ x = y → AX Z k n tgt lv rest ws) (kf : x = y → AX Z k n (pc + 3) lv rest ws) : AX Z k n pc lv (.int y :: .int x :: rest) ws := by
  obtain ⟨⟨p, l, e, R, s⟩, ⟨m, args, below, meth, c⟩, ⟨nL, D, cl, tys, A⟩, Q⟩ := Z
  exact fun H locs ls hP hD hS hl => lv_icmp_ne K.1 K.2.1 d ht (fun h => kt h H locs ls hP hD hS hl) (fun h => kf h H locs ls hP hD hS hl)
theorem ax_icmp_lt {Z : AZ} {G : AG} {cc : ByteArray} {own : String} {mL : Nat} {rm : Room} {k n pc : Nat} {lv : List (Nat × Value)} {rest : List Value} {ws : va_W} (K : AK Z G cc own mL rm) {x y : Int32} {off : Int} {tgt : Nat} (d : decode cc pc = .ok (.if_icmp .lt off, 3)) (ht : (pc : Int) + off = (tgt : Int)) (kt : x < y → AX Z k n tgt lv rest ws) (kf : ¬ x < y → AX Z k n (pc + 3) lv rest ws) : AX Z k n pc lv (.int y :: .int x :: rest) ws := by
  obtain ⟨⟨p, l, e, R, s⟩, ⟨m, args, below, meth, c⟩, ⟨nL, D, cl, tys, A⟩, Q⟩ := Z
  exact fun H locs ls hP hD hS hl => lv_icmp_lt K.1 K.2.1 d ht (fun h => kt h H locs ls hP hD hS hl) (fun h => kf h H locs ls hP hD hS hl)
theorem ax_icmp_ge {Z : AZ} {G : AG} {cc : ByteArray} {own : String} {mL : Nat} {rm : Room} {k n pc : Nat} {lv : List (Nat × Value)} {rest : List Value} {ws : va_W} (K : AK Z G cc own mL rm) {x y : Int32} {off : Int} {tgt : Nat} (d : decode cc pc = .ok (.if_icmp .ge off, 3)) (ht : (pc : Int) + off = (tgt : Int)) (kt : y ≤ x → AX Z k n tgt lv rest ws) (kf : ¬ y ≤ x → AX Z k n (pc + 3) lv rest ws) : AX Z k n pc lv (.int y :: .int x :: rest) ws := by
  obtain ⟨⟨p, l, e, R, s⟩, ⟨m, args, below, meth, c⟩, ⟨nL, D, cl, tys, A⟩, Q⟩ := Z
  exact fun H locs ls hP hD hS hl => lv_icmp_ge K.1 K.2.1 d ht (fun h => kt h H locs ls hP hD hS hl) (fun h => kf h H locs ls hP hD hS hl)
theorem ax_icmp_gt {Z : AZ} {G : AG} {cc : ByteArray} {own : String} {mL : Nat} {rm : Room} {k n pc : Nat} {lv : List (Nat × Value)} {rest : List Value} {ws : va_W} (K : AK Z G cc own mL rm) {x y : Int32} {off : Int} {tgt : Nat} (d : decode cc pc = .ok (.if_icmp .gt off, 3)) (ht : (pc : Int) + off = (tgt : Int)) (kt : y < x → AX Z k n tgt lv rest ws) (kf : ¬ y < x → AX Z k n (pc + 3) lv rest ws) : AX Z k n pc lv (.int y :: .int x :: rest) ws := by
  obtain ⟨⟨p, l, e, R, s⟩, ⟨m, args, below, meth, c⟩, ⟨nL, D, cl, tys, A⟩, Q⟩ := Z
  exact fun H locs ls hP hD hS hl => lv_icmp_gt K.1 K.2.1 d ht (fun h => kt h H locs ls hP hD hS hl) (fun h => kf h H locs ls hP hD hS hl)
theorem ax_icmp_le {Z : AZ} {G : AG} {cc : ByteArray} {own : String} {mL : Nat} {rm : Room} {k n pc : Nat} {lv : List (Nat × Value)} {rest : List Value} {ws : va_W} (K : AK Z G cc own mL rm) {x y : Int32} {off : Int} {tgt : Nat} (d : decode cc pc = .ok (.if_icmp .le off, 3)) (ht : (pc : Int) + off = (tgt : Int)) (kt : x ≤ y → AX Z k n tgt lv rest ws) (kf : ¬ x ≤ y → AX Z k n (pc + 3) lv rest ws) : AX Z k n pc lv (.int y :: .int x :: rest) ws := by
  obtain ⟨⟨p, l, e, R, s⟩, ⟨m, args, below, meth, c⟩, ⟨nL, D, cl, tys, A⟩, Q⟩ := Z
  exact fun H locs ls hP hD hS hl => lv_icmp_le K.1 K.2.1 d ht (fun h => kt h H locs ls hP hD hS hl) (fun h => kf h H locs ls hP hD hS hl)
/-- fewer locals, in another order -/
theorem ax_sub {Z : AZ} {k n pc : Nat} {lv lv' : List (Nat × Value)} {st : List Value} {ws : va_W} (ks : List Nat) (h : lv_pick lv ks = lv') (kk : AX Z k n pc lv' st ws) : AX Z k n pc lv st ws := by
  obtain ⟨⟨p, l, e, R, s⟩, ⟨m, args, below, meth, c⟩, ⟨nL, D, cl, tys, A⟩, Q⟩ := Z
  exact fun H locs ls hP hD hS hl => kk H locs ls hP hD hS (lv_sub hl ks h)
theorem ax_widen {Z : AZ} {k n k' n' pc : Nat} {lv : List (Nat × Value)} {st : List Value} {ws : va_W} (hk : k ≤ k') (hn : n ≤ n') (kk : AX Z k' n' pc lv st ws) : AX Z k n pc lv st ws := by
  obtain ⟨⟨p, l, e, R, s⟩, ⟨m, args, below, meth, c⟩, ⟨nL, D, cl, tys, A⟩, Q⟩ := Z
  exact fun H locs ls hP hD hS hl => W.widen hk hn (kk H locs ls hP hD hS hl)
theorem ax_it {c A B : Prop} {_ : Decidable c} (h : if c then A else B) (hc : c) : A := by rwa [if_pos hc] at h
theorem ax_ie {c A B : Prop} {_ : Decidable c} (h : if c then A else B) (hc : ¬ c) : B := by rwa [if_neg hc] at h
theorem ax_nit {c A B : Prop} {_ : Decidable c} (h : if c then A else B) (hc : ¬ ¬ c) : A := by rwa [if_pos (Decidable.not_not.mp hc)] at h
theorem ax_tableOut {Z : AZ} {G : AG} {cc : ByteArray} {own : String} {mL : Nat} {rm : Room} {k n pc : Nat} {lv : List (Nat × Value)} {rest : List Value} {ws : va_W} (K : AK Z G cc own mL rm) {dflt lo hi : Int} {offs : Array Int} {len : Nat} {x : Int32} {tgt : Nat} (d : decode cc pc = .ok (.tableswitch dflt lo hi offs, len)) (h : x.toInt < lo ∨ hi < x.toInt) (ht : (pc : Int) + dflt = (tgt : Int)) (kk : AX Z k n tgt lv rest ws) : AX Z k n pc lv (.int x :: rest) ws := by
  obtain ⟨⟨p, l, e, R, s⟩, ⟨m, args, below, meth, c⟩, ⟨nL, D, cl, tys, A⟩, Q⟩ := Z
  exact fun H locs ls hP hD hS hl => lv_tableOut K.1 K.2.1 d h ht (kk H locs ls hP hD hS hl)
theorem ax_tableIn {Z : AZ} {G : AG} {cc : ByteArray} {own : String} {mL : Nat} {rm : Room} {k n pc : Nat} {lv : List (Nat × Value)} {rest : List Value} {ws : va_W} (K : AK Z G cc own mL rm) {dflt lo hi : Int} {offs : Array Int} {len : Nat} {x : Int32} {off : Int} {tgt : Nat} (d : decode cc pc = .ok (.tableswitch dflt lo hi offs, len)) (h1 : ¬ x.toInt < lo) (h2 : ¬ hi < x.toInt) (ho : offs[(x.toInt - lo).toNat]? = some off) (ht : (pc : Int) + off = (tgt : Int)) (kk : AX Z k n tgt lv rest ws) : AX Z k n pc lv (.int x :: rest) ws := by
  obtain ⟨⟨p, l, e, R, s⟩, ⟨m, args, below, meth, c⟩, ⟨nL, D, cl, tys, A⟩, Q⟩ := Z
  exact fun H locs ls hP hD hS hl => lv_tableIn K.1 K.2.1 d h1 h2 ho ht (kk H locs ls hP hD hS hl)
theorem ax_mmax {Z : AZ} {G : AG} {cc : ByteArray} {own : String} {mL : Nat} {rm : Room} {k n pc : Nat} {lv : List (Nat × Value)} {rest : List Value} {ws : va_W} (K : AK Z G cc own mL rm) {i : Nat} (hl0 : Cond.methodLink own i Lib.Math.max.name ∈ lw_all) (hst : Cond.static Lib.Math.max.name ∈ lw_all) (hin : Cond.initialized "java/lang/Math" ∈ lw_all) (hco : Cond.code Lib.Math.max.name Lib.Math.max.code 2 (some .int) ∈ lw_all) (hr1 : 1 ≤ rm.frames) (hr2 : (rest.map fun v => v.category).sum + 13 ≤ rm.locals) (hr3 : k ≤ rm.cells) (hr4 : n ≤ rm.slots) {x y : Int32} (d : decode cc pc = .ok (.invokestatic i, 3)) (kk : AX Z k n (pc + 3) lv (.int (if x < y then y else x) :: rest) ws) : AX Z k n pc lv (.int y :: .int x :: rest) ws := by
  obtain ⟨⟨p, l, e, R, s⟩, ⟨m, args, below, meth, c⟩, ⟨nL, D, cl, tys, A⟩, Q⟩ := Z
  have hR : R = rm := K.2.2.2.2.2.2.2.2.1
  exact fun H locs ls hP hD hS hl => va_mmax K.1 K.2.1 (by rw [K.2.2.1, hl.1]) K.2.2.2.1 (K.2.2.2.2.1 _ hl0) (K.2.2.2.2.1 _ hst) (K.2.2.2.2.1 _ hin) (K.2.2.2.2.1 _ hco) (by rw [hR]; exact hr1) (by rw [hR]; exact hr2) (by rw [hR]; exact hr3) (by rw [hR]; exact hr4) d (kk H locs ls hP hD hS hl)
theorem ax_mmin {Z : AZ} {G : AG} {cc : ByteArray} {own : String} {mL : Nat} {rm : Room} {k n pc : Nat} {lv : List (Nat × Value)} {rest : List Value} {ws : va_W} (K : AK Z G cc own mL rm) {i : Nat} (hl0 : Cond.methodLink own i Lib.Math.min.name ∈ lw_all) (hst : Cond.static Lib.Math.min.name ∈ lw_all) (hin : Cond.initialized "java/lang/Math" ∈ lw_all) (hco : Cond.code Lib.Math.min.name Lib.Math.min.code 2 (some .int) ∈ lw_all) (hr1 : 1 ≤ rm.frames) (hr2 : (rest.map fun v => v.category).sum + 13 ≤ rm.locals) (hr3 : k ≤ rm.cells) (hr4 : n ≤ rm.slots) {x y : Int32} (d : decode cc pc = .ok (.invokestatic i, 3)) (kk : AX Z k n (pc + 3) lv (.int (if y < x then y else x) :: rest) ws) : AX Z k n pc lv (.int y :: .int x :: rest) ws := by
  obtain ⟨⟨p, l, e, R, s⟩, ⟨m, args, below, meth, c⟩, ⟨nL, D, cl, tys, A⟩, Q⟩ := Z
  have hR : R = rm := K.2.2.2.2.2.2.2.2.1
  exact fun H locs ls hP hD hS hl => va_mmin K.1 K.2.1 (by rw [K.2.2.1, hl.1]) K.2.2.2.1 (K.2.2.2.2.1 _ hl0) (K.2.2.2.2.1 _ hst) (K.2.2.2.2.1 _ hin) (K.2.2.2.2.1 _ hco) (by rw [hR]; exact hr1) (by rw [hR]; exact hr2) (by rw [hR]; exact hr3) (by rw [hR]; exact hr4) d (kk H locs ls hP hD hS hl)
theorem ax_get {Z : AZ} {G : AG} {cc : ByteArray} {own : String} {mL : Nat} {rm : Room} {k n pc : Nat} {lv : List (Nat × Value)} {rest : List Value} {ws : va_W} (K : AK Z G cc own mL rm) {C : String} {T : u_T} {N ci index a : Nat} {fs : List Value} {v : Value} (hin : ∀ w ∈ u_ws C T N, w ∈ lw_all) (q0 : Nat) (he : ws[q0]? = some (a, .inr (ci, fs))) (hc : vwCl[ci]? = some (C, T, N)) (kf : Nat) (hk : kf < N) (hlink : Cond.fieldLink own index (T kf).1 (T kf).2.1 (T kf).2.2.1 ∈ lw_all) (hv : fs[kf]? = some v) (d : decode cc pc = .ok (.getfield index, 3)) (kk : AX Z k n (pc + 3) lv (v :: rest) ws) : AX Z k n pc lv (.ref a :: rest) ws := by
  obtain ⟨⟨p, l, e, R, s⟩, ⟨m, args, below, meth, c⟩, ⟨nL, D, cl, tys, A⟩, Q⟩ := Z
  obtain ⟨hx, hb, hml, hown, hts, hK, hA, hnL, hR, hD0, hcl, hty, hlk⟩ := K
  subst hcl
  exact fun H locs ls hP hD hS hl => va_get hx hb hts hin hown hK hP q0 he hc kf hk (hts _ hlink) (fun x h => h) hv d (kk H locs ls hP hD hS hl)
theorem ax_put {Z : AZ} {G : AG} {cc : ByteArray} {own : String} {mL : Nat} {rm : Room} {k n pc : Nat} {lv : List (Nat × Value)} {rest : List Value} {ws : va_W} (K : AK Z G cc own mL rm) {C : String} {T : u_T} {N ci index a : Nat} {fs : List Value} {v : Value} (hin : ∀ w ∈ u_ws C T N, w ∈ lw_all) (ty0 : Nat → FieldType) (hty0 : ∀ k, k < N → parseFieldDescriptor (T k).2.2.1 = some (ty0 k)) (hnm : ∀ a, a < N → ∀ b, b < N → a ≠ b → (T a).2.1 ≠ (T b).2.1) (q0 : Nat) (he : ws[q0]? = some (a, .inr (ci, fs))) (hc : vwCl[ci]? = some (C, T, N)) (kf : Nat) (hk : kf < N) (hlink : Cond.fieldLink own index (T kf).1 (T kf).2.1 (T kf).2.2.1 ∈ lw_all) (hfin : (T kf).2.2.2 = false) (hn : narrow (ty0 kf) v = v) (hfit : fits (ty0 kf) v = true) (hl0 : kf < fs.length) (d : decode cc pc = .ok (.putfield index, 3)) {ws' : va_W} (hw : ws.set q0 (a, .inr (ci, fs.set kf v)) = ws') (kk : AX Z k n (pc + 3) lv rest ws') : AX Z k n pc lv (v :: .ref a :: rest) ws := by
  obtain ⟨⟨p, l, e, R, s⟩, ⟨m, args, below, meth, c⟩, ⟨nL, D, cl, tys, A⟩, Q⟩ := Z
  obtain ⟨hx, hb, hml, hown, hts, hK, hA, hnL, hR, hD0, hcl, hty, hlk⟩ := K
  subst hcl; subst hw
  exact fun H locs ls hP hD hS hl => va_put hx hb hts hin ty0 hty0 hnm hown hK hP hD hS q0 he hc kf hk (hts _ hlink) (fun x h => h) hfin (hty0 kf hk) hn hfit hl0 d (fun H1 locs1 hP1 hD1 hS1 => kk H1 locs1 ls hP1 hD1 hS1 hl)
theorem ax_iald {Z : AZ} {G : AG} {cc : ByteArray} {own : String} {mL : Nat} {rm : Room} {k n pc : Nat} {lv : List (Nat × Value)} {rest : List Value} {ws : va_W} (K : AK Z G cc own mL rm) {a N : Nat} {f : Nat → Int32} (q0 : Nat) (ha : ws[q0]? = some (a, .inl (G.2 0, N, .inl f))) {i : Int32} (hin : vp_in i N) (d : decode cc pc = .ok (.iaload, 1)) (kk : AX Z k n (pc + 1) lv (.int (f i.toNatClampNeg) :: rest) ws) : AX Z k n pc lv (.int i :: .ref a :: rest) ws := by
  obtain ⟨⟨p, l, e, R, s⟩, ⟨m, args, below, meth, c⟩, ⟨nL, D, cl, tys, A⟩, Q⟩ := Z
  obtain ⟨hx, hb, hml, hown, hts, hK, hA, hnL, hR, hD0, hcl, hty, hlk⟩ := K
  subst hty
  exact fun H locs ls hP hD hS hl => va_iald hx hb hK hP q0 0 ha rfl hin d (kk H locs ls hP hD hS hl)
theorem ax_iast {Z : AZ} {G : AG} {cc : ByteArray} {own : String} {mL : Nat} {rm : Room} {k n pc : Nat} {lv : List (Nat × Value)} {rest : List Value} {ws : va_W} (K : AK Z G cc own mL rm) {a N : Nat} {f : Nat → Int32} (q0 : Nat) (ha : ws[q0]? = some (a, .inl (G.2 0, N, .inl f))) {i : Int32} {x : Int32} (hin : vp_in i N) (d : decode cc pc = .ok (.iastore, 1)) {ws' : va_W} (hw : ws.set q0 (a, .inl (G.2 0, N, .inl (upd f i.toNatClampNeg x))) = ws') (kk : AX Z k n (pc + 1) lv rest ws') : AX Z k n pc lv (.int x :: .int i :: .ref a :: rest) ws := by
  obtain ⟨⟨p, l, e, R, s⟩, ⟨m, args, below, meth, c⟩, ⟨nL, D, cl, tys, A⟩, Q⟩ := Z
  obtain ⟨hx, hb, hml, hown, hts, hK, hA, hnL, hR, hD0, hcl, hty, hlk⟩ := K
  subst hty; subst hw
  exact fun H locs ls hP hD hS hl => va_iast hx hb hK hP hD hS q0 0 ha rfl hin d (fun H1 locs1 hP1 hD1 hS1 => kk H1 locs1 ls hP1 hD1 hS1 hl)
theorem ax_lald {Z : AZ} {G : AG} {cc : ByteArray} {own : String} {mL : Nat} {rm : Room} {k n pc : Nat} {lv : List (Nat × Value)} {rest : List Value} {ws : va_W} (K : AK Z G cc own mL rm) {a N : Nat} {f : Nat → Int64} (q0 : Nat) (ha : ws[q0]? = some (a, .inl (G.2 1, N, .inr (.inl f)))) {i : Int32} (hin : vp_in i N) (d : decode cc pc = .ok (.laload, 1)) (kk : AX Z k n (pc + 1) lv (.long (f i.toNatClampNeg) :: rest) ws) : AX Z k n pc lv (.int i :: .ref a :: rest) ws := by
  obtain ⟨⟨p, l, e, R, s⟩, ⟨m, args, below, meth, c⟩, ⟨nL, D, cl, tys, A⟩, Q⟩ := Z
  obtain ⟨hx, hb, hml, hown, hts, hK, hA, hnL, hR, hD0, hcl, hty, hlk⟩ := K
  subst hty
  exact fun H locs ls hP hD hS hl => va_lald hx hb hK hP q0 1 ha rfl hin d (kk H locs ls hP hD hS hl)
theorem ax_last {Z : AZ} {G : AG} {cc : ByteArray} {own : String} {mL : Nat} {rm : Room} {k n pc : Nat} {lv : List (Nat × Value)} {rest : List Value} {ws : va_W} (K : AK Z G cc own mL rm) {a N : Nat} {f : Nat → Int64} (q0 : Nat) (ha : ws[q0]? = some (a, .inl (G.2 1, N, .inr (.inl f)))) {i : Int32} {x : Int64} (hin : vp_in i N) (d : decode cc pc = .ok (.lastore, 1)) {ws' : va_W} (hw : ws.set q0 (a, .inl (G.2 1, N, .inr (.inl (vp_updL f i.toNatClampNeg x)))) = ws') (kk : AX Z k n (pc + 1) lv rest ws') : AX Z k n pc lv (.long x :: .int i :: .ref a :: rest) ws := by
  obtain ⟨⟨p, l, e, R, s⟩, ⟨m, args, below, meth, c⟩, ⟨nL, D, cl, tys, A⟩, Q⟩ := Z
  obtain ⟨hx, hb, hml, hown, hts, hK, hA, hnL, hR, hD0, hcl, hty, hlk⟩ := K
  subst hty; subst hw
  exact fun H locs ls hP hD hS hl => va_last hx hb hK hP hD hS q0 1 ha rfl hin d (fun H1 locs1 hP1 hD1 hS1 => kk H1 locs1 ls hP1 hD1 hS1 hl)
theorem ax_zald {Z : AZ} {G : AG} {cc : ByteArray} {own : String} {mL : Nat} {rm : Room} {k n pc : Nat} {lv : List (Nat × Value)} {rest : List Value} {ws : va_W} (K : AK Z G cc own mL rm) {a N : Nat} {f : Nat → Int32} (q0 : Nat) (ha : ws[q0]? = some (a, .inl (G.2 2, N, .inl f))) {i : Int32} (hin : vp_in i N) (d : decode cc pc = .ok (.baload, 1)) (kk : AX Z k n (pc + 1) lv (.int (f i.toNatClampNeg) :: rest) ws) : AX Z k n pc lv (.int i :: .ref a :: rest) ws := by
  obtain ⟨⟨p, l, e, R, s⟩, ⟨m, args, below, meth, c⟩, ⟨nL, D, cl, tys, A⟩, Q⟩ := Z
  obtain ⟨hx, hb, hml, hown, hts, hK, hA, hnL, hR, hD0, hcl, hty, hlk⟩ := K
  subst hty
  exact fun H locs ls hP hD hS hl => va_zald hx hb hK hP q0 2 ha rfl hin d (kk H locs ls hP hD hS hl)
theorem ax_zast {Z : AZ} {G : AG} {cc : ByteArray} {own : String} {mL : Nat} {rm : Room} {k n pc : Nat} {lv : List (Nat × Value)} {rest : List Value} {ws : va_W} (K : AK Z G cc own mL rm) {a N : Nat} {f : Nat → Int32} (q0 : Nat) (ha : ws[q0]? = some (a, .inl (G.2 2, N, .inl f))) {i : Int32} {x : Int32} (hin : vp_in i N) (d : decode cc pc = .ok (.bastore, 1)) {ws' : va_W} (hw : ws.set q0 (a, .inl (G.2 2, N, .inl (upd f i.toNatClampNeg (vp_nar .boolean x)))) = ws') (kk : AX Z k n (pc + 1) lv rest ws') : AX Z k n pc lv (.int x :: .int i :: .ref a :: rest) ws := by
  obtain ⟨⟨p, l, e, R, s⟩, ⟨m, args, below, meth, c⟩, ⟨nL, D, cl, tys, A⟩, Q⟩ := Z
  obtain ⟨hx, hb, hml, hown, hts, hK, hA, hnL, hR, hD0, hcl, hty, hlk⟩ := K
  subst hty; subst hw
  exact fun H locs ls hP hD hS hl => va_zast hx hb hK hP hD hS q0 2 ha rfl hin d (fun H1 locs1 hP1 hD1 hS1 => kk H1 locs1 ls hP1 hD1 hS1 hl)
theorem ax_bald {Z : AZ} {G : AG} {cc : ByteArray} {own : String} {mL : Nat} {rm : Room} {k n pc : Nat} {lv : List (Nat × Value)} {rest : List Value} {ws : va_W} (K : AK Z G cc own mL rm) {a N : Nat} {f : Nat → Int32} (q0 : Nat) (ha : ws[q0]? = some (a, .inl (G.2 3, N, .inl f))) {i : Int32} (hin : vp_in i N) (d : decode cc pc = .ok (.baload, 1)) (kk : AX Z k n (pc + 1) lv (.int (f i.toNatClampNeg) :: rest) ws) : AX Z k n pc lv (.int i :: .ref a :: rest) ws := by
  obtain ⟨⟨p, l, e, R, s⟩, ⟨m, args, below, meth, c⟩, ⟨nL, D, cl, tys, A⟩, Q⟩ := Z
  obtain ⟨hx, hb, hml, hown, hts, hK, hA, hnL, hR, hD0, hcl, hty, hlk⟩ := K
  subst hty
  exact fun H locs ls hP hD hS hl => va_bald hx hb hK hP q0 3 ha rfl hin d (kk H locs ls hP hD hS hl)
theorem ax_bast {Z : AZ} {G : AG} {cc : ByteArray} {own : String} {mL : Nat} {rm : Room} {k n pc : Nat} {lv : List (Nat × Value)} {rest : List Value} {ws : va_W} (K : AK Z G cc own mL rm) {a N : Nat} {f : Nat → Int32} (q0 : Nat) (ha : ws[q0]? = some (a, .inl (G.2 3, N, .inl f))) {i : Int32} {x : Int32} (hin : vp_in i N) (d : decode cc pc = .ok (.bastore, 1)) {ws' : va_W} (hw : ws.set q0 (a, .inl (G.2 3, N, .inl (upd f i.toNatClampNeg (vp_nar .byte x)))) = ws') (kk : AX Z k n (pc + 1) lv rest ws') : AX Z k n pc lv (.int x :: .int i :: .ref a :: rest) ws := by
  obtain ⟨⟨p, l, e, R, s⟩, ⟨m, args, below, meth, c⟩, ⟨nL, D, cl, tys, A⟩, Q⟩ := Z
  obtain ⟨hx, hb, hml, hown, hts, hK, hA, hnL, hR, hD0, hcl, hty, hlk⟩ := K
  subst hty; subst hw
  exact fun H locs ls hP hD hS hl => va_bast hx hb hK hP hD hS q0 3 ha rfl hin d (fun H1 locs1 hP1 hD1 hS1 => kk H1 locs1 ls hP1 hD1 hS1 hl)
