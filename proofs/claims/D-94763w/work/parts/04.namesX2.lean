/-! NextMustShareModel -/
set_option maxRecDepth 100000
def RX2 : String := "NextMustShareModel"
def TX2 : u_T := fun k => match k with
  | 0 => ("NextMustShareModel", "store", "[I", true)
  | 1 => ("NextMustShareModel", "dishes", "I", false)
  | 2 => ("NextMustShareModel", "stuffs", "[I", true)
  | 3 => ("NextMustShareModel", "cost", "[I", true)
  | 4 => ("NextMustShareModel", "isHot", "[Z", true)
  | 5 => ("NextMustShareModel", "hours", "[I", true)
  | 6 => ("NextMustShareModel", "guests", "I", false)
  | 7 => ("NextMustShareModel", "loves", "[I", true)
  | 8 => ("NextMustShareModel", "bars", "[I", true)
  | 9 => ("NextMustShareModel", "share", "I", false)
  | 10 => ("NextMustShareModel", "times", "I", false)
  | 11 => ("NextMustShareModel", "heat", "I", false)
  | 12 => ("NextMustShareModel", "served", "[I", true)
  | 13 => ("NextMustShareModel", "servedMany", "I", false)
  | 14 => ("NextMustShareModel", "menus", "[I", true)
  | 15 => ("NextMustShareModel", "menuLong", "[I", true)
  | 16 => ("NextMustShareModel", "text", "[B", true)
  | 17 => ("NextMustShareModel", "typed", "I", false)
  | 18 => ("NextMustShareModel", "row", "[I", true)
  | 19 => ("NextMustShareModel", "rowMany", "I", false)
  | 20 => ("NextMustShareModel", "thrown", "I", false)
  | 21 => ("NextMustShareModel", "read", "[B", false)
  | 22 => ("NextMustShareModel", "size", "I", false)
  | 23 => ("NextMustShareModel", "top", "I", false)
  | 24 => ("NextMustShareModel", "at", "I", false)
  | 25 => ("NextMustShareModel", "wrong", "I", false)
  | 26 => ("NextMustShareModel", "rule", "[B", true)
  | 27 => ("NextMustShareModel", "ruleSize", "I", false)
  | 28 => ("NextMustShareModel", "askedGuest", "I", false)
  | 29 => ("NextMustShareModel", "askedDish", "I", false)
  | 30 => ("NextMustShareModel", "whyNot", "I", false)
  | 31 => ("NextMustShareModel", "costTill", "I", false)
  | 32 => ("NextMustShareModel", "hungryTill", "I", false)
  | 33 => ("NextMustShareModel", "setTill", "I", false)
  | 34 => ("NextMustShareModel", "lastTill", "I", false)
  | 35 => ("NextMustShareModel", "isEnd", "[Z", true)
  | 36 => ("NextMustShareModel", "canEnd", "[Z", true)
  | 37 => ("NextMustShareModel", "rows", "[J", true)
  | 38 => ("NextMustShareModel", "scores", "[I", true)
  | 39 => ("NextMustShareModel", "bestScore", "I", false)
  | 40 => ("NextMustShareModel", "shames", "[Z", true)
  | 41 => ("NextMustShareModel", "moreThen", "[I", true)
  | 42 => ("NextMustShareModel", "firstThen", "[I", true)
  | 43 => ("NextMustShareModel", "isShamed", "[Z", true)
  | 44 => ("NextMustShareModel", "moreOf", "[I", true)
  | 45 => ("NextMustShareModel", "changesFrom", "[I", true)
  | 46 => ("NextMustShareModel", "fillsFrom", "[J", true)
  | 47 => ("NextMustShareModel", "freeAt", "[I", true)
  | 48 => ("NextMustShareModel", "lastsOf", "[I", true)
  | 49 => ("NextMustShareModel", "came", "I", false)
  | 50 => ("NextMustShareModel", "kept", "[I", true)
  | 51 => ("NextMustShareModel", "isKept", "[Z", true)
  | _ => ("NextMustShareModel", "keptCame", "[I", true)
def tyX2 : Nat → FieldType := fun k => match k with
  | 0 => .array .int
  | 1 => .int
  | 2 => .array .int
  | 3 => .array .int
  | 4 => .array .boolean
  | 5 => .array .int
  | 6 => .int
  | 7 => .array .int
  | 8 => .array .int
  | 9 => .int
  | 10 => .int
  | 11 => .int
  | 12 => .array .int
  | 13 => .int
  | 14 => .array .int
  | 15 => .array .int
  | 16 => .array .byte
  | 17 => .int
  | 18 => .array .int
  | 19 => .int
  | 20 => .int
  | 21 => .array .byte
  | 22 => .int
  | 23 => .int
  | 24 => .int
  | 25 => .int
  | 26 => .array .byte
  | 27 => .int
  | 28 => .int
  | 29 => .int
  | 30 => .int
  | 31 => .int
  | 32 => .int
  | 33 => .int
  | 34 => .int
  | 35 => .array .boolean
  | 36 => .array .boolean
  | 37 => .array .long
  | 38 => .array .int
  | 39 => .int
  | 40 => .array .boolean
  | 41 => .array .int
  | 42 => .array .int
  | 43 => .array .boolean
  | 44 => .array .int
  | 45 => .array .int
  | 46 => .array .long
  | 47 => .array .int
  | 48 => .array .int
  | 49 => .int
  | 50 => .array .int
  | 51 => .array .boolean
  | _ => .array .int
abbrev wsX20 : List Cond := u_ws RX2 TX2 53
set_option maxRecDepth 100000 in
theorem nmX2 : ∀ a, a < 53 → ∀ b, b < 53 → a ≠ b → (TX2 a).2.1 ≠ (TX2 b).2.1 := by decide +kernel
set_option maxRecDepth 100000 in
theorem tyX2_ok : ∀ k, k < 53 → parseFieldDescriptor (TX2 k).2.2.1 = some (tyX2 k) := by decide +kernel
abbrev cX2_init : ByteArray := prog_8_method_1_code
def yX2_init : MethodName := ⟨RX2, "<init>", "()V"⟩
def dkwX2_init_13 : List UInt8 := [181, 0, 107, 177]
abbrev dktX2_init_13 : List UInt8 := dkwX2_init_13 ++ []
def dkwX2_init_12 : List UInt8 := [181, 0, 98, 42, 16, 44, 188, 10, 181, 0, 101, 42, 5, 188, 4, 181, 0, 104, 42, 5, 188, 10]
abbrev dktX2_init_12 : List UInt8 := dkwX2_init_12 ++ dktX2_init_13
def dkwX2_init_11 : List UInt8 := [17, 44, 0, 188, 11, 181, 0, 92, 42, 16, 9, 188, 10, 181, 0, 95, 42, 17, 8, 0, 188, 10]
abbrev dktX2_init_11 : List UInt8 := dkwX2_init_11 ++ dktX2_init_12
def dkwX2_init_10 : List UInt8 := [181, 0, 83, 42, 17, 88, 0, 188, 10, 181, 0, 86, 42, 17, 44, 0, 188, 10, 181, 0, 89, 42]
abbrev dktX2_init_10 : List UInt8 := dkwX2_init_10 ++ dktX2_init_11
def dkwX2_init_9 : List UInt8 := [17, 44, 0, 188, 10, 181, 0, 77, 42, 17, 44, 0, 188, 10, 181, 0, 80, 42, 17, 88, 0, 188, 4]
abbrev dktX2_init_9 : List UInt8 := dkwX2_init_9 ++ dktX2_init_10
def dkwX2_init_8 : List UInt8 := [181, 0, 67, 42, 17, 4, 0, 188, 10, 181, 0, 71, 42, 17, 44, 0, 188, 4, 181, 0, 74, 42]
abbrev dktX2_init_8 : List UInt8 := dkwX2_init_8 ++ dktX2_init_9
def dkwX2_init_7 : List UInt8 := [42, 17, 44, 0, 188, 4, 181, 0, 61, 42, 17, 44, 0, 188, 4, 181, 0, 64, 42, 17, 44, 0, 188, 11]
abbrev dktX2_init_7 : List UInt8 := dkwX2_init_7 ++ dktX2_init_8
def dkwX2_init_6 : List UInt8 := [181, 0, 48, 42, 16, 16, 188, 10, 181, 0, 52, 42, 16, 40, 188, 8, 181, 0, 55, 42, 2, 181, 0, 58]
abbrev dktX2_init_6 : List UInt8 := dkwX2_init_6 ++ dktX2_init_7
def dkwX2_init_5 : List UInt8 := [181, 0, 39, 42, 16, 30, 188, 10, 181, 0, 42, 42, 6, 188, 10, 181, 0, 45, 42, 16, 80, 188, 8]
abbrev dktX2_init_5 : List UInt8 := dkwX2_init_5 ++ dktX2_init_6
def dkwX2_init_4 : List UInt8 := [16, 6, 188, 10, 181, 0, 29, 42, 4, 181, 0, 32, 42, 16, 9, 181, 0, 36, 42, 16, 10, 188, 10]
abbrev dktX2_init_4 : List UInt8 := dkwX2_init_4 ++ dktX2_init_5
def dkwX2_init_3 : List UInt8 := [16, 11, 188, 4, 181, 0, 19, 42, 16, 11, 188, 10, 181, 0, 23, 42, 16, 6, 188, 10, 181, 0, 26, 42]
abbrev dktX2_init_3 : List UInt8 := dkwX2_init_3 ++ dktX2_init_4
def dkwX2_init_2 : List UInt8 := [16, 99, 79, 181, 0, 9, 42, 16, 11, 188, 10, 181, 0, 13, 42, 16, 11, 188, 10, 181, 0, 16, 42]
abbrev dktX2_init_2 : List UInt8 := dkwX2_init_2 ++ dktX2_init_3
def dkwX2_init_1 : List UInt8 := [89, 6, 16, 99, 79, 89, 7, 16, 99, 79, 89, 8, 16, 99, 79, 89, 16, 6, 16, 99, 79, 89, 16, 7]
abbrev dktX2_init_1 : List UInt8 := dkwX2_init_1 ++ dktX2_init_2
def dkwX2_init_0 : List UInt8 := [42, 183, 0, 3, 42, 16, 8, 188, 10, 89, 3, 16, 99, 79, 89, 4, 16, 99, 79, 89, 5, 16, 99, 79]
abbrev dktX2_init_0 : List UInt8 := dkwX2_init_0 ++ dktX2_init_1
theorem dksX2_init_0 : cX2_init.data.toList.drop 0 = dktX2_init_0 := by decide +kernel
theorem dksX2_init_1 : cX2_init.data.toList.drop 24 = dktX2_init_1 := dk_seg dksX2_init_0 24 rfl rfl
theorem dksX2_init_2 : cX2_init.data.toList.drop 48 = dktX2_init_2 := dk_seg dksX2_init_1 24 rfl rfl
theorem dksX2_init_3 : cX2_init.data.toList.drop 71 = dktX2_init_3 := dk_seg dksX2_init_2 23 rfl rfl
theorem dksX2_init_4 : cX2_init.data.toList.drop 95 = dktX2_init_4 := dk_seg dksX2_init_3 24 rfl rfl
theorem dksX2_init_5 : cX2_init.data.toList.drop 118 = dktX2_init_5 := dk_seg dksX2_init_4 23 rfl rfl
theorem dksX2_init_6 : cX2_init.data.toList.drop 141 = dktX2_init_6 := dk_seg dksX2_init_5 23 rfl rfl
theorem dksX2_init_7 : cX2_init.data.toList.drop 165 = dktX2_init_7 := dk_seg dksX2_init_6 24 rfl rfl
theorem dksX2_init_8 : cX2_init.data.toList.drop 189 = dktX2_init_8 := dk_seg dksX2_init_7 24 rfl rfl
theorem dksX2_init_9 : cX2_init.data.toList.drop 211 = dktX2_init_9 := dk_seg dksX2_init_8 22 rfl rfl
theorem dksX2_init_10 : cX2_init.data.toList.drop 234 = dktX2_init_10 := dk_seg dksX2_init_9 23 rfl rfl
theorem dksX2_init_11 : cX2_init.data.toList.drop 256 = dktX2_init_11 := dk_seg dksX2_init_10 22 rfl rfl
theorem dksX2_init_12 : cX2_init.data.toList.drop 278 = dktX2_init_12 := dk_seg dksX2_init_11 22 rfl rfl
theorem dksX2_init_13 : cX2_init.data.toList.drop 300 = dktX2_init_13 := dk_seg dksX2_init_12 22 rfl rfl
theorem dX2_init_0 : decode cX2_init 0 = .ok (.aload_n 0, 1) := dk_42 (dk_at dksX2_init_0 0 rfl rfl)
theorem dX2_init_1 : decode cX2_init 1 = .ok (.invokespecial 3, 3) := dk_183 0 3 (dk_at dksX2_init_0 1 rfl rfl)
theorem dX2_init_4 : decode cX2_init 4 = .ok (.aload_n 0, 1) := dk_42 (dk_at dksX2_init_0 4 rfl rfl)
theorem dX2_init_5 : decode cX2_init 5 = .ok (.bipush 8, 2) := dk_16 8 (dk_at dksX2_init_0 5 rfl rfl)
theorem dX2_init_7 : decode cX2_init 7 = .ok (.newarray .int, 2) := dk_188_10 (dk_at dksX2_init_0 7 rfl rfl)
theorem dX2_init_9 : decode cX2_init 9 = .ok (.dup, 1) := dk_89 (dk_at dksX2_init_0 9 rfl rfl)
theorem dX2_init_10 : decode cX2_init 10 = .ok (.iconst 0, 1) := dk_3 (dk_at dksX2_init_0 10 rfl rfl)
theorem dX2_init_11 : decode cX2_init 11 = .ok (.bipush 99, 2) := dk_16 99 (dk_at dksX2_init_0 11 rfl rfl)
theorem dX2_init_13 : decode cX2_init 13 = .ok (.iastore, 1) := dk_79 (dk_at dksX2_init_0 13 rfl rfl)
theorem dX2_init_14 : decode cX2_init 14 = .ok (.dup, 1) := dk_89 (dk_at dksX2_init_0 14 rfl rfl)
theorem dX2_init_15 : decode cX2_init 15 = .ok (.iconst 1, 1) := dk_4 (dk_at dksX2_init_0 15 rfl rfl)
theorem dX2_init_16 : decode cX2_init 16 = .ok (.bipush 99, 2) := dk_16 99 (dk_at dksX2_init_0 16 rfl rfl)
theorem dX2_init_18 : decode cX2_init 18 = .ok (.iastore, 1) := dk_79 (dk_at dksX2_init_0 18 rfl rfl)
theorem dX2_init_19 : decode cX2_init 19 = .ok (.dup, 1) := dk_89 (dk_at dksX2_init_0 19 rfl rfl)
theorem dX2_init_20 : decode cX2_init 20 = .ok (.iconst 2, 1) := dk_5 (dk_at dksX2_init_0 20 rfl rfl)
theorem dX2_init_21 : decode cX2_init 21 = .ok (.bipush 99, 2) := dk_16 99 (dk_at dksX2_init_0 21 rfl rfl)
theorem dX2_init_23 : decode cX2_init 23 = .ok (.iastore, 1) := dk_79 (dk_at dksX2_init_0 23 rfl rfl)
theorem dX2_init_24 : decode cX2_init 24 = .ok (.dup, 1) := dk_89 (dk_at dksX2_init_1 0 rfl rfl)
theorem dX2_init_25 : decode cX2_init 25 = .ok (.iconst 3, 1) := dk_6 (dk_at dksX2_init_1 1 rfl rfl)
theorem dX2_init_26 : decode cX2_init 26 = .ok (.bipush 99, 2) := dk_16 99 (dk_at dksX2_init_1 2 rfl rfl)
theorem dX2_init_28 : decode cX2_init 28 = .ok (.iastore, 1) := dk_79 (dk_at dksX2_init_1 4 rfl rfl)
theorem dX2_init_29 : decode cX2_init 29 = .ok (.dup, 1) := dk_89 (dk_at dksX2_init_1 5 rfl rfl)
theorem dX2_init_30 : decode cX2_init 30 = .ok (.iconst 4, 1) := dk_7 (dk_at dksX2_init_1 6 rfl rfl)
theorem dX2_init_31 : decode cX2_init 31 = .ok (.bipush 99, 2) := dk_16 99 (dk_at dksX2_init_1 7 rfl rfl)
theorem dX2_init_33 : decode cX2_init 33 = .ok (.iastore, 1) := dk_79 (dk_at dksX2_init_1 9 rfl rfl)
theorem dX2_init_34 : decode cX2_init 34 = .ok (.dup, 1) := dk_89 (dk_at dksX2_init_1 10 rfl rfl)
theorem dX2_init_35 : decode cX2_init 35 = .ok (.iconst 5, 1) := dk_8 (dk_at dksX2_init_1 11 rfl rfl)
theorem dX2_init_36 : decode cX2_init 36 = .ok (.bipush 99, 2) := dk_16 99 (dk_at dksX2_init_1 12 rfl rfl)
theorem dX2_init_38 : decode cX2_init 38 = .ok (.iastore, 1) := dk_79 (dk_at dksX2_init_1 14 rfl rfl)
theorem dX2_init_39 : decode cX2_init 39 = .ok (.dup, 1) := dk_89 (dk_at dksX2_init_1 15 rfl rfl)
theorem dX2_init_40 : decode cX2_init 40 = .ok (.bipush 6, 2) := dk_16 6 (dk_at dksX2_init_1 16 rfl rfl)
theorem dX2_init_42 : decode cX2_init 42 = .ok (.bipush 99, 2) := dk_16 99 (dk_at dksX2_init_1 18 rfl rfl)
theorem dX2_init_44 : decode cX2_init 44 = .ok (.iastore, 1) := dk_79 (dk_at dksX2_init_1 20 rfl rfl)
theorem dX2_init_45 : decode cX2_init 45 = .ok (.dup, 1) := dk_89 (dk_at dksX2_init_1 21 rfl rfl)
theorem dX2_init_46 : decode cX2_init 46 = .ok (.bipush 7, 2) := dk_16 7 (dk_at dksX2_init_1 22 rfl rfl)
theorem dX2_init_48 : decode cX2_init 48 = .ok (.bipush 99, 2) := dk_16 99 (dk_at dksX2_init_2 0 rfl rfl)
theorem dX2_init_50 : decode cX2_init 50 = .ok (.iastore, 1) := dk_79 (dk_at dksX2_init_2 2 rfl rfl)
theorem dX2_init_51 : decode cX2_init 51 = .ok (.putfield 9, 3) := dk_181 0 9 (dk_at dksX2_init_2 3 rfl rfl)
theorem dX2_init_54 : decode cX2_init 54 = .ok (.aload_n 0, 1) := dk_42 (dk_at dksX2_init_2 6 rfl rfl)
theorem dX2_init_55 : decode cX2_init 55 = .ok (.bipush 11, 2) := dk_16 11 (dk_at dksX2_init_2 7 rfl rfl)
theorem dX2_init_57 : decode cX2_init 57 = .ok (.newarray .int, 2) := dk_188_10 (dk_at dksX2_init_2 9 rfl rfl)
theorem dX2_init_59 : decode cX2_init 59 = .ok (.putfield 13, 3) := dk_181 0 13 (dk_at dksX2_init_2 11 rfl rfl)
theorem dX2_init_62 : decode cX2_init 62 = .ok (.aload_n 0, 1) := dk_42 (dk_at dksX2_init_2 14 rfl rfl)
theorem dX2_init_63 : decode cX2_init 63 = .ok (.bipush 11, 2) := dk_16 11 (dk_at dksX2_init_2 15 rfl rfl)
theorem dX2_init_65 : decode cX2_init 65 = .ok (.newarray .int, 2) := dk_188_10 (dk_at dksX2_init_2 17 rfl rfl)
theorem dX2_init_67 : decode cX2_init 67 = .ok (.putfield 16, 3) := dk_181 0 16 (dk_at dksX2_init_2 19 rfl rfl)
theorem dX2_init_70 : decode cX2_init 70 = .ok (.aload_n 0, 1) := dk_42 (dk_at dksX2_init_2 22 rfl rfl)
theorem dX2_init_71 : decode cX2_init 71 = .ok (.bipush 11, 2) := dk_16 11 (dk_at dksX2_init_3 0 rfl rfl)
theorem dX2_init_73 : decode cX2_init 73 = .ok (.newarray .boolean, 2) := dk_188_4 (dk_at dksX2_init_3 2 rfl rfl)
theorem dX2_init_75 : decode cX2_init 75 = .ok (.putfield 19, 3) := dk_181 0 19 (dk_at dksX2_init_3 4 rfl rfl)
theorem dX2_init_78 : decode cX2_init 78 = .ok (.aload_n 0, 1) := dk_42 (dk_at dksX2_init_3 7 rfl rfl)
theorem dX2_init_79 : decode cX2_init 79 = .ok (.bipush 11, 2) := dk_16 11 (dk_at dksX2_init_3 8 rfl rfl)
theorem dX2_init_81 : decode cX2_init 81 = .ok (.newarray .int, 2) := dk_188_10 (dk_at dksX2_init_3 10 rfl rfl)
theorem dX2_init_83 : decode cX2_init 83 = .ok (.putfield 23, 3) := dk_181 0 23 (dk_at dksX2_init_3 12 rfl rfl)
theorem dX2_init_86 : decode cX2_init 86 = .ok (.aload_n 0, 1) := dk_42 (dk_at dksX2_init_3 15 rfl rfl)
theorem dX2_init_87 : decode cX2_init 87 = .ok (.bipush 6, 2) := dk_16 6 (dk_at dksX2_init_3 16 rfl rfl)
theorem dX2_init_89 : decode cX2_init 89 = .ok (.newarray .int, 2) := dk_188_10 (dk_at dksX2_init_3 18 rfl rfl)
theorem dX2_init_91 : decode cX2_init 91 = .ok (.putfield 26, 3) := dk_181 0 26 (dk_at dksX2_init_3 20 rfl rfl)
theorem dX2_init_94 : decode cX2_init 94 = .ok (.aload_n 0, 1) := dk_42 (dk_at dksX2_init_3 23 rfl rfl)
theorem dX2_init_95 : decode cX2_init 95 = .ok (.bipush 6, 2) := dk_16 6 (dk_at dksX2_init_4 0 rfl rfl)
theorem dX2_init_97 : decode cX2_init 97 = .ok (.newarray .int, 2) := dk_188_10 (dk_at dksX2_init_4 2 rfl rfl)
theorem dX2_init_99 : decode cX2_init 99 = .ok (.putfield 29, 3) := dk_181 0 29 (dk_at dksX2_init_4 4 rfl rfl)
theorem dX2_init_102 : decode cX2_init 102 = .ok (.aload_n 0, 1) := dk_42 (dk_at dksX2_init_4 7 rfl rfl)
theorem dX2_init_103 : decode cX2_init 103 = .ok (.iconst 1, 1) := dk_4 (dk_at dksX2_init_4 8 rfl rfl)
theorem dX2_init_104 : decode cX2_init 104 = .ok (.putfield 32, 3) := dk_181 0 32 (dk_at dksX2_init_4 9 rfl rfl)
theorem dX2_init_107 : decode cX2_init 107 = .ok (.aload_n 0, 1) := dk_42 (dk_at dksX2_init_4 12 rfl rfl)
theorem dX2_init_108 : decode cX2_init 108 = .ok (.bipush 9, 2) := dk_16 9 (dk_at dksX2_init_4 13 rfl rfl)
theorem dX2_init_110 : decode cX2_init 110 = .ok (.putfield 36, 3) := dk_181 0 36 (dk_at dksX2_init_4 15 rfl rfl)
theorem dX2_init_113 : decode cX2_init 113 = .ok (.aload_n 0, 1) := dk_42 (dk_at dksX2_init_4 18 rfl rfl)
theorem dX2_init_114 : decode cX2_init 114 = .ok (.bipush 10, 2) := dk_16 10 (dk_at dksX2_init_4 19 rfl rfl)
theorem dX2_init_116 : decode cX2_init 116 = .ok (.newarray .int, 2) := dk_188_10 (dk_at dksX2_init_4 21 rfl rfl)
theorem dX2_init_118 : decode cX2_init 118 = .ok (.putfield 39, 3) := dk_181 0 39 (dk_at dksX2_init_5 0 rfl rfl)
theorem dX2_init_121 : decode cX2_init 121 = .ok (.aload_n 0, 1) := dk_42 (dk_at dksX2_init_5 3 rfl rfl)
theorem dX2_init_122 : decode cX2_init 122 = .ok (.bipush 30, 2) := dk_16 30 (dk_at dksX2_init_5 4 rfl rfl)
theorem dX2_init_124 : decode cX2_init 124 = .ok (.newarray .int, 2) := dk_188_10 (dk_at dksX2_init_5 6 rfl rfl)
theorem dX2_init_126 : decode cX2_init 126 = .ok (.putfield 42, 3) := dk_181 0 42 (dk_at dksX2_init_5 8 rfl rfl)
theorem dX2_init_129 : decode cX2_init 129 = .ok (.aload_n 0, 1) := dk_42 (dk_at dksX2_init_5 11 rfl rfl)
theorem dX2_init_130 : decode cX2_init 130 = .ok (.iconst 3, 1) := dk_6 (dk_at dksX2_init_5 12 rfl rfl)
theorem dX2_init_131 : decode cX2_init 131 = .ok (.newarray .int, 2) := dk_188_10 (dk_at dksX2_init_5 13 rfl rfl)
theorem dX2_init_133 : decode cX2_init 133 = .ok (.putfield 45, 3) := dk_181 0 45 (dk_at dksX2_init_5 15 rfl rfl)
theorem dX2_init_136 : decode cX2_init 136 = .ok (.aload_n 0, 1) := dk_42 (dk_at dksX2_init_5 18 rfl rfl)
theorem dX2_init_137 : decode cX2_init 137 = .ok (.bipush 80, 2) := dk_16 80 (dk_at dksX2_init_5 19 rfl rfl)
theorem dX2_init_139 : decode cX2_init 139 = .ok (.newarray .byte, 2) := dk_188_8 (dk_at dksX2_init_5 21 rfl rfl)
theorem dX2_init_141 : decode cX2_init 141 = .ok (.putfield 48, 3) := dk_181 0 48 (dk_at dksX2_init_6 0 rfl rfl)
theorem dX2_init_144 : decode cX2_init 144 = .ok (.aload_n 0, 1) := dk_42 (dk_at dksX2_init_6 3 rfl rfl)
theorem dX2_init_145 : decode cX2_init 145 = .ok (.bipush 16, 2) := dk_16 16 (dk_at dksX2_init_6 4 rfl rfl)
theorem dX2_init_147 : decode cX2_init 147 = .ok (.newarray .int, 2) := dk_188_10 (dk_at dksX2_init_6 6 rfl rfl)
theorem dX2_init_149 : decode cX2_init 149 = .ok (.putfield 52, 3) := dk_181 0 52 (dk_at dksX2_init_6 8 rfl rfl)
theorem dX2_init_152 : decode cX2_init 152 = .ok (.aload_n 0, 1) := dk_42 (dk_at dksX2_init_6 11 rfl rfl)
theorem dX2_init_153 : decode cX2_init 153 = .ok (.bipush 40, 2) := dk_16 40 (dk_at dksX2_init_6 12 rfl rfl)
theorem dX2_init_155 : decode cX2_init 155 = .ok (.newarray .byte, 2) := dk_188_8 (dk_at dksX2_init_6 14 rfl rfl)
theorem dX2_init_157 : decode cX2_init 157 = .ok (.putfield 55, 3) := dk_181 0 55 (dk_at dksX2_init_6 16 rfl rfl)
theorem dX2_init_160 : decode cX2_init 160 = .ok (.aload_n 0, 1) := dk_42 (dk_at dksX2_init_6 19 rfl rfl)
theorem dX2_init_161 : decode cX2_init 161 = .ok (.iconst (-1), 1) := dk_2 (dk_at dksX2_init_6 20 rfl rfl)
theorem dX2_init_162 : decode cX2_init 162 = .ok (.putfield 58, 3) := dk_181 0 58 (dk_at dksX2_init_6 21 rfl rfl)
theorem dX2_init_165 : decode cX2_init 165 = .ok (.aload_n 0, 1) := dk_42 (dk_at dksX2_init_7 0 rfl rfl)
theorem dX2_init_166 : decode cX2_init 166 = .ok (.sipush 11264, 3) := dk_17 44 0 (dk_at dksX2_init_7 1 rfl rfl)
theorem dX2_init_169 : decode cX2_init 169 = .ok (.newarray .boolean, 2) := dk_188_4 (dk_at dksX2_init_7 4 rfl rfl)
theorem dX2_init_171 : decode cX2_init 171 = .ok (.putfield 61, 3) := dk_181 0 61 (dk_at dksX2_init_7 6 rfl rfl)
theorem dX2_init_174 : decode cX2_init 174 = .ok (.aload_n 0, 1) := dk_42 (dk_at dksX2_init_7 9 rfl rfl)
theorem dX2_init_175 : decode cX2_init 175 = .ok (.sipush 11264, 3) := dk_17 44 0 (dk_at dksX2_init_7 10 rfl rfl)
theorem dX2_init_178 : decode cX2_init 178 = .ok (.newarray .boolean, 2) := dk_188_4 (dk_at dksX2_init_7 13 rfl rfl)
theorem dX2_init_180 : decode cX2_init 180 = .ok (.putfield 64, 3) := dk_181 0 64 (dk_at dksX2_init_7 15 rfl rfl)
theorem dX2_init_183 : decode cX2_init 183 = .ok (.aload_n 0, 1) := dk_42 (dk_at dksX2_init_7 18 rfl rfl)
theorem dX2_init_184 : decode cX2_init 184 = .ok (.sipush 11264, 3) := dk_17 44 0 (dk_at dksX2_init_7 19 rfl rfl)
theorem dX2_init_187 : decode cX2_init 187 = .ok (.newarray .long, 2) := dk_188_11 (dk_at dksX2_init_7 22 rfl rfl)
theorem dX2_init_189 : decode cX2_init 189 = .ok (.putfield 67, 3) := dk_181 0 67 (dk_at dksX2_init_8 0 rfl rfl)
theorem dX2_init_192 : decode cX2_init 192 = .ok (.aload_n 0, 1) := dk_42 (dk_at dksX2_init_8 3 rfl rfl)
theorem dX2_init_193 : decode cX2_init 193 = .ok (.sipush 1024, 3) := dk_17 4 0 (dk_at dksX2_init_8 4 rfl rfl)
theorem dX2_init_196 : decode cX2_init 196 = .ok (.newarray .int, 2) := dk_188_10 (dk_at dksX2_init_8 7 rfl rfl)
theorem dX2_init_198 : decode cX2_init 198 = .ok (.putfield 71, 3) := dk_181 0 71 (dk_at dksX2_init_8 9 rfl rfl)
theorem dX2_init_201 : decode cX2_init 201 = .ok (.aload_n 0, 1) := dk_42 (dk_at dksX2_init_8 12 rfl rfl)
theorem dX2_init_202 : decode cX2_init 202 = .ok (.sipush 11264, 3) := dk_17 44 0 (dk_at dksX2_init_8 13 rfl rfl)
theorem dX2_init_205 : decode cX2_init 205 = .ok (.newarray .boolean, 2) := dk_188_4 (dk_at dksX2_init_8 16 rfl rfl)
theorem dX2_init_207 : decode cX2_init 207 = .ok (.putfield 74, 3) := dk_181 0 74 (dk_at dksX2_init_8 18 rfl rfl)
theorem dX2_init_210 : decode cX2_init 210 = .ok (.aload_n 0, 1) := dk_42 (dk_at dksX2_init_8 21 rfl rfl)
theorem dX2_init_211 : decode cX2_init 211 = .ok (.sipush 11264, 3) := dk_17 44 0 (dk_at dksX2_init_9 0 rfl rfl)
theorem dX2_init_214 : decode cX2_init 214 = .ok (.newarray .int, 2) := dk_188_10 (dk_at dksX2_init_9 3 rfl rfl)
theorem dX2_init_216 : decode cX2_init 216 = .ok (.putfield 77, 3) := dk_181 0 77 (dk_at dksX2_init_9 5 rfl rfl)
theorem dX2_init_219 : decode cX2_init 219 = .ok (.aload_n 0, 1) := dk_42 (dk_at dksX2_init_9 8 rfl rfl)
theorem dX2_init_220 : decode cX2_init 220 = .ok (.sipush 11264, 3) := dk_17 44 0 (dk_at dksX2_init_9 9 rfl rfl)
theorem dX2_init_223 : decode cX2_init 223 = .ok (.newarray .int, 2) := dk_188_10 (dk_at dksX2_init_9 12 rfl rfl)
theorem dX2_init_225 : decode cX2_init 225 = .ok (.putfield 80, 3) := dk_181 0 80 (dk_at dksX2_init_9 14 rfl rfl)
theorem dX2_init_228 : decode cX2_init 228 = .ok (.aload_n 0, 1) := dk_42 (dk_at dksX2_init_9 17 rfl rfl)
theorem dX2_init_229 : decode cX2_init 229 = .ok (.sipush 22528, 3) := dk_17 88 0 (dk_at dksX2_init_9 18 rfl rfl)
theorem dX2_init_232 : decode cX2_init 232 = .ok (.newarray .boolean, 2) := dk_188_4 (dk_at dksX2_init_9 21 rfl rfl)
theorem dX2_init_234 : decode cX2_init 234 = .ok (.putfield 83, 3) := dk_181 0 83 (dk_at dksX2_init_10 0 rfl rfl)
theorem dX2_init_237 : decode cX2_init 237 = .ok (.aload_n 0, 1) := dk_42 (dk_at dksX2_init_10 3 rfl rfl)
theorem dX2_init_238 : decode cX2_init 238 = .ok (.sipush 22528, 3) := dk_17 88 0 (dk_at dksX2_init_10 4 rfl rfl)
theorem dX2_init_241 : decode cX2_init 241 = .ok (.newarray .int, 2) := dk_188_10 (dk_at dksX2_init_10 7 rfl rfl)
theorem dX2_init_243 : decode cX2_init 243 = .ok (.putfield 86, 3) := dk_181 0 86 (dk_at dksX2_init_10 9 rfl rfl)
theorem dX2_init_246 : decode cX2_init 246 = .ok (.aload_n 0, 1) := dk_42 (dk_at dksX2_init_10 12 rfl rfl)
theorem dX2_init_247 : decode cX2_init 247 = .ok (.sipush 11264, 3) := dk_17 44 0 (dk_at dksX2_init_10 13 rfl rfl)
theorem dX2_init_250 : decode cX2_init 250 = .ok (.newarray .int, 2) := dk_188_10 (dk_at dksX2_init_10 16 rfl rfl)
theorem dX2_init_252 : decode cX2_init 252 = .ok (.putfield 89, 3) := dk_181 0 89 (dk_at dksX2_init_10 18 rfl rfl)
theorem dX2_init_255 : decode cX2_init 255 = .ok (.aload_n 0, 1) := dk_42 (dk_at dksX2_init_10 21 rfl rfl)
theorem dX2_init_256 : decode cX2_init 256 = .ok (.sipush 11264, 3) := dk_17 44 0 (dk_at dksX2_init_11 0 rfl rfl)
theorem dX2_init_259 : decode cX2_init 259 = .ok (.newarray .long, 2) := dk_188_11 (dk_at dksX2_init_11 3 rfl rfl)
theorem dX2_init_261 : decode cX2_init 261 = .ok (.putfield 92, 3) := dk_181 0 92 (dk_at dksX2_init_11 5 rfl rfl)
theorem dX2_init_264 : decode cX2_init 264 = .ok (.aload_n 0, 1) := dk_42 (dk_at dksX2_init_11 8 rfl rfl)
theorem dX2_init_265 : decode cX2_init 265 = .ok (.bipush 9, 2) := dk_16 9 (dk_at dksX2_init_11 9 rfl rfl)
theorem dX2_init_267 : decode cX2_init 267 = .ok (.newarray .int, 2) := dk_188_10 (dk_at dksX2_init_11 11 rfl rfl)
theorem dX2_init_269 : decode cX2_init 269 = .ok (.putfield 95, 3) := dk_181 0 95 (dk_at dksX2_init_11 13 rfl rfl)
theorem dX2_init_272 : decode cX2_init 272 = .ok (.aload_n 0, 1) := dk_42 (dk_at dksX2_init_11 16 rfl rfl)
theorem dX2_init_273 : decode cX2_init 273 = .ok (.sipush 2048, 3) := dk_17 8 0 (dk_at dksX2_init_11 17 rfl rfl)
theorem dX2_init_276 : decode cX2_init 276 = .ok (.newarray .int, 2) := dk_188_10 (dk_at dksX2_init_11 20 rfl rfl)
theorem dX2_init_278 : decode cX2_init 278 = .ok (.putfield 98, 3) := dk_181 0 98 (dk_at dksX2_init_12 0 rfl rfl)
theorem dX2_init_281 : decode cX2_init 281 = .ok (.aload_n 0, 1) := dk_42 (dk_at dksX2_init_12 3 rfl rfl)
theorem dX2_init_282 : decode cX2_init 282 = .ok (.bipush 44, 2) := dk_16 44 (dk_at dksX2_init_12 4 rfl rfl)
theorem dX2_init_284 : decode cX2_init 284 = .ok (.newarray .int, 2) := dk_188_10 (dk_at dksX2_init_12 6 rfl rfl)
theorem dX2_init_286 : decode cX2_init 286 = .ok (.putfield 101, 3) := dk_181 0 101 (dk_at dksX2_init_12 8 rfl rfl)
theorem dX2_init_289 : decode cX2_init 289 = .ok (.aload_n 0, 1) := dk_42 (dk_at dksX2_init_12 11 rfl rfl)
theorem dX2_init_290 : decode cX2_init 290 = .ok (.iconst 2, 1) := dk_5 (dk_at dksX2_init_12 12 rfl rfl)
theorem dX2_init_291 : decode cX2_init 291 = .ok (.newarray .boolean, 2) := dk_188_4 (dk_at dksX2_init_12 13 rfl rfl)
theorem dX2_init_293 : decode cX2_init 293 = .ok (.putfield 104, 3) := dk_181 0 104 (dk_at dksX2_init_12 15 rfl rfl)
theorem dX2_init_296 : decode cX2_init 296 = .ok (.aload_n 0, 1) := dk_42 (dk_at dksX2_init_12 18 rfl rfl)
theorem dX2_init_297 : decode cX2_init 297 = .ok (.iconst 2, 1) := dk_5 (dk_at dksX2_init_12 19 rfl rfl)
theorem dX2_init_298 : decode cX2_init 298 = .ok (.newarray .int, 2) := dk_188_10 (dk_at dksX2_init_12 20 rfl rfl)
theorem dX2_init_300 : decode cX2_init 300 = .ok (.putfield 107, 3) := dk_181 0 107 (dk_at dksX2_init_13 0 rfl rfl)
theorem dX2_init_303 : decode cX2_init 303 = .ok (.return_, 1) := dk_177 (dk_at dksX2_init_13 3 rfl rfl)
abbrev cX2_thrown : ByteArray := prog_8_method_2_code
def yX2_thrown : MethodName := ⟨RX2, "thrown", "()I"⟩
theorem dX2_thrown_0 : decode cX2_thrown 0 = .ok (.aload_n 0, 1) := by decide +kernel
theorem dX2_thrown_1 : decode cX2_thrown 1 = .ok (.getfield 110, 3) := by decide +kernel
theorem dX2_thrown_4 : decode cX2_thrown 4 = .ok (.ireturn, 1) := by decide +kernel
abbrev cX2_sign : ByteArray := prog_8_method_9_code
def yX2_sign : MethodName := ⟨RX2, "sign", "(I)I"⟩
def dkwX2_sign_2 : List UInt8 := [132, 2, 255, 167, 255, 226, 42, 180, 0, 126, 172]
abbrev dktX2_sign_2 : List UInt8 := dkwX2_sign_2 ++ []
def dkwX2_sign_1 : List UInt8 := [42, 180, 0, 48, 42, 89, 180, 0, 126, 90, 4, 96, 181, 0, 126, 27, 16, 8, 28, 104, 122, 145, 84]
abbrev dktX2_sign_1 : List UInt8 := dkwX2_sign_1 ++ dktX2_sign_2
def dkwX2_sign_0 : List UInt8 := [42, 3, 181, 0, 110, 42, 180, 0, 126, 7, 96, 16, 80, 164, 0, 5, 2, 172, 6, 61, 28, 155, 0, 32]
abbrev dktX2_sign_0 : List UInt8 := dkwX2_sign_0 ++ dktX2_sign_1
theorem dksX2_sign_0 : cX2_sign.data.toList.drop 0 = dktX2_sign_0 := by decide +kernel
theorem dksX2_sign_1 : cX2_sign.data.toList.drop 24 = dktX2_sign_1 := dk_seg dksX2_sign_0 24 rfl rfl
theorem dksX2_sign_2 : cX2_sign.data.toList.drop 47 = dktX2_sign_2 := dk_seg dksX2_sign_1 23 rfl rfl
theorem dX2_sign_0 : decode cX2_sign 0 = .ok (.aload_n 0, 1) := dk_42 (dk_at dksX2_sign_0 0 rfl rfl)
theorem dX2_sign_1 : decode cX2_sign 1 = .ok (.iconst 0, 1) := dk_3 (dk_at dksX2_sign_0 1 rfl rfl)
theorem dX2_sign_2 : decode cX2_sign 2 = .ok (.putfield 110, 3) := dk_181 0 110 (dk_at dksX2_sign_0 2 rfl rfl)
theorem dX2_sign_5 : decode cX2_sign 5 = .ok (.aload_n 0, 1) := dk_42 (dk_at dksX2_sign_0 5 rfl rfl)
theorem dX2_sign_6 : decode cX2_sign 6 = .ok (.getfield 126, 3) := dk_180 0 126 (dk_at dksX2_sign_0 6 rfl rfl)
theorem dX2_sign_9 : decode cX2_sign 9 = .ok (.iconst 4, 1) := dk_7 (dk_at dksX2_sign_0 9 rfl rfl)
theorem dX2_sign_10 : decode cX2_sign 10 = .ok (.iadd, 1) := dk_96 (dk_at dksX2_sign_0 10 rfl rfl)
theorem dX2_sign_11 : decode cX2_sign 11 = .ok (.bipush 80, 2) := dk_16 80 (dk_at dksX2_sign_0 11 rfl rfl)
theorem dX2_sign_13 : decode cX2_sign 13 = .ok (.if_icmp .le 5, 3) := dk_164 0 5 (dk_at dksX2_sign_0 13 rfl rfl)
theorem dX2_sign_16 : decode cX2_sign 16 = .ok (.iconst (-1), 1) := dk_2 (dk_at dksX2_sign_0 16 rfl rfl)
theorem dX2_sign_17 : decode cX2_sign 17 = .ok (.ireturn, 1) := dk_172 (dk_at dksX2_sign_0 17 rfl rfl)
theorem dX2_sign_18 : decode cX2_sign 18 = .ok (.iconst 3, 1) := dk_6 (dk_at dksX2_sign_0 18 rfl rfl)
theorem dX2_sign_19 : decode cX2_sign 19 = .ok (.istore_n 2, 1) := dk_61 (dk_at dksX2_sign_0 19 rfl rfl)
theorem dX2_sign_20 : decode cX2_sign 20 = .ok (.iload_n 2, 1) := dk_28 (dk_at dksX2_sign_0 20 rfl rfl)
theorem dX2_sign_21 : decode cX2_sign 21 = .ok (.ifCond .lt 32, 3) := dk_155 0 32 (dk_at dksX2_sign_0 21 rfl rfl)
theorem dX2_sign_24 : decode cX2_sign 24 = .ok (.aload_n 0, 1) := dk_42 (dk_at dksX2_sign_1 0 rfl rfl)
theorem dX2_sign_25 : decode cX2_sign 25 = .ok (.getfield 48, 3) := dk_180 0 48 (dk_at dksX2_sign_1 1 rfl rfl)
theorem dX2_sign_28 : decode cX2_sign 28 = .ok (.aload_n 0, 1) := dk_42 (dk_at dksX2_sign_1 4 rfl rfl)
theorem dX2_sign_29 : decode cX2_sign 29 = .ok (.dup, 1) := dk_89 (dk_at dksX2_sign_1 5 rfl rfl)
theorem dX2_sign_30 : decode cX2_sign 30 = .ok (.getfield 126, 3) := dk_180 0 126 (dk_at dksX2_sign_1 6 rfl rfl)
theorem dX2_sign_33 : decode cX2_sign 33 = .ok (.dup_x1, 1) := dk_90 (dk_at dksX2_sign_1 9 rfl rfl)
theorem dX2_sign_34 : decode cX2_sign 34 = .ok (.iconst 1, 1) := dk_4 (dk_at dksX2_sign_1 10 rfl rfl)
theorem dX2_sign_35 : decode cX2_sign 35 = .ok (.iadd, 1) := dk_96 (dk_at dksX2_sign_1 11 rfl rfl)
theorem dX2_sign_36 : decode cX2_sign 36 = .ok (.putfield 126, 3) := dk_181 0 126 (dk_at dksX2_sign_1 12 rfl rfl)
theorem dX2_sign_39 : decode cX2_sign 39 = .ok (.iload_n 1, 1) := dk_27 (dk_at dksX2_sign_1 15 rfl rfl)
theorem dX2_sign_40 : decode cX2_sign 40 = .ok (.bipush 8, 2) := dk_16 8 (dk_at dksX2_sign_1 16 rfl rfl)
theorem dX2_sign_42 : decode cX2_sign 42 = .ok (.iload_n 2, 1) := dk_28 (dk_at dksX2_sign_1 18 rfl rfl)
theorem dX2_sign_43 : decode cX2_sign 43 = .ok (.imul, 1) := dk_104 (dk_at dksX2_sign_1 19 rfl rfl)
theorem dX2_sign_44 : decode cX2_sign 44 = .ok (.ishr, 1) := dk_122 (dk_at dksX2_sign_1 20 rfl rfl)
theorem dX2_sign_45 : decode cX2_sign 45 = .ok (.i2b, 1) := dk_145 (dk_at dksX2_sign_1 21 rfl rfl)
theorem dX2_sign_46 : decode cX2_sign 46 = .ok (.bastore, 1) := dk_84 (dk_at dksX2_sign_1 22 rfl rfl)
theorem dX2_sign_47 : decode cX2_sign 47 = .ok (.iinc 2 (-1), 3) := dk_132 2 255 (dk_at dksX2_sign_2 0 rfl rfl)
theorem dX2_sign_50 : decode cX2_sign 50 = .ok (.goto (-30), 3) := dk_167 255 226 (dk_at dksX2_sign_2 3 rfl rfl)
theorem dX2_sign_53 : decode cX2_sign 53 = .ok (.aload_n 0, 1) := dk_42 (dk_at dksX2_sign_2 6 rfl rfl)
theorem dX2_sign_54 : decode cX2_sign 54 = .ok (.getfield 126, 3) := dk_180 0 126 (dk_at dksX2_sign_2 7 rfl rfl)
theorem dX2_sign_57 : decode cX2_sign 57 = .ok (.ireturn, 1) := dk_172 (dk_at dksX2_sign_2 10 rfl rfl)
abbrev cX2_end : ByteArray := prog_8_method_10_code
def yX2_end : MethodName := ⟨RX2, "end", "(I)Z"⟩
def dkwX2_end_1 : List UInt8 := [4, 172]
abbrev dktX2_end_1 : List UInt8 := dkwX2_end_1 ++ []
def dkwX2_end_0 : List UInt8 := [42, 3, 181, 0, 110, 27, 3, 42, 180, 0, 126, 184, 0, 119, 154, 0, 5, 3, 172, 42, 27, 181, 0, 126]
abbrev dktX2_end_0 : List UInt8 := dkwX2_end_0 ++ dktX2_end_1
theorem dksX2_end_0 : cX2_end.data.toList.drop 0 = dktX2_end_0 := by decide +kernel
theorem dksX2_end_1 : cX2_end.data.toList.drop 24 = dktX2_end_1 := dk_seg dksX2_end_0 24 rfl rfl
theorem dX2_end_0 : decode cX2_end 0 = .ok (.aload_n 0, 1) := dk_42 (dk_at dksX2_end_0 0 rfl rfl)
theorem dX2_end_1 : decode cX2_end 1 = .ok (.iconst 0, 1) := dk_3 (dk_at dksX2_end_0 1 rfl rfl)
theorem dX2_end_2 : decode cX2_end 2 = .ok (.putfield 110, 3) := dk_181 0 110 (dk_at dksX2_end_0 2 rfl rfl)
theorem dX2_end_5 : decode cX2_end 5 = .ok (.iload_n 1, 1) := dk_27 (dk_at dksX2_end_0 5 rfl rfl)
theorem dX2_end_6 : decode cX2_end 6 = .ok (.iconst 0, 1) := dk_3 (dk_at dksX2_end_0 6 rfl rfl)
theorem dX2_end_7 : decode cX2_end 7 = .ok (.aload_n 0, 1) := dk_42 (dk_at dksX2_end_0 7 rfl rfl)
theorem dX2_end_8 : decode cX2_end 8 = .ok (.getfield 126, 3) := dk_180 0 126 (dk_at dksX2_end_0 8 rfl rfl)
theorem dX2_end_11 : decode cX2_end 11 = .ok (.invokestatic 119, 3) := dk_184 0 119 (dk_at dksX2_end_0 11 rfl rfl)
theorem dX2_end_14 : decode cX2_end 14 = .ok (.ifCond .ne 5, 3) := dk_154 0 5 (dk_at dksX2_end_0 14 rfl rfl)
theorem dX2_end_17 : decode cX2_end 17 = .ok (.iconst 0, 1) := dk_3 (dk_at dksX2_end_0 17 rfl rfl)
theorem dX2_end_18 : decode cX2_end 18 = .ok (.ireturn, 1) := dk_172 (dk_at dksX2_end_0 18 rfl rfl)
theorem dX2_end_19 : decode cX2_end 19 = .ok (.aload_n 0, 1) := dk_42 (dk_at dksX2_end_0 19 rfl rfl)
theorem dX2_end_20 : decode cX2_end 20 = .ok (.iload_n 1, 1) := dk_27 (dk_at dksX2_end_0 20 rfl rfl)
theorem dX2_end_21 : decode cX2_end 21 = .ok (.putfield 126, 3) := dk_181 0 126 (dk_at dksX2_end_0 21 rfl rfl)
theorem dX2_end_24 : decode cX2_end 24 = .ok (.iconst 1, 1) := dk_4 (dk_at dksX2_end_1 0 rfl rfl)
theorem dX2_end_25 : decode cX2_end 25 = .ok (.ireturn, 1) := dk_172 (dk_at dksX2_end_1 1 rfl rfl)
abbrev cX2_in : ByteArray := prog_8_method_3_code
def yX2_in : MethodName := ⟨RX2, "in", "(III)Z"⟩
def dkwX2_in_0 : List UInt8 := [26, 27, 161, 0, 12, 26, 28, 163, 0, 7, 4, 167, 0, 4, 3, 172]
abbrev dktX2_in_0 : List UInt8 := dkwX2_in_0 ++ []
theorem dksX2_in_0 : cX2_in.data.toList.drop 0 = dktX2_in_0 := by decide +kernel
theorem dX2_in_0 : decode cX2_in 0 = .ok (.iload_n 0, 1) := dk_26 (dk_at dksX2_in_0 0 rfl rfl)
theorem dX2_in_1 : decode cX2_in 1 = .ok (.iload_n 1, 1) := dk_27 (dk_at dksX2_in_0 1 rfl rfl)
theorem dX2_in_2 : decode cX2_in 2 = .ok (.if_icmp .lt 12, 3) := dk_161 0 12 (dk_at dksX2_in_0 2 rfl rfl)
theorem dX2_in_5 : decode cX2_in 5 = .ok (.iload_n 0, 1) := dk_26 (dk_at dksX2_in_0 5 rfl rfl)
theorem dX2_in_6 : decode cX2_in 6 = .ok (.iload_n 2, 1) := dk_28 (dk_at dksX2_in_0 6 rfl rfl)
theorem dX2_in_7 : decode cX2_in 7 = .ok (.if_icmp .gt 7, 3) := dk_163 0 7 (dk_at dksX2_in_0 7 rfl rfl)
theorem dX2_in_10 : decode cX2_in 10 = .ok (.iconst 1, 1) := dk_4 (dk_at dksX2_in_0 10 rfl rfl)
theorem dX2_in_11 : decode cX2_in 11 = .ok (.goto 4, 3) := dk_167 0 4 (dk_at dksX2_in_0 11 rfl rfl)
theorem dX2_in_14 : decode cX2_in 14 = .ok (.iconst 0, 1) := dk_3 (dk_at dksX2_in_0 14 rfl rfl)
theorem dX2_in_15 : decode cX2_in 15 = .ok (.ireturn, 1) := dk_172 (dk_at dksX2_in_0 15 rfl rfl)
abbrev cX2_kitchen : ByteArray := prog_8_method_18_code
def yX2_kitchen : MethodName := ⟨RX2, "kitchen", "()I"⟩
def dkwX2_kitchen_10 : List UInt8 := [180, 0, 175, 4, 96, 181, 0, 175, 42, 27, 181, 0, 116, 42, 28, 181, 0, 123, 29, 172]
abbrev dktX2_kitchen_10 : List UInt8 := dkwX2_kitchen_10 ++ []
def dkwX2_kitchen_9 : List UInt8 := [182, 0, 144, 154, 0, 10, 2, 42, 180, 0, 141, 100, 172, 27, 42, 180, 0, 116, 164, 0, 13, 42, 89]
abbrev dktX2_kitchen_9 : List UInt8 := dkwX2_kitchen_9 ++ dktX2_kitchen_10
def dkwX2_kitchen_8 : List UInt8 := [167, 255, 118, 42, 180, 0, 138, 42, 180, 0, 132, 162, 0, 11, 42, 42, 180, 0, 138, 182, 0, 152, 42]
abbrev dktX2_kitchen_8 : List UInt8 := dkwX2_kitchen_8 ++ dktX2_kitchen_9
def dkwX2_kitchen_7 : List UInt8 := [182, 0, 167, 167, 0, 4, 3, 79, 132, 1, 1, 132, 3, 1, 42, 16, 59, 182, 0, 171, 54, 4]
abbrev dktX2_kitchen_7 : List UInt8 := dkwX2_kitchen_7 ++ dktX2_kitchen_8
def dkwX2_kitchen_6 : List UInt8 := [16, 72, 182, 0, 171, 84, 42, 180, 0, 23, 27, 42, 16, 43, 182, 0, 171, 153, 0, 11, 42, 4]
abbrev dktX2_kitchen_6 : List UInt8 := dkwX2_kitchen_6 ++ dktX2_kitchen_7
def dkwX2_kitchen_5 : List UInt8 := [27, 42, 4, 182, 0, 163, 79, 42, 180, 0, 16, 27, 42, 5, 182, 0, 167, 79, 42, 180, 0, 19, 27, 42]
abbrev dktX2_kitchen_5 : List UInt8 := dkwX2_kitchen_5 ++ dktX2_kitchen_6
def dkwX2_kitchen_4 : List UInt8 := [167, 0, 81, 27, 16, 10, 160, 0, 14, 42, 42, 180, 0, 138, 182, 0, 152, 167, 0, 64, 42, 180, 0, 13]
abbrev dktX2_kitchen_4 : List UInt8 := dkwX2_kitchen_4 ++ dktX2_kitchen_5
def dkwX2_kitchen_3 : List UInt8 := [160, 0, 14, 42, 42, 180, 0, 138, 182, 0, 152, 167, 0, 8, 42, 28, 182, 0, 160, 132, 2, 1]
abbrev dktX2_kitchen_3 : List UInt8 := dkwX2_kitchen_3 ++ dktX2_kitchen_4
def dkwX2_kitchen_2 : List UInt8 := [21, 4, 153, 0, 139, 42, 182, 0, 144, 153, 0, 132, 42, 182, 0, 148, 16, 71, 160, 0, 31, 28, 16, 6]
abbrev dktX2_kitchen_2 : List UInt8 := dkwX2_kitchen_2 ++ dktX2_kitchen_3
def dkwX2_kitchen_1 : List UInt8 := [42, 180, 0, 132, 154, 0, 5, 3, 172, 42, 180, 0, 116, 60, 42, 180, 0, 123, 61, 3, 62, 4, 54, 4]
abbrev dktX2_kitchen_1 : List UInt8 := dkwX2_kitchen_1 ++ dktX2_kitchen_2
def dkwX2_kitchen_0 : List UInt8 := [42, 3, 181, 0, 110, 42, 42, 180, 0, 48, 42, 180, 0, 126, 16, 76, 182, 0, 156, 42, 3, 181, 0, 126]
abbrev dktX2_kitchen_0 : List UInt8 := dkwX2_kitchen_0 ++ dktX2_kitchen_1
theorem dksX2_kitchen_0 : cX2_kitchen.data.toList.drop 0 = dktX2_kitchen_0 := by decide +kernel
theorem dksX2_kitchen_1 : cX2_kitchen.data.toList.drop 24 = dktX2_kitchen_1 := dk_seg dksX2_kitchen_0 24 rfl rfl
theorem dksX2_kitchen_2 : cX2_kitchen.data.toList.drop 48 = dktX2_kitchen_2 := dk_seg dksX2_kitchen_1 24 rfl rfl
theorem dksX2_kitchen_3 : cX2_kitchen.data.toList.drop 72 = dktX2_kitchen_3 := dk_seg dksX2_kitchen_2 24 rfl rfl
theorem dksX2_kitchen_4 : cX2_kitchen.data.toList.drop 94 = dktX2_kitchen_4 := dk_seg dksX2_kitchen_3 22 rfl rfl
theorem dksX2_kitchen_5 : cX2_kitchen.data.toList.drop 118 = dktX2_kitchen_5 := dk_seg dksX2_kitchen_4 24 rfl rfl
theorem dksX2_kitchen_6 : cX2_kitchen.data.toList.drop 142 = dktX2_kitchen_6 := dk_seg dksX2_kitchen_5 24 rfl rfl
theorem dksX2_kitchen_7 : cX2_kitchen.data.toList.drop 164 = dktX2_kitchen_7 := dk_seg dksX2_kitchen_6 22 rfl rfl
theorem dksX2_kitchen_8 : cX2_kitchen.data.toList.drop 186 = dktX2_kitchen_8 := dk_seg dksX2_kitchen_7 22 rfl rfl
theorem dksX2_kitchen_9 : cX2_kitchen.data.toList.drop 209 = dktX2_kitchen_9 := dk_seg dksX2_kitchen_8 23 rfl rfl
theorem dksX2_kitchen_10 : cX2_kitchen.data.toList.drop 232 = dktX2_kitchen_10 := dk_seg dksX2_kitchen_9 23 rfl rfl
theorem dX2_kitchen_0 : decode cX2_kitchen 0 = .ok (.aload_n 0, 1) := dk_42 (dk_at dksX2_kitchen_0 0 rfl rfl)
theorem dX2_kitchen_1 : decode cX2_kitchen 1 = .ok (.iconst 0, 1) := dk_3 (dk_at dksX2_kitchen_0 1 rfl rfl)
theorem dX2_kitchen_2 : decode cX2_kitchen 2 = .ok (.putfield 110, 3) := dk_181 0 110 (dk_at dksX2_kitchen_0 2 rfl rfl)
theorem dX2_kitchen_5 : decode cX2_kitchen 5 = .ok (.aload_n 0, 1) := dk_42 (dk_at dksX2_kitchen_0 5 rfl rfl)
theorem dX2_kitchen_6 : decode cX2_kitchen 6 = .ok (.aload_n 0, 1) := dk_42 (dk_at dksX2_kitchen_0 6 rfl rfl)
theorem dX2_kitchen_7 : decode cX2_kitchen 7 = .ok (.getfield 48, 3) := dk_180 0 48 (dk_at dksX2_kitchen_0 7 rfl rfl)
theorem dX2_kitchen_10 : decode cX2_kitchen 10 = .ok (.aload_n 0, 1) := dk_42 (dk_at dksX2_kitchen_0 10 rfl rfl)
theorem dX2_kitchen_11 : decode cX2_kitchen 11 = .ok (.getfield 126, 3) := dk_180 0 126 (dk_at dksX2_kitchen_0 11 rfl rfl)
theorem dX2_kitchen_14 : decode cX2_kitchen 14 = .ok (.bipush 76, 2) := dk_16 76 (dk_at dksX2_kitchen_0 14 rfl rfl)
theorem dX2_kitchen_16 : decode cX2_kitchen 16 = .ok (.invokevirtual 156, 3) := dk_182 0 156 (dk_at dksX2_kitchen_0 16 rfl rfl)
theorem dX2_kitchen_19 : decode cX2_kitchen 19 = .ok (.aload_n 0, 1) := dk_42 (dk_at dksX2_kitchen_0 19 rfl rfl)
theorem dX2_kitchen_20 : decode cX2_kitchen 20 = .ok (.iconst 0, 1) := dk_3 (dk_at dksX2_kitchen_0 20 rfl rfl)
theorem dX2_kitchen_21 : decode cX2_kitchen 21 = .ok (.putfield 126, 3) := dk_181 0 126 (dk_at dksX2_kitchen_0 21 rfl rfl)
theorem dX2_kitchen_24 : decode cX2_kitchen 24 = .ok (.aload_n 0, 1) := dk_42 (dk_at dksX2_kitchen_1 0 rfl rfl)
theorem dX2_kitchen_25 : decode cX2_kitchen 25 = .ok (.getfield 132, 3) := dk_180 0 132 (dk_at dksX2_kitchen_1 1 rfl rfl)
theorem dX2_kitchen_28 : decode cX2_kitchen 28 = .ok (.ifCond .ne 5, 3) := dk_154 0 5 (dk_at dksX2_kitchen_1 4 rfl rfl)
theorem dX2_kitchen_31 : decode cX2_kitchen 31 = .ok (.iconst 0, 1) := dk_3 (dk_at dksX2_kitchen_1 7 rfl rfl)
theorem dX2_kitchen_32 : decode cX2_kitchen 32 = .ok (.ireturn, 1) := dk_172 (dk_at dksX2_kitchen_1 8 rfl rfl)
theorem dX2_kitchen_33 : decode cX2_kitchen 33 = .ok (.aload_n 0, 1) := dk_42 (dk_at dksX2_kitchen_1 9 rfl rfl)
theorem dX2_kitchen_34 : decode cX2_kitchen 34 = .ok (.getfield 116, 3) := dk_180 0 116 (dk_at dksX2_kitchen_1 10 rfl rfl)
theorem dX2_kitchen_37 : decode cX2_kitchen 37 = .ok (.istore_n 1, 1) := dk_60 (dk_at dksX2_kitchen_1 13 rfl rfl)
theorem dX2_kitchen_38 : decode cX2_kitchen 38 = .ok (.aload_n 0, 1) := dk_42 (dk_at dksX2_kitchen_1 14 rfl rfl)
theorem dX2_kitchen_39 : decode cX2_kitchen 39 = .ok (.getfield 123, 3) := dk_180 0 123 (dk_at dksX2_kitchen_1 15 rfl rfl)
theorem dX2_kitchen_42 : decode cX2_kitchen 42 = .ok (.istore_n 2, 1) := dk_61 (dk_at dksX2_kitchen_1 18 rfl rfl)
theorem dX2_kitchen_43 : decode cX2_kitchen 43 = .ok (.iconst 0, 1) := dk_3 (dk_at dksX2_kitchen_1 19 rfl rfl)
theorem dX2_kitchen_44 : decode cX2_kitchen 44 = .ok (.istore_n 3, 1) := dk_62 (dk_at dksX2_kitchen_1 20 rfl rfl)
theorem dX2_kitchen_45 : decode cX2_kitchen 45 = .ok (.iconst 1, 1) := dk_4 (dk_at dksX2_kitchen_1 21 rfl rfl)
theorem dX2_kitchen_46 : decode cX2_kitchen 46 = .ok (.istore 4, 2) := dk_54 4 (dk_at dksX2_kitchen_1 22 rfl rfl)
theorem dX2_kitchen_48 : decode cX2_kitchen 48 = .ok (.iload 4, 2) := dk_21 4 (dk_at dksX2_kitchen_2 0 rfl rfl)
theorem dX2_kitchen_50 : decode cX2_kitchen 50 = .ok (.ifCond .eq 139, 3) := dk_153 0 139 (dk_at dksX2_kitchen_2 2 rfl rfl)
theorem dX2_kitchen_53 : decode cX2_kitchen 53 = .ok (.aload_n 0, 1) := dk_42 (dk_at dksX2_kitchen_2 5 rfl rfl)
theorem dX2_kitchen_54 : decode cX2_kitchen 54 = .ok (.invokevirtual 144, 3) := dk_182 0 144 (dk_at dksX2_kitchen_2 6 rfl rfl)
theorem dX2_kitchen_57 : decode cX2_kitchen 57 = .ok (.ifCond .eq 132, 3) := dk_153 0 132 (dk_at dksX2_kitchen_2 9 rfl rfl)
theorem dX2_kitchen_60 : decode cX2_kitchen 60 = .ok (.aload_n 0, 1) := dk_42 (dk_at dksX2_kitchen_2 12 rfl rfl)
theorem dX2_kitchen_61 : decode cX2_kitchen 61 = .ok (.invokevirtual 148, 3) := dk_182 0 148 (dk_at dksX2_kitchen_2 13 rfl rfl)
theorem dX2_kitchen_64 : decode cX2_kitchen 64 = .ok (.bipush 71, 2) := dk_16 71 (dk_at dksX2_kitchen_2 16 rfl rfl)
theorem dX2_kitchen_66 : decode cX2_kitchen 66 = .ok (.if_icmp .ne 31, 3) := dk_160 0 31 (dk_at dksX2_kitchen_2 18 rfl rfl)
theorem dX2_kitchen_69 : decode cX2_kitchen 69 = .ok (.iload_n 2, 1) := dk_28 (dk_at dksX2_kitchen_2 21 rfl rfl)
theorem dX2_kitchen_70 : decode cX2_kitchen 70 = .ok (.bipush 6, 2) := dk_16 6 (dk_at dksX2_kitchen_2 22 rfl rfl)
theorem dX2_kitchen_72 : decode cX2_kitchen 72 = .ok (.if_icmp .ne 14, 3) := dk_160 0 14 (dk_at dksX2_kitchen_3 0 rfl rfl)
theorem dX2_kitchen_75 : decode cX2_kitchen 75 = .ok (.aload_n 0, 1) := dk_42 (dk_at dksX2_kitchen_3 3 rfl rfl)
theorem dX2_kitchen_76 : decode cX2_kitchen 76 = .ok (.aload_n 0, 1) := dk_42 (dk_at dksX2_kitchen_3 4 rfl rfl)
theorem dX2_kitchen_77 : decode cX2_kitchen 77 = .ok (.getfield 138, 3) := dk_180 0 138 (dk_at dksX2_kitchen_3 5 rfl rfl)
theorem dX2_kitchen_80 : decode cX2_kitchen 80 = .ok (.invokevirtual 152, 3) := dk_182 0 152 (dk_at dksX2_kitchen_3 8 rfl rfl)
theorem dX2_kitchen_83 : decode cX2_kitchen 83 = .ok (.goto 8, 3) := dk_167 0 8 (dk_at dksX2_kitchen_3 11 rfl rfl)
theorem dX2_kitchen_86 : decode cX2_kitchen 86 = .ok (.aload_n 0, 1) := dk_42 (dk_at dksX2_kitchen_3 14 rfl rfl)
theorem dX2_kitchen_87 : decode cX2_kitchen 87 = .ok (.iload_n 2, 1) := dk_28 (dk_at dksX2_kitchen_3 15 rfl rfl)
theorem dX2_kitchen_88 : decode cX2_kitchen 88 = .ok (.invokevirtual 160, 3) := dk_182 0 160 (dk_at dksX2_kitchen_3 16 rfl rfl)
theorem dX2_kitchen_91 : decode cX2_kitchen 91 = .ok (.iinc 2 1, 3) := dk_132 2 1 (dk_at dksX2_kitchen_3 19 rfl rfl)
theorem dX2_kitchen_94 : decode cX2_kitchen 94 = .ok (.goto 81, 3) := dk_167 0 81 (dk_at dksX2_kitchen_4 0 rfl rfl)
theorem dX2_kitchen_97 : decode cX2_kitchen 97 = .ok (.iload_n 1, 1) := dk_27 (dk_at dksX2_kitchen_4 3 rfl rfl)
theorem dX2_kitchen_98 : decode cX2_kitchen 98 = .ok (.bipush 10, 2) := dk_16 10 (dk_at dksX2_kitchen_4 4 rfl rfl)
theorem dX2_kitchen_100 : decode cX2_kitchen 100 = .ok (.if_icmp .ne 14, 3) := dk_160 0 14 (dk_at dksX2_kitchen_4 6 rfl rfl)
theorem dX2_kitchen_103 : decode cX2_kitchen 103 = .ok (.aload_n 0, 1) := dk_42 (dk_at dksX2_kitchen_4 9 rfl rfl)
theorem dX2_kitchen_104 : decode cX2_kitchen 104 = .ok (.aload_n 0, 1) := dk_42 (dk_at dksX2_kitchen_4 10 rfl rfl)
theorem dX2_kitchen_105 : decode cX2_kitchen 105 = .ok (.getfield 138, 3) := dk_180 0 138 (dk_at dksX2_kitchen_4 11 rfl rfl)
theorem dX2_kitchen_108 : decode cX2_kitchen 108 = .ok (.invokevirtual 152, 3) := dk_182 0 152 (dk_at dksX2_kitchen_4 14 rfl rfl)
theorem dX2_kitchen_111 : decode cX2_kitchen 111 = .ok (.goto 64, 3) := dk_167 0 64 (dk_at dksX2_kitchen_4 17 rfl rfl)
theorem dX2_kitchen_114 : decode cX2_kitchen 114 = .ok (.aload_n 0, 1) := dk_42 (dk_at dksX2_kitchen_4 20 rfl rfl)
theorem dX2_kitchen_115 : decode cX2_kitchen 115 = .ok (.getfield 13, 3) := dk_180 0 13 (dk_at dksX2_kitchen_4 21 rfl rfl)
theorem dX2_kitchen_118 : decode cX2_kitchen 118 = .ok (.iload_n 1, 1) := dk_27 (dk_at dksX2_kitchen_5 0 rfl rfl)
theorem dX2_kitchen_119 : decode cX2_kitchen 119 = .ok (.aload_n 0, 1) := dk_42 (dk_at dksX2_kitchen_5 1 rfl rfl)
theorem dX2_kitchen_120 : decode cX2_kitchen 120 = .ok (.iconst 1, 1) := dk_4 (dk_at dksX2_kitchen_5 2 rfl rfl)
theorem dX2_kitchen_121 : decode cX2_kitchen 121 = .ok (.invokevirtual 163, 3) := dk_182 0 163 (dk_at dksX2_kitchen_5 3 rfl rfl)
theorem dX2_kitchen_124 : decode cX2_kitchen 124 = .ok (.iastore, 1) := dk_79 (dk_at dksX2_kitchen_5 6 rfl rfl)
theorem dX2_kitchen_125 : decode cX2_kitchen 125 = .ok (.aload_n 0, 1) := dk_42 (dk_at dksX2_kitchen_5 7 rfl rfl)
theorem dX2_kitchen_126 : decode cX2_kitchen 126 = .ok (.getfield 16, 3) := dk_180 0 16 (dk_at dksX2_kitchen_5 8 rfl rfl)
theorem dX2_kitchen_129 : decode cX2_kitchen 129 = .ok (.iload_n 1, 1) := dk_27 (dk_at dksX2_kitchen_5 11 rfl rfl)
theorem dX2_kitchen_130 : decode cX2_kitchen 130 = .ok (.aload_n 0, 1) := dk_42 (dk_at dksX2_kitchen_5 12 rfl rfl)
theorem dX2_kitchen_131 : decode cX2_kitchen 131 = .ok (.iconst 2, 1) := dk_5 (dk_at dksX2_kitchen_5 13 rfl rfl)
theorem dX2_kitchen_132 : decode cX2_kitchen 132 = .ok (.invokevirtual 167, 3) := dk_182 0 167 (dk_at dksX2_kitchen_5 14 rfl rfl)
theorem dX2_kitchen_135 : decode cX2_kitchen 135 = .ok (.iastore, 1) := dk_79 (dk_at dksX2_kitchen_5 17 rfl rfl)
theorem dX2_kitchen_136 : decode cX2_kitchen 136 = .ok (.aload_n 0, 1) := dk_42 (dk_at dksX2_kitchen_5 18 rfl rfl)
theorem dX2_kitchen_137 : decode cX2_kitchen 137 = .ok (.getfield 19, 3) := dk_180 0 19 (dk_at dksX2_kitchen_5 19 rfl rfl)
theorem dX2_kitchen_140 : decode cX2_kitchen 140 = .ok (.iload_n 1, 1) := dk_27 (dk_at dksX2_kitchen_5 22 rfl rfl)
theorem dX2_kitchen_141 : decode cX2_kitchen 141 = .ok (.aload_n 0, 1) := dk_42 (dk_at dksX2_kitchen_5 23 rfl rfl)
theorem dX2_kitchen_142 : decode cX2_kitchen 142 = .ok (.bipush 72, 2) := dk_16 72 (dk_at dksX2_kitchen_6 0 rfl rfl)
theorem dX2_kitchen_144 : decode cX2_kitchen 144 = .ok (.invokevirtual 171, 3) := dk_182 0 171 (dk_at dksX2_kitchen_6 2 rfl rfl)
theorem dX2_kitchen_147 : decode cX2_kitchen 147 = .ok (.bastore, 1) := dk_84 (dk_at dksX2_kitchen_6 5 rfl rfl)
theorem dX2_kitchen_148 : decode cX2_kitchen 148 = .ok (.aload_n 0, 1) := dk_42 (dk_at dksX2_kitchen_6 6 rfl rfl)
theorem dX2_kitchen_149 : decode cX2_kitchen 149 = .ok (.getfield 23, 3) := dk_180 0 23 (dk_at dksX2_kitchen_6 7 rfl rfl)
theorem dX2_kitchen_152 : decode cX2_kitchen 152 = .ok (.iload_n 1, 1) := dk_27 (dk_at dksX2_kitchen_6 10 rfl rfl)
theorem dX2_kitchen_153 : decode cX2_kitchen 153 = .ok (.aload_n 0, 1) := dk_42 (dk_at dksX2_kitchen_6 11 rfl rfl)
theorem dX2_kitchen_154 : decode cX2_kitchen 154 = .ok (.bipush 43, 2) := dk_16 43 (dk_at dksX2_kitchen_6 12 rfl rfl)
theorem dX2_kitchen_156 : decode cX2_kitchen 156 = .ok (.invokevirtual 171, 3) := dk_182 0 171 (dk_at dksX2_kitchen_6 14 rfl rfl)
theorem dX2_kitchen_159 : decode cX2_kitchen 159 = .ok (.ifCond .eq 11, 3) := dk_153 0 11 (dk_at dksX2_kitchen_6 17 rfl rfl)
theorem dX2_kitchen_162 : decode cX2_kitchen 162 = .ok (.aload_n 0, 1) := dk_42 (dk_at dksX2_kitchen_6 20 rfl rfl)
theorem dX2_kitchen_163 : decode cX2_kitchen 163 = .ok (.iconst 1, 1) := dk_4 (dk_at dksX2_kitchen_6 21 rfl rfl)
theorem dX2_kitchen_164 : decode cX2_kitchen 164 = .ok (.invokevirtual 167, 3) := dk_182 0 167 (dk_at dksX2_kitchen_7 0 rfl rfl)
theorem dX2_kitchen_167 : decode cX2_kitchen 167 = .ok (.goto 4, 3) := dk_167 0 4 (dk_at dksX2_kitchen_7 3 rfl rfl)
theorem dX2_kitchen_170 : decode cX2_kitchen 170 = .ok (.iconst 0, 1) := dk_3 (dk_at dksX2_kitchen_7 6 rfl rfl)
theorem dX2_kitchen_171 : decode cX2_kitchen 171 = .ok (.iastore, 1) := dk_79 (dk_at dksX2_kitchen_7 7 rfl rfl)
theorem dX2_kitchen_172 : decode cX2_kitchen 172 = .ok (.iinc 1 1, 3) := dk_132 1 1 (dk_at dksX2_kitchen_7 8 rfl rfl)
theorem dX2_kitchen_175 : decode cX2_kitchen 175 = .ok (.iinc 3 1, 3) := dk_132 3 1 (dk_at dksX2_kitchen_7 11 rfl rfl)
theorem dX2_kitchen_178 : decode cX2_kitchen 178 = .ok (.aload_n 0, 1) := dk_42 (dk_at dksX2_kitchen_7 14 rfl rfl)
theorem dX2_kitchen_179 : decode cX2_kitchen 179 = .ok (.bipush 59, 2) := dk_16 59 (dk_at dksX2_kitchen_7 15 rfl rfl)
theorem dX2_kitchen_181 : decode cX2_kitchen 181 = .ok (.invokevirtual 171, 3) := dk_182 0 171 (dk_at dksX2_kitchen_7 17 rfl rfl)
theorem dX2_kitchen_184 : decode cX2_kitchen 184 = .ok (.istore 4, 2) := dk_54 4 (dk_at dksX2_kitchen_7 20 rfl rfl)
theorem dX2_kitchen_186 : decode cX2_kitchen 186 = .ok (.goto (-138), 3) := dk_167 255 118 (dk_at dksX2_kitchen_8 0 rfl rfl)
theorem dX2_kitchen_189 : decode cX2_kitchen 189 = .ok (.aload_n 0, 1) := dk_42 (dk_at dksX2_kitchen_8 3 rfl rfl)
theorem dX2_kitchen_190 : decode cX2_kitchen 190 = .ok (.getfield 138, 3) := dk_180 0 138 (dk_at dksX2_kitchen_8 4 rfl rfl)
theorem dX2_kitchen_193 : decode cX2_kitchen 193 = .ok (.aload_n 0, 1) := dk_42 (dk_at dksX2_kitchen_8 7 rfl rfl)
theorem dX2_kitchen_194 : decode cX2_kitchen 194 = .ok (.getfield 132, 3) := dk_180 0 132 (dk_at dksX2_kitchen_8 8 rfl rfl)
theorem dX2_kitchen_197 : decode cX2_kitchen 197 = .ok (.if_icmp .ge 11, 3) := dk_162 0 11 (dk_at dksX2_kitchen_8 11 rfl rfl)
theorem dX2_kitchen_200 : decode cX2_kitchen 200 = .ok (.aload_n 0, 1) := dk_42 (dk_at dksX2_kitchen_8 14 rfl rfl)
theorem dX2_kitchen_201 : decode cX2_kitchen 201 = .ok (.aload_n 0, 1) := dk_42 (dk_at dksX2_kitchen_8 15 rfl rfl)
theorem dX2_kitchen_202 : decode cX2_kitchen 202 = .ok (.getfield 138, 3) := dk_180 0 138 (dk_at dksX2_kitchen_8 16 rfl rfl)
theorem dX2_kitchen_205 : decode cX2_kitchen 205 = .ok (.invokevirtual 152, 3) := dk_182 0 152 (dk_at dksX2_kitchen_8 19 rfl rfl)
theorem dX2_kitchen_208 : decode cX2_kitchen 208 = .ok (.aload_n 0, 1) := dk_42 (dk_at dksX2_kitchen_8 22 rfl rfl)
theorem dX2_kitchen_209 : decode cX2_kitchen 209 = .ok (.invokevirtual 144, 3) := dk_182 0 144 (dk_at dksX2_kitchen_9 0 rfl rfl)
theorem dX2_kitchen_212 : decode cX2_kitchen 212 = .ok (.ifCond .ne 10, 3) := dk_154 0 10 (dk_at dksX2_kitchen_9 3 rfl rfl)
theorem dX2_kitchen_215 : decode cX2_kitchen 215 = .ok (.iconst (-1), 1) := dk_2 (dk_at dksX2_kitchen_9 6 rfl rfl)
theorem dX2_kitchen_216 : decode cX2_kitchen 216 = .ok (.aload_n 0, 1) := dk_42 (dk_at dksX2_kitchen_9 7 rfl rfl)
theorem dX2_kitchen_217 : decode cX2_kitchen 217 = .ok (.getfield 141, 3) := dk_180 0 141 (dk_at dksX2_kitchen_9 8 rfl rfl)
theorem dX2_kitchen_220 : decode cX2_kitchen 220 = .ok (.isub, 1) := dk_100 (dk_at dksX2_kitchen_9 11 rfl rfl)
theorem dX2_kitchen_221 : decode cX2_kitchen 221 = .ok (.ireturn, 1) := dk_172 (dk_at dksX2_kitchen_9 12 rfl rfl)
theorem dX2_kitchen_222 : decode cX2_kitchen 222 = .ok (.iload_n 1, 1) := dk_27 (dk_at dksX2_kitchen_9 13 rfl rfl)
theorem dX2_kitchen_223 : decode cX2_kitchen 223 = .ok (.aload_n 0, 1) := dk_42 (dk_at dksX2_kitchen_9 14 rfl rfl)
theorem dX2_kitchen_224 : decode cX2_kitchen 224 = .ok (.getfield 116, 3) := dk_180 0 116 (dk_at dksX2_kitchen_9 15 rfl rfl)
theorem dX2_kitchen_227 : decode cX2_kitchen 227 = .ok (.if_icmp .le 13, 3) := dk_164 0 13 (dk_at dksX2_kitchen_9 18 rfl rfl)
theorem dX2_kitchen_230 : decode cX2_kitchen 230 = .ok (.aload_n 0, 1) := dk_42 (dk_at dksX2_kitchen_9 21 rfl rfl)
theorem dX2_kitchen_231 : decode cX2_kitchen 231 = .ok (.dup, 1) := dk_89 (dk_at dksX2_kitchen_9 22 rfl rfl)
theorem dX2_kitchen_232 : decode cX2_kitchen 232 = .ok (.getfield 175, 3) := dk_180 0 175 (dk_at dksX2_kitchen_10 0 rfl rfl)
theorem dX2_kitchen_235 : decode cX2_kitchen 235 = .ok (.iconst 1, 1) := dk_4 (dk_at dksX2_kitchen_10 3 rfl rfl)
theorem dX2_kitchen_236 : decode cX2_kitchen 236 = .ok (.iadd, 1) := dk_96 (dk_at dksX2_kitchen_10 4 rfl rfl)
theorem dX2_kitchen_237 : decode cX2_kitchen 237 = .ok (.putfield 175, 3) := dk_181 0 175 (dk_at dksX2_kitchen_10 5 rfl rfl)
theorem dX2_kitchen_240 : decode cX2_kitchen 240 = .ok (.aload_n 0, 1) := dk_42 (dk_at dksX2_kitchen_10 8 rfl rfl)
theorem dX2_kitchen_241 : decode cX2_kitchen 241 = .ok (.iload_n 1, 1) := dk_27 (dk_at dksX2_kitchen_10 9 rfl rfl)
theorem dX2_kitchen_242 : decode cX2_kitchen 242 = .ok (.putfield 116, 3) := dk_181 0 116 (dk_at dksX2_kitchen_10 10 rfl rfl)
theorem dX2_kitchen_245 : decode cX2_kitchen 245 = .ok (.aload_n 0, 1) := dk_42 (dk_at dksX2_kitchen_10 13 rfl rfl)
theorem dX2_kitchen_246 : decode cX2_kitchen 246 = .ok (.iload_n 2, 1) := dk_28 (dk_at dksX2_kitchen_10 14 rfl rfl)
theorem dX2_kitchen_247 : decode cX2_kitchen 247 = .ok (.putfield 123, 3) := dk_181 0 123 (dk_at dksX2_kitchen_10 15 rfl rfl)
theorem dX2_kitchen_250 : decode cX2_kitchen 250 = .ok (.iload_n 3, 1) := dk_29 (dk_at dksX2_kitchen_10 18 rfl rfl)
theorem dX2_kitchen_251 : decode cX2_kitchen 251 = .ok (.ireturn, 1) := dk_172 (dk_at dksX2_kitchen_10 19 rfl rfl)
abbrev cX2_begin : ByteArray := prog_8_method_11_code
def yX2_begin : MethodName := ⟨RX2, "begin", "([BII)V"⟩
def dkwX2_begin_1 : List UInt8 := [181, 0, 141, 177]
abbrev dktX2_begin_1 : List UInt8 := dkwX2_begin_1 ++ []
def dkwX2_begin_0 : List UInt8 := [42, 43, 181, 0, 129, 42, 28, 181, 0, 132, 42, 29, 181, 0, 135, 42, 3, 181, 0, 138, 42, 2]
abbrev dktX2_begin_0 : List UInt8 := dkwX2_begin_0 ++ dktX2_begin_1
theorem dksX2_begin_0 : cX2_begin.data.toList.drop 0 = dktX2_begin_0 := by decide +kernel
theorem dksX2_begin_1 : cX2_begin.data.toList.drop 22 = dktX2_begin_1 := dk_seg dksX2_begin_0 22 rfl rfl
theorem dX2_begin_0 : decode cX2_begin 0 = .ok (.aload_n 0, 1) := dk_42 (dk_at dksX2_begin_0 0 rfl rfl)
theorem dX2_begin_1 : decode cX2_begin 1 = .ok (.aload_n 1, 1) := dk_43 (dk_at dksX2_begin_0 1 rfl rfl)
theorem dX2_begin_2 : decode cX2_begin 2 = .ok (.putfield 129, 3) := dk_181 0 129 (dk_at dksX2_begin_0 2 rfl rfl)
theorem dX2_begin_5 : decode cX2_begin 5 = .ok (.aload_n 0, 1) := dk_42 (dk_at dksX2_begin_0 5 rfl rfl)
theorem dX2_begin_6 : decode cX2_begin 6 = .ok (.iload_n 2, 1) := dk_28 (dk_at dksX2_begin_0 6 rfl rfl)
theorem dX2_begin_7 : decode cX2_begin 7 = .ok (.putfield 132, 3) := dk_181 0 132 (dk_at dksX2_begin_0 7 rfl rfl)
theorem dX2_begin_10 : decode cX2_begin 10 = .ok (.aload_n 0, 1) := dk_42 (dk_at dksX2_begin_0 10 rfl rfl)
theorem dX2_begin_11 : decode cX2_begin 11 = .ok (.iload_n 3, 1) := dk_29 (dk_at dksX2_begin_0 11 rfl rfl)
theorem dX2_begin_12 : decode cX2_begin 12 = .ok (.putfield 135, 3) := dk_181 0 135 (dk_at dksX2_begin_0 12 rfl rfl)
theorem dX2_begin_15 : decode cX2_begin 15 = .ok (.aload_n 0, 1) := dk_42 (dk_at dksX2_begin_0 15 rfl rfl)
theorem dX2_begin_16 : decode cX2_begin 16 = .ok (.iconst 0, 1) := dk_3 (dk_at dksX2_begin_0 16 rfl rfl)
theorem dX2_begin_17 : decode cX2_begin 17 = .ok (.putfield 138, 3) := dk_181 0 138 (dk_at dksX2_begin_0 17 rfl rfl)
theorem dX2_begin_20 : decode cX2_begin 20 = .ok (.aload_n 0, 1) := dk_42 (dk_at dksX2_begin_0 20 rfl rfl)
theorem dX2_begin_21 : decode cX2_begin 21 = .ok (.iconst (-1), 1) := dk_2 (dk_at dksX2_begin_0 21 rfl rfl)
theorem dX2_begin_22 : decode cX2_begin 22 = .ok (.putfield 141, 3) := dk_181 0 141 (dk_at dksX2_begin_1 0 rfl rfl)
theorem dX2_begin_25 : decode cX2_begin 25 = .ok (.return_, 1) := dk_177 (dk_at dksX2_begin_1 3 rfl rfl)
abbrev cX2_fine : ByteArray := prog_8_method_13_code
def yX2_fine : MethodName := ⟨RX2, "fine", "()Z"⟩
def dkwX2_fine_0 : List UInt8 := [42, 180, 0, 141, 2, 160, 0, 7, 4, 167, 0, 4, 3, 172]
abbrev dktX2_fine_0 : List UInt8 := dkwX2_fine_0 ++ []
theorem dksX2_fine_0 : cX2_fine.data.toList.drop 0 = dktX2_fine_0 := by decide +kernel
theorem dX2_fine_0 : decode cX2_fine 0 = .ok (.aload_n 0, 1) := dk_42 (dk_at dksX2_fine_0 0 rfl rfl)
theorem dX2_fine_1 : decode cX2_fine 1 = .ok (.getfield 141, 3) := dk_180 0 141 (dk_at dksX2_fine_0 1 rfl rfl)
theorem dX2_fine_4 : decode cX2_fine 4 = .ok (.iconst (-1), 1) := dk_2 (dk_at dksX2_fine_0 4 rfl rfl)
theorem dX2_fine_5 : decode cX2_fine 5 = .ok (.if_icmp .ne 7, 3) := dk_160 0 7 (dk_at dksX2_fine_0 5 rfl rfl)
theorem dX2_fine_8 : decode cX2_fine 8 = .ok (.iconst 1, 1) := dk_4 (dk_at dksX2_fine_0 8 rfl rfl)
theorem dX2_fine_9 : decode cX2_fine 9 = .ok (.goto 4, 3) := dk_167 0 4 (dk_at dksX2_fine_0 9 rfl rfl)
theorem dX2_fine_12 : decode cX2_fine 12 = .ok (.iconst 0, 1) := dk_3 (dk_at dksX2_fine_0 12 rfl rfl)
theorem dX2_fine_13 : decode cX2_fine 13 = .ok (.ireturn, 1) := dk_172 (dk_at dksX2_fine_0 13 rfl rfl)
abbrev cX2_here : ByteArray := prog_8_method_12_code
def yX2_here : MethodName := ⟨RX2, "here", "()I"⟩
def dkwX2_here_1 : List UInt8 := [180, 0, 129, 42, 180, 0, 138, 51, 167, 0, 4, 2, 172]
abbrev dktX2_here_1 : List UInt8 := dkwX2_here_1 ++ []
def dkwX2_here_0 : List UInt8 := [42, 180, 0, 138, 42, 180, 0, 132, 162, 0, 26, 42, 180, 0, 138, 42, 180, 0, 135, 162, 0, 15, 42]
abbrev dktX2_here_0 : List UInt8 := dkwX2_here_0 ++ dktX2_here_1
theorem dksX2_here_0 : cX2_here.data.toList.drop 0 = dktX2_here_0 := by decide +kernel
theorem dksX2_here_1 : cX2_here.data.toList.drop 23 = dktX2_here_1 := dk_seg dksX2_here_0 23 rfl rfl
theorem dX2_here_0 : decode cX2_here 0 = .ok (.aload_n 0, 1) := dk_42 (dk_at dksX2_here_0 0 rfl rfl)
theorem dX2_here_1 : decode cX2_here 1 = .ok (.getfield 138, 3) := dk_180 0 138 (dk_at dksX2_here_0 1 rfl rfl)
theorem dX2_here_4 : decode cX2_here 4 = .ok (.aload_n 0, 1) := dk_42 (dk_at dksX2_here_0 4 rfl rfl)
theorem dX2_here_5 : decode cX2_here 5 = .ok (.getfield 132, 3) := dk_180 0 132 (dk_at dksX2_here_0 5 rfl rfl)
theorem dX2_here_8 : decode cX2_here 8 = .ok (.if_icmp .ge 26, 3) := dk_162 0 26 (dk_at dksX2_here_0 8 rfl rfl)
theorem dX2_here_11 : decode cX2_here 11 = .ok (.aload_n 0, 1) := dk_42 (dk_at dksX2_here_0 11 rfl rfl)
theorem dX2_here_12 : decode cX2_here 12 = .ok (.getfield 138, 3) := dk_180 0 138 (dk_at dksX2_here_0 12 rfl rfl)
theorem dX2_here_15 : decode cX2_here 15 = .ok (.aload_n 0, 1) := dk_42 (dk_at dksX2_here_0 15 rfl rfl)
theorem dX2_here_16 : decode cX2_here 16 = .ok (.getfield 135, 3) := dk_180 0 135 (dk_at dksX2_here_0 16 rfl rfl)
theorem dX2_here_19 : decode cX2_here 19 = .ok (.if_icmp .ge 15, 3) := dk_162 0 15 (dk_at dksX2_here_0 19 rfl rfl)
theorem dX2_here_22 : decode cX2_here 22 = .ok (.aload_n 0, 1) := dk_42 (dk_at dksX2_here_0 22 rfl rfl)
theorem dX2_here_23 : decode cX2_here 23 = .ok (.getfield 129, 3) := dk_180 0 129 (dk_at dksX2_here_1 0 rfl rfl)
theorem dX2_here_26 : decode cX2_here 26 = .ok (.aload_n 0, 1) := dk_42 (dk_at dksX2_here_1 3 rfl rfl)
theorem dX2_here_27 : decode cX2_here 27 = .ok (.getfield 138, 3) := dk_180 0 138 (dk_at dksX2_here_1 4 rfl rfl)
theorem dX2_here_30 : decode cX2_here 30 = .ok (.baload, 1) := dk_51 (dk_at dksX2_here_1 7 rfl rfl)
theorem dX2_here_31 : decode cX2_here 31 = .ok (.goto 4, 3) := dk_167 0 4 (dk_at dksX2_here_1 8 rfl rfl)
theorem dX2_here_34 : decode cX2_here 34 = .ok (.iconst (-1), 1) := dk_2 (dk_at dksX2_here_1 11 rfl rfl)
theorem dX2_here_35 : decode cX2_here 35 = .ok (.ireturn, 1) := dk_172 (dk_at dksX2_here_1 12 rfl rfl)
abbrev cX2_fault : ByteArray := prog_8_method_14_code
def yX2_fault : MethodName := ⟨RX2, "fault", "(I)V"⟩
def dkwX2_fault_0 : List UInt8 := [42, 182, 0, 144, 153, 0, 8, 42, 27, 181, 0, 141, 177]
abbrev dktX2_fault_0 : List UInt8 := dkwX2_fault_0 ++ []
theorem dksX2_fault_0 : cX2_fault.data.toList.drop 0 = dktX2_fault_0 := by decide +kernel
theorem dX2_fault_0 : decode cX2_fault 0 = .ok (.aload_n 0, 1) := dk_42 (dk_at dksX2_fault_0 0 rfl rfl)
theorem dX2_fault_1 : decode cX2_fault 1 = .ok (.invokevirtual 144, 3) := dk_182 0 144 (dk_at dksX2_fault_0 1 rfl rfl)
theorem dX2_fault_4 : decode cX2_fault 4 = .ok (.ifCond .eq 8, 3) := dk_153 0 8 (dk_at dksX2_fault_0 4 rfl rfl)
theorem dX2_fault_7 : decode cX2_fault 7 = .ok (.aload_n 0, 1) := dk_42 (dk_at dksX2_fault_0 7 rfl rfl)
theorem dX2_fault_8 : decode cX2_fault 8 = .ok (.iload_n 1, 1) := dk_27 (dk_at dksX2_fault_0 8 rfl rfl)
theorem dX2_fault_9 : decode cX2_fault 9 = .ok (.putfield 141, 3) := dk_181 0 141 (dk_at dksX2_fault_0 9 rfl rfl)
theorem dX2_fault_12 : decode cX2_fault 12 = .ok (.return_, 1) := dk_177 (dk_at dksX2_fault_0 12 rfl rfl)
abbrev cX2_readGuest : ByteArray := prog_8_method_19_code
def yX2_readGuest : MethodName := ⟨RX2, "readGuest", "(I)V"⟩
def dkwX2_readGuest_2 : List UInt8 := [79, 177]
abbrev dktX2_readGuest_2 : List UInt8 := dkwX2_readGuest_2 ++ []
def dkwX2_readGuest_1 : List UInt8 := [182, 0, 171, 154, 0, 11, 42, 42, 180, 0, 138, 182, 0, 152, 42, 180, 0, 29, 27, 42, 3, 182, 0, 163]
abbrev dktX2_readGuest_1 : List UInt8 := dkwX2_readGuest_1 ++ dktX2_readGuest_2
def dkwX2_readGuest_0 : List UInt8 := [42, 89, 180, 0, 138, 4, 96, 181, 0, 138, 42, 180, 0, 26, 27, 42, 3, 182, 0, 163, 79, 42, 16, 45]
abbrev dktX2_readGuest_0 : List UInt8 := dkwX2_readGuest_0 ++ dktX2_readGuest_1
theorem dksX2_readGuest_0 : cX2_readGuest.data.toList.drop 0 = dktX2_readGuest_0 := by decide +kernel
theorem dksX2_readGuest_1 : cX2_readGuest.data.toList.drop 24 = dktX2_readGuest_1 := dk_seg dksX2_readGuest_0 24 rfl rfl
theorem dksX2_readGuest_2 : cX2_readGuest.data.toList.drop 48 = dktX2_readGuest_2 := dk_seg dksX2_readGuest_1 24 rfl rfl
theorem dX2_readGuest_0 : decode cX2_readGuest 0 = .ok (.aload_n 0, 1) := dk_42 (dk_at dksX2_readGuest_0 0 rfl rfl)
theorem dX2_readGuest_1 : decode cX2_readGuest 1 = .ok (.dup, 1) := dk_89 (dk_at dksX2_readGuest_0 1 rfl rfl)
theorem dX2_readGuest_2 : decode cX2_readGuest 2 = .ok (.getfield 138, 3) := dk_180 0 138 (dk_at dksX2_readGuest_0 2 rfl rfl)
theorem dX2_readGuest_5 : decode cX2_readGuest 5 = .ok (.iconst 1, 1) := dk_4 (dk_at dksX2_readGuest_0 5 rfl rfl)
theorem dX2_readGuest_6 : decode cX2_readGuest 6 = .ok (.iadd, 1) := dk_96 (dk_at dksX2_readGuest_0 6 rfl rfl)
theorem dX2_readGuest_7 : decode cX2_readGuest 7 = .ok (.putfield 138, 3) := dk_181 0 138 (dk_at dksX2_readGuest_0 7 rfl rfl)
theorem dX2_readGuest_10 : decode cX2_readGuest 10 = .ok (.aload_n 0, 1) := dk_42 (dk_at dksX2_readGuest_0 10 rfl rfl)
theorem dX2_readGuest_11 : decode cX2_readGuest 11 = .ok (.getfield 26, 3) := dk_180 0 26 (dk_at dksX2_readGuest_0 11 rfl rfl)
theorem dX2_readGuest_14 : decode cX2_readGuest 14 = .ok (.iload_n 1, 1) := dk_27 (dk_at dksX2_readGuest_0 14 rfl rfl)
theorem dX2_readGuest_15 : decode cX2_readGuest 15 = .ok (.aload_n 0, 1) := dk_42 (dk_at dksX2_readGuest_0 15 rfl rfl)
theorem dX2_readGuest_16 : decode cX2_readGuest 16 = .ok (.iconst 0, 1) := dk_3 (dk_at dksX2_readGuest_0 16 rfl rfl)
theorem dX2_readGuest_17 : decode cX2_readGuest 17 = .ok (.invokevirtual 163, 3) := dk_182 0 163 (dk_at dksX2_readGuest_0 17 rfl rfl)
theorem dX2_readGuest_20 : decode cX2_readGuest 20 = .ok (.iastore, 1) := dk_79 (dk_at dksX2_readGuest_0 20 rfl rfl)
theorem dX2_readGuest_21 : decode cX2_readGuest 21 = .ok (.aload_n 0, 1) := dk_42 (dk_at dksX2_readGuest_0 21 rfl rfl)
theorem dX2_readGuest_22 : decode cX2_readGuest 22 = .ok (.bipush 45, 2) := dk_16 45 (dk_at dksX2_readGuest_0 22 rfl rfl)
theorem dX2_readGuest_24 : decode cX2_readGuest 24 = .ok (.invokevirtual 171, 3) := dk_182 0 171 (dk_at dksX2_readGuest_1 0 rfl rfl)
theorem dX2_readGuest_27 : decode cX2_readGuest 27 = .ok (.ifCond .ne 11, 3) := dk_154 0 11 (dk_at dksX2_readGuest_1 3 rfl rfl)
theorem dX2_readGuest_30 : decode cX2_readGuest 30 = .ok (.aload_n 0, 1) := dk_42 (dk_at dksX2_readGuest_1 6 rfl rfl)
theorem dX2_readGuest_31 : decode cX2_readGuest 31 = .ok (.aload_n 0, 1) := dk_42 (dk_at dksX2_readGuest_1 7 rfl rfl)
theorem dX2_readGuest_32 : decode cX2_readGuest 32 = .ok (.getfield 138, 3) := dk_180 0 138 (dk_at dksX2_readGuest_1 8 rfl rfl)
theorem dX2_readGuest_35 : decode cX2_readGuest 35 = .ok (.invokevirtual 152, 3) := dk_182 0 152 (dk_at dksX2_readGuest_1 11 rfl rfl)
theorem dX2_readGuest_38 : decode cX2_readGuest 38 = .ok (.aload_n 0, 1) := dk_42 (dk_at dksX2_readGuest_1 14 rfl rfl)
theorem dX2_readGuest_39 : decode cX2_readGuest 39 = .ok (.getfield 29, 3) := dk_180 0 29 (dk_at dksX2_readGuest_1 15 rfl rfl)
theorem dX2_readGuest_42 : decode cX2_readGuest 42 = .ok (.iload_n 1, 1) := dk_27 (dk_at dksX2_readGuest_1 18 rfl rfl)
theorem dX2_readGuest_43 : decode cX2_readGuest 43 = .ok (.aload_n 0, 1) := dk_42 (dk_at dksX2_readGuest_1 19 rfl rfl)
theorem dX2_readGuest_44 : decode cX2_readGuest 44 = .ok (.iconst 0, 1) := dk_3 (dk_at dksX2_readGuest_1 20 rfl rfl)
theorem dX2_readGuest_45 : decode cX2_readGuest 45 = .ok (.invokevirtual 163, 3) := dk_182 0 163 (dk_at dksX2_readGuest_1 21 rfl rfl)
theorem dX2_readGuest_48 : decode cX2_readGuest 48 = .ok (.iastore, 1) := dk_79 (dk_at dksX2_readGuest_2 0 rfl rfl)
theorem dX2_readGuest_49 : decode cX2_readGuest 49 = .ok (.return_, 1) := dk_177 (dk_at dksX2_readGuest_2 1 rfl rfl)
abbrev cX2_letters : ByteArray := prog_8_method_17_code
def yX2_letters : MethodName := ⟨RX2, "letters", "(Z)I"⟩
def dkwX2_letters_3 : List UInt8 := [181, 0, 138, 167, 255, 190, 27, 153, 0, 15, 28, 154, 0, 11, 42, 42, 180, 0, 138, 182, 0, 152, 28, 172]
abbrev dktX2_letters_3 : List UInt8 := dkwX2_letters_3 ++ []
def dkwX2_letters_2 : List UInt8 := [182, 0, 152, 3, 172, 21, 4, 62, 28, 4, 21, 4, 120, 128, 61, 42, 89, 180, 0, 138, 4, 96]
abbrev dktX2_letters_2 : List UInt8 := dkwX2_letters_2 ++ dktX2_letters_3
def dkwX2_letters_1 : List UInt8 := [153, 0, 51, 42, 182, 0, 148, 16, 97, 100, 54, 4, 21, 4, 29, 163, 0, 13, 42, 42, 180, 0, 138]
abbrev dktX2_letters_1 : List UInt8 := dkwX2_letters_1 ++ dktX2_letters_2
def dkwX2_letters_0 : List UInt8 := [3, 61, 2, 62, 42, 182, 0, 144, 153, 0, 65, 42, 182, 0, 148, 16, 97, 16, 104, 184, 0, 119]
abbrev dktX2_letters_0 : List UInt8 := dkwX2_letters_0 ++ dktX2_letters_1
theorem dksX2_letters_0 : cX2_letters.data.toList.drop 0 = dktX2_letters_0 := by decide +kernel
theorem dksX2_letters_1 : cX2_letters.data.toList.drop 22 = dktX2_letters_1 := dk_seg dksX2_letters_0 22 rfl rfl
theorem dksX2_letters_2 : cX2_letters.data.toList.drop 45 = dktX2_letters_2 := dk_seg dksX2_letters_1 23 rfl rfl
theorem dksX2_letters_3 : cX2_letters.data.toList.drop 67 = dktX2_letters_3 := dk_seg dksX2_letters_2 22 rfl rfl
theorem dX2_letters_0 : decode cX2_letters 0 = .ok (.iconst 0, 1) := dk_3 (dk_at dksX2_letters_0 0 rfl rfl)
theorem dX2_letters_1 : decode cX2_letters 1 = .ok (.istore_n 2, 1) := dk_61 (dk_at dksX2_letters_0 1 rfl rfl)
theorem dX2_letters_2 : decode cX2_letters 2 = .ok (.iconst (-1), 1) := dk_2 (dk_at dksX2_letters_0 2 rfl rfl)
theorem dX2_letters_3 : decode cX2_letters 3 = .ok (.istore_n 3, 1) := dk_62 (dk_at dksX2_letters_0 3 rfl rfl)
theorem dX2_letters_4 : decode cX2_letters 4 = .ok (.aload_n 0, 1) := dk_42 (dk_at dksX2_letters_0 4 rfl rfl)
theorem dX2_letters_5 : decode cX2_letters 5 = .ok (.invokevirtual 144, 3) := dk_182 0 144 (dk_at dksX2_letters_0 5 rfl rfl)
theorem dX2_letters_8 : decode cX2_letters 8 = .ok (.ifCond .eq 65, 3) := dk_153 0 65 (dk_at dksX2_letters_0 8 rfl rfl)
theorem dX2_letters_11 : decode cX2_letters 11 = .ok (.aload_n 0, 1) := dk_42 (dk_at dksX2_letters_0 11 rfl rfl)
theorem dX2_letters_12 : decode cX2_letters 12 = .ok (.invokevirtual 148, 3) := dk_182 0 148 (dk_at dksX2_letters_0 12 rfl rfl)
theorem dX2_letters_15 : decode cX2_letters 15 = .ok (.bipush 97, 2) := dk_16 97 (dk_at dksX2_letters_0 15 rfl rfl)
theorem dX2_letters_17 : decode cX2_letters 17 = .ok (.bipush 104, 2) := dk_16 104 (dk_at dksX2_letters_0 17 rfl rfl)
theorem dX2_letters_19 : decode cX2_letters 19 = .ok (.invokestatic 119, 3) := dk_184 0 119 (dk_at dksX2_letters_0 19 rfl rfl)
theorem dX2_letters_22 : decode cX2_letters 22 = .ok (.ifCond .eq 51, 3) := dk_153 0 51 (dk_at dksX2_letters_1 0 rfl rfl)
theorem dX2_letters_25 : decode cX2_letters 25 = .ok (.aload_n 0, 1) := dk_42 (dk_at dksX2_letters_1 3 rfl rfl)
theorem dX2_letters_26 : decode cX2_letters 26 = .ok (.invokevirtual 148, 3) := dk_182 0 148 (dk_at dksX2_letters_1 4 rfl rfl)
theorem dX2_letters_29 : decode cX2_letters 29 = .ok (.bipush 97, 2) := dk_16 97 (dk_at dksX2_letters_1 7 rfl rfl)
theorem dX2_letters_31 : decode cX2_letters 31 = .ok (.isub, 1) := dk_100 (dk_at dksX2_letters_1 9 rfl rfl)
theorem dX2_letters_32 : decode cX2_letters 32 = .ok (.istore 4, 2) := dk_54 4 (dk_at dksX2_letters_1 10 rfl rfl)
theorem dX2_letters_34 : decode cX2_letters 34 = .ok (.iload 4, 2) := dk_21 4 (dk_at dksX2_letters_1 12 rfl rfl)
theorem dX2_letters_36 : decode cX2_letters 36 = .ok (.iload_n 3, 1) := dk_29 (dk_at dksX2_letters_1 14 rfl rfl)
theorem dX2_letters_37 : decode cX2_letters 37 = .ok (.if_icmp .gt 13, 3) := dk_163 0 13 (dk_at dksX2_letters_1 15 rfl rfl)
theorem dX2_letters_40 : decode cX2_letters 40 = .ok (.aload_n 0, 1) := dk_42 (dk_at dksX2_letters_1 18 rfl rfl)
theorem dX2_letters_41 : decode cX2_letters 41 = .ok (.aload_n 0, 1) := dk_42 (dk_at dksX2_letters_1 19 rfl rfl)
theorem dX2_letters_42 : decode cX2_letters 42 = .ok (.getfield 138, 3) := dk_180 0 138 (dk_at dksX2_letters_1 20 rfl rfl)
theorem dX2_letters_45 : decode cX2_letters 45 = .ok (.invokevirtual 152, 3) := dk_182 0 152 (dk_at dksX2_letters_2 0 rfl rfl)
theorem dX2_letters_48 : decode cX2_letters 48 = .ok (.iconst 0, 1) := dk_3 (dk_at dksX2_letters_2 3 rfl rfl)
theorem dX2_letters_49 : decode cX2_letters 49 = .ok (.ireturn, 1) := dk_172 (dk_at dksX2_letters_2 4 rfl rfl)
theorem dX2_letters_50 : decode cX2_letters 50 = .ok (.iload 4, 2) := dk_21 4 (dk_at dksX2_letters_2 5 rfl rfl)
theorem dX2_letters_52 : decode cX2_letters 52 = .ok (.istore_n 3, 1) := dk_62 (dk_at dksX2_letters_2 7 rfl rfl)
theorem dX2_letters_53 : decode cX2_letters 53 = .ok (.iload_n 2, 1) := dk_28 (dk_at dksX2_letters_2 8 rfl rfl)
theorem dX2_letters_54 : decode cX2_letters 54 = .ok (.iconst 1, 1) := dk_4 (dk_at dksX2_letters_2 9 rfl rfl)
theorem dX2_letters_55 : decode cX2_letters 55 = .ok (.iload 4, 2) := dk_21 4 (dk_at dksX2_letters_2 10 rfl rfl)
theorem dX2_letters_57 : decode cX2_letters 57 = .ok (.ishl, 1) := dk_120 (dk_at dksX2_letters_2 12 rfl rfl)
theorem dX2_letters_58 : decode cX2_letters 58 = .ok (.ior, 1) := dk_128 (dk_at dksX2_letters_2 13 rfl rfl)
theorem dX2_letters_59 : decode cX2_letters 59 = .ok (.istore_n 2, 1) := dk_61 (dk_at dksX2_letters_2 14 rfl rfl)
theorem dX2_letters_60 : decode cX2_letters 60 = .ok (.aload_n 0, 1) := dk_42 (dk_at dksX2_letters_2 15 rfl rfl)
theorem dX2_letters_61 : decode cX2_letters 61 = .ok (.dup, 1) := dk_89 (dk_at dksX2_letters_2 16 rfl rfl)
theorem dX2_letters_62 : decode cX2_letters 62 = .ok (.getfield 138, 3) := dk_180 0 138 (dk_at dksX2_letters_2 17 rfl rfl)
theorem dX2_letters_65 : decode cX2_letters 65 = .ok (.iconst 1, 1) := dk_4 (dk_at dksX2_letters_2 20 rfl rfl)
theorem dX2_letters_66 : decode cX2_letters 66 = .ok (.iadd, 1) := dk_96 (dk_at dksX2_letters_2 21 rfl rfl)
theorem dX2_letters_67 : decode cX2_letters 67 = .ok (.putfield 138, 3) := dk_181 0 138 (dk_at dksX2_letters_3 0 rfl rfl)
theorem dX2_letters_70 : decode cX2_letters 70 = .ok (.goto (-66), 3) := dk_167 255 190 (dk_at dksX2_letters_3 3 rfl rfl)
theorem dX2_letters_73 : decode cX2_letters 73 = .ok (.iload_n 1, 1) := dk_27 (dk_at dksX2_letters_3 6 rfl rfl)
theorem dX2_letters_74 : decode cX2_letters 74 = .ok (.ifCond .eq 15, 3) := dk_153 0 15 (dk_at dksX2_letters_3 7 rfl rfl)
theorem dX2_letters_77 : decode cX2_letters 77 = .ok (.iload_n 2, 1) := dk_28 (dk_at dksX2_letters_3 10 rfl rfl)
theorem dX2_letters_78 : decode cX2_letters 78 = .ok (.ifCond .ne 11, 3) := dk_154 0 11 (dk_at dksX2_letters_3 11 rfl rfl)
theorem dX2_letters_81 : decode cX2_letters 81 = .ok (.aload_n 0, 1) := dk_42 (dk_at dksX2_letters_3 14 rfl rfl)
theorem dX2_letters_82 : decode cX2_letters 82 = .ok (.aload_n 0, 1) := dk_42 (dk_at dksX2_letters_3 15 rfl rfl)
theorem dX2_letters_83 : decode cX2_letters 83 = .ok (.getfield 138, 3) := dk_180 0 138 (dk_at dksX2_letters_3 16 rfl rfl)
theorem dX2_letters_86 : decode cX2_letters 86 = .ok (.invokevirtual 152, 3) := dk_182 0 152 (dk_at dksX2_letters_3 19 rfl rfl)
theorem dX2_letters_89 : decode cX2_letters 89 = .ok (.iload_n 2, 1) := dk_28 (dk_at dksX2_letters_3 22 rfl rfl)
theorem dX2_letters_90 : decode cX2_letters 90 = .ok (.ireturn, 1) := dk_172 (dk_at dksX2_letters_3 23 rfl rfl)
abbrev cX2_passes : ByteArray := prog_8_method_15_code
def yX2_passes : MethodName := ⟨RX2, "passes", "(C)Z"⟩
def dkwX2_passes_1 : List UInt8 := [181, 0, 138, 4, 172]
abbrev dktX2_passes_1 : List UInt8 := dkwX2_passes_1 ++ []
def dkwX2_passes_0 : List UInt8 := [42, 182, 0, 144, 153, 0, 11, 42, 182, 0, 148, 27, 159, 0, 5, 3, 172, 42, 89, 180, 0, 138, 4, 96]
abbrev dktX2_passes_0 : List UInt8 := dkwX2_passes_0 ++ dktX2_passes_1
theorem dksX2_passes_0 : cX2_passes.data.toList.drop 0 = dktX2_passes_0 := by decide +kernel
theorem dksX2_passes_1 : cX2_passes.data.toList.drop 24 = dktX2_passes_1 := dk_seg dksX2_passes_0 24 rfl rfl
theorem dX2_passes_0 : decode cX2_passes 0 = .ok (.aload_n 0, 1) := dk_42 (dk_at dksX2_passes_0 0 rfl rfl)
theorem dX2_passes_1 : decode cX2_passes 1 = .ok (.invokevirtual 144, 3) := dk_182 0 144 (dk_at dksX2_passes_0 1 rfl rfl)
theorem dX2_passes_4 : decode cX2_passes 4 = .ok (.ifCond .eq 11, 3) := dk_153 0 11 (dk_at dksX2_passes_0 4 rfl rfl)
theorem dX2_passes_7 : decode cX2_passes 7 = .ok (.aload_n 0, 1) := dk_42 (dk_at dksX2_passes_0 7 rfl rfl)
theorem dX2_passes_8 : decode cX2_passes 8 = .ok (.invokevirtual 148, 3) := dk_182 0 148 (dk_at dksX2_passes_0 8 rfl rfl)
theorem dX2_passes_11 : decode cX2_passes 11 = .ok (.iload_n 1, 1) := dk_27 (dk_at dksX2_passes_0 11 rfl rfl)
theorem dX2_passes_12 : decode cX2_passes 12 = .ok (.if_icmp .eq 5, 3) := dk_159 0 5 (dk_at dksX2_passes_0 12 rfl rfl)
theorem dX2_passes_15 : decode cX2_passes 15 = .ok (.iconst 0, 1) := dk_3 (dk_at dksX2_passes_0 15 rfl rfl)
theorem dX2_passes_16 : decode cX2_passes 16 = .ok (.ireturn, 1) := dk_172 (dk_at dksX2_passes_0 16 rfl rfl)
theorem dX2_passes_17 : decode cX2_passes 17 = .ok (.aload_n 0, 1) := dk_42 (dk_at dksX2_passes_0 17 rfl rfl)
theorem dX2_passes_18 : decode cX2_passes 18 = .ok (.dup, 1) := dk_89 (dk_at dksX2_passes_0 18 rfl rfl)
theorem dX2_passes_19 : decode cX2_passes 19 = .ok (.getfield 138, 3) := dk_180 0 138 (dk_at dksX2_passes_0 19 rfl rfl)
theorem dX2_passes_22 : decode cX2_passes 22 = .ok (.iconst 1, 1) := dk_4 (dk_at dksX2_passes_0 22 rfl rfl)
theorem dX2_passes_23 : decode cX2_passes 23 = .ok (.iadd, 1) := dk_96 (dk_at dksX2_passes_0 23 rfl rfl)
theorem dX2_passes_24 : decode cX2_passes 24 = .ok (.putfield 138, 3) := dk_181 0 138 (dk_at dksX2_passes_1 0 rfl rfl)
theorem dX2_passes_27 : decode cX2_passes 27 = .ok (.iconst 1, 1) := dk_4 (dk_at dksX2_passes_1 3 rfl rfl)
theorem dX2_passes_28 : decode cX2_passes 28 = .ok (.ireturn, 1) := dk_172 (dk_at dksX2_passes_1 4 rfl rfl)
abbrev cX2_number : ByteArray := prog_8_method_16_code
def yX2_number : MethodName := ⟨RX2, "number", "(I)I"⟩
def dkwX2_number_3 : List UInt8 := [180, 0, 138, 28, 160, 0, 11, 42, 42, 180, 0, 138, 182, 0, 152, 29, 172]
abbrev dktX2_number_3 : List UInt8 := dkwX2_number_3 ++ []
def dkwX2_number_2 : List UInt8 := [182, 0, 148, 96, 16, 48, 100, 62, 42, 89, 180, 0, 138, 4, 96, 181, 0, 138, 167, 255, 209, 42]
abbrev dktX2_number_2 : List UInt8 := dkwX2_number_2 ++ dktX2_number_3
def dkwX2_number_1 : List UInt8 := [162, 0, 43, 42, 182, 0, 148, 16, 48, 16, 57, 184, 0, 119, 153, 0, 29, 16, 10, 29, 104, 42]
abbrev dktX2_number_1 : List UInt8 := dkwX2_number_1 ++ dktX2_number_2
def dkwX2_number_0 : List UInt8 := [42, 182, 0, 144, 154, 0, 5, 3, 172, 42, 180, 0, 138, 61, 3, 62, 42, 180, 0, 138, 28, 27, 96]
abbrev dktX2_number_0 : List UInt8 := dkwX2_number_0 ++ dktX2_number_1
theorem dksX2_number_0 : cX2_number.data.toList.drop 0 = dktX2_number_0 := by decide +kernel
theorem dksX2_number_1 : cX2_number.data.toList.drop 23 = dktX2_number_1 := dk_seg dksX2_number_0 23 rfl rfl
theorem dksX2_number_2 : cX2_number.data.toList.drop 45 = dktX2_number_2 := dk_seg dksX2_number_1 22 rfl rfl
theorem dksX2_number_3 : cX2_number.data.toList.drop 67 = dktX2_number_3 := dk_seg dksX2_number_2 22 rfl rfl
theorem dX2_number_0 : decode cX2_number 0 = .ok (.aload_n 0, 1) := dk_42 (dk_at dksX2_number_0 0 rfl rfl)
theorem dX2_number_1 : decode cX2_number 1 = .ok (.invokevirtual 144, 3) := dk_182 0 144 (dk_at dksX2_number_0 1 rfl rfl)
theorem dX2_number_4 : decode cX2_number 4 = .ok (.ifCond .ne 5, 3) := dk_154 0 5 (dk_at dksX2_number_0 4 rfl rfl)
theorem dX2_number_7 : decode cX2_number 7 = .ok (.iconst 0, 1) := dk_3 (dk_at dksX2_number_0 7 rfl rfl)
theorem dX2_number_8 : decode cX2_number 8 = .ok (.ireturn, 1) := dk_172 (dk_at dksX2_number_0 8 rfl rfl)
theorem dX2_number_9 : decode cX2_number 9 = .ok (.aload_n 0, 1) := dk_42 (dk_at dksX2_number_0 9 rfl rfl)
theorem dX2_number_10 : decode cX2_number 10 = .ok (.getfield 138, 3) := dk_180 0 138 (dk_at dksX2_number_0 10 rfl rfl)
theorem dX2_number_13 : decode cX2_number 13 = .ok (.istore_n 2, 1) := dk_61 (dk_at dksX2_number_0 13 rfl rfl)
theorem dX2_number_14 : decode cX2_number 14 = .ok (.iconst 0, 1) := dk_3 (dk_at dksX2_number_0 14 rfl rfl)
theorem dX2_number_15 : decode cX2_number 15 = .ok (.istore_n 3, 1) := dk_62 (dk_at dksX2_number_0 15 rfl rfl)
theorem dX2_number_16 : decode cX2_number 16 = .ok (.aload_n 0, 1) := dk_42 (dk_at dksX2_number_0 16 rfl rfl)
theorem dX2_number_17 : decode cX2_number 17 = .ok (.getfield 138, 3) := dk_180 0 138 (dk_at dksX2_number_0 17 rfl rfl)
theorem dX2_number_20 : decode cX2_number 20 = .ok (.iload_n 2, 1) := dk_28 (dk_at dksX2_number_0 20 rfl rfl)
theorem dX2_number_21 : decode cX2_number 21 = .ok (.iload_n 1, 1) := dk_27 (dk_at dksX2_number_0 21 rfl rfl)
theorem dX2_number_22 : decode cX2_number 22 = .ok (.iadd, 1) := dk_96 (dk_at dksX2_number_0 22 rfl rfl)
theorem dX2_number_23 : decode cX2_number 23 = .ok (.if_icmp .ge 43, 3) := dk_162 0 43 (dk_at dksX2_number_1 0 rfl rfl)
theorem dX2_number_26 : decode cX2_number 26 = .ok (.aload_n 0, 1) := dk_42 (dk_at dksX2_number_1 3 rfl rfl)
theorem dX2_number_27 : decode cX2_number 27 = .ok (.invokevirtual 148, 3) := dk_182 0 148 (dk_at dksX2_number_1 4 rfl rfl)
theorem dX2_number_30 : decode cX2_number 30 = .ok (.bipush 48, 2) := dk_16 48 (dk_at dksX2_number_1 7 rfl rfl)
theorem dX2_number_32 : decode cX2_number 32 = .ok (.bipush 57, 2) := dk_16 57 (dk_at dksX2_number_1 9 rfl rfl)
theorem dX2_number_34 : decode cX2_number 34 = .ok (.invokestatic 119, 3) := dk_184 0 119 (dk_at dksX2_number_1 11 rfl rfl)
theorem dX2_number_37 : decode cX2_number 37 = .ok (.ifCond .eq 29, 3) := dk_153 0 29 (dk_at dksX2_number_1 14 rfl rfl)
theorem dX2_number_40 : decode cX2_number 40 = .ok (.bipush 10, 2) := dk_16 10 (dk_at dksX2_number_1 17 rfl rfl)
theorem dX2_number_42 : decode cX2_number 42 = .ok (.iload_n 3, 1) := dk_29 (dk_at dksX2_number_1 19 rfl rfl)
theorem dX2_number_43 : decode cX2_number 43 = .ok (.imul, 1) := dk_104 (dk_at dksX2_number_1 20 rfl rfl)
theorem dX2_number_44 : decode cX2_number 44 = .ok (.aload_n 0, 1) := dk_42 (dk_at dksX2_number_1 21 rfl rfl)
theorem dX2_number_45 : decode cX2_number 45 = .ok (.invokevirtual 148, 3) := dk_182 0 148 (dk_at dksX2_number_2 0 rfl rfl)
theorem dX2_number_48 : decode cX2_number 48 = .ok (.iadd, 1) := dk_96 (dk_at dksX2_number_2 3 rfl rfl)
theorem dX2_number_49 : decode cX2_number 49 = .ok (.bipush 48, 2) := dk_16 48 (dk_at dksX2_number_2 4 rfl rfl)
theorem dX2_number_51 : decode cX2_number 51 = .ok (.isub, 1) := dk_100 (dk_at dksX2_number_2 6 rfl rfl)
theorem dX2_number_52 : decode cX2_number 52 = .ok (.istore_n 3, 1) := dk_62 (dk_at dksX2_number_2 7 rfl rfl)
theorem dX2_number_53 : decode cX2_number 53 = .ok (.aload_n 0, 1) := dk_42 (dk_at dksX2_number_2 8 rfl rfl)
theorem dX2_number_54 : decode cX2_number 54 = .ok (.dup, 1) := dk_89 (dk_at dksX2_number_2 9 rfl rfl)
theorem dX2_number_55 : decode cX2_number 55 = .ok (.getfield 138, 3) := dk_180 0 138 (dk_at dksX2_number_2 10 rfl rfl)
theorem dX2_number_58 : decode cX2_number 58 = .ok (.iconst 1, 1) := dk_4 (dk_at dksX2_number_2 13 rfl rfl)
theorem dX2_number_59 : decode cX2_number 59 = .ok (.iadd, 1) := dk_96 (dk_at dksX2_number_2 14 rfl rfl)
theorem dX2_number_60 : decode cX2_number 60 = .ok (.putfield 138, 3) := dk_181 0 138 (dk_at dksX2_number_2 15 rfl rfl)
theorem dX2_number_63 : decode cX2_number 63 = .ok (.goto (-47), 3) := dk_167 255 209 (dk_at dksX2_number_2 18 rfl rfl)
theorem dX2_number_66 : decode cX2_number 66 = .ok (.aload_n 0, 1) := dk_42 (dk_at dksX2_number_2 21 rfl rfl)
theorem dX2_number_67 : decode cX2_number 67 = .ok (.getfield 138, 3) := dk_180 0 138 (dk_at dksX2_number_3 0 rfl rfl)
theorem dX2_number_70 : decode cX2_number 70 = .ok (.iload_n 2, 1) := dk_28 (dk_at dksX2_number_3 3 rfl rfl)
theorem dX2_number_71 : decode cX2_number 71 = .ok (.if_icmp .ne 11, 3) := dk_160 0 11 (dk_at dksX2_number_3 4 rfl rfl)
theorem dX2_number_74 : decode cX2_number 74 = .ok (.aload_n 0, 1) := dk_42 (dk_at dksX2_number_3 7 rfl rfl)
theorem dX2_number_75 : decode cX2_number 75 = .ok (.aload_n 0, 1) := dk_42 (dk_at dksX2_number_3 8 rfl rfl)
theorem dX2_number_76 : decode cX2_number 76 = .ok (.getfield 138, 3) := dk_180 0 138 (dk_at dksX2_number_3 9 rfl rfl)
theorem dX2_number_79 : decode cX2_number 79 = .ok (.invokevirtual 152, 3) := dk_182 0 152 (dk_at dksX2_number_3 12 rfl rfl)
theorem dX2_number_82 : decode cX2_number 82 = .ok (.iload_n 3, 1) := dk_29 (dk_at dksX2_number_3 15 rfl rfl)
theorem dX2_number_83 : decode cX2_number 83 = .ok (.ireturn, 1) := dk_172 (dk_at dksX2_number_3 16 rfl rfl)
abbrev cX2_rule : ByteArray := prog_8_method_25_code
def yX2_rule : MethodName := ⟨RX2, "rule", "()I"⟩
def dkwX2_rule_4 : List UInt8 := [167, 255, 236, 42, 27, 181, 0, 201, 3, 172]
abbrev dktX2_rule_4 : List UInt8 := dkwX2_rule_4 ++ []
def dkwX2_rule_3 : List UInt8 := [172, 3, 61, 28, 27, 162, 0, 21, 42, 180, 0, 55, 28, 42, 180, 0, 48, 28, 51, 84, 132, 2, 1]
abbrev dktX2_rule_3 : List UInt8 := dkwX2_rule_3 ++ dktX2_rule_4
def dkwX2_rule_2 : List UInt8 := [162, 0, 11, 42, 42, 180, 0, 138, 182, 0, 152, 42, 182, 0, 144, 154, 0, 10, 2, 42, 180, 0, 141, 100]
abbrev dktX2_rule_2 : List UInt8 := dkwX2_rule_2 ++ dktX2_rule_3
def dkwX2_rule_1 : List UInt8 := [181, 0, 126, 42, 2, 181, 0, 58, 27, 158, 0, 39, 42, 3, 182, 0, 187, 87, 42, 180, 0, 138, 27]
abbrev dktX2_rule_1 : List UInt8 := dkwX2_rule_1 ++ dktX2_rule_2
def dkwX2_rule_0 : List UInt8 := [42, 3, 181, 0, 110, 42, 180, 0, 126, 60, 42, 42, 180, 0, 48, 27, 16, 40, 182, 0, 156, 42, 3]
abbrev dktX2_rule_0 : List UInt8 := dkwX2_rule_0 ++ dktX2_rule_1
theorem dksX2_rule_0 : cX2_rule.data.toList.drop 0 = dktX2_rule_0 := by decide +kernel
theorem dksX2_rule_1 : cX2_rule.data.toList.drop 23 = dktX2_rule_1 := dk_seg dksX2_rule_0 23 rfl rfl
theorem dksX2_rule_2 : cX2_rule.data.toList.drop 46 = dktX2_rule_2 := dk_seg dksX2_rule_1 23 rfl rfl
theorem dksX2_rule_3 : cX2_rule.data.toList.drop 70 = dktX2_rule_3 := dk_seg dksX2_rule_2 24 rfl rfl
theorem dksX2_rule_4 : cX2_rule.data.toList.drop 93 = dktX2_rule_4 := dk_seg dksX2_rule_3 23 rfl rfl
theorem dX2_rule_0 : decode cX2_rule 0 = .ok (.aload_n 0, 1) := dk_42 (dk_at dksX2_rule_0 0 rfl rfl)
theorem dX2_rule_1 : decode cX2_rule 1 = .ok (.iconst 0, 1) := dk_3 (dk_at dksX2_rule_0 1 rfl rfl)
theorem dX2_rule_2 : decode cX2_rule 2 = .ok (.putfield 110, 3) := dk_181 0 110 (dk_at dksX2_rule_0 2 rfl rfl)
theorem dX2_rule_5 : decode cX2_rule 5 = .ok (.aload_n 0, 1) := dk_42 (dk_at dksX2_rule_0 5 rfl rfl)
theorem dX2_rule_6 : decode cX2_rule 6 = .ok (.getfield 126, 3) := dk_180 0 126 (dk_at dksX2_rule_0 6 rfl rfl)
theorem dX2_rule_9 : decode cX2_rule 9 = .ok (.istore_n 1, 1) := dk_60 (dk_at dksX2_rule_0 9 rfl rfl)
theorem dX2_rule_10 : decode cX2_rule 10 = .ok (.aload_n 0, 1) := dk_42 (dk_at dksX2_rule_0 10 rfl rfl)
theorem dX2_rule_11 : decode cX2_rule 11 = .ok (.aload_n 0, 1) := dk_42 (dk_at dksX2_rule_0 11 rfl rfl)
theorem dX2_rule_12 : decode cX2_rule 12 = .ok (.getfield 48, 3) := dk_180 0 48 (dk_at dksX2_rule_0 12 rfl rfl)
theorem dX2_rule_15 : decode cX2_rule 15 = .ok (.iload_n 1, 1) := dk_27 (dk_at dksX2_rule_0 15 rfl rfl)
theorem dX2_rule_16 : decode cX2_rule 16 = .ok (.bipush 40, 2) := dk_16 40 (dk_at dksX2_rule_0 16 rfl rfl)
theorem dX2_rule_18 : decode cX2_rule 18 = .ok (.invokevirtual 156, 3) := dk_182 0 156 (dk_at dksX2_rule_0 18 rfl rfl)
theorem dX2_rule_21 : decode cX2_rule 21 = .ok (.aload_n 0, 1) := dk_42 (dk_at dksX2_rule_0 21 rfl rfl)
theorem dX2_rule_22 : decode cX2_rule 22 = .ok (.iconst 0, 1) := dk_3 (dk_at dksX2_rule_0 22 rfl rfl)
theorem dX2_rule_23 : decode cX2_rule 23 = .ok (.putfield 126, 3) := dk_181 0 126 (dk_at dksX2_rule_1 0 rfl rfl)
theorem dX2_rule_26 : decode cX2_rule 26 = .ok (.aload_n 0, 1) := dk_42 (dk_at dksX2_rule_1 3 rfl rfl)
theorem dX2_rule_27 : decode cX2_rule 27 = .ok (.iconst (-1), 1) := dk_2 (dk_at dksX2_rule_1 4 rfl rfl)
theorem dX2_rule_28 : decode cX2_rule 28 = .ok (.putfield 58, 3) := dk_181 0 58 (dk_at dksX2_rule_1 5 rfl rfl)
theorem dX2_rule_31 : decode cX2_rule 31 = .ok (.iload_n 1, 1) := dk_27 (dk_at dksX2_rule_1 8 rfl rfl)
theorem dX2_rule_32 : decode cX2_rule 32 = .ok (.ifCond .le 39, 3) := dk_158 0 39 (dk_at dksX2_rule_1 9 rfl rfl)
theorem dX2_rule_35 : decode cX2_rule 35 = .ok (.aload_n 0, 1) := dk_42 (dk_at dksX2_rule_1 12 rfl rfl)
theorem dX2_rule_36 : decode cX2_rule 36 = .ok (.iconst 0, 1) := dk_3 (dk_at dksX2_rule_1 13 rfl rfl)
theorem dX2_rule_37 : decode cX2_rule 37 = .ok (.invokevirtual 187, 3) := dk_182 0 187 (dk_at dksX2_rule_1 14 rfl rfl)
theorem dX2_rule_40 : decode cX2_rule 40 = .ok (.pop, 1) := dk_87 (dk_at dksX2_rule_1 17 rfl rfl)
theorem dX2_rule_41 : decode cX2_rule 41 = .ok (.aload_n 0, 1) := dk_42 (dk_at dksX2_rule_1 18 rfl rfl)
theorem dX2_rule_42 : decode cX2_rule 42 = .ok (.getfield 138, 3) := dk_180 0 138 (dk_at dksX2_rule_1 19 rfl rfl)
theorem dX2_rule_45 : decode cX2_rule 45 = .ok (.iload_n 1, 1) := dk_27 (dk_at dksX2_rule_1 22 rfl rfl)
theorem dX2_rule_46 : decode cX2_rule 46 = .ok (.if_icmp .ge 11, 3) := dk_162 0 11 (dk_at dksX2_rule_2 0 rfl rfl)
theorem dX2_rule_49 : decode cX2_rule 49 = .ok (.aload_n 0, 1) := dk_42 (dk_at dksX2_rule_2 3 rfl rfl)
theorem dX2_rule_50 : decode cX2_rule 50 = .ok (.aload_n 0, 1) := dk_42 (dk_at dksX2_rule_2 4 rfl rfl)
theorem dX2_rule_51 : decode cX2_rule 51 = .ok (.getfield 138, 3) := dk_180 0 138 (dk_at dksX2_rule_2 5 rfl rfl)
theorem dX2_rule_54 : decode cX2_rule 54 = .ok (.invokevirtual 152, 3) := dk_182 0 152 (dk_at dksX2_rule_2 8 rfl rfl)
theorem dX2_rule_57 : decode cX2_rule 57 = .ok (.aload_n 0, 1) := dk_42 (dk_at dksX2_rule_2 11 rfl rfl)
theorem dX2_rule_58 : decode cX2_rule 58 = .ok (.invokevirtual 144, 3) := dk_182 0 144 (dk_at dksX2_rule_2 12 rfl rfl)
theorem dX2_rule_61 : decode cX2_rule 61 = .ok (.ifCond .ne 10, 3) := dk_154 0 10 (dk_at dksX2_rule_2 15 rfl rfl)
theorem dX2_rule_64 : decode cX2_rule 64 = .ok (.iconst (-1), 1) := dk_2 (dk_at dksX2_rule_2 18 rfl rfl)
theorem dX2_rule_65 : decode cX2_rule 65 = .ok (.aload_n 0, 1) := dk_42 (dk_at dksX2_rule_2 19 rfl rfl)
theorem dX2_rule_66 : decode cX2_rule 66 = .ok (.getfield 141, 3) := dk_180 0 141 (dk_at dksX2_rule_2 20 rfl rfl)
theorem dX2_rule_69 : decode cX2_rule 69 = .ok (.isub, 1) := dk_100 (dk_at dksX2_rule_2 23 rfl rfl)
theorem dX2_rule_70 : decode cX2_rule 70 = .ok (.ireturn, 1) := dk_172 (dk_at dksX2_rule_3 0 rfl rfl)
theorem dX2_rule_71 : decode cX2_rule 71 = .ok (.iconst 0, 1) := dk_3 (dk_at dksX2_rule_3 1 rfl rfl)
theorem dX2_rule_72 : decode cX2_rule 72 = .ok (.istore_n 2, 1) := dk_61 (dk_at dksX2_rule_3 2 rfl rfl)
theorem dX2_rule_73 : decode cX2_rule 73 = .ok (.iload_n 2, 1) := dk_28 (dk_at dksX2_rule_3 3 rfl rfl)
theorem dX2_rule_74 : decode cX2_rule 74 = .ok (.iload_n 1, 1) := dk_27 (dk_at dksX2_rule_3 4 rfl rfl)
theorem dX2_rule_75 : decode cX2_rule 75 = .ok (.if_icmp .ge 21, 3) := dk_162 0 21 (dk_at dksX2_rule_3 5 rfl rfl)
theorem dX2_rule_78 : decode cX2_rule 78 = .ok (.aload_n 0, 1) := dk_42 (dk_at dksX2_rule_3 8 rfl rfl)
theorem dX2_rule_79 : decode cX2_rule 79 = .ok (.getfield 55, 3) := dk_180 0 55 (dk_at dksX2_rule_3 9 rfl rfl)
theorem dX2_rule_82 : decode cX2_rule 82 = .ok (.iload_n 2, 1) := dk_28 (dk_at dksX2_rule_3 12 rfl rfl)
theorem dX2_rule_83 : decode cX2_rule 83 = .ok (.aload_n 0, 1) := dk_42 (dk_at dksX2_rule_3 13 rfl rfl)
theorem dX2_rule_84 : decode cX2_rule 84 = .ok (.getfield 48, 3) := dk_180 0 48 (dk_at dksX2_rule_3 14 rfl rfl)
theorem dX2_rule_87 : decode cX2_rule 87 = .ok (.iload_n 2, 1) := dk_28 (dk_at dksX2_rule_3 17 rfl rfl)
theorem dX2_rule_88 : decode cX2_rule 88 = .ok (.baload, 1) := dk_51 (dk_at dksX2_rule_3 18 rfl rfl)
theorem dX2_rule_89 : decode cX2_rule 89 = .ok (.bastore, 1) := dk_84 (dk_at dksX2_rule_3 19 rfl rfl)
theorem dX2_rule_90 : decode cX2_rule 90 = .ok (.iinc 2 1, 3) := dk_132 2 1 (dk_at dksX2_rule_3 20 rfl rfl)
theorem dX2_rule_93 : decode cX2_rule 93 = .ok (.goto (-20), 3) := dk_167 255 236 (dk_at dksX2_rule_4 0 rfl rfl)
theorem dX2_rule_96 : decode cX2_rule 96 = .ok (.aload_n 0, 1) := dk_42 (dk_at dksX2_rule_4 3 rfl rfl)
theorem dX2_rule_97 : decode cX2_rule 97 = .ok (.iload_n 1, 1) := dk_27 (dk_at dksX2_rule_4 4 rfl rfl)
theorem dX2_rule_98 : decode cX2_rule 98 = .ok (.putfield 201, 3) := dk_181 0 201 (dk_at dksX2_rule_4 5 rfl rfl)
theorem dX2_rule_101 : decode cX2_rule 101 = .ok (.iconst 0, 1) := dk_3 (dk_at dksX2_rule_4 8 rfl rfl)
theorem dX2_rule_102 : decode cX2_rule 102 = .ok (.ireturn, 1) := dk_172 (dk_at dksX2_rule_4 9 rfl rfl)
abbrev cX2_held : ByteArray := prog_8_method_20_code
def yX2_held : MethodName := ⟨RX2, "held", "(I)I"⟩
def dkwX2_held_3 : List UInt8 := [4, 167, 0, 4, 3, 172, 28, 172]
abbrev dktX2_held_3 : List UInt8 := dkwX2_held_3 ++ []
def dkwX2_held_2 : List UInt8 := [4, 167, 0, 4, 3, 172, 42, 16, 61, 182, 0, 171, 153, 0, 18, 28, 42, 27, 182, 0, 178, 160, 0, 7]
abbrev dktX2_held_2 : List UInt8 := dkwX2_held_2 ++ dktX2_held_3
def dkwX2_held_1 : List UInt8 := [4, 167, 0, 4, 3, 172, 42, 16, 62, 182, 0, 171, 153, 0, 18, 28, 42, 27, 182, 0, 178, 164, 0, 7]
abbrev dktX2_held_1 : List UInt8 := dkwX2_held_1 ++ dktX2_held_2
def dkwX2_held_0 : List UInt8 := [42, 27, 182, 0, 178, 61, 42, 16, 60, 182, 0, 171, 153, 0, 18, 28, 42, 27, 182, 0, 178, 162, 0, 7]
abbrev dktX2_held_0 : List UInt8 := dkwX2_held_0 ++ dktX2_held_1
theorem dksX2_held_0 : cX2_held.data.toList.drop 0 = dktX2_held_0 := by decide +kernel
theorem dksX2_held_1 : cX2_held.data.toList.drop 24 = dktX2_held_1 := dk_seg dksX2_held_0 24 rfl rfl
theorem dksX2_held_2 : cX2_held.data.toList.drop 48 = dktX2_held_2 := dk_seg dksX2_held_1 24 rfl rfl
theorem dksX2_held_3 : cX2_held.data.toList.drop 72 = dktX2_held_3 := dk_seg dksX2_held_2 24 rfl rfl
theorem dX2_held_0 : decode cX2_held 0 = .ok (.aload_n 0, 1) := dk_42 (dk_at dksX2_held_0 0 rfl rfl)
theorem dX2_held_1 : decode cX2_held 1 = .ok (.iload_n 1, 1) := dk_27 (dk_at dksX2_held_0 1 rfl rfl)
theorem dX2_held_2 : decode cX2_held 2 = .ok (.invokevirtual 178, 3) := dk_182 0 178 (dk_at dksX2_held_0 2 rfl rfl)
theorem dX2_held_5 : decode cX2_held 5 = .ok (.istore_n 2, 1) := dk_61 (dk_at dksX2_held_0 5 rfl rfl)
theorem dX2_held_6 : decode cX2_held 6 = .ok (.aload_n 0, 1) := dk_42 (dk_at dksX2_held_0 6 rfl rfl)
theorem dX2_held_7 : decode cX2_held 7 = .ok (.bipush 60, 2) := dk_16 60 (dk_at dksX2_held_0 7 rfl rfl)
theorem dX2_held_9 : decode cX2_held 9 = .ok (.invokevirtual 171, 3) := dk_182 0 171 (dk_at dksX2_held_0 9 rfl rfl)
theorem dX2_held_12 : decode cX2_held 12 = .ok (.ifCond .eq 18, 3) := dk_153 0 18 (dk_at dksX2_held_0 12 rfl rfl)
theorem dX2_held_15 : decode cX2_held 15 = .ok (.iload_n 2, 1) := dk_28 (dk_at dksX2_held_0 15 rfl rfl)
theorem dX2_held_16 : decode cX2_held 16 = .ok (.aload_n 0, 1) := dk_42 (dk_at dksX2_held_0 16 rfl rfl)
theorem dX2_held_17 : decode cX2_held 17 = .ok (.iload_n 1, 1) := dk_27 (dk_at dksX2_held_0 17 rfl rfl)
theorem dX2_held_18 : decode cX2_held 18 = .ok (.invokevirtual 178, 3) := dk_182 0 178 (dk_at dksX2_held_0 18 rfl rfl)
theorem dX2_held_21 : decode cX2_held 21 = .ok (.if_icmp .ge 7, 3) := dk_162 0 7 (dk_at dksX2_held_0 21 rfl rfl)
theorem dX2_held_24 : decode cX2_held 24 = .ok (.iconst 1, 1) := dk_4 (dk_at dksX2_held_1 0 rfl rfl)
theorem dX2_held_25 : decode cX2_held 25 = .ok (.goto 4, 3) := dk_167 0 4 (dk_at dksX2_held_1 1 rfl rfl)
theorem dX2_held_28 : decode cX2_held 28 = .ok (.iconst 0, 1) := dk_3 (dk_at dksX2_held_1 4 rfl rfl)
theorem dX2_held_29 : decode cX2_held 29 = .ok (.ireturn, 1) := dk_172 (dk_at dksX2_held_1 5 rfl rfl)
theorem dX2_held_30 : decode cX2_held 30 = .ok (.aload_n 0, 1) := dk_42 (dk_at dksX2_held_1 6 rfl rfl)
theorem dX2_held_31 : decode cX2_held 31 = .ok (.bipush 62, 2) := dk_16 62 (dk_at dksX2_held_1 7 rfl rfl)
theorem dX2_held_33 : decode cX2_held 33 = .ok (.invokevirtual 171, 3) := dk_182 0 171 (dk_at dksX2_held_1 9 rfl rfl)
theorem dX2_held_36 : decode cX2_held 36 = .ok (.ifCond .eq 18, 3) := dk_153 0 18 (dk_at dksX2_held_1 12 rfl rfl)
theorem dX2_held_39 : decode cX2_held 39 = .ok (.iload_n 2, 1) := dk_28 (dk_at dksX2_held_1 15 rfl rfl)
theorem dX2_held_40 : decode cX2_held 40 = .ok (.aload_n 0, 1) := dk_42 (dk_at dksX2_held_1 16 rfl rfl)
theorem dX2_held_41 : decode cX2_held 41 = .ok (.iload_n 1, 1) := dk_27 (dk_at dksX2_held_1 17 rfl rfl)
theorem dX2_held_42 : decode cX2_held 42 = .ok (.invokevirtual 178, 3) := dk_182 0 178 (dk_at dksX2_held_1 18 rfl rfl)
theorem dX2_held_45 : decode cX2_held 45 = .ok (.if_icmp .le 7, 3) := dk_164 0 7 (dk_at dksX2_held_1 21 rfl rfl)
theorem dX2_held_48 : decode cX2_held 48 = .ok (.iconst 1, 1) := dk_4 (dk_at dksX2_held_2 0 rfl rfl)
theorem dX2_held_49 : decode cX2_held 49 = .ok (.goto 4, 3) := dk_167 0 4 (dk_at dksX2_held_2 1 rfl rfl)
theorem dX2_held_52 : decode cX2_held 52 = .ok (.iconst 0, 1) := dk_3 (dk_at dksX2_held_2 4 rfl rfl)
theorem dX2_held_53 : decode cX2_held 53 = .ok (.ireturn, 1) := dk_172 (dk_at dksX2_held_2 5 rfl rfl)
theorem dX2_held_54 : decode cX2_held 54 = .ok (.aload_n 0, 1) := dk_42 (dk_at dksX2_held_2 6 rfl rfl)
theorem dX2_held_55 : decode cX2_held 55 = .ok (.bipush 61, 2) := dk_16 61 (dk_at dksX2_held_2 7 rfl rfl)
theorem dX2_held_57 : decode cX2_held 57 = .ok (.invokevirtual 171, 3) := dk_182 0 171 (dk_at dksX2_held_2 9 rfl rfl)
theorem dX2_held_60 : decode cX2_held 60 = .ok (.ifCond .eq 18, 3) := dk_153 0 18 (dk_at dksX2_held_2 12 rfl rfl)
theorem dX2_held_63 : decode cX2_held 63 = .ok (.iload_n 2, 1) := dk_28 (dk_at dksX2_held_2 15 rfl rfl)
theorem dX2_held_64 : decode cX2_held 64 = .ok (.aload_n 0, 1) := dk_42 (dk_at dksX2_held_2 16 rfl rfl)
theorem dX2_held_65 : decode cX2_held 65 = .ok (.iload_n 1, 1) := dk_27 (dk_at dksX2_held_2 17 rfl rfl)
theorem dX2_held_66 : decode cX2_held 66 = .ok (.invokevirtual 178, 3) := dk_182 0 178 (dk_at dksX2_held_2 18 rfl rfl)
theorem dX2_held_69 : decode cX2_held 69 = .ok (.if_icmp .ne 7, 3) := dk_160 0 7 (dk_at dksX2_held_2 21 rfl rfl)
theorem dX2_held_72 : decode cX2_held 72 = .ok (.iconst 1, 1) := dk_4 (dk_at dksX2_held_3 0 rfl rfl)
theorem dX2_held_73 : decode cX2_held 73 = .ok (.goto 4, 3) := dk_167 0 4 (dk_at dksX2_held_3 1 rfl rfl)
theorem dX2_held_76 : decode cX2_held 76 = .ok (.iconst 0, 1) := dk_3 (dk_at dksX2_held_3 4 rfl rfl)
theorem dX2_held_77 : decode cX2_held 77 = .ok (.ireturn, 1) := dk_172 (dk_at dksX2_held_3 5 rfl rfl)
theorem dX2_held_78 : decode cX2_held 78 = .ok (.iload_n 2, 1) := dk_28 (dk_at dksX2_held_3 6 rfl rfl)
theorem dX2_held_79 : decode cX2_held 79 = .ok (.ireturn, 1) := dk_172 (dk_at dksX2_held_3 7 rfl rfl)
abbrev cX2_sum : ByteArray := prog_8_method_21_code
def yX2_sum : MethodName := ⟨RX2, "sum", "(I)I"⟩
def dkwX2_sum_3 : List UInt8 := [167, 0, 7, 28, 21, 4, 100, 61, 167, 255, 183, 28, 172]
abbrev dktX2_sum_3 : List UInt8 := dkwX2_sum_3 ++ []
def dkwX2_sum_2 : List UInt8 := [89, 180, 0, 138, 4, 96, 181, 0, 138, 42, 27, 182, 0, 181, 54, 4, 29, 153, 0, 10, 28, 21, 4, 96]
abbrev dktX2_sum_2 : List UInt8 := dkwX2_sum_2 ++ dktX2_sum_3
def dkwX2_sum_1 : List UInt8 := [182, 0, 148, 16, 45, 160, 0, 54, 42, 182, 0, 148, 16, 43, 160, 0, 7, 4, 167, 0, 4, 3, 62, 42]
abbrev dktX2_sum_1 : List UInt8 := dkwX2_sum_1 ++ dktX2_sum_2
def dkwX2_sum_0 : List UInt8 := [42, 27, 182, 0, 181, 61, 42, 182, 0, 144, 153, 0, 72, 42, 182, 0, 148, 16, 43, 159, 0, 12, 42]
abbrev dktX2_sum_0 : List UInt8 := dkwX2_sum_0 ++ dktX2_sum_1
theorem dksX2_sum_0 : cX2_sum.data.toList.drop 0 = dktX2_sum_0 := by decide +kernel
theorem dksX2_sum_1 : cX2_sum.data.toList.drop 23 = dktX2_sum_1 := dk_seg dksX2_sum_0 23 rfl rfl
theorem dksX2_sum_2 : cX2_sum.data.toList.drop 47 = dktX2_sum_2 := dk_seg dksX2_sum_1 24 rfl rfl
theorem dksX2_sum_3 : cX2_sum.data.toList.drop 71 = dktX2_sum_3 := dk_seg dksX2_sum_2 24 rfl rfl
theorem dX2_sum_0 : decode cX2_sum 0 = .ok (.aload_n 0, 1) := dk_42 (dk_at dksX2_sum_0 0 rfl rfl)
theorem dX2_sum_1 : decode cX2_sum 1 = .ok (.iload_n 1, 1) := dk_27 (dk_at dksX2_sum_0 1 rfl rfl)
theorem dX2_sum_2 : decode cX2_sum 2 = .ok (.invokevirtual 181, 3) := dk_182 0 181 (dk_at dksX2_sum_0 2 rfl rfl)
theorem dX2_sum_5 : decode cX2_sum 5 = .ok (.istore_n 2, 1) := dk_61 (dk_at dksX2_sum_0 5 rfl rfl)
theorem dX2_sum_6 : decode cX2_sum 6 = .ok (.aload_n 0, 1) := dk_42 (dk_at dksX2_sum_0 6 rfl rfl)
theorem dX2_sum_7 : decode cX2_sum 7 = .ok (.invokevirtual 144, 3) := dk_182 0 144 (dk_at dksX2_sum_0 7 rfl rfl)
theorem dX2_sum_10 : decode cX2_sum 10 = .ok (.ifCond .eq 72, 3) := dk_153 0 72 (dk_at dksX2_sum_0 10 rfl rfl)
theorem dX2_sum_13 : decode cX2_sum 13 = .ok (.aload_n 0, 1) := dk_42 (dk_at dksX2_sum_0 13 rfl rfl)
theorem dX2_sum_14 : decode cX2_sum 14 = .ok (.invokevirtual 148, 3) := dk_182 0 148 (dk_at dksX2_sum_0 14 rfl rfl)
theorem dX2_sum_17 : decode cX2_sum 17 = .ok (.bipush 43, 2) := dk_16 43 (dk_at dksX2_sum_0 17 rfl rfl)
theorem dX2_sum_19 : decode cX2_sum 19 = .ok (.if_icmp .eq 12, 3) := dk_159 0 12 (dk_at dksX2_sum_0 19 rfl rfl)
theorem dX2_sum_22 : decode cX2_sum 22 = .ok (.aload_n 0, 1) := dk_42 (dk_at dksX2_sum_0 22 rfl rfl)
theorem dX2_sum_23 : decode cX2_sum 23 = .ok (.invokevirtual 148, 3) := dk_182 0 148 (dk_at dksX2_sum_1 0 rfl rfl)
theorem dX2_sum_26 : decode cX2_sum 26 = .ok (.bipush 45, 2) := dk_16 45 (dk_at dksX2_sum_1 3 rfl rfl)
theorem dX2_sum_28 : decode cX2_sum 28 = .ok (.if_icmp .ne 54, 3) := dk_160 0 54 (dk_at dksX2_sum_1 5 rfl rfl)
theorem dX2_sum_31 : decode cX2_sum 31 = .ok (.aload_n 0, 1) := dk_42 (dk_at dksX2_sum_1 8 rfl rfl)
theorem dX2_sum_32 : decode cX2_sum 32 = .ok (.invokevirtual 148, 3) := dk_182 0 148 (dk_at dksX2_sum_1 9 rfl rfl)
theorem dX2_sum_35 : decode cX2_sum 35 = .ok (.bipush 43, 2) := dk_16 43 (dk_at dksX2_sum_1 12 rfl rfl)
theorem dX2_sum_37 : decode cX2_sum 37 = .ok (.if_icmp .ne 7, 3) := dk_160 0 7 (dk_at dksX2_sum_1 14 rfl rfl)
theorem dX2_sum_40 : decode cX2_sum 40 = .ok (.iconst 1, 1) := dk_4 (dk_at dksX2_sum_1 17 rfl rfl)
theorem dX2_sum_41 : decode cX2_sum 41 = .ok (.goto 4, 3) := dk_167 0 4 (dk_at dksX2_sum_1 18 rfl rfl)
theorem dX2_sum_44 : decode cX2_sum 44 = .ok (.iconst 0, 1) := dk_3 (dk_at dksX2_sum_1 21 rfl rfl)
theorem dX2_sum_45 : decode cX2_sum 45 = .ok (.istore_n 3, 1) := dk_62 (dk_at dksX2_sum_1 22 rfl rfl)
theorem dX2_sum_46 : decode cX2_sum 46 = .ok (.aload_n 0, 1) := dk_42 (dk_at dksX2_sum_1 23 rfl rfl)
theorem dX2_sum_47 : decode cX2_sum 47 = .ok (.dup, 1) := dk_89 (dk_at dksX2_sum_2 0 rfl rfl)
theorem dX2_sum_48 : decode cX2_sum 48 = .ok (.getfield 138, 3) := dk_180 0 138 (dk_at dksX2_sum_2 1 rfl rfl)
theorem dX2_sum_51 : decode cX2_sum 51 = .ok (.iconst 1, 1) := dk_4 (dk_at dksX2_sum_2 4 rfl rfl)
theorem dX2_sum_52 : decode cX2_sum 52 = .ok (.iadd, 1) := dk_96 (dk_at dksX2_sum_2 5 rfl rfl)
theorem dX2_sum_53 : decode cX2_sum 53 = .ok (.putfield 138, 3) := dk_181 0 138 (dk_at dksX2_sum_2 6 rfl rfl)
theorem dX2_sum_56 : decode cX2_sum 56 = .ok (.aload_n 0, 1) := dk_42 (dk_at dksX2_sum_2 9 rfl rfl)
theorem dX2_sum_57 : decode cX2_sum 57 = .ok (.iload_n 1, 1) := dk_27 (dk_at dksX2_sum_2 10 rfl rfl)
theorem dX2_sum_58 : decode cX2_sum 58 = .ok (.invokevirtual 181, 3) := dk_182 0 181 (dk_at dksX2_sum_2 11 rfl rfl)
theorem dX2_sum_61 : decode cX2_sum 61 = .ok (.istore 4, 2) := dk_54 4 (dk_at dksX2_sum_2 14 rfl rfl)
theorem dX2_sum_63 : decode cX2_sum 63 = .ok (.iload_n 3, 1) := dk_29 (dk_at dksX2_sum_2 16 rfl rfl)
theorem dX2_sum_64 : decode cX2_sum 64 = .ok (.ifCond .eq 10, 3) := dk_153 0 10 (dk_at dksX2_sum_2 17 rfl rfl)
theorem dX2_sum_67 : decode cX2_sum 67 = .ok (.iload_n 2, 1) := dk_28 (dk_at dksX2_sum_2 20 rfl rfl)
theorem dX2_sum_68 : decode cX2_sum 68 = .ok (.iload 4, 2) := dk_21 4 (dk_at dksX2_sum_2 21 rfl rfl)
theorem dX2_sum_70 : decode cX2_sum 70 = .ok (.iadd, 1) := dk_96 (dk_at dksX2_sum_2 23 rfl rfl)
theorem dX2_sum_71 : decode cX2_sum 71 = .ok (.goto 7, 3) := dk_167 0 7 (dk_at dksX2_sum_3 0 rfl rfl)
theorem dX2_sum_74 : decode cX2_sum 74 = .ok (.iload_n 2, 1) := dk_28 (dk_at dksX2_sum_3 3 rfl rfl)
theorem dX2_sum_75 : decode cX2_sum 75 = .ok (.iload 4, 2) := dk_21 4 (dk_at dksX2_sum_3 4 rfl rfl)
theorem dX2_sum_77 : decode cX2_sum 77 = .ok (.isub, 1) := dk_100 (dk_at dksX2_sum_3 6 rfl rfl)
theorem dX2_sum_78 : decode cX2_sum 78 = .ok (.istore_n 2, 1) := dk_61 (dk_at dksX2_sum_3 7 rfl rfl)
theorem dX2_sum_79 : decode cX2_sum 79 = .ok (.goto (-73), 3) := dk_167 255 183 (dk_at dksX2_sum_3 8 rfl rfl)
theorem dX2_sum_82 : decode cX2_sum 82 = .ok (.iload_n 2, 1) := dk_28 (dk_at dksX2_sum_3 11 rfl rfl)
theorem dX2_sum_83 : decode cX2_sum 83 = .ok (.ireturn, 1) := dk_172 (dk_at dksX2_sum_3 12 rfl rfl)
abbrev cX2_product : ByteArray := prog_8_method_22_code
def yX2_product : MethodName := ⟨RX2, "product", "(I)I"⟩
def dkwX2_product_3 : List UInt8 := [167, 0, 16, 21, 4, 154, 0, 7, 3, 167, 0, 7, 28, 21, 4, 108, 61, 167, 255, 174, 28, 172]
abbrev dktX2_product_3 : List UInt8 := dkwX2_product_3 ++ []
def dkwX2_product_2 : List UInt8 := [89, 180, 0, 138, 4, 96, 181, 0, 138, 42, 27, 182, 0, 184, 54, 4, 29, 153, 0, 10, 28, 21, 4, 104]
abbrev dktX2_product_2 : List UInt8 := dkwX2_product_2 ++ dktX2_product_3
def dkwX2_product_1 : List UInt8 := [182, 0, 148, 16, 47, 160, 0, 63, 42, 182, 0, 148, 16, 42, 160, 0, 7, 4, 167, 0, 4, 3, 62, 42]
abbrev dktX2_product_1 : List UInt8 := dkwX2_product_1 ++ dktX2_product_2
def dkwX2_product_0 : List UInt8 := [42, 27, 182, 0, 184, 61, 42, 182, 0, 144, 153, 0, 81, 42, 182, 0, 148, 16, 42, 159, 0, 12, 42]
abbrev dktX2_product_0 : List UInt8 := dkwX2_product_0 ++ dktX2_product_1
theorem dksX2_product_0 : cX2_product.data.toList.drop 0 = dktX2_product_0 := by decide +kernel
theorem dksX2_product_1 : cX2_product.data.toList.drop 23 = dktX2_product_1 := dk_seg dksX2_product_0 23 rfl rfl
theorem dksX2_product_2 : cX2_product.data.toList.drop 47 = dktX2_product_2 := dk_seg dksX2_product_1 24 rfl rfl
theorem dksX2_product_3 : cX2_product.data.toList.drop 71 = dktX2_product_3 := dk_seg dksX2_product_2 24 rfl rfl
theorem dX2_product_0 : decode cX2_product 0 = .ok (.aload_n 0, 1) := dk_42 (dk_at dksX2_product_0 0 rfl rfl)
theorem dX2_product_1 : decode cX2_product 1 = .ok (.iload_n 1, 1) := dk_27 (dk_at dksX2_product_0 1 rfl rfl)
theorem dX2_product_2 : decode cX2_product 2 = .ok (.invokevirtual 184, 3) := dk_182 0 184 (dk_at dksX2_product_0 2 rfl rfl)
theorem dX2_product_5 : decode cX2_product 5 = .ok (.istore_n 2, 1) := dk_61 (dk_at dksX2_product_0 5 rfl rfl)
theorem dX2_product_6 : decode cX2_product 6 = .ok (.aload_n 0, 1) := dk_42 (dk_at dksX2_product_0 6 rfl rfl)
theorem dX2_product_7 : decode cX2_product 7 = .ok (.invokevirtual 144, 3) := dk_182 0 144 (dk_at dksX2_product_0 7 rfl rfl)
theorem dX2_product_10 : decode cX2_product 10 = .ok (.ifCond .eq 81, 3) := dk_153 0 81 (dk_at dksX2_product_0 10 rfl rfl)
theorem dX2_product_13 : decode cX2_product 13 = .ok (.aload_n 0, 1) := dk_42 (dk_at dksX2_product_0 13 rfl rfl)
theorem dX2_product_14 : decode cX2_product 14 = .ok (.invokevirtual 148, 3) := dk_182 0 148 (dk_at dksX2_product_0 14 rfl rfl)
theorem dX2_product_17 : decode cX2_product 17 = .ok (.bipush 42, 2) := dk_16 42 (dk_at dksX2_product_0 17 rfl rfl)
theorem dX2_product_19 : decode cX2_product 19 = .ok (.if_icmp .eq 12, 3) := dk_159 0 12 (dk_at dksX2_product_0 19 rfl rfl)
theorem dX2_product_22 : decode cX2_product 22 = .ok (.aload_n 0, 1) := dk_42 (dk_at dksX2_product_0 22 rfl rfl)
theorem dX2_product_23 : decode cX2_product 23 = .ok (.invokevirtual 148, 3) := dk_182 0 148 (dk_at dksX2_product_1 0 rfl rfl)
theorem dX2_product_26 : decode cX2_product 26 = .ok (.bipush 47, 2) := dk_16 47 (dk_at dksX2_product_1 3 rfl rfl)
theorem dX2_product_28 : decode cX2_product 28 = .ok (.if_icmp .ne 63, 3) := dk_160 0 63 (dk_at dksX2_product_1 5 rfl rfl)
theorem dX2_product_31 : decode cX2_product 31 = .ok (.aload_n 0, 1) := dk_42 (dk_at dksX2_product_1 8 rfl rfl)
theorem dX2_product_32 : decode cX2_product 32 = .ok (.invokevirtual 148, 3) := dk_182 0 148 (dk_at dksX2_product_1 9 rfl rfl)
theorem dX2_product_35 : decode cX2_product 35 = .ok (.bipush 42, 2) := dk_16 42 (dk_at dksX2_product_1 12 rfl rfl)
theorem dX2_product_37 : decode cX2_product 37 = .ok (.if_icmp .ne 7, 3) := dk_160 0 7 (dk_at dksX2_product_1 14 rfl rfl)
theorem dX2_product_40 : decode cX2_product 40 = .ok (.iconst 1, 1) := dk_4 (dk_at dksX2_product_1 17 rfl rfl)
theorem dX2_product_41 : decode cX2_product 41 = .ok (.goto 4, 3) := dk_167 0 4 (dk_at dksX2_product_1 18 rfl rfl)
theorem dX2_product_44 : decode cX2_product 44 = .ok (.iconst 0, 1) := dk_3 (dk_at dksX2_product_1 21 rfl rfl)
theorem dX2_product_45 : decode cX2_product 45 = .ok (.istore_n 3, 1) := dk_62 (dk_at dksX2_product_1 22 rfl rfl)
theorem dX2_product_46 : decode cX2_product 46 = .ok (.aload_n 0, 1) := dk_42 (dk_at dksX2_product_1 23 rfl rfl)
theorem dX2_product_47 : decode cX2_product 47 = .ok (.dup, 1) := dk_89 (dk_at dksX2_product_2 0 rfl rfl)
theorem dX2_product_48 : decode cX2_product 48 = .ok (.getfield 138, 3) := dk_180 0 138 (dk_at dksX2_product_2 1 rfl rfl)
theorem dX2_product_51 : decode cX2_product 51 = .ok (.iconst 1, 1) := dk_4 (dk_at dksX2_product_2 4 rfl rfl)
theorem dX2_product_52 : decode cX2_product 52 = .ok (.iadd, 1) := dk_96 (dk_at dksX2_product_2 5 rfl rfl)
theorem dX2_product_53 : decode cX2_product 53 = .ok (.putfield 138, 3) := dk_181 0 138 (dk_at dksX2_product_2 6 rfl rfl)
theorem dX2_product_56 : decode cX2_product 56 = .ok (.aload_n 0, 1) := dk_42 (dk_at dksX2_product_2 9 rfl rfl)
theorem dX2_product_57 : decode cX2_product 57 = .ok (.iload_n 1, 1) := dk_27 (dk_at dksX2_product_2 10 rfl rfl)
theorem dX2_product_58 : decode cX2_product 58 = .ok (.invokevirtual 184, 3) := dk_182 0 184 (dk_at dksX2_product_2 11 rfl rfl)
theorem dX2_product_61 : decode cX2_product 61 = .ok (.istore 4, 2) := dk_54 4 (dk_at dksX2_product_2 14 rfl rfl)
theorem dX2_product_63 : decode cX2_product 63 = .ok (.iload_n 3, 1) := dk_29 (dk_at dksX2_product_2 16 rfl rfl)
theorem dX2_product_64 : decode cX2_product 64 = .ok (.ifCond .eq 10, 3) := dk_153 0 10 (dk_at dksX2_product_2 17 rfl rfl)
theorem dX2_product_67 : decode cX2_product 67 = .ok (.iload_n 2, 1) := dk_28 (dk_at dksX2_product_2 20 rfl rfl)
theorem dX2_product_68 : decode cX2_product 68 = .ok (.iload 4, 2) := dk_21 4 (dk_at dksX2_product_2 21 rfl rfl)
theorem dX2_product_70 : decode cX2_product 70 = .ok (.imul, 1) := dk_104 (dk_at dksX2_product_2 23 rfl rfl)
theorem dX2_product_71 : decode cX2_product 71 = .ok (.goto 16, 3) := dk_167 0 16 (dk_at dksX2_product_3 0 rfl rfl)
theorem dX2_product_74 : decode cX2_product 74 = .ok (.iload 4, 2) := dk_21 4 (dk_at dksX2_product_3 3 rfl rfl)
theorem dX2_product_76 : decode cX2_product 76 = .ok (.ifCond .ne 7, 3) := dk_154 0 7 (dk_at dksX2_product_3 5 rfl rfl)
theorem dX2_product_79 : decode cX2_product 79 = .ok (.iconst 0, 1) := dk_3 (dk_at dksX2_product_3 8 rfl rfl)
theorem dX2_product_80 : decode cX2_product 80 = .ok (.goto 7, 3) := dk_167 0 7 (dk_at dksX2_product_3 9 rfl rfl)
theorem dX2_product_83 : decode cX2_product 83 = .ok (.iload_n 2, 1) := dk_28 (dk_at dksX2_product_3 12 rfl rfl)
theorem dX2_product_84 : decode cX2_product 84 = .ok (.iload 4, 2) := dk_21 4 (dk_at dksX2_product_3 13 rfl rfl)
theorem dX2_product_86 : decode cX2_product 86 = .ok (.idiv, 1) := dk_108 (dk_at dksX2_product_3 15 rfl rfl)
theorem dX2_product_87 : decode cX2_product 87 = .ok (.istore_n 2, 1) := dk_61 (dk_at dksX2_product_3 16 rfl rfl)
theorem dX2_product_88 : decode cX2_product 88 = .ok (.goto (-82), 3) := dk_167 255 174 (dk_at dksX2_product_3 17 rfl rfl)
theorem dX2_product_91 : decode cX2_product 91 = .ok (.iload_n 2, 1) := dk_28 (dk_at dksX2_product_3 20 rfl rfl)
theorem dX2_product_92 : decode cX2_product 92 = .ok (.ireturn, 1) := dk_172 (dk_at dksX2_product_3 21 rfl rfl)
abbrev cX2_thing : ByteArray := prog_8_method_23_code
def yX2_thing : MethodName := ⟨RX2, "thing", "(I)I"⟩
def dkwX2_thing_7 : List UInt8 := [180, 0, 58, 2, 160, 0, 7, 3, 167, 0, 8, 42, 28, 182, 0, 190, 172]
abbrev dktX2_thing_7 : List UInt8 := dkwX2_thing_7 ++ []
def dkwX2_thing_6 : List UInt8 := [159, 0, 13, 42, 42, 180, 0, 138, 182, 0, 152, 3, 172, 42, 89, 180, 0, 138, 4, 96, 181, 0, 138, 42]
abbrev dktX2_thing_6 : List UInt8 := dkwX2_thing_6 ++ dktX2_thing_7
def dkwX2_thing_5 : List UInt8 := [159, 0, 37, 28, 16, 104, 159, 0, 31, 28, 16, 111, 159, 0, 25, 28, 16, 103, 159, 0, 19, 28, 16, 100]
abbrev dktX2_thing_5 : List UInt8 := dkwX2_thing_5 ++ dktX2_thing_6
def dkwX2_thing_4 : List UInt8 := [172, 28, 16, 108, 159, 0, 55, 28, 16, 98, 159, 0, 49, 28, 16, 110, 159, 0, 43, 28, 16, 99]
abbrev dktX2_thing_4 : List UInt8 := dkwX2_thing_4 ++ dktX2_thing_5
def dkwX2_thing_3 : List UInt8 := [180, 0, 138, 182, 0, 152, 29, 172, 28, 16, 48, 16, 57, 184, 0, 119, 153, 0, 9, 42, 6, 182, 0, 167]
abbrev dktX2_thing_3 : List UInt8 := dkwX2_thing_3 ++ dktX2_thing_4
def dkwX2_thing_2 : List UInt8 := [181, 0, 138, 42, 27, 4, 96, 182, 0, 187, 62, 42, 16, 41, 182, 0, 171, 154, 0, 11, 42, 42]
abbrev dktX2_thing_2 : List UInt8 := dkwX2_thing_2 ++ dktX2_thing_3
def dkwX2_thing_1 : List UInt8 := [172, 42, 182, 0, 148, 61, 28, 16, 40, 160, 0, 45, 27, 7, 162, 0, 40, 42, 89, 180, 0, 138, 4, 96]
abbrev dktX2_thing_1 : List UInt8 := dkwX2_thing_1 ++ dktX2_thing_2
def dkwX2_thing_0 : List UInt8 := [42, 16, 45, 182, 0, 171, 153, 0, 10, 42, 27, 182, 0, 184, 116, 172, 42, 182, 0, 144, 154, 0, 5, 3]
abbrev dktX2_thing_0 : List UInt8 := dkwX2_thing_0 ++ dktX2_thing_1
theorem dksX2_thing_0 : cX2_thing.data.toList.drop 0 = dktX2_thing_0 := by decide +kernel
theorem dksX2_thing_1 : cX2_thing.data.toList.drop 24 = dktX2_thing_1 := dk_seg dksX2_thing_0 24 rfl rfl
theorem dksX2_thing_2 : cX2_thing.data.toList.drop 48 = dktX2_thing_2 := dk_seg dksX2_thing_1 24 rfl rfl
theorem dksX2_thing_3 : cX2_thing.data.toList.drop 70 = dktX2_thing_3 := dk_seg dksX2_thing_2 22 rfl rfl
theorem dksX2_thing_4 : cX2_thing.data.toList.drop 94 = dktX2_thing_4 := dk_seg dksX2_thing_3 24 rfl rfl
theorem dksX2_thing_5 : cX2_thing.data.toList.drop 116 = dktX2_thing_5 := dk_seg dksX2_thing_4 22 rfl rfl
theorem dksX2_thing_6 : cX2_thing.data.toList.drop 140 = dktX2_thing_6 := dk_seg dksX2_thing_5 24 rfl rfl
theorem dksX2_thing_7 : cX2_thing.data.toList.drop 164 = dktX2_thing_7 := dk_seg dksX2_thing_6 24 rfl rfl
theorem dX2_thing_0 : decode cX2_thing 0 = .ok (.aload_n 0, 1) := dk_42 (dk_at dksX2_thing_0 0 rfl rfl)
theorem dX2_thing_1 : decode cX2_thing 1 = .ok (.bipush 45, 2) := dk_16 45 (dk_at dksX2_thing_0 1 rfl rfl)
theorem dX2_thing_3 : decode cX2_thing 3 = .ok (.invokevirtual 171, 3) := dk_182 0 171 (dk_at dksX2_thing_0 3 rfl rfl)
theorem dX2_thing_6 : decode cX2_thing 6 = .ok (.ifCond .eq 10, 3) := dk_153 0 10 (dk_at dksX2_thing_0 6 rfl rfl)
theorem dX2_thing_9 : decode cX2_thing 9 = .ok (.aload_n 0, 1) := dk_42 (dk_at dksX2_thing_0 9 rfl rfl)
theorem dX2_thing_10 : decode cX2_thing 10 = .ok (.iload_n 1, 1) := dk_27 (dk_at dksX2_thing_0 10 rfl rfl)
theorem dX2_thing_11 : decode cX2_thing 11 = .ok (.invokevirtual 184, 3) := dk_182 0 184 (dk_at dksX2_thing_0 11 rfl rfl)
theorem dX2_thing_14 : decode cX2_thing 14 = .ok (.ineg, 1) := dk_116 (dk_at dksX2_thing_0 14 rfl rfl)
theorem dX2_thing_15 : decode cX2_thing 15 = .ok (.ireturn, 1) := dk_172 (dk_at dksX2_thing_0 15 rfl rfl)
theorem dX2_thing_16 : decode cX2_thing 16 = .ok (.aload_n 0, 1) := dk_42 (dk_at dksX2_thing_0 16 rfl rfl)
theorem dX2_thing_17 : decode cX2_thing 17 = .ok (.invokevirtual 144, 3) := dk_182 0 144 (dk_at dksX2_thing_0 17 rfl rfl)
theorem dX2_thing_20 : decode cX2_thing 20 = .ok (.ifCond .ne 5, 3) := dk_154 0 5 (dk_at dksX2_thing_0 20 rfl rfl)
theorem dX2_thing_23 : decode cX2_thing 23 = .ok (.iconst 0, 1) := dk_3 (dk_at dksX2_thing_0 23 rfl rfl)
theorem dX2_thing_24 : decode cX2_thing 24 = .ok (.ireturn, 1) := dk_172 (dk_at dksX2_thing_1 0 rfl rfl)
theorem dX2_thing_25 : decode cX2_thing 25 = .ok (.aload_n 0, 1) := dk_42 (dk_at dksX2_thing_1 1 rfl rfl)
theorem dX2_thing_26 : decode cX2_thing 26 = .ok (.invokevirtual 148, 3) := dk_182 0 148 (dk_at dksX2_thing_1 2 rfl rfl)
theorem dX2_thing_29 : decode cX2_thing 29 = .ok (.istore_n 2, 1) := dk_61 (dk_at dksX2_thing_1 5 rfl rfl)
theorem dX2_thing_30 : decode cX2_thing 30 = .ok (.iload_n 2, 1) := dk_28 (dk_at dksX2_thing_1 6 rfl rfl)
theorem dX2_thing_31 : decode cX2_thing 31 = .ok (.bipush 40, 2) := dk_16 40 (dk_at dksX2_thing_1 7 rfl rfl)
theorem dX2_thing_33 : decode cX2_thing 33 = .ok (.if_icmp .ne 45, 3) := dk_160 0 45 (dk_at dksX2_thing_1 9 rfl rfl)
theorem dX2_thing_36 : decode cX2_thing 36 = .ok (.iload_n 1, 1) := dk_27 (dk_at dksX2_thing_1 12 rfl rfl)
theorem dX2_thing_37 : decode cX2_thing 37 = .ok (.iconst 4, 1) := dk_7 (dk_at dksX2_thing_1 13 rfl rfl)
theorem dX2_thing_38 : decode cX2_thing 38 = .ok (.if_icmp .ge 40, 3) := dk_162 0 40 (dk_at dksX2_thing_1 14 rfl rfl)
theorem dX2_thing_41 : decode cX2_thing 41 = .ok (.aload_n 0, 1) := dk_42 (dk_at dksX2_thing_1 17 rfl rfl)
theorem dX2_thing_42 : decode cX2_thing 42 = .ok (.dup, 1) := dk_89 (dk_at dksX2_thing_1 18 rfl rfl)
theorem dX2_thing_43 : decode cX2_thing 43 = .ok (.getfield 138, 3) := dk_180 0 138 (dk_at dksX2_thing_1 19 rfl rfl)
theorem dX2_thing_46 : decode cX2_thing 46 = .ok (.iconst 1, 1) := dk_4 (dk_at dksX2_thing_1 22 rfl rfl)
theorem dX2_thing_47 : decode cX2_thing 47 = .ok (.iadd, 1) := dk_96 (dk_at dksX2_thing_1 23 rfl rfl)
theorem dX2_thing_48 : decode cX2_thing 48 = .ok (.putfield 138, 3) := dk_181 0 138 (dk_at dksX2_thing_2 0 rfl rfl)
theorem dX2_thing_51 : decode cX2_thing 51 = .ok (.aload_n 0, 1) := dk_42 (dk_at dksX2_thing_2 3 rfl rfl)
theorem dX2_thing_52 : decode cX2_thing 52 = .ok (.iload_n 1, 1) := dk_27 (dk_at dksX2_thing_2 4 rfl rfl)
theorem dX2_thing_53 : decode cX2_thing 53 = .ok (.iconst 1, 1) := dk_4 (dk_at dksX2_thing_2 5 rfl rfl)
theorem dX2_thing_54 : decode cX2_thing 54 = .ok (.iadd, 1) := dk_96 (dk_at dksX2_thing_2 6 rfl rfl)
theorem dX2_thing_55 : decode cX2_thing 55 = .ok (.invokevirtual 187, 3) := dk_182 0 187 (dk_at dksX2_thing_2 7 rfl rfl)
theorem dX2_thing_58 : decode cX2_thing 58 = .ok (.istore_n 3, 1) := dk_62 (dk_at dksX2_thing_2 10 rfl rfl)
theorem dX2_thing_59 : decode cX2_thing 59 = .ok (.aload_n 0, 1) := dk_42 (dk_at dksX2_thing_2 11 rfl rfl)
theorem dX2_thing_60 : decode cX2_thing 60 = .ok (.bipush 41, 2) := dk_16 41 (dk_at dksX2_thing_2 12 rfl rfl)
theorem dX2_thing_62 : decode cX2_thing 62 = .ok (.invokevirtual 171, 3) := dk_182 0 171 (dk_at dksX2_thing_2 14 rfl rfl)
theorem dX2_thing_65 : decode cX2_thing 65 = .ok (.ifCond .ne 11, 3) := dk_154 0 11 (dk_at dksX2_thing_2 17 rfl rfl)
theorem dX2_thing_68 : decode cX2_thing 68 = .ok (.aload_n 0, 1) := dk_42 (dk_at dksX2_thing_2 20 rfl rfl)
theorem dX2_thing_69 : decode cX2_thing 69 = .ok (.aload_n 0, 1) := dk_42 (dk_at dksX2_thing_2 21 rfl rfl)
theorem dX2_thing_70 : decode cX2_thing 70 = .ok (.getfield 138, 3) := dk_180 0 138 (dk_at dksX2_thing_3 0 rfl rfl)
theorem dX2_thing_73 : decode cX2_thing 73 = .ok (.invokevirtual 152, 3) := dk_182 0 152 (dk_at dksX2_thing_3 3 rfl rfl)
theorem dX2_thing_76 : decode cX2_thing 76 = .ok (.iload_n 3, 1) := dk_29 (dk_at dksX2_thing_3 6 rfl rfl)
theorem dX2_thing_77 : decode cX2_thing 77 = .ok (.ireturn, 1) := dk_172 (dk_at dksX2_thing_3 7 rfl rfl)
theorem dX2_thing_78 : decode cX2_thing 78 = .ok (.iload_n 2, 1) := dk_28 (dk_at dksX2_thing_3 8 rfl rfl)
theorem dX2_thing_79 : decode cX2_thing 79 = .ok (.bipush 48, 2) := dk_16 48 (dk_at dksX2_thing_3 9 rfl rfl)
theorem dX2_thing_81 : decode cX2_thing 81 = .ok (.bipush 57, 2) := dk_16 57 (dk_at dksX2_thing_3 11 rfl rfl)
theorem dX2_thing_83 : decode cX2_thing 83 = .ok (.invokestatic 119, 3) := dk_184 0 119 (dk_at dksX2_thing_3 13 rfl rfl)
theorem dX2_thing_86 : decode cX2_thing 86 = .ok (.ifCond .eq 9, 3) := dk_153 0 9 (dk_at dksX2_thing_3 16 rfl rfl)
theorem dX2_thing_89 : decode cX2_thing 89 = .ok (.aload_n 0, 1) := dk_42 (dk_at dksX2_thing_3 19 rfl rfl)
theorem dX2_thing_90 : decode cX2_thing 90 = .ok (.iconst 3, 1) := dk_6 (dk_at dksX2_thing_3 20 rfl rfl)
theorem dX2_thing_91 : decode cX2_thing 91 = .ok (.invokevirtual 167, 3) := dk_182 0 167 (dk_at dksX2_thing_3 21 rfl rfl)
theorem dX2_thing_94 : decode cX2_thing 94 = .ok (.ireturn, 1) := dk_172 (dk_at dksX2_thing_4 0 rfl rfl)
theorem dX2_thing_95 : decode cX2_thing 95 = .ok (.iload_n 2, 1) := dk_28 (dk_at dksX2_thing_4 1 rfl rfl)
theorem dX2_thing_96 : decode cX2_thing 96 = .ok (.bipush 108, 2) := dk_16 108 (dk_at dksX2_thing_4 2 rfl rfl)
theorem dX2_thing_98 : decode cX2_thing 98 = .ok (.if_icmp .eq 55, 3) := dk_159 0 55 (dk_at dksX2_thing_4 4 rfl rfl)
theorem dX2_thing_101 : decode cX2_thing 101 = .ok (.iload_n 2, 1) := dk_28 (dk_at dksX2_thing_4 7 rfl rfl)
theorem dX2_thing_102 : decode cX2_thing 102 = .ok (.bipush 98, 2) := dk_16 98 (dk_at dksX2_thing_4 8 rfl rfl)
theorem dX2_thing_104 : decode cX2_thing 104 = .ok (.if_icmp .eq 49, 3) := dk_159 0 49 (dk_at dksX2_thing_4 10 rfl rfl)
theorem dX2_thing_107 : decode cX2_thing 107 = .ok (.iload_n 2, 1) := dk_28 (dk_at dksX2_thing_4 13 rfl rfl)
theorem dX2_thing_108 : decode cX2_thing 108 = .ok (.bipush 110, 2) := dk_16 110 (dk_at dksX2_thing_4 14 rfl rfl)
theorem dX2_thing_110 : decode cX2_thing 110 = .ok (.if_icmp .eq 43, 3) := dk_159 0 43 (dk_at dksX2_thing_4 16 rfl rfl)
theorem dX2_thing_113 : decode cX2_thing 113 = .ok (.iload_n 2, 1) := dk_28 (dk_at dksX2_thing_4 19 rfl rfl)
theorem dX2_thing_114 : decode cX2_thing 114 = .ok (.bipush 99, 2) := dk_16 99 (dk_at dksX2_thing_4 20 rfl rfl)
theorem dX2_thing_116 : decode cX2_thing 116 = .ok (.if_icmp .eq 37, 3) := dk_159 0 37 (dk_at dksX2_thing_5 0 rfl rfl)
theorem dX2_thing_119 : decode cX2_thing 119 = .ok (.iload_n 2, 1) := dk_28 (dk_at dksX2_thing_5 3 rfl rfl)
theorem dX2_thing_120 : decode cX2_thing 120 = .ok (.bipush 104, 2) := dk_16 104 (dk_at dksX2_thing_5 4 rfl rfl)
theorem dX2_thing_122 : decode cX2_thing 122 = .ok (.if_icmp .eq 31, 3) := dk_159 0 31 (dk_at dksX2_thing_5 6 rfl rfl)
theorem dX2_thing_125 : decode cX2_thing 125 = .ok (.iload_n 2, 1) := dk_28 (dk_at dksX2_thing_5 9 rfl rfl)
theorem dX2_thing_126 : decode cX2_thing 126 = .ok (.bipush 111, 2) := dk_16 111 (dk_at dksX2_thing_5 10 rfl rfl)
theorem dX2_thing_128 : decode cX2_thing 128 = .ok (.if_icmp .eq 25, 3) := dk_159 0 25 (dk_at dksX2_thing_5 12 rfl rfl)
theorem dX2_thing_131 : decode cX2_thing 131 = .ok (.iload_n 2, 1) := dk_28 (dk_at dksX2_thing_5 15 rfl rfl)
theorem dX2_thing_132 : decode cX2_thing 132 = .ok (.bipush 103, 2) := dk_16 103 (dk_at dksX2_thing_5 16 rfl rfl)
theorem dX2_thing_134 : decode cX2_thing 134 = .ok (.if_icmp .eq 19, 3) := dk_159 0 19 (dk_at dksX2_thing_5 18 rfl rfl)
theorem dX2_thing_137 : decode cX2_thing 137 = .ok (.iload_n 2, 1) := dk_28 (dk_at dksX2_thing_5 21 rfl rfl)
theorem dX2_thing_138 : decode cX2_thing 138 = .ok (.bipush 100, 2) := dk_16 100 (dk_at dksX2_thing_5 22 rfl rfl)
theorem dX2_thing_140 : decode cX2_thing 140 = .ok (.if_icmp .eq 13, 3) := dk_159 0 13 (dk_at dksX2_thing_6 0 rfl rfl)
theorem dX2_thing_143 : decode cX2_thing 143 = .ok (.aload_n 0, 1) := dk_42 (dk_at dksX2_thing_6 3 rfl rfl)
theorem dX2_thing_144 : decode cX2_thing 144 = .ok (.aload_n 0, 1) := dk_42 (dk_at dksX2_thing_6 4 rfl rfl)
theorem dX2_thing_145 : decode cX2_thing 145 = .ok (.getfield 138, 3) := dk_180 0 138 (dk_at dksX2_thing_6 5 rfl rfl)
theorem dX2_thing_148 : decode cX2_thing 148 = .ok (.invokevirtual 152, 3) := dk_182 0 152 (dk_at dksX2_thing_6 8 rfl rfl)
theorem dX2_thing_151 : decode cX2_thing 151 = .ok (.iconst 0, 1) := dk_3 (dk_at dksX2_thing_6 11 rfl rfl)
theorem dX2_thing_152 : decode cX2_thing 152 = .ok (.ireturn, 1) := dk_172 (dk_at dksX2_thing_6 12 rfl rfl)
theorem dX2_thing_153 : decode cX2_thing 153 = .ok (.aload_n 0, 1) := dk_42 (dk_at dksX2_thing_6 13 rfl rfl)
theorem dX2_thing_154 : decode cX2_thing 154 = .ok (.dup, 1) := dk_89 (dk_at dksX2_thing_6 14 rfl rfl)
theorem dX2_thing_155 : decode cX2_thing 155 = .ok (.getfield 138, 3) := dk_180 0 138 (dk_at dksX2_thing_6 15 rfl rfl)
theorem dX2_thing_158 : decode cX2_thing 158 = .ok (.iconst 1, 1) := dk_4 (dk_at dksX2_thing_6 18 rfl rfl)
theorem dX2_thing_159 : decode cX2_thing 159 = .ok (.iadd, 1) := dk_96 (dk_at dksX2_thing_6 19 rfl rfl)
theorem dX2_thing_160 : decode cX2_thing 160 = .ok (.putfield 138, 3) := dk_181 0 138 (dk_at dksX2_thing_6 20 rfl rfl)
theorem dX2_thing_163 : decode cX2_thing 163 = .ok (.aload_n 0, 1) := dk_42 (dk_at dksX2_thing_6 23 rfl rfl)
theorem dX2_thing_164 : decode cX2_thing 164 = .ok (.getfield 58, 3) := dk_180 0 58 (dk_at dksX2_thing_7 0 rfl rfl)
theorem dX2_thing_167 : decode cX2_thing 167 = .ok (.iconst (-1), 1) := dk_2 (dk_at dksX2_thing_7 3 rfl rfl)
theorem dX2_thing_168 : decode cX2_thing 168 = .ok (.if_icmp .ne 7, 3) := dk_160 0 7 (dk_at dksX2_thing_7 4 rfl rfl)
theorem dX2_thing_171 : decode cX2_thing 171 = .ok (.iconst 0, 1) := dk_3 (dk_at dksX2_thing_7 7 rfl rfl)
theorem dX2_thing_172 : decode cX2_thing 172 = .ok (.goto 8, 3) := dk_167 0 8 (dk_at dksX2_thing_7 8 rfl rfl)
theorem dX2_thing_175 : decode cX2_thing 175 = .ok (.aload_n 0, 1) := dk_42 (dk_at dksX2_thing_7 11 rfl rfl)
theorem dX2_thing_176 : decode cX2_thing 176 = .ok (.iload_n 2, 1) := dk_28 (dk_at dksX2_thing_7 12 rfl rfl)
theorem dX2_thing_177 : decode cX2_thing 177 = .ok (.invokevirtual 190, 3) := dk_182 0 190 (dk_at dksX2_thing_7 13 rfl rfl)
theorem dX2_thing_180 : decode cX2_thing 180 = .ok (.ireturn, 1) := dk_172 (dk_at dksX2_thing_7 16 rfl rfl)
abbrev cX2_letter : ByteArray := prog_8_method_24_code
def yX2_letter : MethodName := ⟨RX2, "letter", "(I)I"⟩
def dkwX2_letter_5 : List UInt8 := [3, 172, 42, 180, 0, 23, 28, 46, 172, 42, 180, 0, 58, 172, 28, 172]
abbrev dktX2_letter_5 : List UInt8 := dkwX2_letter_5 ++ []
def dkwX2_letter_4 : List UInt8 := [184, 0, 196, 172, 42, 180, 0, 16, 28, 46, 172, 42, 180, 0, 19, 28, 51, 153, 0, 7, 4, 167, 0, 4]
abbrev dktX2_letter_4 : List UInt8 := dkwX2_letter_4 ++ dktX2_letter_5
def dkwX2_letter_3 : List UInt8 := [28, 46, 42, 180, 0, 29, 42, 180, 0, 58, 46, 126, 184, 0, 196, 172, 42, 180, 0, 13, 28, 46]
abbrev dktX2_letter_3 : List UInt8 := dkwX2_letter_3 ++ dktX2_letter_4
def dkwX2_letter_2 : List UInt8 := [42, 180, 0, 13, 28, 46, 42, 180, 0, 26, 42, 180, 0, 58, 46, 126, 184, 0, 196, 172, 42, 180, 0, 13]
abbrev dktX2_letter_2 : List UInt8 := dkwX2_letter_2 ++ dktX2_letter_3
def dkwX2_letter_1 : List UInt8 := [170, 0, 0, 0, 0, 154, 0, 0, 0, 98, 0, 0, 0, 111, 0, 0, 0, 90, 0, 0, 0, 120, 0, 0, 0, 154, 0, 0, 0, 154, 0, 0, 0, 154, 0, 0, 0, 149, 0, 0, 0, 127, 0, 0, 0, 154, 0, 0, 0, 154, 0, 0, 0, 154, 0, 0, 0, 70, 0, 0, 0, 154, 0, 0, 0, 110, 0, 0, 0, 142]
abbrev dktX2_letter_1 : List UInt8 := dkwX2_letter_1 ++ dktX2_letter_2
def dkwX2_letter_0 : List UInt8 := [42, 180, 0, 193, 61, 27]
abbrev dktX2_letter_0 : List UInt8 := dkwX2_letter_0 ++ dktX2_letter_1
theorem dksX2_letter_0 : cX2_letter.data.toList.drop 0 = dktX2_letter_0 := by decide +kernel
theorem dksX2_letter_1 : cX2_letter.data.toList.drop 6 = dktX2_letter_1 := dk_seg dksX2_letter_0 6 rfl rfl
theorem dksX2_letter_2 : cX2_letter.data.toList.drop 76 = dktX2_letter_2 := dk_seg dksX2_letter_1 70 rfl rfl
theorem dksX2_letter_3 : cX2_letter.data.toList.drop 100 = dktX2_letter_3 := dk_seg dksX2_letter_2 24 rfl rfl
theorem dksX2_letter_4 : cX2_letter.data.toList.drop 122 = dktX2_letter_4 := dk_seg dksX2_letter_3 22 rfl rfl
theorem dksX2_letter_5 : cX2_letter.data.toList.drop 146 = dktX2_letter_5 := dk_seg dksX2_letter_4 24 rfl rfl
theorem dX2_letter_0 : decode cX2_letter 0 = .ok (.aload_n 0, 1) := dk_42 (dk_at dksX2_letter_0 0 rfl rfl)
theorem dX2_letter_1 : decode cX2_letter 1 = .ok (.getfield 193, 3) := dk_180 0 193 (dk_at dksX2_letter_0 1 rfl rfl)
theorem dX2_letter_4 : decode cX2_letter 4 = .ok (.istore_n 2, 1) := dk_61 (dk_at dksX2_letter_0 4 rfl rfl)
theorem dX2_letter_5 : decode cX2_letter 5 = .ok (.iload_n 1, 1) := dk_27 (dk_at dksX2_letter_0 5 rfl rfl)
theorem dX2_letter_6 : decode cX2_letter 6 = .ok (.tableswitch 154 98 111 #[90, 120, 154, 154, 154, 149, 127, 154, 154, 154, 70, 154, 110, 142], 70) := by decide +kernel
theorem dX2_letter_76 : decode cX2_letter 76 = .ok (.aload_n 0, 1) := dk_42 (dk_at dksX2_letter_2 0 rfl rfl)
theorem dX2_letter_77 : decode cX2_letter 77 = .ok (.getfield 13, 3) := dk_180 0 13 (dk_at dksX2_letter_2 1 rfl rfl)
theorem dX2_letter_80 : decode cX2_letter 80 = .ok (.iload_n 2, 1) := dk_28 (dk_at dksX2_letter_2 4 rfl rfl)
theorem dX2_letter_81 : decode cX2_letter 81 = .ok (.iaload, 1) := dk_46 (dk_at dksX2_letter_2 5 rfl rfl)
theorem dX2_letter_82 : decode cX2_letter 82 = .ok (.aload_n 0, 1) := dk_42 (dk_at dksX2_letter_2 6 rfl rfl)
theorem dX2_letter_83 : decode cX2_letter 83 = .ok (.getfield 26, 3) := dk_180 0 26 (dk_at dksX2_letter_2 7 rfl rfl)
theorem dX2_letter_86 : decode cX2_letter 86 = .ok (.aload_n 0, 1) := dk_42 (dk_at dksX2_letter_2 10 rfl rfl)
theorem dX2_letter_87 : decode cX2_letter 87 = .ok (.getfield 58, 3) := dk_180 0 58 (dk_at dksX2_letter_2 11 rfl rfl)
theorem dX2_letter_90 : decode cX2_letter 90 = .ok (.iaload, 1) := dk_46 (dk_at dksX2_letter_2 14 rfl rfl)
theorem dX2_letter_91 : decode cX2_letter 91 = .ok (.iand, 1) := dk_126 (dk_at dksX2_letter_2 15 rfl rfl)
theorem dX2_letter_92 : decode cX2_letter 92 = .ok (.invokestatic 196, 3) := dk_184 0 196 (dk_at dksX2_letter_2 16 rfl rfl)
theorem dX2_letter_95 : decode cX2_letter 95 = .ok (.ireturn, 1) := dk_172 (dk_at dksX2_letter_2 19 rfl rfl)
theorem dX2_letter_96 : decode cX2_letter 96 = .ok (.aload_n 0, 1) := dk_42 (dk_at dksX2_letter_2 20 rfl rfl)
theorem dX2_letter_97 : decode cX2_letter 97 = .ok (.getfield 13, 3) := dk_180 0 13 (dk_at dksX2_letter_2 21 rfl rfl)
theorem dX2_letter_100 : decode cX2_letter 100 = .ok (.iload_n 2, 1) := dk_28 (dk_at dksX2_letter_3 0 rfl rfl)
theorem dX2_letter_101 : decode cX2_letter 101 = .ok (.iaload, 1) := dk_46 (dk_at dksX2_letter_3 1 rfl rfl)
theorem dX2_letter_102 : decode cX2_letter 102 = .ok (.aload_n 0, 1) := dk_42 (dk_at dksX2_letter_3 2 rfl rfl)
theorem dX2_letter_103 : decode cX2_letter 103 = .ok (.getfield 29, 3) := dk_180 0 29 (dk_at dksX2_letter_3 3 rfl rfl)
theorem dX2_letter_106 : decode cX2_letter 106 = .ok (.aload_n 0, 1) := dk_42 (dk_at dksX2_letter_3 6 rfl rfl)
theorem dX2_letter_107 : decode cX2_letter 107 = .ok (.getfield 58, 3) := dk_180 0 58 (dk_at dksX2_letter_3 7 rfl rfl)
theorem dX2_letter_110 : decode cX2_letter 110 = .ok (.iaload, 1) := dk_46 (dk_at dksX2_letter_3 10 rfl rfl)
theorem dX2_letter_111 : decode cX2_letter 111 = .ok (.iand, 1) := dk_126 (dk_at dksX2_letter_3 11 rfl rfl)
theorem dX2_letter_112 : decode cX2_letter 112 = .ok (.invokestatic 196, 3) := dk_184 0 196 (dk_at dksX2_letter_3 12 rfl rfl)
theorem dX2_letter_115 : decode cX2_letter 115 = .ok (.ireturn, 1) := dk_172 (dk_at dksX2_letter_3 15 rfl rfl)
theorem dX2_letter_116 : decode cX2_letter 116 = .ok (.aload_n 0, 1) := dk_42 (dk_at dksX2_letter_3 16 rfl rfl)
theorem dX2_letter_117 : decode cX2_letter 117 = .ok (.getfield 13, 3) := dk_180 0 13 (dk_at dksX2_letter_3 17 rfl rfl)
theorem dX2_letter_120 : decode cX2_letter 120 = .ok (.iload_n 2, 1) := dk_28 (dk_at dksX2_letter_3 20 rfl rfl)
theorem dX2_letter_121 : decode cX2_letter 121 = .ok (.iaload, 1) := dk_46 (dk_at dksX2_letter_3 21 rfl rfl)
theorem dX2_letter_122 : decode cX2_letter 122 = .ok (.invokestatic 196, 3) := dk_184 0 196 (dk_at dksX2_letter_4 0 rfl rfl)
theorem dX2_letter_125 : decode cX2_letter 125 = .ok (.ireturn, 1) := dk_172 (dk_at dksX2_letter_4 3 rfl rfl)
theorem dX2_letter_126 : decode cX2_letter 126 = .ok (.aload_n 0, 1) := dk_42 (dk_at dksX2_letter_4 4 rfl rfl)
theorem dX2_letter_127 : decode cX2_letter 127 = .ok (.getfield 16, 3) := dk_180 0 16 (dk_at dksX2_letter_4 5 rfl rfl)
theorem dX2_letter_130 : decode cX2_letter 130 = .ok (.iload_n 2, 1) := dk_28 (dk_at dksX2_letter_4 8 rfl rfl)
theorem dX2_letter_131 : decode cX2_letter 131 = .ok (.iaload, 1) := dk_46 (dk_at dksX2_letter_4 9 rfl rfl)
theorem dX2_letter_132 : decode cX2_letter 132 = .ok (.ireturn, 1) := dk_172 (dk_at dksX2_letter_4 10 rfl rfl)
theorem dX2_letter_133 : decode cX2_letter 133 = .ok (.aload_n 0, 1) := dk_42 (dk_at dksX2_letter_4 11 rfl rfl)
theorem dX2_letter_134 : decode cX2_letter 134 = .ok (.getfield 19, 3) := dk_180 0 19 (dk_at dksX2_letter_4 12 rfl rfl)
theorem dX2_letter_137 : decode cX2_letter 137 = .ok (.iload_n 2, 1) := dk_28 (dk_at dksX2_letter_4 15 rfl rfl)
theorem dX2_letter_138 : decode cX2_letter 138 = .ok (.baload, 1) := dk_51 (dk_at dksX2_letter_4 16 rfl rfl)
theorem dX2_letter_139 : decode cX2_letter 139 = .ok (.ifCond .eq 7, 3) := dk_153 0 7 (dk_at dksX2_letter_4 17 rfl rfl)
theorem dX2_letter_142 : decode cX2_letter 142 = .ok (.iconst 1, 1) := dk_4 (dk_at dksX2_letter_4 20 rfl rfl)
theorem dX2_letter_143 : decode cX2_letter 143 = .ok (.goto 4, 3) := dk_167 0 4 (dk_at dksX2_letter_4 21 rfl rfl)
theorem dX2_letter_146 : decode cX2_letter 146 = .ok (.iconst 0, 1) := dk_3 (dk_at dksX2_letter_5 0 rfl rfl)
theorem dX2_letter_147 : decode cX2_letter 147 = .ok (.ireturn, 1) := dk_172 (dk_at dksX2_letter_5 1 rfl rfl)
theorem dX2_letter_148 : decode cX2_letter 148 = .ok (.aload_n 0, 1) := dk_42 (dk_at dksX2_letter_5 2 rfl rfl)
theorem dX2_letter_149 : decode cX2_letter 149 = .ok (.getfield 23, 3) := dk_180 0 23 (dk_at dksX2_letter_5 3 rfl rfl)
theorem dX2_letter_152 : decode cX2_letter 152 = .ok (.iload_n 2, 1) := dk_28 (dk_at dksX2_letter_5 6 rfl rfl)
theorem dX2_letter_153 : decode cX2_letter 153 = .ok (.iaload, 1) := dk_46 (dk_at dksX2_letter_5 7 rfl rfl)
theorem dX2_letter_154 : decode cX2_letter 154 = .ok (.ireturn, 1) := dk_172 (dk_at dksX2_letter_5 8 rfl rfl)
theorem dX2_letter_155 : decode cX2_letter 155 = .ok (.aload_n 0, 1) := dk_42 (dk_at dksX2_letter_5 9 rfl rfl)
theorem dX2_letter_156 : decode cX2_letter 156 = .ok (.getfield 58, 3) := dk_180 0 58 (dk_at dksX2_letter_5 10 rfl rfl)
theorem dX2_letter_159 : decode cX2_letter 159 = .ok (.ireturn, 1) := dk_172 (dk_at dksX2_letter_5 13 rfl rfl)
theorem dX2_letter_160 : decode cX2_letter 160 = .ok (.iload_n 2, 1) := dk_28 (dk_at dksX2_letter_5 14 rfl rfl)
theorem dX2_letter_161 : decode cX2_letter 161 = .ok (.ireturn, 1) := dk_172 (dk_at dksX2_letter_5 15 rfl rfl)
abbrev cX2_dish : ByteArray := prog_8_method_29_code
def yX2_dish : MethodName := ⟨RX2, "dish", "(II)I"⟩
def dkwX2_dish_6 : List UInt8 := [167, 0, 4, 29, 172]
abbrev dktX2_dish_6 : List UInt8 := dkwX2_dish_6 ++ []
def dkwX2_dish_5 : List UInt8 := [160, 0, 12, 42, 180, 0, 23, 27, 46, 167, 0, 17, 28, 7, 160, 0, 11, 42, 27, 182, 0, 227]
abbrev dktX2_dish_5 : List UInt8 := dkwX2_dish_5 ++ dktX2_dish_6
def dkwX2_dish_4 : List UInt8 := [160, 0, 20, 42, 180, 0, 19, 27, 51, 153, 0, 7, 4, 167, 0, 35, 3, 167, 0, 31, 28, 6]
abbrev dktX2_dish_4 : List UInt8 := dkwX2_dish_4 ++ dktX2_dish_5
def dkwX2_dish_3 : List UInt8 := [180, 0, 13, 27, 46, 167, 0, 67, 28, 4, 160, 0, 12, 42, 180, 0, 16, 27, 46, 167, 0, 53, 28, 5]
abbrev dktX2_dish_3 : List UInt8 := dkwX2_dish_3 ++ dktX2_dish_4
def dkwX2_dish_2 : List UInt8 := [182, 0, 223, 153, 0, 7, 4, 167, 0, 4, 3, 96, 62, 132, 4, 1, 167, 255, 226, 28, 154, 0, 12, 42]
abbrev dktX2_dish_2 : List UInt8 := dkwX2_dish_2 ++ dktX2_dish_3
def dkwX2_dish_1 : List UInt8 := [182, 0, 220, 172, 3, 62, 3, 54, 4, 21, 4, 42, 180, 0, 123, 162, 0, 27, 29, 42, 21, 4, 27]
abbrev dktX2_dish_1 : List UInt8 := dkwX2_dish_1 ++ dktX2_dish_2
def dkwX2_dish_0 : List UInt8 := [42, 3, 181, 0, 110, 42, 27, 182, 0, 216, 153, 0, 12, 28, 3, 8, 184, 0, 119, 154, 0, 8, 42]
abbrev dktX2_dish_0 : List UInt8 := dkwX2_dish_0 ++ dktX2_dish_1
theorem dksX2_dish_0 : cX2_dish.data.toList.drop 0 = dktX2_dish_0 := by decide +kernel
theorem dksX2_dish_1 : cX2_dish.data.toList.drop 23 = dktX2_dish_1 := dk_seg dksX2_dish_0 23 rfl rfl
theorem dksX2_dish_2 : cX2_dish.data.toList.drop 46 = dktX2_dish_2 := dk_seg dksX2_dish_1 23 rfl rfl
theorem dksX2_dish_3 : cX2_dish.data.toList.drop 70 = dktX2_dish_3 := dk_seg dksX2_dish_2 24 rfl rfl
theorem dksX2_dish_4 : cX2_dish.data.toList.drop 94 = dktX2_dish_4 := dk_seg dksX2_dish_3 24 rfl rfl
theorem dksX2_dish_5 : cX2_dish.data.toList.drop 116 = dktX2_dish_5 := dk_seg dksX2_dish_4 22 rfl rfl
theorem dksX2_dish_6 : cX2_dish.data.toList.drop 138 = dktX2_dish_6 := dk_seg dksX2_dish_5 22 rfl rfl
theorem dX2_dish_0 : decode cX2_dish 0 = .ok (.aload_n 0, 1) := dk_42 (dk_at dksX2_dish_0 0 rfl rfl)
theorem dX2_dish_1 : decode cX2_dish 1 = .ok (.iconst 0, 1) := dk_3 (dk_at dksX2_dish_0 1 rfl rfl)
theorem dX2_dish_2 : decode cX2_dish 2 = .ok (.putfield 110, 3) := dk_181 0 110 (dk_at dksX2_dish_0 2 rfl rfl)
theorem dX2_dish_5 : decode cX2_dish 5 = .ok (.aload_n 0, 1) := dk_42 (dk_at dksX2_dish_0 5 rfl rfl)
theorem dX2_dish_6 : decode cX2_dish 6 = .ok (.iload_n 1, 1) := dk_27 (dk_at dksX2_dish_0 6 rfl rfl)
theorem dX2_dish_7 : decode cX2_dish 7 = .ok (.invokevirtual 216, 3) := dk_182 0 216 (dk_at dksX2_dish_0 7 rfl rfl)
theorem dX2_dish_10 : decode cX2_dish 10 = .ok (.ifCond .eq 12, 3) := dk_153 0 12 (dk_at dksX2_dish_0 10 rfl rfl)
theorem dX2_dish_13 : decode cX2_dish 13 = .ok (.iload_n 2, 1) := dk_28 (dk_at dksX2_dish_0 13 rfl rfl)
theorem dX2_dish_14 : decode cX2_dish 14 = .ok (.iconst 0, 1) := dk_3 (dk_at dksX2_dish_0 14 rfl rfl)
theorem dX2_dish_15 : decode cX2_dish 15 = .ok (.iconst 5, 1) := dk_8 (dk_at dksX2_dish_0 15 rfl rfl)
theorem dX2_dish_16 : decode cX2_dish 16 = .ok (.invokestatic 119, 3) := dk_184 0 119 (dk_at dksX2_dish_0 16 rfl rfl)
theorem dX2_dish_19 : decode cX2_dish 19 = .ok (.ifCond .ne 8, 3) := dk_154 0 8 (dk_at dksX2_dish_0 19 rfl rfl)
theorem dX2_dish_22 : decode cX2_dish 22 = .ok (.aload_n 0, 1) := dk_42 (dk_at dksX2_dish_0 22 rfl rfl)
theorem dX2_dish_23 : decode cX2_dish 23 = .ok (.invokevirtual 220, 3) := dk_182 0 220 (dk_at dksX2_dish_1 0 rfl rfl)
theorem dX2_dish_26 : decode cX2_dish 26 = .ok (.ireturn, 1) := dk_172 (dk_at dksX2_dish_1 3 rfl rfl)
theorem dX2_dish_27 : decode cX2_dish 27 = .ok (.iconst 0, 1) := dk_3 (dk_at dksX2_dish_1 4 rfl rfl)
theorem dX2_dish_28 : decode cX2_dish 28 = .ok (.istore_n 3, 1) := dk_62 (dk_at dksX2_dish_1 5 rfl rfl)
theorem dX2_dish_29 : decode cX2_dish 29 = .ok (.iconst 0, 1) := dk_3 (dk_at dksX2_dish_1 6 rfl rfl)
theorem dX2_dish_30 : decode cX2_dish 30 = .ok (.istore 4, 2) := dk_54 4 (dk_at dksX2_dish_1 7 rfl rfl)
theorem dX2_dish_32 : decode cX2_dish 32 = .ok (.iload 4, 2) := dk_21 4 (dk_at dksX2_dish_1 9 rfl rfl)
theorem dX2_dish_34 : decode cX2_dish 34 = .ok (.aload_n 0, 1) := dk_42 (dk_at dksX2_dish_1 11 rfl rfl)
theorem dX2_dish_35 : decode cX2_dish 35 = .ok (.getfield 123, 3) := dk_180 0 123 (dk_at dksX2_dish_1 12 rfl rfl)
theorem dX2_dish_38 : decode cX2_dish 38 = .ok (.if_icmp .ge 27, 3) := dk_162 0 27 (dk_at dksX2_dish_1 15 rfl rfl)
theorem dX2_dish_41 : decode cX2_dish 41 = .ok (.iload_n 3, 1) := dk_29 (dk_at dksX2_dish_1 18 rfl rfl)
theorem dX2_dish_42 : decode cX2_dish 42 = .ok (.aload_n 0, 1) := dk_42 (dk_at dksX2_dish_1 19 rfl rfl)
theorem dX2_dish_43 : decode cX2_dish 43 = .ok (.iload 4, 2) := dk_21 4 (dk_at dksX2_dish_1 20 rfl rfl)
theorem dX2_dish_45 : decode cX2_dish 45 = .ok (.iload_n 1, 1) := dk_27 (dk_at dksX2_dish_1 22 rfl rfl)
theorem dX2_dish_46 : decode cX2_dish 46 = .ok (.invokevirtual 223, 3) := dk_182 0 223 (dk_at dksX2_dish_2 0 rfl rfl)
theorem dX2_dish_49 : decode cX2_dish 49 = .ok (.ifCond .eq 7, 3) := dk_153 0 7 (dk_at dksX2_dish_2 3 rfl rfl)
theorem dX2_dish_52 : decode cX2_dish 52 = .ok (.iconst 1, 1) := dk_4 (dk_at dksX2_dish_2 6 rfl rfl)
theorem dX2_dish_53 : decode cX2_dish 53 = .ok (.goto 4, 3) := dk_167 0 4 (dk_at dksX2_dish_2 7 rfl rfl)
theorem dX2_dish_56 : decode cX2_dish 56 = .ok (.iconst 0, 1) := dk_3 (dk_at dksX2_dish_2 10 rfl rfl)
theorem dX2_dish_57 : decode cX2_dish 57 = .ok (.iadd, 1) := dk_96 (dk_at dksX2_dish_2 11 rfl rfl)
theorem dX2_dish_58 : decode cX2_dish 58 = .ok (.istore_n 3, 1) := dk_62 (dk_at dksX2_dish_2 12 rfl rfl)
theorem dX2_dish_59 : decode cX2_dish 59 = .ok (.iinc 4 1, 3) := dk_132 4 1 (dk_at dksX2_dish_2 13 rfl rfl)
theorem dX2_dish_62 : decode cX2_dish 62 = .ok (.goto (-30), 3) := dk_167 255 226 (dk_at dksX2_dish_2 16 rfl rfl)
theorem dX2_dish_65 : decode cX2_dish 65 = .ok (.iload_n 2, 1) := dk_28 (dk_at dksX2_dish_2 19 rfl rfl)
theorem dX2_dish_66 : decode cX2_dish 66 = .ok (.ifCond .ne 12, 3) := dk_154 0 12 (dk_at dksX2_dish_2 20 rfl rfl)
theorem dX2_dish_69 : decode cX2_dish 69 = .ok (.aload_n 0, 1) := dk_42 (dk_at dksX2_dish_2 23 rfl rfl)
theorem dX2_dish_70 : decode cX2_dish 70 = .ok (.getfield 13, 3) := dk_180 0 13 (dk_at dksX2_dish_3 0 rfl rfl)
theorem dX2_dish_73 : decode cX2_dish 73 = .ok (.iload_n 1, 1) := dk_27 (dk_at dksX2_dish_3 3 rfl rfl)
theorem dX2_dish_74 : decode cX2_dish 74 = .ok (.iaload, 1) := dk_46 (dk_at dksX2_dish_3 4 rfl rfl)
theorem dX2_dish_75 : decode cX2_dish 75 = .ok (.goto 67, 3) := dk_167 0 67 (dk_at dksX2_dish_3 5 rfl rfl)
theorem dX2_dish_78 : decode cX2_dish 78 = .ok (.iload_n 2, 1) := dk_28 (dk_at dksX2_dish_3 8 rfl rfl)
theorem dX2_dish_79 : decode cX2_dish 79 = .ok (.iconst 1, 1) := dk_4 (dk_at dksX2_dish_3 9 rfl rfl)
theorem dX2_dish_80 : decode cX2_dish 80 = .ok (.if_icmp .ne 12, 3) := dk_160 0 12 (dk_at dksX2_dish_3 10 rfl rfl)
theorem dX2_dish_83 : decode cX2_dish 83 = .ok (.aload_n 0, 1) := dk_42 (dk_at dksX2_dish_3 13 rfl rfl)
theorem dX2_dish_84 : decode cX2_dish 84 = .ok (.getfield 16, 3) := dk_180 0 16 (dk_at dksX2_dish_3 14 rfl rfl)
theorem dX2_dish_87 : decode cX2_dish 87 = .ok (.iload_n 1, 1) := dk_27 (dk_at dksX2_dish_3 17 rfl rfl)
theorem dX2_dish_88 : decode cX2_dish 88 = .ok (.iaload, 1) := dk_46 (dk_at dksX2_dish_3 18 rfl rfl)
theorem dX2_dish_89 : decode cX2_dish 89 = .ok (.goto 53, 3) := dk_167 0 53 (dk_at dksX2_dish_3 19 rfl rfl)
theorem dX2_dish_92 : decode cX2_dish 92 = .ok (.iload_n 2, 1) := dk_28 (dk_at dksX2_dish_3 22 rfl rfl)
theorem dX2_dish_93 : decode cX2_dish 93 = .ok (.iconst 2, 1) := dk_5 (dk_at dksX2_dish_3 23 rfl rfl)
theorem dX2_dish_94 : decode cX2_dish 94 = .ok (.if_icmp .ne 20, 3) := dk_160 0 20 (dk_at dksX2_dish_4 0 rfl rfl)
theorem dX2_dish_97 : decode cX2_dish 97 = .ok (.aload_n 0, 1) := dk_42 (dk_at dksX2_dish_4 3 rfl rfl)
theorem dX2_dish_98 : decode cX2_dish 98 = .ok (.getfield 19, 3) := dk_180 0 19 (dk_at dksX2_dish_4 4 rfl rfl)
theorem dX2_dish_101 : decode cX2_dish 101 = .ok (.iload_n 1, 1) := dk_27 (dk_at dksX2_dish_4 7 rfl rfl)
theorem dX2_dish_102 : decode cX2_dish 102 = .ok (.baload, 1) := dk_51 (dk_at dksX2_dish_4 8 rfl rfl)
theorem dX2_dish_103 : decode cX2_dish 103 = .ok (.ifCond .eq 7, 3) := dk_153 0 7 (dk_at dksX2_dish_4 9 rfl rfl)
theorem dX2_dish_106 : decode cX2_dish 106 = .ok (.iconst 1, 1) := dk_4 (dk_at dksX2_dish_4 12 rfl rfl)
theorem dX2_dish_107 : decode cX2_dish 107 = .ok (.goto 35, 3) := dk_167 0 35 (dk_at dksX2_dish_4 13 rfl rfl)
theorem dX2_dish_110 : decode cX2_dish 110 = .ok (.iconst 0, 1) := dk_3 (dk_at dksX2_dish_4 16 rfl rfl)
theorem dX2_dish_111 : decode cX2_dish 111 = .ok (.goto 31, 3) := dk_167 0 31 (dk_at dksX2_dish_4 17 rfl rfl)
theorem dX2_dish_114 : decode cX2_dish 114 = .ok (.iload_n 2, 1) := dk_28 (dk_at dksX2_dish_4 20 rfl rfl)
theorem dX2_dish_115 : decode cX2_dish 115 = .ok (.iconst 3, 1) := dk_6 (dk_at dksX2_dish_4 21 rfl rfl)
theorem dX2_dish_116 : decode cX2_dish 116 = .ok (.if_icmp .ne 12, 3) := dk_160 0 12 (dk_at dksX2_dish_5 0 rfl rfl)
theorem dX2_dish_119 : decode cX2_dish 119 = .ok (.aload_n 0, 1) := dk_42 (dk_at dksX2_dish_5 3 rfl rfl)
theorem dX2_dish_120 : decode cX2_dish 120 = .ok (.getfield 23, 3) := dk_180 0 23 (dk_at dksX2_dish_5 4 rfl rfl)
theorem dX2_dish_123 : decode cX2_dish 123 = .ok (.iload_n 1, 1) := dk_27 (dk_at dksX2_dish_5 7 rfl rfl)
theorem dX2_dish_124 : decode cX2_dish 124 = .ok (.iaload, 1) := dk_46 (dk_at dksX2_dish_5 8 rfl rfl)
theorem dX2_dish_125 : decode cX2_dish 125 = .ok (.goto 17, 3) := dk_167 0 17 (dk_at dksX2_dish_5 9 rfl rfl)
theorem dX2_dish_128 : decode cX2_dish 128 = .ok (.iload_n 2, 1) := dk_28 (dk_at dksX2_dish_5 12 rfl rfl)
theorem dX2_dish_129 : decode cX2_dish 129 = .ok (.iconst 4, 1) := dk_7 (dk_at dksX2_dish_5 13 rfl rfl)
theorem dX2_dish_130 : decode cX2_dish 130 = .ok (.if_icmp .ne 11, 3) := dk_160 0 11 (dk_at dksX2_dish_5 14 rfl rfl)
theorem dX2_dish_133 : decode cX2_dish 133 = .ok (.aload_n 0, 1) := dk_42 (dk_at dksX2_dish_5 17 rfl rfl)
theorem dX2_dish_134 : decode cX2_dish 134 = .ok (.iload_n 1, 1) := dk_27 (dk_at dksX2_dish_5 18 rfl rfl)
theorem dX2_dish_135 : decode cX2_dish 135 = .ok (.invokevirtual 227, 3) := dk_182 0 227 (dk_at dksX2_dish_5 19 rfl rfl)
theorem dX2_dish_138 : decode cX2_dish 138 = .ok (.goto 4, 3) := dk_167 0 4 (dk_at dksX2_dish_6 0 rfl rfl)
theorem dX2_dish_141 : decode cX2_dish 141 = .ok (.iload_n 3, 1) := dk_29 (dk_at dksX2_dish_6 3 rfl rfl)
theorem dX2_dish_142 : decode cX2_dish 142 = .ok (.ireturn, 1) := dk_172 (dk_at dksX2_dish_6 4 rfl rfl)
abbrev cX2_isDish : ByteArray := prog_8_method_7_code
def yX2_isDish : MethodName := ⟨RX2, "isDish", "(I)Z"⟩
def dkwX2_isDish_0 : List UInt8 := [27, 3, 42, 180, 0, 116, 4, 100, 184, 0, 119, 172]
abbrev dktX2_isDish_0 : List UInt8 := dkwX2_isDish_0 ++ []
theorem dksX2_isDish_0 : cX2_isDish.data.toList.drop 0 = dktX2_isDish_0 := by decide +kernel
theorem dX2_isDish_0 : decode cX2_isDish 0 = .ok (.iload_n 1, 1) := dk_27 (dk_at dksX2_isDish_0 0 rfl rfl)
theorem dX2_isDish_1 : decode cX2_isDish 1 = .ok (.iconst 0, 1) := dk_3 (dk_at dksX2_isDish_0 1 rfl rfl)
theorem dX2_isDish_2 : decode cX2_isDish 2 = .ok (.aload_n 0, 1) := dk_42 (dk_at dksX2_isDish_0 2 rfl rfl)
theorem dX2_isDish_3 : decode cX2_isDish 3 = .ok (.getfield 116, 3) := dk_180 0 116 (dk_at dksX2_isDish_0 3 rfl rfl)
theorem dX2_isDish_6 : decode cX2_isDish 6 = .ok (.iconst 1, 1) := dk_4 (dk_at dksX2_isDish_0 6 rfl rfl)
theorem dX2_isDish_7 : decode cX2_isDish 7 = .ok (.isub, 1) := dk_100 (dk_at dksX2_isDish_0 7 rfl rfl)
theorem dX2_isDish_8 : decode cX2_isDish 8 = .ok (.invokestatic 119, 3) := dk_184 0 119 (dk_at dksX2_isDish_0 8 rfl rfl)
theorem dX2_isDish_11 : decode cX2_isDish 11 = .ok (.ireturn, 1) := dk_172 (dk_at dksX2_isDish_0 11 rfl rfl)
abbrev cX2_lost : ByteArray := prog_8_method_5_code
def yX2_lost : MethodName := ⟨RX2, "lost", "()I"⟩
def dkwX2_lost_0 : List UInt8 := [42, 4, 181, 0, 110, 3, 172]
abbrev dktX2_lost_0 : List UInt8 := dkwX2_lost_0 ++ []
theorem dksX2_lost_0 : cX2_lost.data.toList.drop 0 = dktX2_lost_0 := by decide +kernel
theorem dX2_lost_0 : decode cX2_lost 0 = .ok (.aload_n 0, 1) := dk_42 (dk_at dksX2_lost_0 0 rfl rfl)
theorem dX2_lost_1 : decode cX2_lost 1 = .ok (.iconst 1, 1) := dk_4 (dk_at dksX2_lost_0 1 rfl rfl)
theorem dX2_lost_2 : decode cX2_lost 2 = .ok (.putfield 110, 3) := dk_181 0 110 (dk_at dksX2_lost_0 2 rfl rfl)
theorem dX2_lost_5 : decode cX2_lost 5 = .ok (.iconst 0, 1) := dk_3 (dk_at dksX2_lost_0 5 rfl rfl)
theorem dX2_lost_6 : decode cX2_lost 6 = .ok (.ireturn, 1) := dk_172 (dk_at dksX2_lost_0 6 rfl rfl)
abbrev cX2_isHungry : ByteArray := prog_8_method_28_code
def yX2_isHungry : MethodName := ⟨RX2, "isHungry", "(II)Z"⟩
def dkwX2_isHungry_0 : List UInt8 := [42, 180, 0, 13, 28, 46, 42, 180, 0, 29, 27, 46, 126, 153, 0, 7, 4, 167, 0, 4, 3, 172]
abbrev dktX2_isHungry_0 : List UInt8 := dkwX2_isHungry_0 ++ []
theorem dksX2_isHungry_0 : cX2_isHungry.data.toList.drop 0 = dktX2_isHungry_0 := by decide +kernel
theorem dX2_isHungry_0 : decode cX2_isHungry 0 = .ok (.aload_n 0, 1) := dk_42 (dk_at dksX2_isHungry_0 0 rfl rfl)
theorem dX2_isHungry_1 : decode cX2_isHungry 1 = .ok (.getfield 13, 3) := dk_180 0 13 (dk_at dksX2_isHungry_0 1 rfl rfl)
theorem dX2_isHungry_4 : decode cX2_isHungry 4 = .ok (.iload_n 2, 1) := dk_28 (dk_at dksX2_isHungry_0 4 rfl rfl)
theorem dX2_isHungry_5 : decode cX2_isHungry 5 = .ok (.iaload, 1) := dk_46 (dk_at dksX2_isHungry_0 5 rfl rfl)
theorem dX2_isHungry_6 : decode cX2_isHungry 6 = .ok (.aload_n 0, 1) := dk_42 (dk_at dksX2_isHungry_0 6 rfl rfl)
theorem dX2_isHungry_7 : decode cX2_isHungry 7 = .ok (.getfield 29, 3) := dk_180 0 29 (dk_at dksX2_isHungry_0 7 rfl rfl)
theorem dX2_isHungry_10 : decode cX2_isHungry 10 = .ok (.iload_n 1, 1) := dk_27 (dk_at dksX2_isHungry_0 10 rfl rfl)
theorem dX2_isHungry_11 : decode cX2_isHungry 11 = .ok (.iaload, 1) := dk_46 (dk_at dksX2_isHungry_0 11 rfl rfl)
theorem dX2_isHungry_12 : decode cX2_isHungry 12 = .ok (.iand, 1) := dk_126 (dk_at dksX2_isHungry_0 12 rfl rfl)
theorem dX2_isHungry_13 : decode cX2_isHungry 13 = .ok (.ifCond .eq 7, 3) := dk_153 0 7 (dk_at dksX2_isHungry_0 13 rfl rfl)
theorem dX2_isHungry_16 : decode cX2_isHungry 16 = .ok (.iconst 1, 1) := dk_4 (dk_at dksX2_isHungry_0 16 rfl rfl)
theorem dX2_isHungry_17 : decode cX2_isHungry 17 = .ok (.goto 4, 3) := dk_167 0 4 (dk_at dksX2_isHungry_0 17 rfl rfl)
theorem dX2_isHungry_20 : decode cX2_isHungry 20 = .ok (.iconst 0, 1) := dk_3 (dk_at dksX2_isHungry_0 20 rfl rfl)
theorem dX2_isHungry_21 : decode cX2_isHungry 21 = .ok (.ireturn, 1) := dk_172 (dk_at dksX2_isHungry_0 21 rfl rfl)
abbrev cX2_joyOfAll : ByteArray := prog_8_method_27_code
def yX2_joyOfAll : MethodName := ⟨RX2, "joyOfAll", "(I)I"⟩
def dkwX2_joyOfAll_1 : List UInt8 := [167, 255, 236, 28, 172]
abbrev dktX2_joyOfAll_1 : List UInt8 := dkwX2_joyOfAll_1 ++ []
def dkwX2_joyOfAll_0 : List UInt8 := [3, 61, 3, 62, 29, 42, 180, 0, 123, 162, 0, 18, 28, 42, 29, 27, 182, 0, 213, 96, 61, 132, 3, 1]
abbrev dktX2_joyOfAll_0 : List UInt8 := dkwX2_joyOfAll_0 ++ dktX2_joyOfAll_1
theorem dksX2_joyOfAll_0 : cX2_joyOfAll.data.toList.drop 0 = dktX2_joyOfAll_0 := by decide +kernel
theorem dksX2_joyOfAll_1 : cX2_joyOfAll.data.toList.drop 24 = dktX2_joyOfAll_1 := dk_seg dksX2_joyOfAll_0 24 rfl rfl
theorem dX2_joyOfAll_0 : decode cX2_joyOfAll 0 = .ok (.iconst 0, 1) := dk_3 (dk_at dksX2_joyOfAll_0 0 rfl rfl)
theorem dX2_joyOfAll_1 : decode cX2_joyOfAll 1 = .ok (.istore_n 2, 1) := dk_61 (dk_at dksX2_joyOfAll_0 1 rfl rfl)
theorem dX2_joyOfAll_2 : decode cX2_joyOfAll 2 = .ok (.iconst 0, 1) := dk_3 (dk_at dksX2_joyOfAll_0 2 rfl rfl)
theorem dX2_joyOfAll_3 : decode cX2_joyOfAll 3 = .ok (.istore_n 3, 1) := dk_62 (dk_at dksX2_joyOfAll_0 3 rfl rfl)
theorem dX2_joyOfAll_4 : decode cX2_joyOfAll 4 = .ok (.iload_n 3, 1) := dk_29 (dk_at dksX2_joyOfAll_0 4 rfl rfl)
theorem dX2_joyOfAll_5 : decode cX2_joyOfAll 5 = .ok (.aload_n 0, 1) := dk_42 (dk_at dksX2_joyOfAll_0 5 rfl rfl)
theorem dX2_joyOfAll_6 : decode cX2_joyOfAll 6 = .ok (.getfield 123, 3) := dk_180 0 123 (dk_at dksX2_joyOfAll_0 6 rfl rfl)
theorem dX2_joyOfAll_9 : decode cX2_joyOfAll 9 = .ok (.if_icmp .ge 18, 3) := dk_162 0 18 (dk_at dksX2_joyOfAll_0 9 rfl rfl)
theorem dX2_joyOfAll_12 : decode cX2_joyOfAll 12 = .ok (.iload_n 2, 1) := dk_28 (dk_at dksX2_joyOfAll_0 12 rfl rfl)
theorem dX2_joyOfAll_13 : decode cX2_joyOfAll 13 = .ok (.aload_n 0, 1) := dk_42 (dk_at dksX2_joyOfAll_0 13 rfl rfl)
theorem dX2_joyOfAll_14 : decode cX2_joyOfAll 14 = .ok (.iload_n 3, 1) := dk_29 (dk_at dksX2_joyOfAll_0 14 rfl rfl)
theorem dX2_joyOfAll_15 : decode cX2_joyOfAll 15 = .ok (.iload_n 1, 1) := dk_27 (dk_at dksX2_joyOfAll_0 15 rfl rfl)
theorem dX2_joyOfAll_16 : decode cX2_joyOfAll 16 = .ok (.invokevirtual 213, 3) := dk_182 0 213 (dk_at dksX2_joyOfAll_0 16 rfl rfl)
theorem dX2_joyOfAll_19 : decode cX2_joyOfAll 19 = .ok (.iadd, 1) := dk_96 (dk_at dksX2_joyOfAll_0 19 rfl rfl)
theorem dX2_joyOfAll_20 : decode cX2_joyOfAll 20 = .ok (.istore_n 2, 1) := dk_61 (dk_at dksX2_joyOfAll_0 20 rfl rfl)
theorem dX2_joyOfAll_21 : decode cX2_joyOfAll 21 = .ok (.iinc 3 1, 3) := dk_132 3 1 (dk_at dksX2_joyOfAll_0 21 rfl rfl)
theorem dX2_joyOfAll_24 : decode cX2_joyOfAll 24 = .ok (.goto (-20), 3) := dk_167 255 236 (dk_at dksX2_joyOfAll_1 0 rfl rfl)
theorem dX2_joyOfAll_27 : decode cX2_joyOfAll 27 = .ok (.iload_n 2, 1) := dk_28 (dk_at dksX2_joyOfAll_1 3 rfl rfl)
theorem dX2_joyOfAll_28 : decode cX2_joyOfAll 28 = .ok (.ireturn, 1) := dk_172 (dk_at dksX2_joyOfAll_1 4 rfl rfl)
abbrev cX2_joyOf : ByteArray := prog_8_method_26_code
def yX2_joyOf : MethodName := ⟨RX2, "joyOf", "(II)I"⟩
def dkwX2_joyOf_2 : List UInt8 := [17, 252, 25, 17, 3, 231, 42, 3, 182, 0, 187, 184, 0, 204, 184, 0, 210, 172]
abbrev dktX2_joyOf_2 : List UInt8 := dkwX2_joyOf_2 ++ []
def dkwX2_joyOf_1 : List UInt8 := [42, 42, 180, 0, 55, 42, 180, 0, 201, 16, 40, 182, 0, 156, 42, 27, 181, 0, 58, 42, 28, 181, 0, 193]
abbrev dktX2_joyOf_1 : List UInt8 := dkwX2_joyOf_1 ++ dktX2_joyOf_2
def dkwX2_joyOf_0 : List UInt8 := [42, 180, 0, 201, 154, 0, 20, 42, 180, 0, 13, 28, 46, 42, 180, 0, 26, 27, 46, 126, 184, 0, 196, 172]
abbrev dktX2_joyOf_0 : List UInt8 := dkwX2_joyOf_0 ++ dktX2_joyOf_1
theorem dksX2_joyOf_0 : cX2_joyOf.data.toList.drop 0 = dktX2_joyOf_0 := by decide +kernel
theorem dksX2_joyOf_1 : cX2_joyOf.data.toList.drop 24 = dktX2_joyOf_1 := dk_seg dksX2_joyOf_0 24 rfl rfl
theorem dksX2_joyOf_2 : cX2_joyOf.data.toList.drop 48 = dktX2_joyOf_2 := dk_seg dksX2_joyOf_1 24 rfl rfl
theorem dX2_joyOf_0 : decode cX2_joyOf 0 = .ok (.aload_n 0, 1) := dk_42 (dk_at dksX2_joyOf_0 0 rfl rfl)
theorem dX2_joyOf_1 : decode cX2_joyOf 1 = .ok (.getfield 201, 3) := dk_180 0 201 (dk_at dksX2_joyOf_0 1 rfl rfl)
theorem dX2_joyOf_4 : decode cX2_joyOf 4 = .ok (.ifCond .ne 20, 3) := dk_154 0 20 (dk_at dksX2_joyOf_0 4 rfl rfl)
theorem dX2_joyOf_7 : decode cX2_joyOf 7 = .ok (.aload_n 0, 1) := dk_42 (dk_at dksX2_joyOf_0 7 rfl rfl)
theorem dX2_joyOf_8 : decode cX2_joyOf 8 = .ok (.getfield 13, 3) := dk_180 0 13 (dk_at dksX2_joyOf_0 8 rfl rfl)
theorem dX2_joyOf_11 : decode cX2_joyOf 11 = .ok (.iload_n 2, 1) := dk_28 (dk_at dksX2_joyOf_0 11 rfl rfl)
theorem dX2_joyOf_12 : decode cX2_joyOf 12 = .ok (.iaload, 1) := dk_46 (dk_at dksX2_joyOf_0 12 rfl rfl)
theorem dX2_joyOf_13 : decode cX2_joyOf 13 = .ok (.aload_n 0, 1) := dk_42 (dk_at dksX2_joyOf_0 13 rfl rfl)
theorem dX2_joyOf_14 : decode cX2_joyOf 14 = .ok (.getfield 26, 3) := dk_180 0 26 (dk_at dksX2_joyOf_0 14 rfl rfl)
theorem dX2_joyOf_17 : decode cX2_joyOf 17 = .ok (.iload_n 1, 1) := dk_27 (dk_at dksX2_joyOf_0 17 rfl rfl)
theorem dX2_joyOf_18 : decode cX2_joyOf 18 = .ok (.iaload, 1) := dk_46 (dk_at dksX2_joyOf_0 18 rfl rfl)
theorem dX2_joyOf_19 : decode cX2_joyOf 19 = .ok (.iand, 1) := dk_126 (dk_at dksX2_joyOf_0 19 rfl rfl)
theorem dX2_joyOf_20 : decode cX2_joyOf 20 = .ok (.invokestatic 196, 3) := dk_184 0 196 (dk_at dksX2_joyOf_0 20 rfl rfl)
theorem dX2_joyOf_23 : decode cX2_joyOf 23 = .ok (.ireturn, 1) := dk_172 (dk_at dksX2_joyOf_0 23 rfl rfl)
theorem dX2_joyOf_24 : decode cX2_joyOf 24 = .ok (.aload_n 0, 1) := dk_42 (dk_at dksX2_joyOf_1 0 rfl rfl)
theorem dX2_joyOf_25 : decode cX2_joyOf 25 = .ok (.aload_n 0, 1) := dk_42 (dk_at dksX2_joyOf_1 1 rfl rfl)
theorem dX2_joyOf_26 : decode cX2_joyOf 26 = .ok (.getfield 55, 3) := dk_180 0 55 (dk_at dksX2_joyOf_1 2 rfl rfl)
theorem dX2_joyOf_29 : decode cX2_joyOf 29 = .ok (.aload_n 0, 1) := dk_42 (dk_at dksX2_joyOf_1 5 rfl rfl)
theorem dX2_joyOf_30 : decode cX2_joyOf 30 = .ok (.getfield 201, 3) := dk_180 0 201 (dk_at dksX2_joyOf_1 6 rfl rfl)
theorem dX2_joyOf_33 : decode cX2_joyOf 33 = .ok (.bipush 40, 2) := dk_16 40 (dk_at dksX2_joyOf_1 9 rfl rfl)
theorem dX2_joyOf_35 : decode cX2_joyOf 35 = .ok (.invokevirtual 156, 3) := dk_182 0 156 (dk_at dksX2_joyOf_1 11 rfl rfl)
theorem dX2_joyOf_38 : decode cX2_joyOf 38 = .ok (.aload_n 0, 1) := dk_42 (dk_at dksX2_joyOf_1 14 rfl rfl)
theorem dX2_joyOf_39 : decode cX2_joyOf 39 = .ok (.iload_n 1, 1) := dk_27 (dk_at dksX2_joyOf_1 15 rfl rfl)
theorem dX2_joyOf_40 : decode cX2_joyOf 40 = .ok (.putfield 58, 3) := dk_181 0 58 (dk_at dksX2_joyOf_1 16 rfl rfl)
theorem dX2_joyOf_43 : decode cX2_joyOf 43 = .ok (.aload_n 0, 1) := dk_42 (dk_at dksX2_joyOf_1 19 rfl rfl)
theorem dX2_joyOf_44 : decode cX2_joyOf 44 = .ok (.iload_n 2, 1) := dk_28 (dk_at dksX2_joyOf_1 20 rfl rfl)
theorem dX2_joyOf_45 : decode cX2_joyOf 45 = .ok (.putfield 193, 3) := dk_181 0 193 (dk_at dksX2_joyOf_1 21 rfl rfl)
theorem dX2_joyOf_48 : decode cX2_joyOf 48 = .ok (.sipush (-999), 3) := dk_17 252 25 (dk_at dksX2_joyOf_2 0 rfl rfl)
theorem dX2_joyOf_51 : decode cX2_joyOf 51 = .ok (.sipush 999, 3) := dk_17 3 231 (dk_at dksX2_joyOf_2 3 rfl rfl)
theorem dX2_joyOf_54 : decode cX2_joyOf 54 = .ok (.aload_n 0, 1) := dk_42 (dk_at dksX2_joyOf_2 6 rfl rfl)
theorem dX2_joyOf_55 : decode cX2_joyOf 55 = .ok (.iconst 0, 1) := dk_3 (dk_at dksX2_joyOf_2 7 rfl rfl)
theorem dX2_joyOf_56 : decode cX2_joyOf 56 = .ok (.invokevirtual 187, 3) := dk_182 0 187 (dk_at dksX2_joyOf_2 8 rfl rfl)
theorem dX2_joyOf_59 : decode cX2_joyOf 59 = .ok (.invokestatic 204, 3) := dk_184 0 204 (dk_at dksX2_joyOf_2 11 rfl rfl)
theorem dX2_joyOf_62 : decode cX2_joyOf 62 = .ok (.invokestatic 210, 3) := dk_184 0 210 (dk_at dksX2_joyOf_2 14 rfl rfl)
theorem dX2_joyOf_65 : decode cX2_joyOf 65 = .ok (.ireturn, 1) := dk_172 (dk_at dksX2_joyOf_2 17 rfl rfl)
abbrev cX2_guest : ByteArray := prog_8_method_30_code
def yX2_guest : MethodName := ⟨RX2, "guest", "(II)I"⟩
def dkwX2_guest_1 : List UInt8 := [182, 0, 220, 172, 28, 154, 0, 12, 42, 180, 0, 26, 27, 46, 167, 0, 9, 42, 180, 0, 29, 27, 46, 172]
abbrev dktX2_guest_1 : List UInt8 := dkwX2_guest_1 ++ []
def dkwX2_guest_0 : List UInt8 := [42, 3, 181, 0, 110, 42, 27, 182, 0, 230, 153, 0, 12, 28, 3, 4, 184, 0, 119, 154, 0, 8, 42]
abbrev dktX2_guest_0 : List UInt8 := dkwX2_guest_0 ++ dktX2_guest_1
theorem dksX2_guest_0 : cX2_guest.data.toList.drop 0 = dktX2_guest_0 := by decide +kernel
theorem dksX2_guest_1 : cX2_guest.data.toList.drop 23 = dktX2_guest_1 := dk_seg dksX2_guest_0 23 rfl rfl
theorem dX2_guest_0 : decode cX2_guest 0 = .ok (.aload_n 0, 1) := dk_42 (dk_at dksX2_guest_0 0 rfl rfl)
theorem dX2_guest_1 : decode cX2_guest 1 = .ok (.iconst 0, 1) := dk_3 (dk_at dksX2_guest_0 1 rfl rfl)
theorem dX2_guest_2 : decode cX2_guest 2 = .ok (.putfield 110, 3) := dk_181 0 110 (dk_at dksX2_guest_0 2 rfl rfl)
theorem dX2_guest_5 : decode cX2_guest 5 = .ok (.aload_n 0, 1) := dk_42 (dk_at dksX2_guest_0 5 rfl rfl)
theorem dX2_guest_6 : decode cX2_guest 6 = .ok (.iload_n 1, 1) := dk_27 (dk_at dksX2_guest_0 6 rfl rfl)
theorem dX2_guest_7 : decode cX2_guest 7 = .ok (.invokevirtual 230, 3) := dk_182 0 230 (dk_at dksX2_guest_0 7 rfl rfl)
theorem dX2_guest_10 : decode cX2_guest 10 = .ok (.ifCond .eq 12, 3) := dk_153 0 12 (dk_at dksX2_guest_0 10 rfl rfl)
theorem dX2_guest_13 : decode cX2_guest 13 = .ok (.iload_n 2, 1) := dk_28 (dk_at dksX2_guest_0 13 rfl rfl)
theorem dX2_guest_14 : decode cX2_guest 14 = .ok (.iconst 0, 1) := dk_3 (dk_at dksX2_guest_0 14 rfl rfl)
theorem dX2_guest_15 : decode cX2_guest 15 = .ok (.iconst 1, 1) := dk_4 (dk_at dksX2_guest_0 15 rfl rfl)
theorem dX2_guest_16 : decode cX2_guest 16 = .ok (.invokestatic 119, 3) := dk_184 0 119 (dk_at dksX2_guest_0 16 rfl rfl)
theorem dX2_guest_19 : decode cX2_guest 19 = .ok (.ifCond .ne 8, 3) := dk_154 0 8 (dk_at dksX2_guest_0 19 rfl rfl)
theorem dX2_guest_22 : decode cX2_guest 22 = .ok (.aload_n 0, 1) := dk_42 (dk_at dksX2_guest_0 22 rfl rfl)
theorem dX2_guest_23 : decode cX2_guest 23 = .ok (.invokevirtual 220, 3) := dk_182 0 220 (dk_at dksX2_guest_1 0 rfl rfl)
theorem dX2_guest_26 : decode cX2_guest 26 = .ok (.ireturn, 1) := dk_172 (dk_at dksX2_guest_1 3 rfl rfl)
theorem dX2_guest_27 : decode cX2_guest 27 = .ok (.iload_n 2, 1) := dk_28 (dk_at dksX2_guest_1 4 rfl rfl)
theorem dX2_guest_28 : decode cX2_guest 28 = .ok (.ifCond .ne 12, 3) := dk_154 0 12 (dk_at dksX2_guest_1 5 rfl rfl)
theorem dX2_guest_31 : decode cX2_guest 31 = .ok (.aload_n 0, 1) := dk_42 (dk_at dksX2_guest_1 8 rfl rfl)
theorem dX2_guest_32 : decode cX2_guest 32 = .ok (.getfield 26, 3) := dk_180 0 26 (dk_at dksX2_guest_1 9 rfl rfl)
theorem dX2_guest_35 : decode cX2_guest 35 = .ok (.iload_n 1, 1) := dk_27 (dk_at dksX2_guest_1 12 rfl rfl)
theorem dX2_guest_36 : decode cX2_guest 36 = .ok (.iaload, 1) := dk_46 (dk_at dksX2_guest_1 13 rfl rfl)
theorem dX2_guest_37 : decode cX2_guest 37 = .ok (.goto 9, 3) := dk_167 0 9 (dk_at dksX2_guest_1 14 rfl rfl)
theorem dX2_guest_40 : decode cX2_guest 40 = .ok (.aload_n 0, 1) := dk_42 (dk_at dksX2_guest_1 17 rfl rfl)
theorem dX2_guest_41 : decode cX2_guest 41 = .ok (.getfield 29, 3) := dk_180 0 29 (dk_at dksX2_guest_1 18 rfl rfl)
theorem dX2_guest_44 : decode cX2_guest 44 = .ok (.iload_n 1, 1) := dk_27 (dk_at dksX2_guest_1 21 rfl rfl)
theorem dX2_guest_45 : decode cX2_guest 45 = .ok (.iaload, 1) := dk_46 (dk_at dksX2_guest_1 22 rfl rfl)
theorem dX2_guest_46 : decode cX2_guest 46 = .ok (.ireturn, 1) := dk_172 (dk_at dksX2_guest_1 23 rfl rfl)
abbrev cX2_isGuest : ByteArray := prog_8_method_8_code
def yX2_isGuest : MethodName := ⟨RX2, "isGuest", "(I)Z"⟩
def dkwX2_isGuest_0 : List UInt8 := [27, 3, 42, 180, 0, 123, 4, 100, 184, 0, 119, 172]
abbrev dktX2_isGuest_0 : List UInt8 := dkwX2_isGuest_0 ++ []
theorem dksX2_isGuest_0 : cX2_isGuest.data.toList.drop 0 = dktX2_isGuest_0 := by decide +kernel
theorem dX2_isGuest_0 : decode cX2_isGuest 0 = .ok (.iload_n 1, 1) := dk_27 (dk_at dksX2_isGuest_0 0 rfl rfl)
theorem dX2_isGuest_1 : decode cX2_isGuest 1 = .ok (.iconst 0, 1) := dk_3 (dk_at dksX2_isGuest_0 1 rfl rfl)
theorem dX2_isGuest_2 : decode cX2_isGuest 2 = .ok (.aload_n 0, 1) := dk_42 (dk_at dksX2_isGuest_0 2 rfl rfl)
theorem dX2_isGuest_3 : decode cX2_isGuest 3 = .ok (.getfield 123, 3) := dk_180 0 123 (dk_at dksX2_isGuest_0 3 rfl rfl)
theorem dX2_isGuest_6 : decode cX2_isGuest 6 = .ok (.iconst 1, 1) := dk_4 (dk_at dksX2_isGuest_0 6 rfl rfl)
theorem dX2_isGuest_7 : decode cX2_isGuest 7 = .ok (.isub, 1) := dk_100 (dk_at dksX2_isGuest_0 7 rfl rfl)
theorem dX2_isGuest_8 : decode cX2_isGuest 8 = .ok (.invokestatic 119, 3) := dk_184 0 119 (dk_at dksX2_isGuest_0 8 rfl rfl)
theorem dX2_isGuest_11 : decode cX2_isGuest 11 = .ok (.ireturn, 1) := dk_172 (dk_at dksX2_isGuest_0 11 rfl rfl)
abbrev cX2_joy : ByteArray := prog_8_method_31_code
def yX2_joy : MethodName := ⟨RX2, "joy", "(II)I"⟩
def dkwX2_joy_1 : List UInt8 := [182, 0, 213, 167, 0, 7, 42, 182, 0, 220, 172]
abbrev dktX2_joy_1 : List UInt8 := dkwX2_joy_1 ++ []
def dkwX2_joy_0 : List UInt8 := [42, 3, 181, 0, 110, 42, 27, 182, 0, 230, 153, 0, 20, 42, 28, 182, 0, 216, 153, 0, 12, 42, 27, 28]
abbrev dktX2_joy_0 : List UInt8 := dkwX2_joy_0 ++ dktX2_joy_1
theorem dksX2_joy_0 : cX2_joy.data.toList.drop 0 = dktX2_joy_0 := by decide +kernel
theorem dksX2_joy_1 : cX2_joy.data.toList.drop 24 = dktX2_joy_1 := dk_seg dksX2_joy_0 24 rfl rfl
theorem dX2_joy_0 : decode cX2_joy 0 = .ok (.aload_n 0, 1) := dk_42 (dk_at dksX2_joy_0 0 rfl rfl)
theorem dX2_joy_1 : decode cX2_joy 1 = .ok (.iconst 0, 1) := dk_3 (dk_at dksX2_joy_0 1 rfl rfl)
theorem dX2_joy_2 : decode cX2_joy 2 = .ok (.putfield 110, 3) := dk_181 0 110 (dk_at dksX2_joy_0 2 rfl rfl)
theorem dX2_joy_5 : decode cX2_joy 5 = .ok (.aload_n 0, 1) := dk_42 (dk_at dksX2_joy_0 5 rfl rfl)
theorem dX2_joy_6 : decode cX2_joy 6 = .ok (.iload_n 1, 1) := dk_27 (dk_at dksX2_joy_0 6 rfl rfl)
theorem dX2_joy_7 : decode cX2_joy 7 = .ok (.invokevirtual 230, 3) := dk_182 0 230 (dk_at dksX2_joy_0 7 rfl rfl)
theorem dX2_joy_10 : decode cX2_joy 10 = .ok (.ifCond .eq 20, 3) := dk_153 0 20 (dk_at dksX2_joy_0 10 rfl rfl)
theorem dX2_joy_13 : decode cX2_joy 13 = .ok (.aload_n 0, 1) := dk_42 (dk_at dksX2_joy_0 13 rfl rfl)
theorem dX2_joy_14 : decode cX2_joy 14 = .ok (.iload_n 2, 1) := dk_28 (dk_at dksX2_joy_0 14 rfl rfl)
theorem dX2_joy_15 : decode cX2_joy 15 = .ok (.invokevirtual 216, 3) := dk_182 0 216 (dk_at dksX2_joy_0 15 rfl rfl)
theorem dX2_joy_18 : decode cX2_joy 18 = .ok (.ifCond .eq 12, 3) := dk_153 0 12 (dk_at dksX2_joy_0 18 rfl rfl)
theorem dX2_joy_21 : decode cX2_joy 21 = .ok (.aload_n 0, 1) := dk_42 (dk_at dksX2_joy_0 21 rfl rfl)
theorem dX2_joy_22 : decode cX2_joy 22 = .ok (.iload_n 1, 1) := dk_27 (dk_at dksX2_joy_0 22 rfl rfl)
theorem dX2_joy_23 : decode cX2_joy 23 = .ok (.iload_n 2, 1) := dk_28 (dk_at dksX2_joy_0 23 rfl rfl)
theorem dX2_joy_24 : decode cX2_joy 24 = .ok (.invokevirtual 213, 3) := dk_182 0 213 (dk_at dksX2_joy_1 0 rfl rfl)
theorem dX2_joy_27 : decode cX2_joy 27 = .ok (.goto 7, 3) := dk_167 0 7 (dk_at dksX2_joy_1 3 rfl rfl)
theorem dX2_joy_30 : decode cX2_joy 30 = .ok (.aload_n 0, 1) := dk_42 (dk_at dksX2_joy_1 6 rfl rfl)
theorem dX2_joy_31 : decode cX2_joy 31 = .ok (.invokevirtual 220, 3) := dk_182 0 220 (dk_at dksX2_joy_1 7 rfl rfl)
theorem dX2_joy_34 : decode cX2_joy 34 = .ok (.ireturn, 1) := dk_172 (dk_at dksX2_joy_1 10 rfl rfl)
abbrev cX2_law : ByteArray := prog_8_method_33_code
def yX2_law : MethodName := ⟨RX2, "law", "(II)I"⟩
def dkwX2_law_3 : List UInt8 := [181, 0, 236, 29, 172]
abbrev dktX2_law_3 : List UInt8 := dkwX2_law_3 ++ []
def dkwX2_law_2 : List UInt8 := [42, 28, 181, 0, 32, 167, 0, 21, 27, 4, 160, 0, 11, 42, 28, 181, 0, 36, 167, 0, 8, 42, 28]
abbrev dktX2_law_2 : List UInt8 := dkwX2_law_2 ++ dktX2_law_3
def dkwX2_law_1 : List UInt8 := [167, 0, 19, 27, 4, 160, 0, 10, 42, 180, 0, 36, 167, 0, 7, 42, 180, 0, 236, 62, 27, 154, 0, 11]
abbrev dktX2_law_1 : List UInt8 := dkwX2_law_1 ++ dktX2_law_2
def dkwX2_law_0 : List UInt8 := [42, 3, 181, 0, 110, 27, 28, 184, 0, 233, 154, 0, 5, 2, 172, 27, 154, 0, 10, 42, 180, 0, 32]
abbrev dktX2_law_0 : List UInt8 := dkwX2_law_0 ++ dktX2_law_1
theorem dksX2_law_0 : cX2_law.data.toList.drop 0 = dktX2_law_0 := by decide +kernel
theorem dksX2_law_1 : cX2_law.data.toList.drop 23 = dktX2_law_1 := dk_seg dksX2_law_0 23 rfl rfl
theorem dksX2_law_2 : cX2_law.data.toList.drop 47 = dktX2_law_2 := dk_seg dksX2_law_1 24 rfl rfl
theorem dksX2_law_3 : cX2_law.data.toList.drop 70 = dktX2_law_3 := dk_seg dksX2_law_2 23 rfl rfl
theorem dX2_law_0 : decode cX2_law 0 = .ok (.aload_n 0, 1) := dk_42 (dk_at dksX2_law_0 0 rfl rfl)
theorem dX2_law_1 : decode cX2_law 1 = .ok (.iconst 0, 1) := dk_3 (dk_at dksX2_law_0 1 rfl rfl)
theorem dX2_law_2 : decode cX2_law 2 = .ok (.putfield 110, 3) := dk_181 0 110 (dk_at dksX2_law_0 2 rfl rfl)
theorem dX2_law_5 : decode cX2_law 5 = .ok (.iload_n 1, 1) := dk_27 (dk_at dksX2_law_0 5 rfl rfl)
theorem dX2_law_6 : decode cX2_law 6 = .ok (.iload_n 2, 1) := dk_28 (dk_at dksX2_law_0 6 rfl rfl)
theorem dX2_law_7 : decode cX2_law 7 = .ok (.invokestatic 233, 3) := dk_184 0 233 (dk_at dksX2_law_0 7 rfl rfl)
theorem dX2_law_10 : decode cX2_law 10 = .ok (.ifCond .ne 5, 3) := dk_154 0 5 (dk_at dksX2_law_0 10 rfl rfl)
theorem dX2_law_13 : decode cX2_law 13 = .ok (.iconst (-1), 1) := dk_2 (dk_at dksX2_law_0 13 rfl rfl)
theorem dX2_law_14 : decode cX2_law 14 = .ok (.ireturn, 1) := dk_172 (dk_at dksX2_law_0 14 rfl rfl)
theorem dX2_law_15 : decode cX2_law 15 = .ok (.iload_n 1, 1) := dk_27 (dk_at dksX2_law_0 15 rfl rfl)
theorem dX2_law_16 : decode cX2_law 16 = .ok (.ifCond .ne 10, 3) := dk_154 0 10 (dk_at dksX2_law_0 16 rfl rfl)
theorem dX2_law_19 : decode cX2_law 19 = .ok (.aload_n 0, 1) := dk_42 (dk_at dksX2_law_0 19 rfl rfl)
theorem dX2_law_20 : decode cX2_law 20 = .ok (.getfield 32, 3) := dk_180 0 32 (dk_at dksX2_law_0 20 rfl rfl)
theorem dX2_law_23 : decode cX2_law 23 = .ok (.goto 19, 3) := dk_167 0 19 (dk_at dksX2_law_1 0 rfl rfl)
theorem dX2_law_26 : decode cX2_law 26 = .ok (.iload_n 1, 1) := dk_27 (dk_at dksX2_law_1 3 rfl rfl)
theorem dX2_law_27 : decode cX2_law 27 = .ok (.iconst 1, 1) := dk_4 (dk_at dksX2_law_1 4 rfl rfl)
theorem dX2_law_28 : decode cX2_law 28 = .ok (.if_icmp .ne 10, 3) := dk_160 0 10 (dk_at dksX2_law_1 5 rfl rfl)
theorem dX2_law_31 : decode cX2_law 31 = .ok (.aload_n 0, 1) := dk_42 (dk_at dksX2_law_1 8 rfl rfl)
theorem dX2_law_32 : decode cX2_law 32 = .ok (.getfield 36, 3) := dk_180 0 36 (dk_at dksX2_law_1 9 rfl rfl)
theorem dX2_law_35 : decode cX2_law 35 = .ok (.goto 7, 3) := dk_167 0 7 (dk_at dksX2_law_1 12 rfl rfl)
theorem dX2_law_38 : decode cX2_law 38 = .ok (.aload_n 0, 1) := dk_42 (dk_at dksX2_law_1 15 rfl rfl)
theorem dX2_law_39 : decode cX2_law 39 = .ok (.getfield 236, 3) := dk_180 0 236 (dk_at dksX2_law_1 16 rfl rfl)
theorem dX2_law_42 : decode cX2_law 42 = .ok (.istore_n 3, 1) := dk_62 (dk_at dksX2_law_1 19 rfl rfl)
theorem dX2_law_43 : decode cX2_law 43 = .ok (.iload_n 1, 1) := dk_27 (dk_at dksX2_law_1 20 rfl rfl)
theorem dX2_law_44 : decode cX2_law 44 = .ok (.ifCond .ne 11, 3) := dk_154 0 11 (dk_at dksX2_law_1 21 rfl rfl)
theorem dX2_law_47 : decode cX2_law 47 = .ok (.aload_n 0, 1) := dk_42 (dk_at dksX2_law_2 0 rfl rfl)
theorem dX2_law_48 : decode cX2_law 48 = .ok (.iload_n 2, 1) := dk_28 (dk_at dksX2_law_2 1 rfl rfl)
theorem dX2_law_49 : decode cX2_law 49 = .ok (.putfield 32, 3) := dk_181 0 32 (dk_at dksX2_law_2 2 rfl rfl)
theorem dX2_law_52 : decode cX2_law 52 = .ok (.goto 21, 3) := dk_167 0 21 (dk_at dksX2_law_2 5 rfl rfl)
theorem dX2_law_55 : decode cX2_law 55 = .ok (.iload_n 1, 1) := dk_27 (dk_at dksX2_law_2 8 rfl rfl)
theorem dX2_law_56 : decode cX2_law 56 = .ok (.iconst 1, 1) := dk_4 (dk_at dksX2_law_2 9 rfl rfl)
theorem dX2_law_57 : decode cX2_law 57 = .ok (.if_icmp .ne 11, 3) := dk_160 0 11 (dk_at dksX2_law_2 10 rfl rfl)
theorem dX2_law_60 : decode cX2_law 60 = .ok (.aload_n 0, 1) := dk_42 (dk_at dksX2_law_2 13 rfl rfl)
theorem dX2_law_61 : decode cX2_law 61 = .ok (.iload_n 2, 1) := dk_28 (dk_at dksX2_law_2 14 rfl rfl)
theorem dX2_law_62 : decode cX2_law 62 = .ok (.putfield 36, 3) := dk_181 0 36 (dk_at dksX2_law_2 15 rfl rfl)
theorem dX2_law_65 : decode cX2_law 65 = .ok (.goto 8, 3) := dk_167 0 8 (dk_at dksX2_law_2 18 rfl rfl)
theorem dX2_law_68 : decode cX2_law 68 = .ok (.aload_n 0, 1) := dk_42 (dk_at dksX2_law_2 21 rfl rfl)
theorem dX2_law_69 : decode cX2_law 69 = .ok (.iload_n 2, 1) := dk_28 (dk_at dksX2_law_2 22 rfl rfl)
theorem dX2_law_70 : decode cX2_law 70 = .ok (.putfield 236, 3) := dk_181 0 236 (dk_at dksX2_law_3 0 rfl rfl)
theorem dX2_law_73 : decode cX2_law 73 = .ok (.iload_n 3, 1) := dk_29 (dk_at dksX2_law_3 3 rfl rfl)
theorem dX2_law_74 : decode cX2_law 74 = .ok (.ireturn, 1) := dk_172 (dk_at dksX2_law_3 4 rfl rfl)
abbrev cX2_isLaw : ByteArray := prog_8_method_32_code
def yX2_isLaw : MethodName := ⟨RX2, "isLaw", "(II)Z"⟩
def dkwX2_isLaw_2 : List UInt8 := [3, 172]
abbrev dktX2_isLaw_2 : List UInt8 := dkwX2_isLaw_2 ++ []
def dkwX2_isLaw_1 : List UInt8 := [184, 0, 119, 167, 0, 22, 26, 5, 160, 0, 16, 27, 3, 5, 184, 0, 119, 153, 0, 7, 4, 167, 0, 4]
abbrev dktX2_isLaw_1 : List UInt8 := dkwX2_isLaw_1 ++ dktX2_isLaw_2
def dkwX2_isLaw_0 : List UInt8 := [26, 154, 0, 13, 27, 4, 16, 8, 184, 0, 119, 167, 0, 37, 26, 4, 160, 0, 13, 27, 4, 16, 9]
abbrev dktX2_isLaw_0 : List UInt8 := dkwX2_isLaw_0 ++ dktX2_isLaw_1
theorem dksX2_isLaw_0 : cX2_isLaw.data.toList.drop 0 = dktX2_isLaw_0 := by decide +kernel
theorem dksX2_isLaw_1 : cX2_isLaw.data.toList.drop 23 = dktX2_isLaw_1 := dk_seg dksX2_isLaw_0 23 rfl rfl
theorem dksX2_isLaw_2 : cX2_isLaw.data.toList.drop 47 = dktX2_isLaw_2 := dk_seg dksX2_isLaw_1 24 rfl rfl
theorem dX2_isLaw_0 : decode cX2_isLaw 0 = .ok (.iload_n 0, 1) := dk_26 (dk_at dksX2_isLaw_0 0 rfl rfl)
theorem dX2_isLaw_1 : decode cX2_isLaw 1 = .ok (.ifCond .ne 13, 3) := dk_154 0 13 (dk_at dksX2_isLaw_0 1 rfl rfl)
theorem dX2_isLaw_4 : decode cX2_isLaw 4 = .ok (.iload_n 1, 1) := dk_27 (dk_at dksX2_isLaw_0 4 rfl rfl)
theorem dX2_isLaw_5 : decode cX2_isLaw 5 = .ok (.iconst 1, 1) := dk_4 (dk_at dksX2_isLaw_0 5 rfl rfl)
theorem dX2_isLaw_6 : decode cX2_isLaw 6 = .ok (.bipush 8, 2) := dk_16 8 (dk_at dksX2_isLaw_0 6 rfl rfl)
theorem dX2_isLaw_8 : decode cX2_isLaw 8 = .ok (.invokestatic 119, 3) := dk_184 0 119 (dk_at dksX2_isLaw_0 8 rfl rfl)
theorem dX2_isLaw_11 : decode cX2_isLaw 11 = .ok (.goto 37, 3) := dk_167 0 37 (dk_at dksX2_isLaw_0 11 rfl rfl)
theorem dX2_isLaw_14 : decode cX2_isLaw 14 = .ok (.iload_n 0, 1) := dk_26 (dk_at dksX2_isLaw_0 14 rfl rfl)
theorem dX2_isLaw_15 : decode cX2_isLaw 15 = .ok (.iconst 1, 1) := dk_4 (dk_at dksX2_isLaw_0 15 rfl rfl)
theorem dX2_isLaw_16 : decode cX2_isLaw 16 = .ok (.if_icmp .ne 13, 3) := dk_160 0 13 (dk_at dksX2_isLaw_0 16 rfl rfl)
theorem dX2_isLaw_19 : decode cX2_isLaw 19 = .ok (.iload_n 1, 1) := dk_27 (dk_at dksX2_isLaw_0 19 rfl rfl)
theorem dX2_isLaw_20 : decode cX2_isLaw 20 = .ok (.iconst 1, 1) := dk_4 (dk_at dksX2_isLaw_0 20 rfl rfl)
theorem dX2_isLaw_21 : decode cX2_isLaw 21 = .ok (.bipush 9, 2) := dk_16 9 (dk_at dksX2_isLaw_0 21 rfl rfl)
theorem dX2_isLaw_23 : decode cX2_isLaw 23 = .ok (.invokestatic 119, 3) := dk_184 0 119 (dk_at dksX2_isLaw_1 0 rfl rfl)
theorem dX2_isLaw_26 : decode cX2_isLaw 26 = .ok (.goto 22, 3) := dk_167 0 22 (dk_at dksX2_isLaw_1 3 rfl rfl)
theorem dX2_isLaw_29 : decode cX2_isLaw 29 = .ok (.iload_n 0, 1) := dk_26 (dk_at dksX2_isLaw_1 6 rfl rfl)
theorem dX2_isLaw_30 : decode cX2_isLaw 30 = .ok (.iconst 2, 1) := dk_5 (dk_at dksX2_isLaw_1 7 rfl rfl)
theorem dX2_isLaw_31 : decode cX2_isLaw 31 = .ok (.if_icmp .ne 16, 3) := dk_160 0 16 (dk_at dksX2_isLaw_1 8 rfl rfl)
theorem dX2_isLaw_34 : decode cX2_isLaw 34 = .ok (.iload_n 1, 1) := dk_27 (dk_at dksX2_isLaw_1 11 rfl rfl)
theorem dX2_isLaw_35 : decode cX2_isLaw 35 = .ok (.iconst 0, 1) := dk_3 (dk_at dksX2_isLaw_1 12 rfl rfl)
theorem dX2_isLaw_36 : decode cX2_isLaw 36 = .ok (.iconst 2, 1) := dk_5 (dk_at dksX2_isLaw_1 13 rfl rfl)
theorem dX2_isLaw_37 : decode cX2_isLaw 37 = .ok (.invokestatic 119, 3) := dk_184 0 119 (dk_at dksX2_isLaw_1 14 rfl rfl)
theorem dX2_isLaw_40 : decode cX2_isLaw 40 = .ok (.ifCond .eq 7, 3) := dk_153 0 7 (dk_at dksX2_isLaw_1 17 rfl rfl)
theorem dX2_isLaw_43 : decode cX2_isLaw 43 = .ok (.iconst 1, 1) := dk_4 (dk_at dksX2_isLaw_1 20 rfl rfl)
theorem dX2_isLaw_44 : decode cX2_isLaw 44 = .ok (.goto 4, 3) := dk_167 0 4 (dk_at dksX2_isLaw_1 21 rfl rfl)
theorem dX2_isLaw_47 : decode cX2_isLaw 47 = .ok (.iconst 0, 1) := dk_3 (dk_at dksX2_isLaw_2 0 rfl rfl)
theorem dX2_isLaw_48 : decode cX2_isLaw 48 = .ok (.ireturn, 1) := dk_172 (dk_at dksX2_isLaw_2 1 rfl rfl)
abbrev cX2_store : ByteArray := prog_8_method_34_code
def yX2_store : MethodName := ⟨RX2, "store", "(II)I"⟩
def dkwX2_store_1 : List UInt8 := [154, 0, 5, 2, 172, 42, 180, 0, 9, 27, 46, 62, 42, 180, 0, 9, 27, 28, 79, 29, 172]
abbrev dktX2_store_1 : List UInt8 := dkwX2_store_1 ++ []
def dkwX2_store_0 : List UInt8 := [42, 3, 181, 0, 110, 27, 3, 16, 7, 184, 0, 119, 153, 0, 13, 28, 3, 16, 99, 184, 0, 119]
abbrev dktX2_store_0 : List UInt8 := dkwX2_store_0 ++ dktX2_store_1
theorem dksX2_store_0 : cX2_store.data.toList.drop 0 = dktX2_store_0 := by decide +kernel
theorem dksX2_store_1 : cX2_store.data.toList.drop 22 = dktX2_store_1 := dk_seg dksX2_store_0 22 rfl rfl
theorem dX2_store_0 : decode cX2_store 0 = .ok (.aload_n 0, 1) := dk_42 (dk_at dksX2_store_0 0 rfl rfl)
theorem dX2_store_1 : decode cX2_store 1 = .ok (.iconst 0, 1) := dk_3 (dk_at dksX2_store_0 1 rfl rfl)
theorem dX2_store_2 : decode cX2_store 2 = .ok (.putfield 110, 3) := dk_181 0 110 (dk_at dksX2_store_0 2 rfl rfl)
theorem dX2_store_5 : decode cX2_store 5 = .ok (.iload_n 1, 1) := dk_27 (dk_at dksX2_store_0 5 rfl rfl)
theorem dX2_store_6 : decode cX2_store 6 = .ok (.iconst 0, 1) := dk_3 (dk_at dksX2_store_0 6 rfl rfl)
theorem dX2_store_7 : decode cX2_store 7 = .ok (.bipush 7, 2) := dk_16 7 (dk_at dksX2_store_0 7 rfl rfl)
theorem dX2_store_9 : decode cX2_store 9 = .ok (.invokestatic 119, 3) := dk_184 0 119 (dk_at dksX2_store_0 9 rfl rfl)
theorem dX2_store_12 : decode cX2_store 12 = .ok (.ifCond .eq 13, 3) := dk_153 0 13 (dk_at dksX2_store_0 12 rfl rfl)
theorem dX2_store_15 : decode cX2_store 15 = .ok (.iload_n 2, 1) := dk_28 (dk_at dksX2_store_0 15 rfl rfl)
theorem dX2_store_16 : decode cX2_store 16 = .ok (.iconst 0, 1) := dk_3 (dk_at dksX2_store_0 16 rfl rfl)
theorem dX2_store_17 : decode cX2_store 17 = .ok (.bipush 99, 2) := dk_16 99 (dk_at dksX2_store_0 17 rfl rfl)
theorem dX2_store_19 : decode cX2_store 19 = .ok (.invokestatic 119, 3) := dk_184 0 119 (dk_at dksX2_store_0 19 rfl rfl)
theorem dX2_store_22 : decode cX2_store 22 = .ok (.ifCond .ne 5, 3) := dk_154 0 5 (dk_at dksX2_store_1 0 rfl rfl)
theorem dX2_store_25 : decode cX2_store 25 = .ok (.iconst (-1), 1) := dk_2 (dk_at dksX2_store_1 3 rfl rfl)
theorem dX2_store_26 : decode cX2_store 26 = .ok (.ireturn, 1) := dk_172 (dk_at dksX2_store_1 4 rfl rfl)
theorem dX2_store_27 : decode cX2_store 27 = .ok (.aload_n 0, 1) := dk_42 (dk_at dksX2_store_1 5 rfl rfl)
theorem dX2_store_28 : decode cX2_store 28 = .ok (.getfield 9, 3) := dk_180 0 9 (dk_at dksX2_store_1 6 rfl rfl)
theorem dX2_store_31 : decode cX2_store 31 = .ok (.iload_n 1, 1) := dk_27 (dk_at dksX2_store_1 9 rfl rfl)
theorem dX2_store_32 : decode cX2_store 32 = .ok (.iaload, 1) := dk_46 (dk_at dksX2_store_1 10 rfl rfl)
theorem dX2_store_33 : decode cX2_store 33 = .ok (.istore_n 3, 1) := dk_62 (dk_at dksX2_store_1 11 rfl rfl)
theorem dX2_store_34 : decode cX2_store 34 = .ok (.aload_n 0, 1) := dk_42 (dk_at dksX2_store_1 12 rfl rfl)
theorem dX2_store_35 : decode cX2_store 35 = .ok (.getfield 9, 3) := dk_180 0 9 (dk_at dksX2_store_1 13 rfl rfl)
theorem dX2_store_38 : decode cX2_store 38 = .ok (.iload_n 1, 1) := dk_27 (dk_at dksX2_store_1 16 rfl rfl)
theorem dX2_store_39 : decode cX2_store 39 = .ok (.iload_n 2, 1) := dk_28 (dk_at dksX2_store_1 17 rfl rfl)
theorem dX2_store_40 : decode cX2_store 40 = .ok (.iastore, 1) := dk_79 (dk_at dksX2_store_1 18 rfl rfl)
theorem dX2_store_41 : decode cX2_store 41 = .ok (.iload_n 3, 1) := dk_29 (dk_at dksX2_store_1 19 rfl rfl)
theorem dX2_store_42 : decode cX2_store 42 = .ok (.ireturn, 1) := dk_172 (dk_at dksX2_store_1 20 rfl rfl)
abbrev cX2_sheet : ByteArray := prog_8_method_35_code
def yX2_sheet : MethodName := ⟨RX2, "sheet", "(IIII)I"⟩
def dkwX2_sheet_6 : List UInt8 := [167, 0, 5, 21, 5, 172]
abbrev dktX2_sheet_6 : List UInt8 := dkwX2_sheet_6 ++ []
def dkwX2_sheet_5 : List UInt8 := [46, 96, 54, 5, 21, 6, 21, 4, 96, 54, 6, 132, 7, 1, 167, 255, 167, 27, 6, 160, 0, 8, 16, 253]
abbrev dktX2_sheet_5 : List UInt8 := dkwX2_sheet_5 ++ dktX2_sheet_6
def dkwX2_sheet_4 : List UInt8 := [3, 167, 0, 14, 3, 16, 99, 21, 8, 184, 0, 204, 184, 0, 210, 79, 21, 5, 42, 180, 0, 16, 21, 7]
abbrev dktX2_sheet_4 : List UInt8 := dkwX2_sheet_4 ++ dktX2_sheet_5
def dkwX2_sheet_3 : List UInt8 := [167, 0, 5, 21, 6, 54, 8, 42, 180, 0, 16, 21, 7, 27, 6, 159, 0, 9, 21, 7, 28, 161, 0, 7]
abbrev dktX2_sheet_3 : List UInt8 := dkwX2_sheet_3 ++ dktX2_sheet_4
def dkwX2_sheet_2 : List UInt8 := [180, 0, 116, 162, 0, 86, 27, 154, 0, 9, 21, 6, 145, 167, 0, 16, 27, 4, 160, 0, 9, 21, 6, 147]
abbrev dktX2_sheet_2 : List UInt8 := dkwX2_sheet_2 ++ dktX2_sheet_3
def dkwX2_sheet_1 : List UInt8 := [162, 0, 10, 28, 156, 0, 6, 16, 254, 172, 3, 54, 5, 29, 54, 6, 3, 54, 7, 21, 7, 42]
abbrev dktX2_sheet_1 : List UInt8 := dkwX2_sheet_1 ++ dktX2_sheet_2
def dkwX2_sheet_0 : List UInt8 := [42, 3, 181, 0, 110, 27, 3, 6, 184, 0, 119, 153, 0, 9, 28, 16, 10, 164, 0, 5, 2, 172, 27, 6]
abbrev dktX2_sheet_0 : List UInt8 := dkwX2_sheet_0 ++ dktX2_sheet_1
theorem dksX2_sheet_0 : cX2_sheet.data.toList.drop 0 = dktX2_sheet_0 := by decide +kernel
theorem dksX2_sheet_1 : cX2_sheet.data.toList.drop 24 = dktX2_sheet_1 := dk_seg dksX2_sheet_0 24 rfl rfl
theorem dksX2_sheet_2 : cX2_sheet.data.toList.drop 46 = dktX2_sheet_2 := dk_seg dksX2_sheet_1 22 rfl rfl
theorem dksX2_sheet_3 : cX2_sheet.data.toList.drop 70 = dktX2_sheet_3 := dk_seg dksX2_sheet_2 24 rfl rfl
theorem dksX2_sheet_4 : cX2_sheet.data.toList.drop 94 = dktX2_sheet_4 := dk_seg dksX2_sheet_3 24 rfl rfl
theorem dksX2_sheet_5 : cX2_sheet.data.toList.drop 118 = dktX2_sheet_5 := dk_seg dksX2_sheet_4 24 rfl rfl
theorem dksX2_sheet_6 : cX2_sheet.data.toList.drop 142 = dktX2_sheet_6 := dk_seg dksX2_sheet_5 24 rfl rfl
theorem dX2_sheet_0 : decode cX2_sheet 0 = .ok (.aload_n 0, 1) := dk_42 (dk_at dksX2_sheet_0 0 rfl rfl)
theorem dX2_sheet_1 : decode cX2_sheet 1 = .ok (.iconst 0, 1) := dk_3 (dk_at dksX2_sheet_0 1 rfl rfl)
theorem dX2_sheet_2 : decode cX2_sheet 2 = .ok (.putfield 110, 3) := dk_181 0 110 (dk_at dksX2_sheet_0 2 rfl rfl)
theorem dX2_sheet_5 : decode cX2_sheet 5 = .ok (.iload_n 1, 1) := dk_27 (dk_at dksX2_sheet_0 5 rfl rfl)
theorem dX2_sheet_6 : decode cX2_sheet 6 = .ok (.iconst 0, 1) := dk_3 (dk_at dksX2_sheet_0 6 rfl rfl)
theorem dX2_sheet_7 : decode cX2_sheet 7 = .ok (.iconst 3, 1) := dk_6 (dk_at dksX2_sheet_0 7 rfl rfl)
theorem dX2_sheet_8 : decode cX2_sheet 8 = .ok (.invokestatic 119, 3) := dk_184 0 119 (dk_at dksX2_sheet_0 8 rfl rfl)
theorem dX2_sheet_11 : decode cX2_sheet 11 = .ok (.ifCond .eq 9, 3) := dk_153 0 9 (dk_at dksX2_sheet_0 11 rfl rfl)
theorem dX2_sheet_14 : decode cX2_sheet 14 = .ok (.iload_n 2, 1) := dk_28 (dk_at dksX2_sheet_0 14 rfl rfl)
theorem dX2_sheet_15 : decode cX2_sheet 15 = .ok (.bipush 10, 2) := dk_16 10 (dk_at dksX2_sheet_0 15 rfl rfl)
theorem dX2_sheet_17 : decode cX2_sheet 17 = .ok (.if_icmp .le 5, 3) := dk_164 0 5 (dk_at dksX2_sheet_0 17 rfl rfl)
theorem dX2_sheet_20 : decode cX2_sheet 20 = .ok (.iconst (-1), 1) := dk_2 (dk_at dksX2_sheet_0 20 rfl rfl)
theorem dX2_sheet_21 : decode cX2_sheet 21 = .ok (.ireturn, 1) := dk_172 (dk_at dksX2_sheet_0 21 rfl rfl)
theorem dX2_sheet_22 : decode cX2_sheet 22 = .ok (.iload_n 1, 1) := dk_27 (dk_at dksX2_sheet_0 22 rfl rfl)
theorem dX2_sheet_23 : decode cX2_sheet 23 = .ok (.iconst 3, 1) := dk_6 (dk_at dksX2_sheet_0 23 rfl rfl)
theorem dX2_sheet_24 : decode cX2_sheet 24 = .ok (.if_icmp .ge 10, 3) := dk_162 0 10 (dk_at dksX2_sheet_1 0 rfl rfl)
theorem dX2_sheet_27 : decode cX2_sheet 27 = .ok (.iload_n 2, 1) := dk_28 (dk_at dksX2_sheet_1 3 rfl rfl)
theorem dX2_sheet_28 : decode cX2_sheet 28 = .ok (.ifCond .ge 6, 3) := dk_156 0 6 (dk_at dksX2_sheet_1 4 rfl rfl)
theorem dX2_sheet_31 : decode cX2_sheet 31 = .ok (.bipush (-2), 2) := dk_16 254 (dk_at dksX2_sheet_1 7 rfl rfl)
theorem dX2_sheet_33 : decode cX2_sheet 33 = .ok (.ireturn, 1) := dk_172 (dk_at dksX2_sheet_1 9 rfl rfl)
theorem dX2_sheet_34 : decode cX2_sheet 34 = .ok (.iconst 0, 1) := dk_3 (dk_at dksX2_sheet_1 10 rfl rfl)
theorem dX2_sheet_35 : decode cX2_sheet 35 = .ok (.istore 5, 2) := dk_54 5 (dk_at dksX2_sheet_1 11 rfl rfl)
theorem dX2_sheet_37 : decode cX2_sheet 37 = .ok (.iload_n 3, 1) := dk_29 (dk_at dksX2_sheet_1 13 rfl rfl)
theorem dX2_sheet_38 : decode cX2_sheet 38 = .ok (.istore 6, 2) := dk_54 6 (dk_at dksX2_sheet_1 14 rfl rfl)
theorem dX2_sheet_40 : decode cX2_sheet 40 = .ok (.iconst 0, 1) := dk_3 (dk_at dksX2_sheet_1 16 rfl rfl)
theorem dX2_sheet_41 : decode cX2_sheet 41 = .ok (.istore 7, 2) := dk_54 7 (dk_at dksX2_sheet_1 17 rfl rfl)
theorem dX2_sheet_43 : decode cX2_sheet 43 = .ok (.iload 7, 2) := dk_21 7 (dk_at dksX2_sheet_1 19 rfl rfl)
theorem dX2_sheet_45 : decode cX2_sheet 45 = .ok (.aload_n 0, 1) := dk_42 (dk_at dksX2_sheet_1 21 rfl rfl)
theorem dX2_sheet_46 : decode cX2_sheet 46 = .ok (.getfield 116, 3) := dk_180 0 116 (dk_at dksX2_sheet_2 0 rfl rfl)
theorem dX2_sheet_49 : decode cX2_sheet 49 = .ok (.if_icmp .ge 86, 3) := dk_162 0 86 (dk_at dksX2_sheet_2 3 rfl rfl)
theorem dX2_sheet_52 : decode cX2_sheet 52 = .ok (.iload_n 1, 1) := dk_27 (dk_at dksX2_sheet_2 6 rfl rfl)
theorem dX2_sheet_53 : decode cX2_sheet 53 = .ok (.ifCond .ne 9, 3) := dk_154 0 9 (dk_at dksX2_sheet_2 7 rfl rfl)
theorem dX2_sheet_56 : decode cX2_sheet 56 = .ok (.iload 6, 2) := dk_21 6 (dk_at dksX2_sheet_2 10 rfl rfl)
theorem dX2_sheet_58 : decode cX2_sheet 58 = .ok (.i2b, 1) := dk_145 (dk_at dksX2_sheet_2 12 rfl rfl)
theorem dX2_sheet_59 : decode cX2_sheet 59 = .ok (.goto 16, 3) := dk_167 0 16 (dk_at dksX2_sheet_2 13 rfl rfl)
theorem dX2_sheet_62 : decode cX2_sheet 62 = .ok (.iload_n 1, 1) := dk_27 (dk_at dksX2_sheet_2 16 rfl rfl)
theorem dX2_sheet_63 : decode cX2_sheet 63 = .ok (.iconst 1, 1) := dk_4 (dk_at dksX2_sheet_2 17 rfl rfl)
theorem dX2_sheet_64 : decode cX2_sheet 64 = .ok (.if_icmp .ne 9, 3) := dk_160 0 9 (dk_at dksX2_sheet_2 18 rfl rfl)
theorem dX2_sheet_67 : decode cX2_sheet 67 = .ok (.iload 6, 2) := dk_21 6 (dk_at dksX2_sheet_2 21 rfl rfl)
theorem dX2_sheet_69 : decode cX2_sheet 69 = .ok (.i2s, 1) := dk_147 (dk_at dksX2_sheet_2 23 rfl rfl)
theorem dX2_sheet_70 : decode cX2_sheet 70 = .ok (.goto 5, 3) := dk_167 0 5 (dk_at dksX2_sheet_3 0 rfl rfl)
theorem dX2_sheet_73 : decode cX2_sheet 73 = .ok (.iload 6, 2) := dk_21 6 (dk_at dksX2_sheet_3 3 rfl rfl)
theorem dX2_sheet_75 : decode cX2_sheet 75 = .ok (.istore 8, 2) := dk_54 8 (dk_at dksX2_sheet_3 5 rfl rfl)
theorem dX2_sheet_77 : decode cX2_sheet 77 = .ok (.aload_n 0, 1) := dk_42 (dk_at dksX2_sheet_3 7 rfl rfl)
theorem dX2_sheet_78 : decode cX2_sheet 78 = .ok (.getfield 16, 3) := dk_180 0 16 (dk_at dksX2_sheet_3 8 rfl rfl)
theorem dX2_sheet_81 : decode cX2_sheet 81 = .ok (.iload 7, 2) := dk_21 7 (dk_at dksX2_sheet_3 11 rfl rfl)
theorem dX2_sheet_83 : decode cX2_sheet 83 = .ok (.iload_n 1, 1) := dk_27 (dk_at dksX2_sheet_3 13 rfl rfl)
theorem dX2_sheet_84 : decode cX2_sheet 84 = .ok (.iconst 3, 1) := dk_6 (dk_at dksX2_sheet_3 14 rfl rfl)
theorem dX2_sheet_85 : decode cX2_sheet 85 = .ok (.if_icmp .eq 9, 3) := dk_159 0 9 (dk_at dksX2_sheet_3 15 rfl rfl)
theorem dX2_sheet_88 : decode cX2_sheet 88 = .ok (.iload 7, 2) := dk_21 7 (dk_at dksX2_sheet_3 18 rfl rfl)
theorem dX2_sheet_90 : decode cX2_sheet 90 = .ok (.iload_n 2, 1) := dk_28 (dk_at dksX2_sheet_3 20 rfl rfl)
theorem dX2_sheet_91 : decode cX2_sheet 91 = .ok (.if_icmp .lt 7, 3) := dk_161 0 7 (dk_at dksX2_sheet_3 21 rfl rfl)
theorem dX2_sheet_94 : decode cX2_sheet 94 = .ok (.iconst 0, 1) := dk_3 (dk_at dksX2_sheet_4 0 rfl rfl)
theorem dX2_sheet_95 : decode cX2_sheet 95 = .ok (.goto 14, 3) := dk_167 0 14 (dk_at dksX2_sheet_4 1 rfl rfl)
theorem dX2_sheet_98 : decode cX2_sheet 98 = .ok (.iconst 0, 1) := dk_3 (dk_at dksX2_sheet_4 4 rfl rfl)
theorem dX2_sheet_99 : decode cX2_sheet 99 = .ok (.bipush 99, 2) := dk_16 99 (dk_at dksX2_sheet_4 5 rfl rfl)
theorem dX2_sheet_101 : decode cX2_sheet 101 = .ok (.iload 8, 2) := dk_21 8 (dk_at dksX2_sheet_4 7 rfl rfl)
theorem dX2_sheet_103 : decode cX2_sheet 103 = .ok (.invokestatic 204, 3) := dk_184 0 204 (dk_at dksX2_sheet_4 9 rfl rfl)
theorem dX2_sheet_106 : decode cX2_sheet 106 = .ok (.invokestatic 210, 3) := dk_184 0 210 (dk_at dksX2_sheet_4 12 rfl rfl)
theorem dX2_sheet_109 : decode cX2_sheet 109 = .ok (.iastore, 1) := dk_79 (dk_at dksX2_sheet_4 15 rfl rfl)
theorem dX2_sheet_110 : decode cX2_sheet 110 = .ok (.iload 5, 2) := dk_21 5 (dk_at dksX2_sheet_4 16 rfl rfl)
theorem dX2_sheet_112 : decode cX2_sheet 112 = .ok (.aload_n 0, 1) := dk_42 (dk_at dksX2_sheet_4 18 rfl rfl)
theorem dX2_sheet_113 : decode cX2_sheet 113 = .ok (.getfield 16, 3) := dk_180 0 16 (dk_at dksX2_sheet_4 19 rfl rfl)
theorem dX2_sheet_116 : decode cX2_sheet 116 = .ok (.iload 7, 2) := dk_21 7 (dk_at dksX2_sheet_4 22 rfl rfl)
theorem dX2_sheet_118 : decode cX2_sheet 118 = .ok (.iaload, 1) := dk_46 (dk_at dksX2_sheet_5 0 rfl rfl)
theorem dX2_sheet_119 : decode cX2_sheet 119 = .ok (.iadd, 1) := dk_96 (dk_at dksX2_sheet_5 1 rfl rfl)
theorem dX2_sheet_120 : decode cX2_sheet 120 = .ok (.istore 5, 2) := dk_54 5 (dk_at dksX2_sheet_5 2 rfl rfl)
theorem dX2_sheet_122 : decode cX2_sheet 122 = .ok (.iload 6, 2) := dk_21 6 (dk_at dksX2_sheet_5 4 rfl rfl)
theorem dX2_sheet_124 : decode cX2_sheet 124 = .ok (.iload 4, 2) := dk_21 4 (dk_at dksX2_sheet_5 6 rfl rfl)
theorem dX2_sheet_126 : decode cX2_sheet 126 = .ok (.iadd, 1) := dk_96 (dk_at dksX2_sheet_5 8 rfl rfl)
theorem dX2_sheet_127 : decode cX2_sheet 127 = .ok (.istore 6, 2) := dk_54 6 (dk_at dksX2_sheet_5 9 rfl rfl)
theorem dX2_sheet_129 : decode cX2_sheet 129 = .ok (.iinc 7 1, 3) := dk_132 7 1 (dk_at dksX2_sheet_5 11 rfl rfl)
theorem dX2_sheet_132 : decode cX2_sheet 132 = .ok (.goto (-89), 3) := dk_167 255 167 (dk_at dksX2_sheet_5 14 rfl rfl)
theorem dX2_sheet_135 : decode cX2_sheet 135 = .ok (.iload_n 1, 1) := dk_27 (dk_at dksX2_sheet_5 17 rfl rfl)
theorem dX2_sheet_136 : decode cX2_sheet 136 = .ok (.iconst 3, 1) := dk_6 (dk_at dksX2_sheet_5 18 rfl rfl)
theorem dX2_sheet_137 : decode cX2_sheet 137 = .ok (.if_icmp .ne 8, 3) := dk_160 0 8 (dk_at dksX2_sheet_5 19 rfl rfl)
theorem dX2_sheet_140 : decode cX2_sheet 140 = .ok (.bipush (-3), 2) := dk_16 253 (dk_at dksX2_sheet_5 22 rfl rfl)
theorem dX2_sheet_142 : decode cX2_sheet 142 = .ok (.goto 5, 3) := dk_167 0 5 (dk_at dksX2_sheet_6 0 rfl rfl)
theorem dX2_sheet_145 : decode cX2_sheet 145 = .ok (.iload 5, 2) := dk_21 5 (dk_at dksX2_sheet_6 3 rfl rfl)
theorem dX2_sheet_147 : decode cX2_sheet 147 = .ok (.ireturn, 1) := dk_172 (dk_at dksX2_sheet_6 5 rfl rfl)
abbrev cX2_serve : ByteArray := prog_8_method_42_code
def yX2_serve : MethodName := ⟨RX2, "serve", "(I)I"⟩
def dkwX2_serve_2 : List UInt8 := [180, 0, 252, 4, 96, 181, 0, 252, 42, 180, 0, 252, 172]
abbrev dktX2_serve_2 : List UInt8 := dkwX2_serve_2 ++ []
def dkwX2_serve_1 : List UInt8 := [27, 182, 1, 5, 61, 28, 156, 0, 5, 28, 172, 42, 180, 0, 39, 42, 180, 0, 252, 27, 79, 42, 89]
abbrev dktX2_serve_1 : List UInt8 := dkwX2_serve_1 ++ dktX2_serve_2
def dkwX2_serve_0 : List UInt8 := [42, 3, 181, 0, 110, 42, 27, 182, 0, 216, 154, 0, 5, 2, 172, 42, 42, 182, 0, 255, 42, 182, 1, 2]
abbrev dktX2_serve_0 : List UInt8 := dkwX2_serve_0 ++ dktX2_serve_1
theorem dksX2_serve_0 : cX2_serve.data.toList.drop 0 = dktX2_serve_0 := by decide +kernel
theorem dksX2_serve_1 : cX2_serve.data.toList.drop 24 = dktX2_serve_1 := dk_seg dksX2_serve_0 24 rfl rfl
theorem dksX2_serve_2 : cX2_serve.data.toList.drop 47 = dktX2_serve_2 := dk_seg dksX2_serve_1 23 rfl rfl
theorem dX2_serve_0 : decode cX2_serve 0 = .ok (.aload_n 0, 1) := dk_42 (dk_at dksX2_serve_0 0 rfl rfl)
theorem dX2_serve_1 : decode cX2_serve 1 = .ok (.iconst 0, 1) := dk_3 (dk_at dksX2_serve_0 1 rfl rfl)
theorem dX2_serve_2 : decode cX2_serve 2 = .ok (.putfield 110, 3) := dk_181 0 110 (dk_at dksX2_serve_0 2 rfl rfl)
theorem dX2_serve_5 : decode cX2_serve 5 = .ok (.aload_n 0, 1) := dk_42 (dk_at dksX2_serve_0 5 rfl rfl)
theorem dX2_serve_6 : decode cX2_serve 6 = .ok (.iload_n 1, 1) := dk_27 (dk_at dksX2_serve_0 6 rfl rfl)
theorem dX2_serve_7 : decode cX2_serve 7 = .ok (.invokevirtual 216, 3) := dk_182 0 216 (dk_at dksX2_serve_0 7 rfl rfl)
theorem dX2_serve_10 : decode cX2_serve 10 = .ok (.ifCond .ne 5, 3) := dk_154 0 5 (dk_at dksX2_serve_0 10 rfl rfl)
theorem dX2_serve_13 : decode cX2_serve 13 = .ok (.iconst (-1), 1) := dk_2 (dk_at dksX2_serve_0 13 rfl rfl)
theorem dX2_serve_14 : decode cX2_serve 14 = .ok (.ireturn, 1) := dk_172 (dk_at dksX2_serve_0 14 rfl rfl)
theorem dX2_serve_15 : decode cX2_serve 15 = .ok (.aload_n 0, 1) := dk_42 (dk_at dksX2_serve_0 15 rfl rfl)
theorem dX2_serve_16 : decode cX2_serve 16 = .ok (.aload_n 0, 1) := dk_42 (dk_at dksX2_serve_0 16 rfl rfl)
theorem dX2_serve_17 : decode cX2_serve 17 = .ok (.invokevirtual 255, 3) := dk_182 0 255 (dk_at dksX2_serve_0 17 rfl rfl)
theorem dX2_serve_20 : decode cX2_serve 20 = .ok (.aload_n 0, 1) := dk_42 (dk_at dksX2_serve_0 20 rfl rfl)
theorem dX2_serve_21 : decode cX2_serve 21 = .ok (.invokevirtual 258, 3) := dk_182 1 2 (dk_at dksX2_serve_0 21 rfl rfl)
theorem dX2_serve_24 : decode cX2_serve 24 = .ok (.iload_n 1, 1) := dk_27 (dk_at dksX2_serve_1 0 rfl rfl)
theorem dX2_serve_25 : decode cX2_serve 25 = .ok (.invokevirtual 261, 3) := dk_182 1 5 (dk_at dksX2_serve_1 1 rfl rfl)
theorem dX2_serve_28 : decode cX2_serve 28 = .ok (.istore_n 2, 1) := dk_61 (dk_at dksX2_serve_1 4 rfl rfl)
theorem dX2_serve_29 : decode cX2_serve 29 = .ok (.iload_n 2, 1) := dk_28 (dk_at dksX2_serve_1 5 rfl rfl)
theorem dX2_serve_30 : decode cX2_serve 30 = .ok (.ifCond .ge 5, 3) := dk_156 0 5 (dk_at dksX2_serve_1 6 rfl rfl)
theorem dX2_serve_33 : decode cX2_serve 33 = .ok (.iload_n 2, 1) := dk_28 (dk_at dksX2_serve_1 9 rfl rfl)
theorem dX2_serve_34 : decode cX2_serve 34 = .ok (.ireturn, 1) := dk_172 (dk_at dksX2_serve_1 10 rfl rfl)
theorem dX2_serve_35 : decode cX2_serve 35 = .ok (.aload_n 0, 1) := dk_42 (dk_at dksX2_serve_1 11 rfl rfl)
theorem dX2_serve_36 : decode cX2_serve 36 = .ok (.getfield 39, 3) := dk_180 0 39 (dk_at dksX2_serve_1 12 rfl rfl)
theorem dX2_serve_39 : decode cX2_serve 39 = .ok (.aload_n 0, 1) := dk_42 (dk_at dksX2_serve_1 15 rfl rfl)
theorem dX2_serve_40 : decode cX2_serve 40 = .ok (.getfield 252, 3) := dk_180 0 252 (dk_at dksX2_serve_1 16 rfl rfl)
theorem dX2_serve_43 : decode cX2_serve 43 = .ok (.iload_n 1, 1) := dk_27 (dk_at dksX2_serve_1 19 rfl rfl)
theorem dX2_serve_44 : decode cX2_serve 44 = .ok (.iastore, 1) := dk_79 (dk_at dksX2_serve_1 20 rfl rfl)
theorem dX2_serve_45 : decode cX2_serve 45 = .ok (.aload_n 0, 1) := dk_42 (dk_at dksX2_serve_1 21 rfl rfl)
theorem dX2_serve_46 : decode cX2_serve 46 = .ok (.dup, 1) := dk_89 (dk_at dksX2_serve_1 22 rfl rfl)
theorem dX2_serve_47 : decode cX2_serve 47 = .ok (.getfield 252, 3) := dk_180 0 252 (dk_at dksX2_serve_2 0 rfl rfl)
theorem dX2_serve_50 : decode cX2_serve 50 = .ok (.iconst 1, 1) := dk_4 (dk_at dksX2_serve_2 3 rfl rfl)
theorem dX2_serve_51 : decode cX2_serve 51 = .ok (.iadd, 1) := dk_96 (dk_at dksX2_serve_2 4 rfl rfl)
theorem dX2_serve_52 : decode cX2_serve 52 = .ok (.putfield 252, 3) := dk_181 0 252 (dk_at dksX2_serve_2 5 rfl rfl)
theorem dX2_serve_55 : decode cX2_serve 55 = .ok (.aload_n 0, 1) := dk_42 (dk_at dksX2_serve_2 8 rfl rfl)
theorem dX2_serve_56 : decode cX2_serve 56 = .ok (.getfield 252, 3) := dk_180 0 252 (dk_at dksX2_serve_2 9 rfl rfl)
theorem dX2_serve_59 : decode cX2_serve 59 = .ok (.ireturn, 1) := dk_172 (dk_at dksX2_serve_2 12 rfl rfl)
abbrev cX2_servedSet : ByteArray := prog_8_method_40_code
def yX2_servedSet : MethodName := ⟨RX2, "servedSet", "()I"⟩
def dkwX2_servedSet_1 : List UInt8 := [132, 2, 1, 167, 255, 234, 27, 172]
abbrev dktX2_servedSet_1 : List UInt8 := dkwX2_servedSet_1 ++ []
def dkwX2_servedSet_0 : List UInt8 := [3, 60, 3, 61, 28, 42, 180, 0, 252, 162, 0, 20, 27, 4, 42, 180, 0, 39, 28, 46, 120, 128, 60]
abbrev dktX2_servedSet_0 : List UInt8 := dkwX2_servedSet_0 ++ dktX2_servedSet_1
theorem dksX2_servedSet_0 : cX2_servedSet.data.toList.drop 0 = dktX2_servedSet_0 := by decide +kernel
theorem dksX2_servedSet_1 : cX2_servedSet.data.toList.drop 23 = dktX2_servedSet_1 := dk_seg dksX2_servedSet_0 23 rfl rfl
theorem dX2_servedSet_0 : decode cX2_servedSet 0 = .ok (.iconst 0, 1) := dk_3 (dk_at dksX2_servedSet_0 0 rfl rfl)
theorem dX2_servedSet_1 : decode cX2_servedSet 1 = .ok (.istore_n 1, 1) := dk_60 (dk_at dksX2_servedSet_0 1 rfl rfl)
theorem dX2_servedSet_2 : decode cX2_servedSet 2 = .ok (.iconst 0, 1) := dk_3 (dk_at dksX2_servedSet_0 2 rfl rfl)
theorem dX2_servedSet_3 : decode cX2_servedSet 3 = .ok (.istore_n 2, 1) := dk_61 (dk_at dksX2_servedSet_0 3 rfl rfl)
theorem dX2_servedSet_4 : decode cX2_servedSet 4 = .ok (.iload_n 2, 1) := dk_28 (dk_at dksX2_servedSet_0 4 rfl rfl)
theorem dX2_servedSet_5 : decode cX2_servedSet 5 = .ok (.aload_n 0, 1) := dk_42 (dk_at dksX2_servedSet_0 5 rfl rfl)
theorem dX2_servedSet_6 : decode cX2_servedSet 6 = .ok (.getfield 252, 3) := dk_180 0 252 (dk_at dksX2_servedSet_0 6 rfl rfl)
theorem dX2_servedSet_9 : decode cX2_servedSet 9 = .ok (.if_icmp .ge 20, 3) := dk_162 0 20 (dk_at dksX2_servedSet_0 9 rfl rfl)
theorem dX2_servedSet_12 : decode cX2_servedSet 12 = .ok (.iload_n 1, 1) := dk_27 (dk_at dksX2_servedSet_0 12 rfl rfl)
theorem dX2_servedSet_13 : decode cX2_servedSet 13 = .ok (.iconst 1, 1) := dk_4 (dk_at dksX2_servedSet_0 13 rfl rfl)
theorem dX2_servedSet_14 : decode cX2_servedSet 14 = .ok (.aload_n 0, 1) := dk_42 (dk_at dksX2_servedSet_0 14 rfl rfl)
theorem dX2_servedSet_15 : decode cX2_servedSet 15 = .ok (.getfield 39, 3) := dk_180 0 39 (dk_at dksX2_servedSet_0 15 rfl rfl)
theorem dX2_servedSet_18 : decode cX2_servedSet 18 = .ok (.iload_n 2, 1) := dk_28 (dk_at dksX2_servedSet_0 18 rfl rfl)
theorem dX2_servedSet_19 : decode cX2_servedSet 19 = .ok (.iaload, 1) := dk_46 (dk_at dksX2_servedSet_0 19 rfl rfl)
theorem dX2_servedSet_20 : decode cX2_servedSet 20 = .ok (.ishl, 1) := dk_120 (dk_at dksX2_servedSet_0 20 rfl rfl)
theorem dX2_servedSet_21 : decode cX2_servedSet 21 = .ok (.ior, 1) := dk_128 (dk_at dksX2_servedSet_0 21 rfl rfl)
theorem dX2_servedSet_22 : decode cX2_servedSet 22 = .ok (.istore_n 1, 1) := dk_60 (dk_at dksX2_servedSet_0 22 rfl rfl)
theorem dX2_servedSet_23 : decode cX2_servedSet 23 = .ok (.iinc 2 1, 3) := dk_132 2 1 (dk_at dksX2_servedSet_1 0 rfl rfl)
theorem dX2_servedSet_26 : decode cX2_servedSet 26 = .ok (.goto (-22), 3) := dk_167 255 234 (dk_at dksX2_servedSet_1 3 rfl rfl)
theorem dX2_servedSet_29 : decode cX2_servedSet 29 = .ok (.iload_n 1, 1) := dk_27 (dk_at dksX2_servedSet_1 6 rfl rfl)
theorem dX2_servedSet_30 : decode cX2_servedSet 30 = .ok (.ireturn, 1) := dk_172 (dk_at dksX2_servedSet_1 7 rfl rfl)
abbrev cX2_servedLast : ByteArray := prog_8_method_41_code
def yX2_servedLast : MethodName := ⟨RX2, "servedLast", "()I"⟩
def dkwX2_servedLast_0 : List UInt8 := [42, 180, 0, 252, 154, 0, 7, 2, 167, 0, 14, 42, 180, 0, 39, 42, 180, 0, 252, 4, 100, 46, 172]
abbrev dktX2_servedLast_0 : List UInt8 := dkwX2_servedLast_0 ++ []
theorem dksX2_servedLast_0 : cX2_servedLast.data.toList.drop 0 = dktX2_servedLast_0 := by decide +kernel
theorem dX2_servedLast_0 : decode cX2_servedLast 0 = .ok (.aload_n 0, 1) := dk_42 (dk_at dksX2_servedLast_0 0 rfl rfl)
theorem dX2_servedLast_1 : decode cX2_servedLast 1 = .ok (.getfield 252, 3) := dk_180 0 252 (dk_at dksX2_servedLast_0 1 rfl rfl)
theorem dX2_servedLast_4 : decode cX2_servedLast 4 = .ok (.ifCond .ne 7, 3) := dk_154 0 7 (dk_at dksX2_servedLast_0 4 rfl rfl)
theorem dX2_servedLast_7 : decode cX2_servedLast 7 = .ok (.iconst (-1), 1) := dk_2 (dk_at dksX2_servedLast_0 7 rfl rfl)
theorem dX2_servedLast_8 : decode cX2_servedLast 8 = .ok (.goto 14, 3) := dk_167 0 14 (dk_at dksX2_servedLast_0 8 rfl rfl)
theorem dX2_servedLast_11 : decode cX2_servedLast 11 = .ok (.aload_n 0, 1) := dk_42 (dk_at dksX2_servedLast_0 11 rfl rfl)
theorem dX2_servedLast_12 : decode cX2_servedLast 12 = .ok (.getfield 39, 3) := dk_180 0 39 (dk_at dksX2_servedLast_0 12 rfl rfl)
theorem dX2_servedLast_15 : decode cX2_servedLast 15 = .ok (.aload_n 0, 1) := dk_42 (dk_at dksX2_servedLast_0 15 rfl rfl)
theorem dX2_servedLast_16 : decode cX2_servedLast 16 = .ok (.getfield 252, 3) := dk_180 0 252 (dk_at dksX2_servedLast_0 16 rfl rfl)
theorem dX2_servedLast_19 : decode cX2_servedLast 19 = .ok (.iconst 1, 1) := dk_4 (dk_at dksX2_servedLast_0 19 rfl rfl)
theorem dX2_servedLast_20 : decode cX2_servedLast 20 = .ok (.isub, 1) := dk_100 (dk_at dksX2_servedLast_0 20 rfl rfl)
theorem dX2_servedLast_21 : decode cX2_servedLast 21 = .ok (.iaload, 1) := dk_46 (dk_at dksX2_servedLast_0 21 rfl rfl)
theorem dX2_servedLast_22 : decode cX2_servedLast 22 = .ok (.ireturn, 1) := dk_172 (dk_at dksX2_servedLast_0 22 rfl rfl)
abbrev cX2_refusal : ByteArray := prog_8_method_39_code
def yX2_refusal : MethodName := ⟨RX2, "refusal", "(III)I"⟩
def dkwX2_refusal_5 : List UInt8 := [16, 250, 172]
abbrev dktX2_refusal_5 : List UInt8 := dkwX2_refusal_5 ++ []
def dkwX2_refusal_4 : List UInt8 := [3, 182, 0, 248, 154, 0, 6, 16, 251, 172, 42, 27, 29, 4, 182, 0, 248, 153, 0, 7, 3, 167, 0, 5]
abbrev dktX2_refusal_4 : List UInt8 := dkwX2_refusal_4 ++ dktX2_refusal_5
def dkwX2_refusal_3 : List UInt8 := [159, 0, 21, 42, 180, 0, 19, 28, 51, 42, 180, 0, 19, 29, 51, 160, 0, 6, 16, 252, 172, 42, 27, 29]
abbrev dktX2_refusal_3 : List UInt8 := dkwX2_refusal_3 ++ dktX2_refusal_4
def dkwX2_refusal_2 : List UInt8 := [154, 0, 14, 42, 27, 182, 0, 245, 153, 0, 6, 16, 252, 172, 42, 180, 0, 236, 5, 160, 0, 26, 28, 2]
abbrev dktX2_refusal_2 : List UInt8 := dkwX2_refusal_2 ++ dktX2_refusal_3
def dkwX2_refusal_1 : List UInt8 := [180, 0, 32, 162, 0, 6, 16, 253, 172, 42, 180, 0, 236, 4, 160, 0, 23, 42, 180, 0, 19, 29, 51]
abbrev dktX2_refusal_1 : List UInt8 := dkwX2_refusal_1 ++ dktX2_refusal_2
def dkwX2_refusal_0 : List UInt8 := [27, 29, 184, 0, 239, 153, 0, 6, 16, 254, 172, 28, 2, 159, 0, 19, 42, 28, 29, 182, 0, 242, 42]
abbrev dktX2_refusal_0 : List UInt8 := dkwX2_refusal_0 ++ dktX2_refusal_1
theorem dksX2_refusal_0 : cX2_refusal.data.toList.drop 0 = dktX2_refusal_0 := by decide +kernel
theorem dksX2_refusal_1 : cX2_refusal.data.toList.drop 23 = dktX2_refusal_1 := dk_seg dksX2_refusal_0 23 rfl rfl
theorem dksX2_refusal_2 : cX2_refusal.data.toList.drop 46 = dktX2_refusal_2 := dk_seg dksX2_refusal_1 23 rfl rfl
theorem dksX2_refusal_3 : cX2_refusal.data.toList.drop 70 = dktX2_refusal_3 := dk_seg dksX2_refusal_2 24 rfl rfl
theorem dksX2_refusal_4 : cX2_refusal.data.toList.drop 94 = dktX2_refusal_4 := dk_seg dksX2_refusal_3 24 rfl rfl
theorem dksX2_refusal_5 : cX2_refusal.data.toList.drop 118 = dktX2_refusal_5 := dk_seg dksX2_refusal_4 24 rfl rfl
theorem dX2_refusal_0 : decode cX2_refusal 0 = .ok (.iload_n 1, 1) := dk_27 (dk_at dksX2_refusal_0 0 rfl rfl)
theorem dX2_refusal_1 : decode cX2_refusal 1 = .ok (.iload_n 3, 1) := dk_29 (dk_at dksX2_refusal_0 1 rfl rfl)
theorem dX2_refusal_2 : decode cX2_refusal 2 = .ok (.invokestatic 239, 3) := dk_184 0 239 (dk_at dksX2_refusal_0 2 rfl rfl)
theorem dX2_refusal_5 : decode cX2_refusal 5 = .ok (.ifCond .eq 6, 3) := dk_153 0 6 (dk_at dksX2_refusal_0 5 rfl rfl)
theorem dX2_refusal_8 : decode cX2_refusal 8 = .ok (.bipush (-2), 2) := dk_16 254 (dk_at dksX2_refusal_0 8 rfl rfl)
theorem dX2_refusal_10 : decode cX2_refusal 10 = .ok (.ireturn, 1) := dk_172 (dk_at dksX2_refusal_0 10 rfl rfl)
theorem dX2_refusal_11 : decode cX2_refusal 11 = .ok (.iload_n 2, 1) := dk_28 (dk_at dksX2_refusal_0 11 rfl rfl)
theorem dX2_refusal_12 : decode cX2_refusal 12 = .ok (.iconst (-1), 1) := dk_2 (dk_at dksX2_refusal_0 12 rfl rfl)
theorem dX2_refusal_13 : decode cX2_refusal 13 = .ok (.if_icmp .eq 19, 3) := dk_159 0 19 (dk_at dksX2_refusal_0 13 rfl rfl)
theorem dX2_refusal_16 : decode cX2_refusal 16 = .ok (.aload_n 0, 1) := dk_42 (dk_at dksX2_refusal_0 16 rfl rfl)
theorem dX2_refusal_17 : decode cX2_refusal 17 = .ok (.iload_n 2, 1) := dk_28 (dk_at dksX2_refusal_0 17 rfl rfl)
theorem dX2_refusal_18 : decode cX2_refusal 18 = .ok (.iload_n 3, 1) := dk_29 (dk_at dksX2_refusal_0 18 rfl rfl)
theorem dX2_refusal_19 : decode cX2_refusal 19 = .ok (.invokevirtual 242, 3) := dk_182 0 242 (dk_at dksX2_refusal_0 19 rfl rfl)
theorem dX2_refusal_22 : decode cX2_refusal 22 = .ok (.aload_n 0, 1) := dk_42 (dk_at dksX2_refusal_0 22 rfl rfl)
theorem dX2_refusal_23 : decode cX2_refusal 23 = .ok (.getfield 32, 3) := dk_180 0 32 (dk_at dksX2_refusal_1 0 rfl rfl)
theorem dX2_refusal_26 : decode cX2_refusal 26 = .ok (.if_icmp .ge 6, 3) := dk_162 0 6 (dk_at dksX2_refusal_1 3 rfl rfl)
theorem dX2_refusal_29 : decode cX2_refusal 29 = .ok (.bipush (-3), 2) := dk_16 253 (dk_at dksX2_refusal_1 6 rfl rfl)
theorem dX2_refusal_31 : decode cX2_refusal 31 = .ok (.ireturn, 1) := dk_172 (dk_at dksX2_refusal_1 8 rfl rfl)
theorem dX2_refusal_32 : decode cX2_refusal 32 = .ok (.aload_n 0, 1) := dk_42 (dk_at dksX2_refusal_1 9 rfl rfl)
theorem dX2_refusal_33 : decode cX2_refusal 33 = .ok (.getfield 236, 3) := dk_180 0 236 (dk_at dksX2_refusal_1 10 rfl rfl)
theorem dX2_refusal_36 : decode cX2_refusal 36 = .ok (.iconst 1, 1) := dk_4 (dk_at dksX2_refusal_1 13 rfl rfl)
theorem dX2_refusal_37 : decode cX2_refusal 37 = .ok (.if_icmp .ne 23, 3) := dk_160 0 23 (dk_at dksX2_refusal_1 14 rfl rfl)
theorem dX2_refusal_40 : decode cX2_refusal 40 = .ok (.aload_n 0, 1) := dk_42 (dk_at dksX2_refusal_1 17 rfl rfl)
theorem dX2_refusal_41 : decode cX2_refusal 41 = .ok (.getfield 19, 3) := dk_180 0 19 (dk_at dksX2_refusal_1 18 rfl rfl)
theorem dX2_refusal_44 : decode cX2_refusal 44 = .ok (.iload_n 3, 1) := dk_29 (dk_at dksX2_refusal_1 21 rfl rfl)
theorem dX2_refusal_45 : decode cX2_refusal 45 = .ok (.baload, 1) := dk_51 (dk_at dksX2_refusal_1 22 rfl rfl)
theorem dX2_refusal_46 : decode cX2_refusal 46 = .ok (.ifCond .ne 14, 3) := dk_154 0 14 (dk_at dksX2_refusal_2 0 rfl rfl)
theorem dX2_refusal_49 : decode cX2_refusal 49 = .ok (.aload_n 0, 1) := dk_42 (dk_at dksX2_refusal_2 3 rfl rfl)
theorem dX2_refusal_50 : decode cX2_refusal 50 = .ok (.iload_n 1, 1) := dk_27 (dk_at dksX2_refusal_2 4 rfl rfl)
theorem dX2_refusal_51 : decode cX2_refusal 51 = .ok (.invokevirtual 245, 3) := dk_182 0 245 (dk_at dksX2_refusal_2 5 rfl rfl)
theorem dX2_refusal_54 : decode cX2_refusal 54 = .ok (.ifCond .eq 6, 3) := dk_153 0 6 (dk_at dksX2_refusal_2 8 rfl rfl)
theorem dX2_refusal_57 : decode cX2_refusal 57 = .ok (.bipush (-4), 2) := dk_16 252 (dk_at dksX2_refusal_2 11 rfl rfl)
theorem dX2_refusal_59 : decode cX2_refusal 59 = .ok (.ireturn, 1) := dk_172 (dk_at dksX2_refusal_2 13 rfl rfl)
theorem dX2_refusal_60 : decode cX2_refusal 60 = .ok (.aload_n 0, 1) := dk_42 (dk_at dksX2_refusal_2 14 rfl rfl)
theorem dX2_refusal_61 : decode cX2_refusal 61 = .ok (.getfield 236, 3) := dk_180 0 236 (dk_at dksX2_refusal_2 15 rfl rfl)
theorem dX2_refusal_64 : decode cX2_refusal 64 = .ok (.iconst 2, 1) := dk_5 (dk_at dksX2_refusal_2 18 rfl rfl)
theorem dX2_refusal_65 : decode cX2_refusal 65 = .ok (.if_icmp .ne 26, 3) := dk_160 0 26 (dk_at dksX2_refusal_2 19 rfl rfl)
theorem dX2_refusal_68 : decode cX2_refusal 68 = .ok (.iload_n 2, 1) := dk_28 (dk_at dksX2_refusal_2 22 rfl rfl)
theorem dX2_refusal_69 : decode cX2_refusal 69 = .ok (.iconst (-1), 1) := dk_2 (dk_at dksX2_refusal_2 23 rfl rfl)
theorem dX2_refusal_70 : decode cX2_refusal 70 = .ok (.if_icmp .eq 21, 3) := dk_159 0 21 (dk_at dksX2_refusal_3 0 rfl rfl)
theorem dX2_refusal_73 : decode cX2_refusal 73 = .ok (.aload_n 0, 1) := dk_42 (dk_at dksX2_refusal_3 3 rfl rfl)
theorem dX2_refusal_74 : decode cX2_refusal 74 = .ok (.getfield 19, 3) := dk_180 0 19 (dk_at dksX2_refusal_3 4 rfl rfl)
theorem dX2_refusal_77 : decode cX2_refusal 77 = .ok (.iload_n 2, 1) := dk_28 (dk_at dksX2_refusal_3 7 rfl rfl)
theorem dX2_refusal_78 : decode cX2_refusal 78 = .ok (.baload, 1) := dk_51 (dk_at dksX2_refusal_3 8 rfl rfl)
theorem dX2_refusal_79 : decode cX2_refusal 79 = .ok (.aload_n 0, 1) := dk_42 (dk_at dksX2_refusal_3 9 rfl rfl)
theorem dX2_refusal_80 : decode cX2_refusal 80 = .ok (.getfield 19, 3) := dk_180 0 19 (dk_at dksX2_refusal_3 10 rfl rfl)
theorem dX2_refusal_83 : decode cX2_refusal 83 = .ok (.iload_n 3, 1) := dk_29 (dk_at dksX2_refusal_3 13 rfl rfl)
theorem dX2_refusal_84 : decode cX2_refusal 84 = .ok (.baload, 1) := dk_51 (dk_at dksX2_refusal_3 14 rfl rfl)
theorem dX2_refusal_85 : decode cX2_refusal 85 = .ok (.if_icmp .ne 6, 3) := dk_160 0 6 (dk_at dksX2_refusal_3 15 rfl rfl)
theorem dX2_refusal_88 : decode cX2_refusal 88 = .ok (.bipush (-4), 2) := dk_16 252 (dk_at dksX2_refusal_3 18 rfl rfl)
theorem dX2_refusal_90 : decode cX2_refusal 90 = .ok (.ireturn, 1) := dk_172 (dk_at dksX2_refusal_3 20 rfl rfl)
theorem dX2_refusal_91 : decode cX2_refusal 91 = .ok (.aload_n 0, 1) := dk_42 (dk_at dksX2_refusal_3 21 rfl rfl)
theorem dX2_refusal_92 : decode cX2_refusal 92 = .ok (.iload_n 1, 1) := dk_27 (dk_at dksX2_refusal_3 22 rfl rfl)
theorem dX2_refusal_93 : decode cX2_refusal 93 = .ok (.iload_n 3, 1) := dk_29 (dk_at dksX2_refusal_3 23 rfl rfl)
theorem dX2_refusal_94 : decode cX2_refusal 94 = .ok (.iconst 0, 1) := dk_3 (dk_at dksX2_refusal_4 0 rfl rfl)
theorem dX2_refusal_95 : decode cX2_refusal 95 = .ok (.invokevirtual 248, 3) := dk_182 0 248 (dk_at dksX2_refusal_4 1 rfl rfl)
theorem dX2_refusal_98 : decode cX2_refusal 98 = .ok (.ifCond .ne 6, 3) := dk_154 0 6 (dk_at dksX2_refusal_4 4 rfl rfl)
theorem dX2_refusal_101 : decode cX2_refusal 101 = .ok (.bipush (-5), 2) := dk_16 251 (dk_at dksX2_refusal_4 7 rfl rfl)
theorem dX2_refusal_103 : decode cX2_refusal 103 = .ok (.ireturn, 1) := dk_172 (dk_at dksX2_refusal_4 9 rfl rfl)
theorem dX2_refusal_104 : decode cX2_refusal 104 = .ok (.aload_n 0, 1) := dk_42 (dk_at dksX2_refusal_4 10 rfl rfl)
theorem dX2_refusal_105 : decode cX2_refusal 105 = .ok (.iload_n 1, 1) := dk_27 (dk_at dksX2_refusal_4 11 rfl rfl)
theorem dX2_refusal_106 : decode cX2_refusal 106 = .ok (.iload_n 3, 1) := dk_29 (dk_at dksX2_refusal_4 12 rfl rfl)
theorem dX2_refusal_107 : decode cX2_refusal 107 = .ok (.iconst 1, 1) := dk_4 (dk_at dksX2_refusal_4 13 rfl rfl)
theorem dX2_refusal_108 : decode cX2_refusal 108 = .ok (.invokevirtual 248, 3) := dk_182 0 248 (dk_at dksX2_refusal_4 14 rfl rfl)
theorem dX2_refusal_111 : decode cX2_refusal 111 = .ok (.ifCond .eq 7, 3) := dk_153 0 7 (dk_at dksX2_refusal_4 17 rfl rfl)
theorem dX2_refusal_114 : decode cX2_refusal 114 = .ok (.iconst 0, 1) := dk_3 (dk_at dksX2_refusal_4 20 rfl rfl)
theorem dX2_refusal_115 : decode cX2_refusal 115 = .ok (.goto 5, 3) := dk_167 0 5 (dk_at dksX2_refusal_4 21 rfl rfl)
theorem dX2_refusal_118 : decode cX2_refusal 118 = .ok (.bipush (-6), 2) := dk_16 250 (dk_at dksX2_refusal_5 0 rfl rfl)
theorem dX2_refusal_120 : decode cX2_refusal 120 = .ok (.ireturn, 1) := dk_172 (dk_at dksX2_refusal_5 2 rfl rfl)
abbrev cX2_has : ByteArray := prog_8_method_4_code
def yX2_has : MethodName := ⟨RX2, "has", "(II)Z"⟩
def dkwX2_has_0 : List UInt8 := [26, 27, 122, 4, 126, 4, 160, 0, 7, 4, 167, 0, 4, 3, 172]
abbrev dktX2_has_0 : List UInt8 := dkwX2_has_0 ++ []
theorem dksX2_has_0 : cX2_has.data.toList.drop 0 = dktX2_has_0 := by decide +kernel
theorem dX2_has_0 : decode cX2_has 0 = .ok (.iload_n 0, 1) := dk_26 (dk_at dksX2_has_0 0 rfl rfl)
theorem dX2_has_1 : decode cX2_has 1 = .ok (.iload_n 1, 1) := dk_27 (dk_at dksX2_has_0 1 rfl rfl)
theorem dX2_has_2 : decode cX2_has 2 = .ok (.ishr, 1) := dk_122 (dk_at dksX2_has_0 2 rfl rfl)
theorem dX2_has_3 : decode cX2_has 3 = .ok (.iconst 1, 1) := dk_4 (dk_at dksX2_has_0 3 rfl rfl)
theorem dX2_has_4 : decode cX2_has 4 = .ok (.iand, 1) := dk_126 (dk_at dksX2_has_0 4 rfl rfl)
theorem dX2_has_5 : decode cX2_has 5 = .ok (.iconst 1, 1) := dk_4 (dk_at dksX2_has_0 5 rfl rfl)
theorem dX2_has_6 : decode cX2_has 6 = .ok (.if_icmp .ne 7, 3) := dk_160 0 7 (dk_at dksX2_has_0 6 rfl rfl)
theorem dX2_has_9 : decode cX2_has 9 = .ok (.iconst 1, 1) := dk_4 (dk_at dksX2_has_0 9 rfl rfl)
theorem dX2_has_10 : decode cX2_has 10 = .ok (.goto 4, 3) := dk_167 0 4 (dk_at dksX2_has_0 10 rfl rfl)
theorem dX2_has_13 : decode cX2_has 13 = .ok (.iconst 0, 1) := dk_3 (dk_at dksX2_has_0 13 rfl rfl)
theorem dX2_has_14 : decode cX2_has 14 = .ok (.ireturn, 1) := dk_172 (dk_at dksX2_has_0 14 rfl rfl)
abbrev cX2_shared : ByteArray := prog_8_method_36_code
def yX2_shared : MethodName := ⟨RX2, "shared", "(II)I"⟩
def dkwX2_shared_0 : List UInt8 := [42, 180, 0, 13, 27, 46, 42, 180, 0, 13, 28, 46, 126, 184, 0, 196, 172]
abbrev dktX2_shared_0 : List UInt8 := dkwX2_shared_0 ++ []
theorem dksX2_shared_0 : cX2_shared.data.toList.drop 0 = dktX2_shared_0 := by decide +kernel
theorem dX2_shared_0 : decode cX2_shared 0 = .ok (.aload_n 0, 1) := dk_42 (dk_at dksX2_shared_0 0 rfl rfl)
theorem dX2_shared_1 : decode cX2_shared 1 = .ok (.getfield 13, 3) := dk_180 0 13 (dk_at dksX2_shared_0 1 rfl rfl)
theorem dX2_shared_4 : decode cX2_shared 4 = .ok (.iload_n 1, 1) := dk_27 (dk_at dksX2_shared_0 4 rfl rfl)
theorem dX2_shared_5 : decode cX2_shared 5 = .ok (.iaload, 1) := dk_46 (dk_at dksX2_shared_0 5 rfl rfl)
theorem dX2_shared_6 : decode cX2_shared 6 = .ok (.aload_n 0, 1) := dk_42 (dk_at dksX2_shared_0 6 rfl rfl)
theorem dX2_shared_7 : decode cX2_shared 7 = .ok (.getfield 13, 3) := dk_180 0 13 (dk_at dksX2_shared_0 7 rfl rfl)
theorem dX2_shared_10 : decode cX2_shared 10 = .ok (.iload_n 2, 1) := dk_28 (dk_at dksX2_shared_0 10 rfl rfl)
theorem dX2_shared_11 : decode cX2_shared 11 = .ok (.iaload, 1) := dk_46 (dk_at dksX2_shared_0 11 rfl rfl)
theorem dX2_shared_12 : decode cX2_shared 12 = .ok (.iand, 1) := dk_126 (dk_at dksX2_shared_0 12 rfl rfl)
theorem dX2_shared_13 : decode cX2_shared 13 = .ok (.invokestatic 196, 3) := dk_184 0 196 (dk_at dksX2_shared_0 13 rfl rfl)
theorem dX2_shared_16 : decode cX2_shared 16 = .ok (.ireturn, 1) := dk_172 (dk_at dksX2_shared_0 16 rfl rfl)
abbrev cX2_hasHot : ByteArray := prog_8_method_37_code
def yX2_hasHot : MethodName := ⟨RX2, "hasHot", "(I)Z"⟩
def dkwX2_hasHot_1 : List UInt8 := [153, 0, 5, 4, 172, 132, 2, 1, 167, 255, 226, 3, 172]
abbrev dktX2_hasHot_1 : List UInt8 := dkwX2_hasHot_1 ++ []
def dkwX2_hasHot_0 : List UInt8 := [3, 61, 28, 42, 180, 0, 116, 163, 0, 28, 27, 28, 184, 0, 239, 153, 0, 14, 42, 180, 0, 19, 28, 51]
abbrev dktX2_hasHot_0 : List UInt8 := dkwX2_hasHot_0 ++ dktX2_hasHot_1
theorem dksX2_hasHot_0 : cX2_hasHot.data.toList.drop 0 = dktX2_hasHot_0 := by decide +kernel
theorem dksX2_hasHot_1 : cX2_hasHot.data.toList.drop 24 = dktX2_hasHot_1 := dk_seg dksX2_hasHot_0 24 rfl rfl
theorem dX2_hasHot_0 : decode cX2_hasHot 0 = .ok (.iconst 0, 1) := dk_3 (dk_at dksX2_hasHot_0 0 rfl rfl)
theorem dX2_hasHot_1 : decode cX2_hasHot 1 = .ok (.istore_n 2, 1) := dk_61 (dk_at dksX2_hasHot_0 1 rfl rfl)
theorem dX2_hasHot_2 : decode cX2_hasHot 2 = .ok (.iload_n 2, 1) := dk_28 (dk_at dksX2_hasHot_0 2 rfl rfl)
theorem dX2_hasHot_3 : decode cX2_hasHot 3 = .ok (.aload_n 0, 1) := dk_42 (dk_at dksX2_hasHot_0 3 rfl rfl)
theorem dX2_hasHot_4 : decode cX2_hasHot 4 = .ok (.getfield 116, 3) := dk_180 0 116 (dk_at dksX2_hasHot_0 4 rfl rfl)
theorem dX2_hasHot_7 : decode cX2_hasHot 7 = .ok (.if_icmp .gt 28, 3) := dk_163 0 28 (dk_at dksX2_hasHot_0 7 rfl rfl)
theorem dX2_hasHot_10 : decode cX2_hasHot 10 = .ok (.iload_n 1, 1) := dk_27 (dk_at dksX2_hasHot_0 10 rfl rfl)
theorem dX2_hasHot_11 : decode cX2_hasHot 11 = .ok (.iload_n 2, 1) := dk_28 (dk_at dksX2_hasHot_0 11 rfl rfl)
theorem dX2_hasHot_12 : decode cX2_hasHot 12 = .ok (.invokestatic 239, 3) := dk_184 0 239 (dk_at dksX2_hasHot_0 12 rfl rfl)
theorem dX2_hasHot_15 : decode cX2_hasHot 15 = .ok (.ifCond .eq 14, 3) := dk_153 0 14 (dk_at dksX2_hasHot_0 15 rfl rfl)
theorem dX2_hasHot_18 : decode cX2_hasHot 18 = .ok (.aload_n 0, 1) := dk_42 (dk_at dksX2_hasHot_0 18 rfl rfl)
theorem dX2_hasHot_19 : decode cX2_hasHot 19 = .ok (.getfield 19, 3) := dk_180 0 19 (dk_at dksX2_hasHot_0 19 rfl rfl)
theorem dX2_hasHot_22 : decode cX2_hasHot 22 = .ok (.iload_n 2, 1) := dk_28 (dk_at dksX2_hasHot_0 22 rfl rfl)
theorem dX2_hasHot_23 : decode cX2_hasHot 23 = .ok (.baload, 1) := dk_51 (dk_at dksX2_hasHot_0 23 rfl rfl)
theorem dX2_hasHot_24 : decode cX2_hasHot 24 = .ok (.ifCond .eq 5, 3) := dk_153 0 5 (dk_at dksX2_hasHot_1 0 rfl rfl)
theorem dX2_hasHot_27 : decode cX2_hasHot 27 = .ok (.iconst 1, 1) := dk_4 (dk_at dksX2_hasHot_1 3 rfl rfl)
theorem dX2_hasHot_28 : decode cX2_hasHot 28 = .ok (.ireturn, 1) := dk_172 (dk_at dksX2_hasHot_1 4 rfl rfl)
theorem dX2_hasHot_29 : decode cX2_hasHot 29 = .ok (.iinc 2 1, 3) := dk_132 2 1 (dk_at dksX2_hasHot_1 5 rfl rfl)
theorem dX2_hasHot_32 : decode cX2_hasHot 32 = .ok (.goto (-30), 3) := dk_167 255 226 (dk_at dksX2_hasHot_1 8 rfl rfl)
theorem dX2_hasHot_35 : decode cX2_hasHot 35 = .ok (.iconst 0, 1) := dk_3 (dk_at dksX2_hasHot_1 11 rfl rfl)
theorem dX2_hasHot_36 : decode cX2_hasHot 36 = .ok (.ireturn, 1) := dk_172 (dk_at dksX2_hasHot_1 12 rfl rfl)
abbrev cX2_fits : ByteArray := prog_8_method_38_code
def yX2_fits : MethodName := ⟨RX2, "fits", "(IIZ)Z"⟩
def dkwX2_fits_4 : List UInt8 := [21, 4, 46, 167, 0, 7, 42, 180, 0, 36, 164, 0, 5, 3, 172, 132, 4, 1, 167, 255, 148, 4, 172]
abbrev dktX2_fits_4 : List UInt8 := dkwX2_fits_4 ++ []
def dkwX2_fits_3 : List UInt8 := [167, 0, 4, 3, 96, 54, 5, 132, 6, 1, 167, 255, 210, 21, 5, 29, 153, 0, 13, 42, 180, 0, 9]
abbrev dktX2_fits_3 : List UInt8 := dkwX2_fits_3 ++ dktX2_fits_4
def dkwX2_fits_2 : List UInt8 := [184, 0, 239, 153, 0, 22, 42, 180, 0, 13, 21, 6, 46, 21, 4, 184, 0, 239, 153, 0, 7, 4]
abbrev dktX2_fits_2 : List UInt8 := dkwX2_fits_2 ++ dktX2_fits_3
def dkwX2_fits_1 : List UInt8 := [4, 167, 0, 4, 3, 54, 5, 3, 54, 6, 21, 6, 42, 180, 0, 116, 163, 0, 43, 21, 5, 27, 21, 6]
abbrev dktX2_fits_1 : List UInt8 := dkwX2_fits_1 ++ dktX2_fits_2
def dkwX2_fits_0 : List UInt8 := [3, 54, 4, 21, 4, 16, 8, 162, 0, 107, 42, 180, 0, 13, 28, 46, 21, 4, 184, 0, 239, 153, 0, 7]
abbrev dktX2_fits_0 : List UInt8 := dkwX2_fits_0 ++ dktX2_fits_1
theorem dksX2_fits_0 : cX2_fits.data.toList.drop 0 = dktX2_fits_0 := by decide +kernel
theorem dksX2_fits_1 : cX2_fits.data.toList.drop 24 = dktX2_fits_1 := dk_seg dksX2_fits_0 24 rfl rfl
theorem dksX2_fits_2 : cX2_fits.data.toList.drop 48 = dktX2_fits_2 := dk_seg dksX2_fits_1 24 rfl rfl
theorem dksX2_fits_3 : cX2_fits.data.toList.drop 70 = dktX2_fits_3 := dk_seg dksX2_fits_2 22 rfl rfl
theorem dksX2_fits_4 : cX2_fits.data.toList.drop 93 = dktX2_fits_4 := dk_seg dksX2_fits_3 23 rfl rfl
theorem dX2_fits_0 : decode cX2_fits 0 = .ok (.iconst 0, 1) := dk_3 (dk_at dksX2_fits_0 0 rfl rfl)
theorem dX2_fits_1 : decode cX2_fits 1 = .ok (.istore 4, 2) := dk_54 4 (dk_at dksX2_fits_0 1 rfl rfl)
theorem dX2_fits_3 : decode cX2_fits 3 = .ok (.iload 4, 2) := dk_21 4 (dk_at dksX2_fits_0 3 rfl rfl)
theorem dX2_fits_5 : decode cX2_fits 5 = .ok (.bipush 8, 2) := dk_16 8 (dk_at dksX2_fits_0 5 rfl rfl)
theorem dX2_fits_7 : decode cX2_fits 7 = .ok (.if_icmp .ge 107, 3) := dk_162 0 107 (dk_at dksX2_fits_0 7 rfl rfl)
theorem dX2_fits_10 : decode cX2_fits 10 = .ok (.aload_n 0, 1) := dk_42 (dk_at dksX2_fits_0 10 rfl rfl)
theorem dX2_fits_11 : decode cX2_fits 11 = .ok (.getfield 13, 3) := dk_180 0 13 (dk_at dksX2_fits_0 11 rfl rfl)
theorem dX2_fits_14 : decode cX2_fits 14 = .ok (.iload_n 2, 1) := dk_28 (dk_at dksX2_fits_0 14 rfl rfl)
theorem dX2_fits_15 : decode cX2_fits 15 = .ok (.iaload, 1) := dk_46 (dk_at dksX2_fits_0 15 rfl rfl)
theorem dX2_fits_16 : decode cX2_fits 16 = .ok (.iload 4, 2) := dk_21 4 (dk_at dksX2_fits_0 16 rfl rfl)
theorem dX2_fits_18 : decode cX2_fits 18 = .ok (.invokestatic 239, 3) := dk_184 0 239 (dk_at dksX2_fits_0 18 rfl rfl)
theorem dX2_fits_21 : decode cX2_fits 21 = .ok (.ifCond .eq 7, 3) := dk_153 0 7 (dk_at dksX2_fits_0 21 rfl rfl)
theorem dX2_fits_24 : decode cX2_fits 24 = .ok (.iconst 1, 1) := dk_4 (dk_at dksX2_fits_1 0 rfl rfl)
theorem dX2_fits_25 : decode cX2_fits 25 = .ok (.goto 4, 3) := dk_167 0 4 (dk_at dksX2_fits_1 1 rfl rfl)
theorem dX2_fits_28 : decode cX2_fits 28 = .ok (.iconst 0, 1) := dk_3 (dk_at dksX2_fits_1 4 rfl rfl)
theorem dX2_fits_29 : decode cX2_fits 29 = .ok (.istore 5, 2) := dk_54 5 (dk_at dksX2_fits_1 5 rfl rfl)
theorem dX2_fits_31 : decode cX2_fits 31 = .ok (.iconst 0, 1) := dk_3 (dk_at dksX2_fits_1 7 rfl rfl)
theorem dX2_fits_32 : decode cX2_fits 32 = .ok (.istore 6, 2) := dk_54 6 (dk_at dksX2_fits_1 8 rfl rfl)
theorem dX2_fits_34 : decode cX2_fits 34 = .ok (.iload 6, 2) := dk_21 6 (dk_at dksX2_fits_1 10 rfl rfl)
theorem dX2_fits_36 : decode cX2_fits 36 = .ok (.aload_n 0, 1) := dk_42 (dk_at dksX2_fits_1 12 rfl rfl)
theorem dX2_fits_37 : decode cX2_fits 37 = .ok (.getfield 116, 3) := dk_180 0 116 (dk_at dksX2_fits_1 13 rfl rfl)
theorem dX2_fits_40 : decode cX2_fits 40 = .ok (.if_icmp .gt 43, 3) := dk_163 0 43 (dk_at dksX2_fits_1 16 rfl rfl)
theorem dX2_fits_43 : decode cX2_fits 43 = .ok (.iload 5, 2) := dk_21 5 (dk_at dksX2_fits_1 19 rfl rfl)
theorem dX2_fits_45 : decode cX2_fits 45 = .ok (.iload_n 1, 1) := dk_27 (dk_at dksX2_fits_1 21 rfl rfl)
theorem dX2_fits_46 : decode cX2_fits 46 = .ok (.iload 6, 2) := dk_21 6 (dk_at dksX2_fits_1 22 rfl rfl)
theorem dX2_fits_48 : decode cX2_fits 48 = .ok (.invokestatic 239, 3) := dk_184 0 239 (dk_at dksX2_fits_2 0 rfl rfl)
theorem dX2_fits_51 : decode cX2_fits 51 = .ok (.ifCond .eq 22, 3) := dk_153 0 22 (dk_at dksX2_fits_2 3 rfl rfl)
theorem dX2_fits_54 : decode cX2_fits 54 = .ok (.aload_n 0, 1) := dk_42 (dk_at dksX2_fits_2 6 rfl rfl)
theorem dX2_fits_55 : decode cX2_fits 55 = .ok (.getfield 13, 3) := dk_180 0 13 (dk_at dksX2_fits_2 7 rfl rfl)
theorem dX2_fits_58 : decode cX2_fits 58 = .ok (.iload 6, 2) := dk_21 6 (dk_at dksX2_fits_2 10 rfl rfl)
theorem dX2_fits_60 : decode cX2_fits 60 = .ok (.iaload, 1) := dk_46 (dk_at dksX2_fits_2 12 rfl rfl)
theorem dX2_fits_61 : decode cX2_fits 61 = .ok (.iload 4, 2) := dk_21 4 (dk_at dksX2_fits_2 13 rfl rfl)
theorem dX2_fits_63 : decode cX2_fits 63 = .ok (.invokestatic 239, 3) := dk_184 0 239 (dk_at dksX2_fits_2 15 rfl rfl)
theorem dX2_fits_66 : decode cX2_fits 66 = .ok (.ifCond .eq 7, 3) := dk_153 0 7 (dk_at dksX2_fits_2 18 rfl rfl)
theorem dX2_fits_69 : decode cX2_fits 69 = .ok (.iconst 1, 1) := dk_4 (dk_at dksX2_fits_2 21 rfl rfl)
theorem dX2_fits_70 : decode cX2_fits 70 = .ok (.goto 4, 3) := dk_167 0 4 (dk_at dksX2_fits_3 0 rfl rfl)
theorem dX2_fits_73 : decode cX2_fits 73 = .ok (.iconst 0, 1) := dk_3 (dk_at dksX2_fits_3 3 rfl rfl)
theorem dX2_fits_74 : decode cX2_fits 74 = .ok (.iadd, 1) := dk_96 (dk_at dksX2_fits_3 4 rfl rfl)
theorem dX2_fits_75 : decode cX2_fits 75 = .ok (.istore 5, 2) := dk_54 5 (dk_at dksX2_fits_3 5 rfl rfl)
theorem dX2_fits_77 : decode cX2_fits 77 = .ok (.iinc 6 1, 3) := dk_132 6 1 (dk_at dksX2_fits_3 7 rfl rfl)
theorem dX2_fits_80 : decode cX2_fits 80 = .ok (.goto (-46), 3) := dk_167 255 210 (dk_at dksX2_fits_3 10 rfl rfl)
theorem dX2_fits_83 : decode cX2_fits 83 = .ok (.iload 5, 2) := dk_21 5 (dk_at dksX2_fits_3 13 rfl rfl)
theorem dX2_fits_85 : decode cX2_fits 85 = .ok (.iload_n 3, 1) := dk_29 (dk_at dksX2_fits_3 15 rfl rfl)
theorem dX2_fits_86 : decode cX2_fits 86 = .ok (.ifCond .eq 13, 3) := dk_153 0 13 (dk_at dksX2_fits_3 16 rfl rfl)
theorem dX2_fits_89 : decode cX2_fits 89 = .ok (.aload_n 0, 1) := dk_42 (dk_at dksX2_fits_3 19 rfl rfl)
theorem dX2_fits_90 : decode cX2_fits 90 = .ok (.getfield 9, 3) := dk_180 0 9 (dk_at dksX2_fits_3 20 rfl rfl)
theorem dX2_fits_93 : decode cX2_fits 93 = .ok (.iload 4, 2) := dk_21 4 (dk_at dksX2_fits_4 0 rfl rfl)
theorem dX2_fits_95 : decode cX2_fits 95 = .ok (.iaload, 1) := dk_46 (dk_at dksX2_fits_4 2 rfl rfl)
theorem dX2_fits_96 : decode cX2_fits 96 = .ok (.goto 7, 3) := dk_167 0 7 (dk_at dksX2_fits_4 3 rfl rfl)
theorem dX2_fits_99 : decode cX2_fits 99 = .ok (.aload_n 0, 1) := dk_42 (dk_at dksX2_fits_4 6 rfl rfl)
theorem dX2_fits_100 : decode cX2_fits 100 = .ok (.getfield 36, 3) := dk_180 0 36 (dk_at dksX2_fits_4 7 rfl rfl)
theorem dX2_fits_103 : decode cX2_fits 103 = .ok (.if_icmp .le 5, 3) := dk_164 0 5 (dk_at dksX2_fits_4 10 rfl rfl)
theorem dX2_fits_106 : decode cX2_fits 106 = .ok (.iconst 0, 1) := dk_3 (dk_at dksX2_fits_4 13 rfl rfl)
theorem dX2_fits_107 : decode cX2_fits 107 = .ok (.ireturn, 1) := dk_172 (dk_at dksX2_fits_4 14 rfl rfl)
theorem dX2_fits_108 : decode cX2_fits 108 = .ok (.iinc 4 1, 3) := dk_132 4 1 (dk_at dksX2_fits_4 15 rfl rfl)
theorem dX2_fits_111 : decode cX2_fits 111 = .ok (.goto (-108), 3) := dk_167 255 148 (dk_at dksX2_fits_4 18 rfl rfl)
theorem dX2_fits_114 : decode cX2_fits 114 = .ok (.iconst 1, 1) := dk_4 (dk_at dksX2_fits_4 21 rfl rfl)
theorem dX2_fits_115 : decode cX2_fits 115 = .ok (.ireturn, 1) := dk_172 (dk_at dksX2_fits_4 22 rfl rfl)
abbrev cX2_back : ByteArray := prog_8_method_43_code
def yX2_back : MethodName := ⟨RX2, "back", "()I"⟩
def dkwX2_back_1 : List UInt8 := [42, 180, 0, 39, 42, 180, 0, 252, 46, 172]
abbrev dktX2_back_1 : List UInt8 := dkwX2_back_1 ++ []
def dkwX2_back_0 : List UInt8 := [42, 3, 181, 0, 110, 42, 180, 0, 252, 154, 0, 5, 2, 172, 42, 89, 180, 0, 252, 4, 100, 181, 0, 252]
abbrev dktX2_back_0 : List UInt8 := dkwX2_back_0 ++ dktX2_back_1
theorem dksX2_back_0 : cX2_back.data.toList.drop 0 = dktX2_back_0 := by decide +kernel
theorem dksX2_back_1 : cX2_back.data.toList.drop 24 = dktX2_back_1 := dk_seg dksX2_back_0 24 rfl rfl
theorem dX2_back_0 : decode cX2_back 0 = .ok (.aload_n 0, 1) := dk_42 (dk_at dksX2_back_0 0 rfl rfl)
theorem dX2_back_1 : decode cX2_back 1 = .ok (.iconst 0, 1) := dk_3 (dk_at dksX2_back_0 1 rfl rfl)
theorem dX2_back_2 : decode cX2_back 2 = .ok (.putfield 110, 3) := dk_181 0 110 (dk_at dksX2_back_0 2 rfl rfl)
theorem dX2_back_5 : decode cX2_back 5 = .ok (.aload_n 0, 1) := dk_42 (dk_at dksX2_back_0 5 rfl rfl)
theorem dX2_back_6 : decode cX2_back 6 = .ok (.getfield 252, 3) := dk_180 0 252 (dk_at dksX2_back_0 6 rfl rfl)
theorem dX2_back_9 : decode cX2_back 9 = .ok (.ifCond .ne 5, 3) := dk_154 0 5 (dk_at dksX2_back_0 9 rfl rfl)
theorem dX2_back_12 : decode cX2_back 12 = .ok (.iconst (-1), 1) := dk_2 (dk_at dksX2_back_0 12 rfl rfl)
theorem dX2_back_13 : decode cX2_back 13 = .ok (.ireturn, 1) := dk_172 (dk_at dksX2_back_0 13 rfl rfl)
theorem dX2_back_14 : decode cX2_back 14 = .ok (.aload_n 0, 1) := dk_42 (dk_at dksX2_back_0 14 rfl rfl)
theorem dX2_back_15 : decode cX2_back 15 = .ok (.dup, 1) := dk_89 (dk_at dksX2_back_0 15 rfl rfl)
theorem dX2_back_16 : decode cX2_back 16 = .ok (.getfield 252, 3) := dk_180 0 252 (dk_at dksX2_back_0 16 rfl rfl)
theorem dX2_back_19 : decode cX2_back 19 = .ok (.iconst 1, 1) := dk_4 (dk_at dksX2_back_0 19 rfl rfl)
theorem dX2_back_20 : decode cX2_back 20 = .ok (.isub, 1) := dk_100 (dk_at dksX2_back_0 20 rfl rfl)
theorem dX2_back_21 : decode cX2_back 21 = .ok (.putfield 252, 3) := dk_181 0 252 (dk_at dksX2_back_0 21 rfl rfl)
theorem dX2_back_24 : decode cX2_back 24 = .ok (.aload_n 0, 1) := dk_42 (dk_at dksX2_back_1 0 rfl rfl)
theorem dX2_back_25 : decode cX2_back 25 = .ok (.getfield 39, 3) := dk_180 0 39 (dk_at dksX2_back_1 1 rfl rfl)
theorem dX2_back_28 : decode cX2_back 28 = .ok (.aload_n 0, 1) := dk_42 (dk_at dksX2_back_1 4 rfl rfl)
theorem dX2_back_29 : decode cX2_back 29 = .ok (.getfield 252, 3) := dk_180 0 252 (dk_at dksX2_back_1 5 rfl rfl)
theorem dX2_back_32 : decode cX2_back 32 = .ok (.iaload, 1) := dk_46 (dk_at dksX2_back_1 8 rfl rfl)
theorem dX2_back_33 : decode cX2_back 33 = .ok (.ireturn, 1) := dk_172 (dk_at dksX2_back_1 9 rfl rfl)
abbrev cX2_over : ByteArray := prog_8_method_44_code
def yX2_over : MethodName := ⟨RX2, "over", "()I"⟩
def dkwX2_over_3 : List UInt8 := [132, 1, 1, 167, 255, 191, 42, 180, 0, 252, 60, 42, 3, 181, 0, 252, 27, 172]
abbrev dktX2_over_3 : List UInt8 := dkwX2_over_3 ++ []
def dkwX2_over_2 : List UInt8 := [184, 0, 239, 153, 0, 7, 4, 167, 0, 4, 3, 100, 184, 0, 210, 79, 132, 2, 1, 167, 255, 207]
abbrev dktX2_over_2 : List UInt8 := dkwX2_over_2 ++ dktX2_over_3
def dkwX2_over_1 : List UInt8 := [180, 0, 9, 28, 3, 42, 180, 0, 9, 28, 46, 42, 180, 0, 13, 42, 180, 0, 39, 27, 46, 46, 28]
abbrev dktX2_over_1 : List UInt8 := dkwX2_over_1 ++ dktX2_over_2
def dkwX2_over_0 : List UInt8 := [42, 3, 181, 0, 110, 3, 60, 27, 42, 180, 0, 252, 162, 0, 63, 3, 61, 28, 16, 8, 162, 0, 49, 42]
abbrev dktX2_over_0 : List UInt8 := dkwX2_over_0 ++ dktX2_over_1
theorem dksX2_over_0 : cX2_over.data.toList.drop 0 = dktX2_over_0 := by decide +kernel
theorem dksX2_over_1 : cX2_over.data.toList.drop 24 = dktX2_over_1 := dk_seg dksX2_over_0 24 rfl rfl
theorem dksX2_over_2 : cX2_over.data.toList.drop 47 = dktX2_over_2 := dk_seg dksX2_over_1 23 rfl rfl
theorem dksX2_over_3 : cX2_over.data.toList.drop 69 = dktX2_over_3 := dk_seg dksX2_over_2 22 rfl rfl
theorem dX2_over_0 : decode cX2_over 0 = .ok (.aload_n 0, 1) := dk_42 (dk_at dksX2_over_0 0 rfl rfl)
theorem dX2_over_1 : decode cX2_over 1 = .ok (.iconst 0, 1) := dk_3 (dk_at dksX2_over_0 1 rfl rfl)
theorem dX2_over_2 : decode cX2_over 2 = .ok (.putfield 110, 3) := dk_181 0 110 (dk_at dksX2_over_0 2 rfl rfl)
theorem dX2_over_5 : decode cX2_over 5 = .ok (.iconst 0, 1) := dk_3 (dk_at dksX2_over_0 5 rfl rfl)
theorem dX2_over_6 : decode cX2_over 6 = .ok (.istore_n 1, 1) := dk_60 (dk_at dksX2_over_0 6 rfl rfl)
theorem dX2_over_7 : decode cX2_over 7 = .ok (.iload_n 1, 1) := dk_27 (dk_at dksX2_over_0 7 rfl rfl)
theorem dX2_over_8 : decode cX2_over 8 = .ok (.aload_n 0, 1) := dk_42 (dk_at dksX2_over_0 8 rfl rfl)
theorem dX2_over_9 : decode cX2_over 9 = .ok (.getfield 252, 3) := dk_180 0 252 (dk_at dksX2_over_0 9 rfl rfl)
theorem dX2_over_12 : decode cX2_over 12 = .ok (.if_icmp .ge 63, 3) := dk_162 0 63 (dk_at dksX2_over_0 12 rfl rfl)
theorem dX2_over_15 : decode cX2_over 15 = .ok (.iconst 0, 1) := dk_3 (dk_at dksX2_over_0 15 rfl rfl)
theorem dX2_over_16 : decode cX2_over 16 = .ok (.istore_n 2, 1) := dk_61 (dk_at dksX2_over_0 16 rfl rfl)
theorem dX2_over_17 : decode cX2_over 17 = .ok (.iload_n 2, 1) := dk_28 (dk_at dksX2_over_0 17 rfl rfl)
theorem dX2_over_18 : decode cX2_over 18 = .ok (.bipush 8, 2) := dk_16 8 (dk_at dksX2_over_0 18 rfl rfl)
theorem dX2_over_20 : decode cX2_over 20 = .ok (.if_icmp .ge 49, 3) := dk_162 0 49 (dk_at dksX2_over_0 20 rfl rfl)
theorem dX2_over_23 : decode cX2_over 23 = .ok (.aload_n 0, 1) := dk_42 (dk_at dksX2_over_0 23 rfl rfl)
theorem dX2_over_24 : decode cX2_over 24 = .ok (.getfield 9, 3) := dk_180 0 9 (dk_at dksX2_over_1 0 rfl rfl)
theorem dX2_over_27 : decode cX2_over 27 = .ok (.iload_n 2, 1) := dk_28 (dk_at dksX2_over_1 3 rfl rfl)
theorem dX2_over_28 : decode cX2_over 28 = .ok (.iconst 0, 1) := dk_3 (dk_at dksX2_over_1 4 rfl rfl)
theorem dX2_over_29 : decode cX2_over 29 = .ok (.aload_n 0, 1) := dk_42 (dk_at dksX2_over_1 5 rfl rfl)
theorem dX2_over_30 : decode cX2_over 30 = .ok (.getfield 9, 3) := dk_180 0 9 (dk_at dksX2_over_1 6 rfl rfl)
theorem dX2_over_33 : decode cX2_over 33 = .ok (.iload_n 2, 1) := dk_28 (dk_at dksX2_over_1 9 rfl rfl)
theorem dX2_over_34 : decode cX2_over 34 = .ok (.iaload, 1) := dk_46 (dk_at dksX2_over_1 10 rfl rfl)
theorem dX2_over_35 : decode cX2_over 35 = .ok (.aload_n 0, 1) := dk_42 (dk_at dksX2_over_1 11 rfl rfl)
theorem dX2_over_36 : decode cX2_over 36 = .ok (.getfield 13, 3) := dk_180 0 13 (dk_at dksX2_over_1 12 rfl rfl)
theorem dX2_over_39 : decode cX2_over 39 = .ok (.aload_n 0, 1) := dk_42 (dk_at dksX2_over_1 15 rfl rfl)
theorem dX2_over_40 : decode cX2_over 40 = .ok (.getfield 39, 3) := dk_180 0 39 (dk_at dksX2_over_1 16 rfl rfl)
theorem dX2_over_43 : decode cX2_over 43 = .ok (.iload_n 1, 1) := dk_27 (dk_at dksX2_over_1 19 rfl rfl)
theorem dX2_over_44 : decode cX2_over 44 = .ok (.iaload, 1) := dk_46 (dk_at dksX2_over_1 20 rfl rfl)
theorem dX2_over_45 : decode cX2_over 45 = .ok (.iaload, 1) := dk_46 (dk_at dksX2_over_1 21 rfl rfl)
theorem dX2_over_46 : decode cX2_over 46 = .ok (.iload_n 2, 1) := dk_28 (dk_at dksX2_over_1 22 rfl rfl)
theorem dX2_over_47 : decode cX2_over 47 = .ok (.invokestatic 239, 3) := dk_184 0 239 (dk_at dksX2_over_2 0 rfl rfl)
theorem dX2_over_50 : decode cX2_over 50 = .ok (.ifCond .eq 7, 3) := dk_153 0 7 (dk_at dksX2_over_2 3 rfl rfl)
theorem dX2_over_53 : decode cX2_over 53 = .ok (.iconst 1, 1) := dk_4 (dk_at dksX2_over_2 6 rfl rfl)
theorem dX2_over_54 : decode cX2_over 54 = .ok (.goto 4, 3) := dk_167 0 4 (dk_at dksX2_over_2 7 rfl rfl)
theorem dX2_over_57 : decode cX2_over 57 = .ok (.iconst 0, 1) := dk_3 (dk_at dksX2_over_2 10 rfl rfl)
theorem dX2_over_58 : decode cX2_over 58 = .ok (.isub, 1) := dk_100 (dk_at dksX2_over_2 11 rfl rfl)
theorem dX2_over_59 : decode cX2_over 59 = .ok (.invokestatic 210, 3) := dk_184 0 210 (dk_at dksX2_over_2 12 rfl rfl)
theorem dX2_over_62 : decode cX2_over 62 = .ok (.iastore, 1) := dk_79 (dk_at dksX2_over_2 15 rfl rfl)
theorem dX2_over_63 : decode cX2_over 63 = .ok (.iinc 2 1, 3) := dk_132 2 1 (dk_at dksX2_over_2 16 rfl rfl)
theorem dX2_over_66 : decode cX2_over 66 = .ok (.goto (-49), 3) := dk_167 255 207 (dk_at dksX2_over_2 19 rfl rfl)
theorem dX2_over_69 : decode cX2_over 69 = .ok (.iinc 1 1, 3) := dk_132 1 1 (dk_at dksX2_over_3 0 rfl rfl)
theorem dX2_over_72 : decode cX2_over 72 = .ok (.goto (-65), 3) := dk_167 255 191 (dk_at dksX2_over_3 3 rfl rfl)
theorem dX2_over_75 : decode cX2_over 75 = .ok (.aload_n 0, 1) := dk_42 (dk_at dksX2_over_3 6 rfl rfl)
theorem dX2_over_76 : decode cX2_over 76 = .ok (.getfield 252, 3) := dk_180 0 252 (dk_at dksX2_over_3 7 rfl rfl)
theorem dX2_over_79 : decode cX2_over 79 = .ok (.istore_n 1, 1) := dk_60 (dk_at dksX2_over_3 10 rfl rfl)
theorem dX2_over_80 : decode cX2_over 80 = .ok (.aload_n 0, 1) := dk_42 (dk_at dksX2_over_3 11 rfl rfl)
theorem dX2_over_81 : decode cX2_over 81 = .ok (.iconst 0, 1) := dk_3 (dk_at dksX2_over_3 12 rfl rfl)
theorem dX2_over_82 : decode cX2_over 82 = .ok (.putfield 252, 3) := dk_181 0 252 (dk_at dksX2_over_3 13 rfl rfl)
theorem dX2_over_85 : decode cX2_over 85 = .ok (.iload_n 1, 1) := dk_27 (dk_at dksX2_over_3 16 rfl rfl)
theorem dX2_over_86 : decode cX2_over 86 = .ok (.ireturn, 1) := dk_172 (dk_at dksX2_over_3 17 rfl rfl)
abbrev cX2_can : ByteArray := prog_8_method_45_code
def yX2_can : MethodName := ⟨RX2, "can", "()I"⟩
def dkwX2_can_2 : List UInt8 := [167, 255, 219, 27, 172]
abbrev dktX2_can_2 : List UInt8 := dkwX2_can_2 ++ []
def dkwX2_can_1 : List UInt8 := [182, 1, 2, 28, 182, 1, 5, 154, 0, 9, 4, 28, 120, 167, 0, 4, 3, 128, 60, 132, 2, 1]
abbrev dktX2_can_1 : List UInt8 := dkwX2_can_1 ++ dktX2_can_2
def dkwX2_can_0 : List UInt8 := [42, 3, 181, 0, 110, 3, 60, 3, 61, 28, 42, 180, 0, 116, 162, 0, 35, 27, 42, 42, 182, 0, 255, 42]
abbrev dktX2_can_0 : List UInt8 := dkwX2_can_0 ++ dktX2_can_1
theorem dksX2_can_0 : cX2_can.data.toList.drop 0 = dktX2_can_0 := by decide +kernel
theorem dksX2_can_1 : cX2_can.data.toList.drop 24 = dktX2_can_1 := dk_seg dksX2_can_0 24 rfl rfl
theorem dksX2_can_2 : cX2_can.data.toList.drop 46 = dktX2_can_2 := dk_seg dksX2_can_1 22 rfl rfl
theorem dX2_can_0 : decode cX2_can 0 = .ok (.aload_n 0, 1) := dk_42 (dk_at dksX2_can_0 0 rfl rfl)
theorem dX2_can_1 : decode cX2_can 1 = .ok (.iconst 0, 1) := dk_3 (dk_at dksX2_can_0 1 rfl rfl)
theorem dX2_can_2 : decode cX2_can 2 = .ok (.putfield 110, 3) := dk_181 0 110 (dk_at dksX2_can_0 2 rfl rfl)
theorem dX2_can_5 : decode cX2_can 5 = .ok (.iconst 0, 1) := dk_3 (dk_at dksX2_can_0 5 rfl rfl)
theorem dX2_can_6 : decode cX2_can 6 = .ok (.istore_n 1, 1) := dk_60 (dk_at dksX2_can_0 6 rfl rfl)
theorem dX2_can_7 : decode cX2_can 7 = .ok (.iconst 0, 1) := dk_3 (dk_at dksX2_can_0 7 rfl rfl)
theorem dX2_can_8 : decode cX2_can 8 = .ok (.istore_n 2, 1) := dk_61 (dk_at dksX2_can_0 8 rfl rfl)
theorem dX2_can_9 : decode cX2_can 9 = .ok (.iload_n 2, 1) := dk_28 (dk_at dksX2_can_0 9 rfl rfl)
theorem dX2_can_10 : decode cX2_can 10 = .ok (.aload_n 0, 1) := dk_42 (dk_at dksX2_can_0 10 rfl rfl)
theorem dX2_can_11 : decode cX2_can 11 = .ok (.getfield 116, 3) := dk_180 0 116 (dk_at dksX2_can_0 11 rfl rfl)
theorem dX2_can_14 : decode cX2_can 14 = .ok (.if_icmp .ge 35, 3) := dk_162 0 35 (dk_at dksX2_can_0 14 rfl rfl)
theorem dX2_can_17 : decode cX2_can 17 = .ok (.iload_n 1, 1) := dk_27 (dk_at dksX2_can_0 17 rfl rfl)
theorem dX2_can_18 : decode cX2_can 18 = .ok (.aload_n 0, 1) := dk_42 (dk_at dksX2_can_0 18 rfl rfl)
theorem dX2_can_19 : decode cX2_can 19 = .ok (.aload_n 0, 1) := dk_42 (dk_at dksX2_can_0 19 rfl rfl)
theorem dX2_can_20 : decode cX2_can 20 = .ok (.invokevirtual 255, 3) := dk_182 0 255 (dk_at dksX2_can_0 20 rfl rfl)
theorem dX2_can_23 : decode cX2_can 23 = .ok (.aload_n 0, 1) := dk_42 (dk_at dksX2_can_0 23 rfl rfl)
theorem dX2_can_24 : decode cX2_can 24 = .ok (.invokevirtual 258, 3) := dk_182 1 2 (dk_at dksX2_can_1 0 rfl rfl)
theorem dX2_can_27 : decode cX2_can 27 = .ok (.iload_n 2, 1) := dk_28 (dk_at dksX2_can_1 3 rfl rfl)
theorem dX2_can_28 : decode cX2_can 28 = .ok (.invokevirtual 261, 3) := dk_182 1 5 (dk_at dksX2_can_1 4 rfl rfl)
theorem dX2_can_31 : decode cX2_can 31 = .ok (.ifCond .ne 9, 3) := dk_154 0 9 (dk_at dksX2_can_1 7 rfl rfl)
theorem dX2_can_34 : decode cX2_can 34 = .ok (.iconst 1, 1) := dk_4 (dk_at dksX2_can_1 10 rfl rfl)
theorem dX2_can_35 : decode cX2_can 35 = .ok (.iload_n 2, 1) := dk_28 (dk_at dksX2_can_1 11 rfl rfl)
theorem dX2_can_36 : decode cX2_can 36 = .ok (.ishl, 1) := dk_120 (dk_at dksX2_can_1 12 rfl rfl)
theorem dX2_can_37 : decode cX2_can 37 = .ok (.goto 4, 3) := dk_167 0 4 (dk_at dksX2_can_1 13 rfl rfl)
theorem dX2_can_40 : decode cX2_can 40 = .ok (.iconst 0, 1) := dk_3 (dk_at dksX2_can_1 16 rfl rfl)
theorem dX2_can_41 : decode cX2_can 41 = .ok (.ior, 1) := dk_128 (dk_at dksX2_can_1 17 rfl rfl)
theorem dX2_can_42 : decode cX2_can 42 = .ok (.istore_n 1, 1) := dk_60 (dk_at dksX2_can_1 18 rfl rfl)
theorem dX2_can_43 : decode cX2_can 43 = .ok (.iinc 2 1, 3) := dk_132 2 1 (dk_at dksX2_can_1 19 rfl rfl)
theorem dX2_can_46 : decode cX2_can 46 = .ok (.goto (-37), 3) := dk_167 255 219 (dk_at dksX2_can_2 0 rfl rfl)
theorem dX2_can_49 : decode cX2_can 49 = .ok (.iload_n 1, 1) := dk_27 (dk_at dksX2_can_2 3 rfl rfl)
theorem dX2_can_50 : decode cX2_can 50 = .ok (.ireturn, 1) := dk_172 (dk_at dksX2_can_2 4 rfl rfl)
abbrev cX2_menu : ByteArray := prog_8_method_46_code
def yX2_menu : MethodName := ⟨RX2, "menu", "(I)I"⟩
def dkwX2_menu_9 : List UInt8 := [79, 42, 180, 0, 132, 172]
abbrev dktX2_menu_9 : List UInt8 := dkwX2_menu_9 ++ []
def dkwX2_menu_8 : List UInt8 := [180, 0, 48, 28, 51, 16, 65, 100, 79, 132, 2, 1, 167, 255, 209, 42, 180, 0, 45, 27, 42, 180, 0, 132]
abbrev dktX2_menu_8 : List UInt8 := dkwX2_menu_8 ++ dktX2_menu_9
def dkwX2_menu_7 : List UInt8 := [16, 10, 27, 104, 28, 96, 42, 180, 0, 48, 28, 51, 16, 63, 160, 0, 8, 16, 99, 167, 0, 12, 42]
abbrev dktX2_menu_7 : List UInt8 := dkwX2_menu_7 ++ dktX2_menu_8
def dkwX2_menu_6 : List UInt8 := [154, 0, 10, 2, 42, 180, 0, 141, 100, 172, 3, 61, 28, 42, 180, 0, 132, 162, 0, 45, 42, 180, 0, 42]
abbrev dktX2_menu_6 : List UInt8 := dkwX2_menu_6 ++ dktX2_menu_7
def dkwX2_menu_5 : List UInt8 := [180, 0, 138, 42, 180, 0, 132, 162, 0, 11, 42, 42, 180, 0, 138, 182, 0, 152, 42, 182, 0, 144]
abbrev dktX2_menu_5 : List UInt8 := dkwX2_menu_5 ++ dktX2_menu_6
def dkwX2_menu_4 : List UInt8 := [42, 180, 0, 138, 182, 0, 152, 167, 0, 13, 42, 89, 180, 0, 138, 4, 96, 181, 0, 138, 167, 255, 177, 42]
abbrev dktX2_menu_4 : List UInt8 := dkwX2_menu_4 ++ dktX2_menu_5
def dkwX2_menu_3 : List UInt8 := [16, 63, 159, 0, 32, 28, 16, 65, 16, 65, 42, 180, 0, 116, 96, 4, 100, 184, 0, 119, 154, 0, 14, 42]
abbrev dktX2_menu_3 : List UInt8 := dkwX2_menu_3 ++ dktX2_menu_4
def dkwX2_menu_2 : List UInt8 := [180, 0, 132, 162, 0, 67, 42, 180, 0, 138, 42, 180, 0, 135, 162, 0, 56, 42, 182, 0, 148, 61, 28]
abbrev dktX2_menu_2 : List UInt8 := dkwX2_menu_2 ++ dktX2_menu_3
def dkwX2_menu_1 : List UInt8 := [27, 3, 5, 184, 0, 119, 154, 0, 6, 16, 156, 172, 42, 182, 0, 144, 153, 0, 78, 42, 180, 0, 138, 42]
abbrev dktX2_menu_1 : List UInt8 := dkwX2_menu_1 ++ dktX2_menu_2
def dkwX2_menu_0 : List UInt8 := [42, 3, 181, 0, 110, 42, 42, 180, 0, 48, 42, 180, 0, 126, 16, 10, 182, 0, 156, 42, 3, 181, 0, 126]
abbrev dktX2_menu_0 : List UInt8 := dkwX2_menu_0 ++ dktX2_menu_1
theorem dksX2_menu_0 : cX2_menu.data.toList.drop 0 = dktX2_menu_0 := by decide +kernel
theorem dksX2_menu_1 : cX2_menu.data.toList.drop 24 = dktX2_menu_1 := dk_seg dksX2_menu_0 24 rfl rfl
theorem dksX2_menu_2 : cX2_menu.data.toList.drop 48 = dktX2_menu_2 := dk_seg dksX2_menu_1 24 rfl rfl
theorem dksX2_menu_3 : cX2_menu.data.toList.drop 71 = dktX2_menu_3 := dk_seg dksX2_menu_2 23 rfl rfl
theorem dksX2_menu_4 : cX2_menu.data.toList.drop 95 = dktX2_menu_4 := dk_seg dksX2_menu_3 24 rfl rfl
theorem dksX2_menu_5 : cX2_menu.data.toList.drop 119 = dktX2_menu_5 := dk_seg dksX2_menu_4 24 rfl rfl
theorem dksX2_menu_6 : cX2_menu.data.toList.drop 141 = dktX2_menu_6 := dk_seg dksX2_menu_5 22 rfl rfl
theorem dksX2_menu_7 : cX2_menu.data.toList.drop 165 = dktX2_menu_7 := dk_seg dksX2_menu_6 24 rfl rfl
theorem dksX2_menu_8 : cX2_menu.data.toList.drop 188 = dktX2_menu_8 := dk_seg dksX2_menu_7 23 rfl rfl
theorem dksX2_menu_9 : cX2_menu.data.toList.drop 212 = dktX2_menu_9 := dk_seg dksX2_menu_8 24 rfl rfl
theorem dX2_menu_0 : decode cX2_menu 0 = .ok (.aload_n 0, 1) := dk_42 (dk_at dksX2_menu_0 0 rfl rfl)
theorem dX2_menu_1 : decode cX2_menu 1 = .ok (.iconst 0, 1) := dk_3 (dk_at dksX2_menu_0 1 rfl rfl)
theorem dX2_menu_2 : decode cX2_menu 2 = .ok (.putfield 110, 3) := dk_181 0 110 (dk_at dksX2_menu_0 2 rfl rfl)
theorem dX2_menu_5 : decode cX2_menu 5 = .ok (.aload_n 0, 1) := dk_42 (dk_at dksX2_menu_0 5 rfl rfl)
theorem dX2_menu_6 : decode cX2_menu 6 = .ok (.aload_n 0, 1) := dk_42 (dk_at dksX2_menu_0 6 rfl rfl)
theorem dX2_menu_7 : decode cX2_menu 7 = .ok (.getfield 48, 3) := dk_180 0 48 (dk_at dksX2_menu_0 7 rfl rfl)
theorem dX2_menu_10 : decode cX2_menu 10 = .ok (.aload_n 0, 1) := dk_42 (dk_at dksX2_menu_0 10 rfl rfl)
theorem dX2_menu_11 : decode cX2_menu 11 = .ok (.getfield 126, 3) := dk_180 0 126 (dk_at dksX2_menu_0 11 rfl rfl)
theorem dX2_menu_14 : decode cX2_menu 14 = .ok (.bipush 10, 2) := dk_16 10 (dk_at dksX2_menu_0 14 rfl rfl)
theorem dX2_menu_16 : decode cX2_menu 16 = .ok (.invokevirtual 156, 3) := dk_182 0 156 (dk_at dksX2_menu_0 16 rfl rfl)
theorem dX2_menu_19 : decode cX2_menu 19 = .ok (.aload_n 0, 1) := dk_42 (dk_at dksX2_menu_0 19 rfl rfl)
theorem dX2_menu_20 : decode cX2_menu 20 = .ok (.iconst 0, 1) := dk_3 (dk_at dksX2_menu_0 20 rfl rfl)
theorem dX2_menu_21 : decode cX2_menu 21 = .ok (.putfield 126, 3) := dk_181 0 126 (dk_at dksX2_menu_0 21 rfl rfl)
theorem dX2_menu_24 : decode cX2_menu 24 = .ok (.iload_n 1, 1) := dk_27 (dk_at dksX2_menu_1 0 rfl rfl)
theorem dX2_menu_25 : decode cX2_menu 25 = .ok (.iconst 0, 1) := dk_3 (dk_at dksX2_menu_1 1 rfl rfl)
theorem dX2_menu_26 : decode cX2_menu 26 = .ok (.iconst 2, 1) := dk_5 (dk_at dksX2_menu_1 2 rfl rfl)
theorem dX2_menu_27 : decode cX2_menu 27 = .ok (.invokestatic 119, 3) := dk_184 0 119 (dk_at dksX2_menu_1 3 rfl rfl)
theorem dX2_menu_30 : decode cX2_menu 30 = .ok (.ifCond .ne 6, 3) := dk_154 0 6 (dk_at dksX2_menu_1 6 rfl rfl)
theorem dX2_menu_33 : decode cX2_menu 33 = .ok (.bipush (-100), 2) := dk_16 156 (dk_at dksX2_menu_1 9 rfl rfl)
theorem dX2_menu_35 : decode cX2_menu 35 = .ok (.ireturn, 1) := dk_172 (dk_at dksX2_menu_1 11 rfl rfl)
theorem dX2_menu_36 : decode cX2_menu 36 = .ok (.aload_n 0, 1) := dk_42 (dk_at dksX2_menu_1 12 rfl rfl)
theorem dX2_menu_37 : decode cX2_menu 37 = .ok (.invokevirtual 144, 3) := dk_182 0 144 (dk_at dksX2_menu_1 13 rfl rfl)
theorem dX2_menu_40 : decode cX2_menu 40 = .ok (.ifCond .eq 78, 3) := dk_153 0 78 (dk_at dksX2_menu_1 16 rfl rfl)
theorem dX2_menu_43 : decode cX2_menu 43 = .ok (.aload_n 0, 1) := dk_42 (dk_at dksX2_menu_1 19 rfl rfl)
theorem dX2_menu_44 : decode cX2_menu 44 = .ok (.getfield 138, 3) := dk_180 0 138 (dk_at dksX2_menu_1 20 rfl rfl)
theorem dX2_menu_47 : decode cX2_menu 47 = .ok (.aload_n 0, 1) := dk_42 (dk_at dksX2_menu_1 23 rfl rfl)
theorem dX2_menu_48 : decode cX2_menu 48 = .ok (.getfield 132, 3) := dk_180 0 132 (dk_at dksX2_menu_2 0 rfl rfl)
theorem dX2_menu_51 : decode cX2_menu 51 = .ok (.if_icmp .ge 67, 3) := dk_162 0 67 (dk_at dksX2_menu_2 3 rfl rfl)
theorem dX2_menu_54 : decode cX2_menu 54 = .ok (.aload_n 0, 1) := dk_42 (dk_at dksX2_menu_2 6 rfl rfl)
theorem dX2_menu_55 : decode cX2_menu 55 = .ok (.getfield 138, 3) := dk_180 0 138 (dk_at dksX2_menu_2 7 rfl rfl)
theorem dX2_menu_58 : decode cX2_menu 58 = .ok (.aload_n 0, 1) := dk_42 (dk_at dksX2_menu_2 10 rfl rfl)
theorem dX2_menu_59 : decode cX2_menu 59 = .ok (.getfield 135, 3) := dk_180 0 135 (dk_at dksX2_menu_2 11 rfl rfl)
theorem dX2_menu_62 : decode cX2_menu 62 = .ok (.if_icmp .ge 56, 3) := dk_162 0 56 (dk_at dksX2_menu_2 14 rfl rfl)
theorem dX2_menu_65 : decode cX2_menu 65 = .ok (.aload_n 0, 1) := dk_42 (dk_at dksX2_menu_2 17 rfl rfl)
theorem dX2_menu_66 : decode cX2_menu 66 = .ok (.invokevirtual 148, 3) := dk_182 0 148 (dk_at dksX2_menu_2 18 rfl rfl)
theorem dX2_menu_69 : decode cX2_menu 69 = .ok (.istore_n 2, 1) := dk_61 (dk_at dksX2_menu_2 21 rfl rfl)
theorem dX2_menu_70 : decode cX2_menu 70 = .ok (.iload_n 2, 1) := dk_28 (dk_at dksX2_menu_2 22 rfl rfl)
theorem dX2_menu_71 : decode cX2_menu 71 = .ok (.bipush 63, 2) := dk_16 63 (dk_at dksX2_menu_3 0 rfl rfl)
theorem dX2_menu_73 : decode cX2_menu 73 = .ok (.if_icmp .eq 32, 3) := dk_159 0 32 (dk_at dksX2_menu_3 2 rfl rfl)
theorem dX2_menu_76 : decode cX2_menu 76 = .ok (.iload_n 2, 1) := dk_28 (dk_at dksX2_menu_3 5 rfl rfl)
theorem dX2_menu_77 : decode cX2_menu 77 = .ok (.bipush 65, 2) := dk_16 65 (dk_at dksX2_menu_3 6 rfl rfl)
theorem dX2_menu_79 : decode cX2_menu 79 = .ok (.bipush 65, 2) := dk_16 65 (dk_at dksX2_menu_3 8 rfl rfl)
theorem dX2_menu_81 : decode cX2_menu 81 = .ok (.aload_n 0, 1) := dk_42 (dk_at dksX2_menu_3 10 rfl rfl)
theorem dX2_menu_82 : decode cX2_menu 82 = .ok (.getfield 116, 3) := dk_180 0 116 (dk_at dksX2_menu_3 11 rfl rfl)
theorem dX2_menu_85 : decode cX2_menu 85 = .ok (.iadd, 1) := dk_96 (dk_at dksX2_menu_3 14 rfl rfl)
theorem dX2_menu_86 : decode cX2_menu 86 = .ok (.iconst 1, 1) := dk_4 (dk_at dksX2_menu_3 15 rfl rfl)
theorem dX2_menu_87 : decode cX2_menu 87 = .ok (.isub, 1) := dk_100 (dk_at dksX2_menu_3 16 rfl rfl)
theorem dX2_menu_88 : decode cX2_menu 88 = .ok (.invokestatic 119, 3) := dk_184 0 119 (dk_at dksX2_menu_3 17 rfl rfl)
theorem dX2_menu_91 : decode cX2_menu 91 = .ok (.ifCond .ne 14, 3) := dk_154 0 14 (dk_at dksX2_menu_3 20 rfl rfl)
theorem dX2_menu_94 : decode cX2_menu 94 = .ok (.aload_n 0, 1) := dk_42 (dk_at dksX2_menu_3 23 rfl rfl)
theorem dX2_menu_95 : decode cX2_menu 95 = .ok (.aload_n 0, 1) := dk_42 (dk_at dksX2_menu_4 0 rfl rfl)
theorem dX2_menu_96 : decode cX2_menu 96 = .ok (.getfield 138, 3) := dk_180 0 138 (dk_at dksX2_menu_4 1 rfl rfl)
theorem dX2_menu_99 : decode cX2_menu 99 = .ok (.invokevirtual 152, 3) := dk_182 0 152 (dk_at dksX2_menu_4 4 rfl rfl)
theorem dX2_menu_102 : decode cX2_menu 102 = .ok (.goto 13, 3) := dk_167 0 13 (dk_at dksX2_menu_4 7 rfl rfl)
theorem dX2_menu_105 : decode cX2_menu 105 = .ok (.aload_n 0, 1) := dk_42 (dk_at dksX2_menu_4 10 rfl rfl)
theorem dX2_menu_106 : decode cX2_menu 106 = .ok (.dup, 1) := dk_89 (dk_at dksX2_menu_4 11 rfl rfl)
theorem dX2_menu_107 : decode cX2_menu 107 = .ok (.getfield 138, 3) := dk_180 0 138 (dk_at dksX2_menu_4 12 rfl rfl)
theorem dX2_menu_110 : decode cX2_menu 110 = .ok (.iconst 1, 1) := dk_4 (dk_at dksX2_menu_4 15 rfl rfl)
theorem dX2_menu_111 : decode cX2_menu 111 = .ok (.iadd, 1) := dk_96 (dk_at dksX2_menu_4 16 rfl rfl)
theorem dX2_menu_112 : decode cX2_menu 112 = .ok (.putfield 138, 3) := dk_181 0 138 (dk_at dksX2_menu_4 17 rfl rfl)
theorem dX2_menu_115 : decode cX2_menu 115 = .ok (.goto (-79), 3) := dk_167 255 177 (dk_at dksX2_menu_4 20 rfl rfl)
theorem dX2_menu_118 : decode cX2_menu 118 = .ok (.aload_n 0, 1) := dk_42 (dk_at dksX2_menu_4 23 rfl rfl)
theorem dX2_menu_119 : decode cX2_menu 119 = .ok (.getfield 138, 3) := dk_180 0 138 (dk_at dksX2_menu_5 0 rfl rfl)
theorem dX2_menu_122 : decode cX2_menu 122 = .ok (.aload_n 0, 1) := dk_42 (dk_at dksX2_menu_5 3 rfl rfl)
theorem dX2_menu_123 : decode cX2_menu 123 = .ok (.getfield 132, 3) := dk_180 0 132 (dk_at dksX2_menu_5 4 rfl rfl)
theorem dX2_menu_126 : decode cX2_menu 126 = .ok (.if_icmp .ge 11, 3) := dk_162 0 11 (dk_at dksX2_menu_5 7 rfl rfl)
theorem dX2_menu_129 : decode cX2_menu 129 = .ok (.aload_n 0, 1) := dk_42 (dk_at dksX2_menu_5 10 rfl rfl)
theorem dX2_menu_130 : decode cX2_menu 130 = .ok (.aload_n 0, 1) := dk_42 (dk_at dksX2_menu_5 11 rfl rfl)
theorem dX2_menu_131 : decode cX2_menu 131 = .ok (.getfield 138, 3) := dk_180 0 138 (dk_at dksX2_menu_5 12 rfl rfl)
theorem dX2_menu_134 : decode cX2_menu 134 = .ok (.invokevirtual 152, 3) := dk_182 0 152 (dk_at dksX2_menu_5 15 rfl rfl)
theorem dX2_menu_137 : decode cX2_menu 137 = .ok (.aload_n 0, 1) := dk_42 (dk_at dksX2_menu_5 18 rfl rfl)
theorem dX2_menu_138 : decode cX2_menu 138 = .ok (.invokevirtual 144, 3) := dk_182 0 144 (dk_at dksX2_menu_5 19 rfl rfl)
theorem dX2_menu_141 : decode cX2_menu 141 = .ok (.ifCond .ne 10, 3) := dk_154 0 10 (dk_at dksX2_menu_6 0 rfl rfl)
theorem dX2_menu_144 : decode cX2_menu 144 = .ok (.iconst (-1), 1) := dk_2 (dk_at dksX2_menu_6 3 rfl rfl)
theorem dX2_menu_145 : decode cX2_menu 145 = .ok (.aload_n 0, 1) := dk_42 (dk_at dksX2_menu_6 4 rfl rfl)
theorem dX2_menu_146 : decode cX2_menu 146 = .ok (.getfield 141, 3) := dk_180 0 141 (dk_at dksX2_menu_6 5 rfl rfl)
theorem dX2_menu_149 : decode cX2_menu 149 = .ok (.isub, 1) := dk_100 (dk_at dksX2_menu_6 8 rfl rfl)
theorem dX2_menu_150 : decode cX2_menu 150 = .ok (.ireturn, 1) := dk_172 (dk_at dksX2_menu_6 9 rfl rfl)
theorem dX2_menu_151 : decode cX2_menu 151 = .ok (.iconst 0, 1) := dk_3 (dk_at dksX2_menu_6 10 rfl rfl)
theorem dX2_menu_152 : decode cX2_menu 152 = .ok (.istore_n 2, 1) := dk_61 (dk_at dksX2_menu_6 11 rfl rfl)
theorem dX2_menu_153 : decode cX2_menu 153 = .ok (.iload_n 2, 1) := dk_28 (dk_at dksX2_menu_6 12 rfl rfl)
theorem dX2_menu_154 : decode cX2_menu 154 = .ok (.aload_n 0, 1) := dk_42 (dk_at dksX2_menu_6 13 rfl rfl)
theorem dX2_menu_155 : decode cX2_menu 155 = .ok (.getfield 132, 3) := dk_180 0 132 (dk_at dksX2_menu_6 14 rfl rfl)
theorem dX2_menu_158 : decode cX2_menu 158 = .ok (.if_icmp .ge 45, 3) := dk_162 0 45 (dk_at dksX2_menu_6 17 rfl rfl)
theorem dX2_menu_161 : decode cX2_menu 161 = .ok (.aload_n 0, 1) := dk_42 (dk_at dksX2_menu_6 20 rfl rfl)
theorem dX2_menu_162 : decode cX2_menu 162 = .ok (.getfield 42, 3) := dk_180 0 42 (dk_at dksX2_menu_6 21 rfl rfl)
theorem dX2_menu_165 : decode cX2_menu 165 = .ok (.bipush 10, 2) := dk_16 10 (dk_at dksX2_menu_7 0 rfl rfl)
theorem dX2_menu_167 : decode cX2_menu 167 = .ok (.iload_n 1, 1) := dk_27 (dk_at dksX2_menu_7 2 rfl rfl)
theorem dX2_menu_168 : decode cX2_menu 168 = .ok (.imul, 1) := dk_104 (dk_at dksX2_menu_7 3 rfl rfl)
theorem dX2_menu_169 : decode cX2_menu 169 = .ok (.iload_n 2, 1) := dk_28 (dk_at dksX2_menu_7 4 rfl rfl)
theorem dX2_menu_170 : decode cX2_menu 170 = .ok (.iadd, 1) := dk_96 (dk_at dksX2_menu_7 5 rfl rfl)
theorem dX2_menu_171 : decode cX2_menu 171 = .ok (.aload_n 0, 1) := dk_42 (dk_at dksX2_menu_7 6 rfl rfl)
theorem dX2_menu_172 : decode cX2_menu 172 = .ok (.getfield 48, 3) := dk_180 0 48 (dk_at dksX2_menu_7 7 rfl rfl)
theorem dX2_menu_175 : decode cX2_menu 175 = .ok (.iload_n 2, 1) := dk_28 (dk_at dksX2_menu_7 10 rfl rfl)
theorem dX2_menu_176 : decode cX2_menu 176 = .ok (.baload, 1) := dk_51 (dk_at dksX2_menu_7 11 rfl rfl)
theorem dX2_menu_177 : decode cX2_menu 177 = .ok (.bipush 63, 2) := dk_16 63 (dk_at dksX2_menu_7 12 rfl rfl)
theorem dX2_menu_179 : decode cX2_menu 179 = .ok (.if_icmp .ne 8, 3) := dk_160 0 8 (dk_at dksX2_menu_7 14 rfl rfl)
theorem dX2_menu_182 : decode cX2_menu 182 = .ok (.bipush 99, 2) := dk_16 99 (dk_at dksX2_menu_7 17 rfl rfl)
theorem dX2_menu_184 : decode cX2_menu 184 = .ok (.goto 12, 3) := dk_167 0 12 (dk_at dksX2_menu_7 19 rfl rfl)
theorem dX2_menu_187 : decode cX2_menu 187 = .ok (.aload_n 0, 1) := dk_42 (dk_at dksX2_menu_7 22 rfl rfl)
theorem dX2_menu_188 : decode cX2_menu 188 = .ok (.getfield 48, 3) := dk_180 0 48 (dk_at dksX2_menu_8 0 rfl rfl)
theorem dX2_menu_191 : decode cX2_menu 191 = .ok (.iload_n 2, 1) := dk_28 (dk_at dksX2_menu_8 3 rfl rfl)
theorem dX2_menu_192 : decode cX2_menu 192 = .ok (.baload, 1) := dk_51 (dk_at dksX2_menu_8 4 rfl rfl)
theorem dX2_menu_193 : decode cX2_menu 193 = .ok (.bipush 65, 2) := dk_16 65 (dk_at dksX2_menu_8 5 rfl rfl)
theorem dX2_menu_195 : decode cX2_menu 195 = .ok (.isub, 1) := dk_100 (dk_at dksX2_menu_8 7 rfl rfl)
theorem dX2_menu_196 : decode cX2_menu 196 = .ok (.iastore, 1) := dk_79 (dk_at dksX2_menu_8 8 rfl rfl)
theorem dX2_menu_197 : decode cX2_menu 197 = .ok (.iinc 2 1, 3) := dk_132 2 1 (dk_at dksX2_menu_8 9 rfl rfl)
theorem dX2_menu_200 : decode cX2_menu 200 = .ok (.goto (-47), 3) := dk_167 255 209 (dk_at dksX2_menu_8 12 rfl rfl)
theorem dX2_menu_203 : decode cX2_menu 203 = .ok (.aload_n 0, 1) := dk_42 (dk_at dksX2_menu_8 15 rfl rfl)
theorem dX2_menu_204 : decode cX2_menu 204 = .ok (.getfield 45, 3) := dk_180 0 45 (dk_at dksX2_menu_8 16 rfl rfl)
theorem dX2_menu_207 : decode cX2_menu 207 = .ok (.iload_n 1, 1) := dk_27 (dk_at dksX2_menu_8 19 rfl rfl)
theorem dX2_menu_208 : decode cX2_menu 208 = .ok (.aload_n 0, 1) := dk_42 (dk_at dksX2_menu_8 20 rfl rfl)
theorem dX2_menu_209 : decode cX2_menu 209 = .ok (.getfield 132, 3) := dk_180 0 132 (dk_at dksX2_menu_8 21 rfl rfl)
theorem dX2_menu_212 : decode cX2_menu 212 = .ok (.iastore, 1) := dk_79 (dk_at dksX2_menu_9 0 rfl rfl)
theorem dX2_menu_213 : decode cX2_menu 213 = .ok (.aload_n 0, 1) := dk_42 (dk_at dksX2_menu_9 1 rfl rfl)
theorem dX2_menu_214 : decode cX2_menu 214 = .ok (.getfield 132, 3) := dk_180 0 132 (dk_at dksX2_menu_9 2 rfl rfl)
theorem dX2_menu_217 : decode cX2_menu 217 = .ok (.ireturn, 1) := dk_172 (dk_at dksX2_menu_9 5 rfl rfl)
abbrev cX2_look : ByteArray := prog_8_method_51_code
def yX2_look : MethodName := ⟨RX2, "look", "(I)I"⟩
def dkwX2_look_3 : List UInt8 := [167, 0, 4, 28, 172]
abbrev dktX2_look_3 : List UInt8 := dkwX2_look_3 ++ []
def dkwX2_look_2 : List UInt8 := [182, 1, 33, 42, 42, 180, 1, 24, 182, 1, 33, 28, 42, 180, 0, 45, 27, 46, 160, 0, 8, 16, 254]
abbrev dktX2_look_2 : List UInt8 := dkwX2_look_2 ++ dktX2_look_3
def dkwX2_look_1 : List UInt8 := [182, 1, 30, 61, 42, 3, 181, 0, 113, 42, 42, 180, 1, 18, 182, 1, 33, 42, 42, 180, 1, 21]
abbrev dktX2_look_1 : List UInt8 := dkwX2_look_1 ++ dktX2_look_2
def dkwX2_look_0 : List UInt8 := [42, 3, 181, 0, 110, 42, 27, 182, 1, 9, 154, 0, 6, 16, 253, 172, 42, 182, 1, 27, 42, 27]
abbrev dktX2_look_0 : List UInt8 := dkwX2_look_0 ++ dktX2_look_1
theorem dksX2_look_0 : cX2_look.data.toList.drop 0 = dktX2_look_0 := by decide +kernel
theorem dksX2_look_1 : cX2_look.data.toList.drop 22 = dktX2_look_1 := dk_seg dksX2_look_0 22 rfl rfl
theorem dksX2_look_2 : cX2_look.data.toList.drop 44 = dktX2_look_2 := dk_seg dksX2_look_1 22 rfl rfl
theorem dksX2_look_3 : cX2_look.data.toList.drop 67 = dktX2_look_3 := dk_seg dksX2_look_2 23 rfl rfl
theorem dX2_look_0 : decode cX2_look 0 = .ok (.aload_n 0, 1) := dk_42 (dk_at dksX2_look_0 0 rfl rfl)
theorem dX2_look_1 : decode cX2_look 1 = .ok (.iconst 0, 1) := dk_3 (dk_at dksX2_look_0 1 rfl rfl)
theorem dX2_look_2 : decode cX2_look 2 = .ok (.putfield 110, 3) := dk_181 0 110 (dk_at dksX2_look_0 2 rfl rfl)
theorem dX2_look_5 : decode cX2_look 5 = .ok (.aload_n 0, 1) := dk_42 (dk_at dksX2_look_0 5 rfl rfl)
theorem dX2_look_6 : decode cX2_look 6 = .ok (.iload_n 1, 1) := dk_27 (dk_at dksX2_look_0 6 rfl rfl)
theorem dX2_look_7 : decode cX2_look 7 = .ok (.invokevirtual 265, 3) := dk_182 1 9 (dk_at dksX2_look_0 7 rfl rfl)
theorem dX2_look_10 : decode cX2_look 10 = .ok (.ifCond .ne 6, 3) := dk_154 0 6 (dk_at dksX2_look_0 10 rfl rfl)
theorem dX2_look_13 : decode cX2_look 13 = .ok (.bipush (-3), 2) := dk_16 253 (dk_at dksX2_look_0 13 rfl rfl)
theorem dX2_look_15 : decode cX2_look 15 = .ok (.ireturn, 1) := dk_172 (dk_at dksX2_look_0 15 rfl rfl)
theorem dX2_look_16 : decode cX2_look 16 = .ok (.aload_n 0, 1) := dk_42 (dk_at dksX2_look_0 16 rfl rfl)
theorem dX2_look_17 : decode cX2_look 17 = .ok (.invokevirtual 283, 3) := dk_182 1 27 (dk_at dksX2_look_0 17 rfl rfl)
theorem dX2_look_20 : decode cX2_look 20 = .ok (.aload_n 0, 1) := dk_42 (dk_at dksX2_look_0 20 rfl rfl)
theorem dX2_look_21 : decode cX2_look 21 = .ok (.iload_n 1, 1) := dk_27 (dk_at dksX2_look_0 21 rfl rfl)
theorem dX2_look_22 : decode cX2_look 22 = .ok (.invokevirtual 286, 3) := dk_182 1 30 (dk_at dksX2_look_1 0 rfl rfl)
theorem dX2_look_25 : decode cX2_look 25 = .ok (.istore_n 2, 1) := dk_61 (dk_at dksX2_look_1 3 rfl rfl)
theorem dX2_look_26 : decode cX2_look 26 = .ok (.aload_n 0, 1) := dk_42 (dk_at dksX2_look_1 4 rfl rfl)
theorem dX2_look_27 : decode cX2_look 27 = .ok (.iconst 0, 1) := dk_3 (dk_at dksX2_look_1 5 rfl rfl)
theorem dX2_look_28 : decode cX2_look 28 = .ok (.putfield 113, 3) := dk_181 0 113 (dk_at dksX2_look_1 6 rfl rfl)
theorem dX2_look_31 : decode cX2_look 31 = .ok (.aload_n 0, 1) := dk_42 (dk_at dksX2_look_1 9 rfl rfl)
theorem dX2_look_32 : decode cX2_look 32 = .ok (.aload_n 0, 1) := dk_42 (dk_at dksX2_look_1 10 rfl rfl)
theorem dX2_look_33 : decode cX2_look 33 = .ok (.getfield 274, 3) := dk_180 1 18 (dk_at dksX2_look_1 11 rfl rfl)
theorem dX2_look_36 : decode cX2_look 36 = .ok (.invokevirtual 289, 3) := dk_182 1 33 (dk_at dksX2_look_1 14 rfl rfl)
theorem dX2_look_39 : decode cX2_look 39 = .ok (.aload_n 0, 1) := dk_42 (dk_at dksX2_look_1 17 rfl rfl)
theorem dX2_look_40 : decode cX2_look 40 = .ok (.aload_n 0, 1) := dk_42 (dk_at dksX2_look_1 18 rfl rfl)
theorem dX2_look_41 : decode cX2_look 41 = .ok (.getfield 277, 3) := dk_180 1 21 (dk_at dksX2_look_1 19 rfl rfl)
theorem dX2_look_44 : decode cX2_look 44 = .ok (.invokevirtual 289, 3) := dk_182 1 33 (dk_at dksX2_look_2 0 rfl rfl)
theorem dX2_look_47 : decode cX2_look 47 = .ok (.aload_n 0, 1) := dk_42 (dk_at dksX2_look_2 3 rfl rfl)
theorem dX2_look_48 : decode cX2_look 48 = .ok (.aload_n 0, 1) := dk_42 (dk_at dksX2_look_2 4 rfl rfl)
theorem dX2_look_49 : decode cX2_look 49 = .ok (.getfield 280, 3) := dk_180 1 24 (dk_at dksX2_look_2 5 rfl rfl)
theorem dX2_look_52 : decode cX2_look 52 = .ok (.invokevirtual 289, 3) := dk_182 1 33 (dk_at dksX2_look_2 8 rfl rfl)
theorem dX2_look_55 : decode cX2_look 55 = .ok (.iload_n 2, 1) := dk_28 (dk_at dksX2_look_2 11 rfl rfl)
theorem dX2_look_56 : decode cX2_look 56 = .ok (.aload_n 0, 1) := dk_42 (dk_at dksX2_look_2 12 rfl rfl)
theorem dX2_look_57 : decode cX2_look 57 = .ok (.getfield 45, 3) := dk_180 0 45 (dk_at dksX2_look_2 13 rfl rfl)
theorem dX2_look_60 : decode cX2_look 60 = .ok (.iload_n 1, 1) := dk_27 (dk_at dksX2_look_2 16 rfl rfl)
theorem dX2_look_61 : decode cX2_look 61 = .ok (.iaload, 1) := dk_46 (dk_at dksX2_look_2 17 rfl rfl)
theorem dX2_look_62 : decode cX2_look 62 = .ok (.if_icmp .ne 8, 3) := dk_160 0 8 (dk_at dksX2_look_2 18 rfl rfl)
theorem dX2_look_65 : decode cX2_look 65 = .ok (.bipush (-2), 2) := dk_16 254 (dk_at dksX2_look_2 21 rfl rfl)
theorem dX2_look_67 : decode cX2_look 67 = .ok (.goto 4, 3) := dk_167 0 4 (dk_at dksX2_look_3 0 rfl rfl)
theorem dX2_look_70 : decode cX2_look 70 = .ok (.iload_n 2, 1) := dk_28 (dk_at dksX2_look_3 3 rfl rfl)
theorem dX2_look_71 : decode cX2_look 71 = .ok (.ireturn, 1) := dk_172 (dk_at dksX2_look_3 4 rfl rfl)
abbrev cX2_isMenu : ByteArray := prog_8_method_47_code
def yX2_isMenu : MethodName := ⟨RX2, "isMenu", "(I)Z"⟩
def dkwX2_isMenu_0 : List UInt8 := [27, 3, 5, 184, 0, 119, 153, 0, 16, 42, 180, 0, 45, 27, 46, 158, 0, 7, 4, 167, 0, 4, 3, 172]
abbrev dktX2_isMenu_0 : List UInt8 := dkwX2_isMenu_0 ++ []
theorem dksX2_isMenu_0 : cX2_isMenu.data.toList.drop 0 = dktX2_isMenu_0 := by decide +kernel
theorem dX2_isMenu_0 : decode cX2_isMenu 0 = .ok (.iload_n 1, 1) := dk_27 (dk_at dksX2_isMenu_0 0 rfl rfl)
theorem dX2_isMenu_1 : decode cX2_isMenu 1 = .ok (.iconst 0, 1) := dk_3 (dk_at dksX2_isMenu_0 1 rfl rfl)
theorem dX2_isMenu_2 : decode cX2_isMenu 2 = .ok (.iconst 2, 1) := dk_5 (dk_at dksX2_isMenu_0 2 rfl rfl)
theorem dX2_isMenu_3 : decode cX2_isMenu 3 = .ok (.invokestatic 119, 3) := dk_184 0 119 (dk_at dksX2_isMenu_0 3 rfl rfl)
theorem dX2_isMenu_6 : decode cX2_isMenu 6 = .ok (.ifCond .eq 16, 3) := dk_153 0 16 (dk_at dksX2_isMenu_0 6 rfl rfl)
theorem dX2_isMenu_9 : decode cX2_isMenu 9 = .ok (.aload_n 0, 1) := dk_42 (dk_at dksX2_isMenu_0 9 rfl rfl)
theorem dX2_isMenu_10 : decode cX2_isMenu 10 = .ok (.getfield 45, 3) := dk_180 0 45 (dk_at dksX2_isMenu_0 10 rfl rfl)
theorem dX2_isMenu_13 : decode cX2_isMenu 13 = .ok (.iload_n 1, 1) := dk_27 (dk_at dksX2_isMenu_0 13 rfl rfl)
theorem dX2_isMenu_14 : decode cX2_isMenu 14 = .ok (.iaload, 1) := dk_46 (dk_at dksX2_isMenu_0 14 rfl rfl)
theorem dX2_isMenu_15 : decode cX2_isMenu 15 = .ok (.ifCond .le 7, 3) := dk_158 0 7 (dk_at dksX2_isMenu_0 15 rfl rfl)
theorem dX2_isMenu_18 : decode cX2_isMenu 18 = .ok (.iconst 1, 1) := dk_4 (dk_at dksX2_isMenu_0 18 rfl rfl)
theorem dX2_isMenu_19 : decode cX2_isMenu 19 = .ok (.goto 4, 3) := dk_167 0 4 (dk_at dksX2_isMenu_0 19 rfl rfl)
theorem dX2_isMenu_22 : decode cX2_isMenu 22 = .ok (.iconst 0, 1) := dk_3 (dk_at dksX2_isMenu_0 22 rfl rfl)
theorem dX2_isMenu_23 : decode cX2_isMenu 23 = .ok (.ireturn, 1) := dk_172 (dk_at dksX2_isMenu_0 23 rfl rfl)
abbrev cX2_lookFromNothing : ByteArray := prog_8_method_50_code
def yX2_lookFromNothing : MethodName := ⟨RX2, "lookFromNothing", "()V"⟩
def dkwX2_lookFromNothing_1 : List UInt8 := [181, 1, 15, 177]
abbrev dktX2_lookFromNothing_1 : List UInt8 := dkwX2_lookFromNothing_1 ++ []
def dkwX2_lookFromNothing_0 : List UInt8 := [42, 3, 181, 1, 18, 42, 3, 181, 1, 21, 42, 3, 181, 1, 24, 42, 3, 181, 1, 12, 42, 2]
abbrev dktX2_lookFromNothing_0 : List UInt8 := dkwX2_lookFromNothing_0 ++ dktX2_lookFromNothing_1
theorem dksX2_lookFromNothing_0 : cX2_lookFromNothing.data.toList.drop 0 = dktX2_lookFromNothing_0 := by decide +kernel
theorem dksX2_lookFromNothing_1 : cX2_lookFromNothing.data.toList.drop 22 = dktX2_lookFromNothing_1 := dk_seg dksX2_lookFromNothing_0 22 rfl rfl
theorem dX2_lookFromNothing_0 : decode cX2_lookFromNothing 0 = .ok (.aload_n 0, 1) := dk_42 (dk_at dksX2_lookFromNothing_0 0 rfl rfl)
theorem dX2_lookFromNothing_1 : decode cX2_lookFromNothing 1 = .ok (.iconst 0, 1) := dk_3 (dk_at dksX2_lookFromNothing_0 1 rfl rfl)
theorem dX2_lookFromNothing_2 : decode cX2_lookFromNothing 2 = .ok (.putfield 274, 3) := dk_181 1 18 (dk_at dksX2_lookFromNothing_0 2 rfl rfl)
theorem dX2_lookFromNothing_5 : decode cX2_lookFromNothing 5 = .ok (.aload_n 0, 1) := dk_42 (dk_at dksX2_lookFromNothing_0 5 rfl rfl)
theorem dX2_lookFromNothing_6 : decode cX2_lookFromNothing 6 = .ok (.iconst 0, 1) := dk_3 (dk_at dksX2_lookFromNothing_0 6 rfl rfl)
theorem dX2_lookFromNothing_7 : decode cX2_lookFromNothing 7 = .ok (.putfield 277, 3) := dk_181 1 21 (dk_at dksX2_lookFromNothing_0 7 rfl rfl)
theorem dX2_lookFromNothing_10 : decode cX2_lookFromNothing 10 = .ok (.aload_n 0, 1) := dk_42 (dk_at dksX2_lookFromNothing_0 10 rfl rfl)
theorem dX2_lookFromNothing_11 : decode cX2_lookFromNothing 11 = .ok (.iconst 0, 1) := dk_3 (dk_at dksX2_lookFromNothing_0 11 rfl rfl)
theorem dX2_lookFromNothing_12 : decode cX2_lookFromNothing 12 = .ok (.putfield 280, 3) := dk_181 1 24 (dk_at dksX2_lookFromNothing_0 12 rfl rfl)
theorem dX2_lookFromNothing_15 : decode cX2_lookFromNothing 15 = .ok (.aload_n 0, 1) := dk_42 (dk_at dksX2_lookFromNothing_0 15 rfl rfl)
theorem dX2_lookFromNothing_16 : decode cX2_lookFromNothing 16 = .ok (.iconst 0, 1) := dk_3 (dk_at dksX2_lookFromNothing_0 16 rfl rfl)
theorem dX2_lookFromNothing_17 : decode cX2_lookFromNothing 17 = .ok (.putfield 268, 3) := dk_181 1 12 (dk_at dksX2_lookFromNothing_0 17 rfl rfl)
theorem dX2_lookFromNothing_20 : decode cX2_lookFromNothing 20 = .ok (.aload_n 0, 1) := dk_42 (dk_at dksX2_lookFromNothing_0 20 rfl rfl)
theorem dX2_lookFromNothing_21 : decode cX2_lookFromNothing 21 = .ok (.iconst (-1), 1) := dk_2 (dk_at dksX2_lookFromNothing_0 21 rfl rfl)
theorem dX2_lookFromNothing_22 : decode cX2_lookFromNothing 22 = .ok (.putfield 271, 3) := dk_181 1 15 (dk_at dksX2_lookFromNothing_1 0 rfl rfl)
theorem dX2_lookFromNothing_25 : decode cX2_lookFromNothing 25 = .ok (.return_, 1) := dk_177 (dk_at dksX2_lookFromNothing_1 3 rfl rfl)
abbrev cX2_lookOn : ByteArray := prog_8_method_49_code
def yX2_lookOn : MethodName := ⟨RX2, "lookOn", "(I)I"⟩
def dkwX2_lookOn_6 : List UInt8 := [42, 180, 0, 45, 27, 46, 172]
abbrev dktX2_lookOn_6 : List UInt8 := dkwX2_lookOn_6 ++ []
def dkwX2_lookOn_5 : List UInt8 := [4, 21, 4, 120, 167, 0, 4, 3, 128, 181, 1, 24, 132, 4, 1, 167, 255, 217, 132, 2, 1, 167, 255, 118]
abbrev dktX2_lookOn_5 : List UInt8 := dkwX2_lookOn_5 ++ dktX2_lookOn_6
def dkwX2_lookOn_4 : List UInt8 := [21, 4, 42, 180, 0, 123, 162, 0, 36, 42, 89, 180, 1, 24, 42, 21, 4, 29, 182, 0, 223, 153, 0, 10]
abbrev dktX2_lookOn_4 : List UInt8 := dkwX2_lookOn_4 ++ dktX2_lookOn_5
def dkwX2_lookOn_3 : List UInt8 := [42, 29, 181, 1, 15, 42, 89, 180, 1, 21, 42, 180, 0, 16, 29, 46, 96, 181, 1, 21, 3, 54, 4]
abbrev dktX2_lookOn_3 : List UInt8 := dkwX2_lookOn_3 ++ dktX2_lookOn_4
def dkwX2_lookOn_2 : List UInt8 := [181, 1, 18, 42, 180, 1, 18, 156, 0, 5, 28, 172, 42, 89, 180, 1, 12, 4, 29, 120, 128, 181, 1, 12]
abbrev dktX2_lookOn_2 : List UInt8 := dkwX2_lookOn_2 ++ dktX2_lookOn_3
def dkwX2_lookOn_1 : List UInt8 := [42, 29, 16, 99, 160, 0, 7, 2, 167, 0, 16, 42, 42, 180, 1, 12, 42, 180, 1, 15, 29, 182, 1, 5]
abbrev dktX2_lookOn_1 : List UInt8 := dkwX2_lookOn_1 ++ dktX2_lookOn_2
def dkwX2_lookOn_0 : List UInt8 := [3, 61, 28, 42, 180, 0, 45, 27, 46, 162, 0, 134, 42, 180, 0, 42, 16, 10, 27, 104, 28, 96, 46, 62]
abbrev dktX2_lookOn_0 : List UInt8 := dkwX2_lookOn_0 ++ dktX2_lookOn_1
theorem dksX2_lookOn_0 : cX2_lookOn.data.toList.drop 0 = dktX2_lookOn_0 := by decide +kernel
theorem dksX2_lookOn_1 : cX2_lookOn.data.toList.drop 24 = dktX2_lookOn_1 := dk_seg dksX2_lookOn_0 24 rfl rfl
theorem dksX2_lookOn_2 : cX2_lookOn.data.toList.drop 48 = dktX2_lookOn_2 := dk_seg dksX2_lookOn_1 24 rfl rfl
theorem dksX2_lookOn_3 : cX2_lookOn.data.toList.drop 72 = dktX2_lookOn_3 := dk_seg dksX2_lookOn_2 24 rfl rfl
theorem dksX2_lookOn_4 : cX2_lookOn.data.toList.drop 95 = dktX2_lookOn_4 := dk_seg dksX2_lookOn_3 23 rfl rfl
theorem dksX2_lookOn_5 : cX2_lookOn.data.toList.drop 119 = dktX2_lookOn_5 := dk_seg dksX2_lookOn_4 24 rfl rfl
theorem dksX2_lookOn_6 : cX2_lookOn.data.toList.drop 143 = dktX2_lookOn_6 := dk_seg dksX2_lookOn_5 24 rfl rfl
theorem dX2_lookOn_0 : decode cX2_lookOn 0 = .ok (.iconst 0, 1) := dk_3 (dk_at dksX2_lookOn_0 0 rfl rfl)
theorem dX2_lookOn_1 : decode cX2_lookOn 1 = .ok (.istore_n 2, 1) := dk_61 (dk_at dksX2_lookOn_0 1 rfl rfl)
theorem dX2_lookOn_2 : decode cX2_lookOn 2 = .ok (.iload_n 2, 1) := dk_28 (dk_at dksX2_lookOn_0 2 rfl rfl)
theorem dX2_lookOn_3 : decode cX2_lookOn 3 = .ok (.aload_n 0, 1) := dk_42 (dk_at dksX2_lookOn_0 3 rfl rfl)
theorem dX2_lookOn_4 : decode cX2_lookOn 4 = .ok (.getfield 45, 3) := dk_180 0 45 (dk_at dksX2_lookOn_0 4 rfl rfl)
theorem dX2_lookOn_7 : decode cX2_lookOn 7 = .ok (.iload_n 1, 1) := dk_27 (dk_at dksX2_lookOn_0 7 rfl rfl)
theorem dX2_lookOn_8 : decode cX2_lookOn 8 = .ok (.iaload, 1) := dk_46 (dk_at dksX2_lookOn_0 8 rfl rfl)
theorem dX2_lookOn_9 : decode cX2_lookOn 9 = .ok (.if_icmp .ge 134, 3) := dk_162 0 134 (dk_at dksX2_lookOn_0 9 rfl rfl)
theorem dX2_lookOn_12 : decode cX2_lookOn 12 = .ok (.aload_n 0, 1) := dk_42 (dk_at dksX2_lookOn_0 12 rfl rfl)
theorem dX2_lookOn_13 : decode cX2_lookOn 13 = .ok (.getfield 42, 3) := dk_180 0 42 (dk_at dksX2_lookOn_0 13 rfl rfl)
theorem dX2_lookOn_16 : decode cX2_lookOn 16 = .ok (.bipush 10, 2) := dk_16 10 (dk_at dksX2_lookOn_0 16 rfl rfl)
theorem dX2_lookOn_18 : decode cX2_lookOn 18 = .ok (.iload_n 1, 1) := dk_27 (dk_at dksX2_lookOn_0 18 rfl rfl)
theorem dX2_lookOn_19 : decode cX2_lookOn 19 = .ok (.imul, 1) := dk_104 (dk_at dksX2_lookOn_0 19 rfl rfl)
theorem dX2_lookOn_20 : decode cX2_lookOn 20 = .ok (.iload_n 2, 1) := dk_28 (dk_at dksX2_lookOn_0 20 rfl rfl)
theorem dX2_lookOn_21 : decode cX2_lookOn 21 = .ok (.iadd, 1) := dk_96 (dk_at dksX2_lookOn_0 21 rfl rfl)
theorem dX2_lookOn_22 : decode cX2_lookOn 22 = .ok (.iaload, 1) := dk_46 (dk_at dksX2_lookOn_0 22 rfl rfl)
theorem dX2_lookOn_23 : decode cX2_lookOn 23 = .ok (.istore_n 3, 1) := dk_62 (dk_at dksX2_lookOn_0 23 rfl rfl)
theorem dX2_lookOn_24 : decode cX2_lookOn 24 = .ok (.aload_n 0, 1) := dk_42 (dk_at dksX2_lookOn_1 0 rfl rfl)
theorem dX2_lookOn_25 : decode cX2_lookOn 25 = .ok (.iload_n 3, 1) := dk_29 (dk_at dksX2_lookOn_1 1 rfl rfl)
theorem dX2_lookOn_26 : decode cX2_lookOn 26 = .ok (.bipush 99, 2) := dk_16 99 (dk_at dksX2_lookOn_1 2 rfl rfl)
theorem dX2_lookOn_28 : decode cX2_lookOn 28 = .ok (.if_icmp .ne 7, 3) := dk_160 0 7 (dk_at dksX2_lookOn_1 4 rfl rfl)
theorem dX2_lookOn_31 : decode cX2_lookOn 31 = .ok (.iconst (-1), 1) := dk_2 (dk_at dksX2_lookOn_1 7 rfl rfl)
theorem dX2_lookOn_32 : decode cX2_lookOn 32 = .ok (.goto 16, 3) := dk_167 0 16 (dk_at dksX2_lookOn_1 8 rfl rfl)
theorem dX2_lookOn_35 : decode cX2_lookOn 35 = .ok (.aload_n 0, 1) := dk_42 (dk_at dksX2_lookOn_1 11 rfl rfl)
theorem dX2_lookOn_36 : decode cX2_lookOn 36 = .ok (.aload_n 0, 1) := dk_42 (dk_at dksX2_lookOn_1 12 rfl rfl)
theorem dX2_lookOn_37 : decode cX2_lookOn 37 = .ok (.getfield 268, 3) := dk_180 1 12 (dk_at dksX2_lookOn_1 13 rfl rfl)
theorem dX2_lookOn_40 : decode cX2_lookOn 40 = .ok (.aload_n 0, 1) := dk_42 (dk_at dksX2_lookOn_1 16 rfl rfl)
theorem dX2_lookOn_41 : decode cX2_lookOn 41 = .ok (.getfield 271, 3) := dk_180 1 15 (dk_at dksX2_lookOn_1 17 rfl rfl)
theorem dX2_lookOn_44 : decode cX2_lookOn 44 = .ok (.iload_n 3, 1) := dk_29 (dk_at dksX2_lookOn_1 20 rfl rfl)
theorem dX2_lookOn_45 : decode cX2_lookOn 45 = .ok (.invokevirtual 261, 3) := dk_182 1 5 (dk_at dksX2_lookOn_1 21 rfl rfl)
theorem dX2_lookOn_48 : decode cX2_lookOn 48 = .ok (.putfield 274, 3) := dk_181 1 18 (dk_at dksX2_lookOn_2 0 rfl rfl)
theorem dX2_lookOn_51 : decode cX2_lookOn 51 = .ok (.aload_n 0, 1) := dk_42 (dk_at dksX2_lookOn_2 3 rfl rfl)
theorem dX2_lookOn_52 : decode cX2_lookOn 52 = .ok (.getfield 274, 3) := dk_180 1 18 (dk_at dksX2_lookOn_2 4 rfl rfl)
theorem dX2_lookOn_55 : decode cX2_lookOn 55 = .ok (.ifCond .ge 5, 3) := dk_156 0 5 (dk_at dksX2_lookOn_2 7 rfl rfl)
theorem dX2_lookOn_58 : decode cX2_lookOn 58 = .ok (.iload_n 2, 1) := dk_28 (dk_at dksX2_lookOn_2 10 rfl rfl)
theorem dX2_lookOn_59 : decode cX2_lookOn 59 = .ok (.ireturn, 1) := dk_172 (dk_at dksX2_lookOn_2 11 rfl rfl)
theorem dX2_lookOn_60 : decode cX2_lookOn 60 = .ok (.aload_n 0, 1) := dk_42 (dk_at dksX2_lookOn_2 12 rfl rfl)
theorem dX2_lookOn_61 : decode cX2_lookOn 61 = .ok (.dup, 1) := dk_89 (dk_at dksX2_lookOn_2 13 rfl rfl)
theorem dX2_lookOn_62 : decode cX2_lookOn 62 = .ok (.getfield 268, 3) := dk_180 1 12 (dk_at dksX2_lookOn_2 14 rfl rfl)
theorem dX2_lookOn_65 : decode cX2_lookOn 65 = .ok (.iconst 1, 1) := dk_4 (dk_at dksX2_lookOn_2 17 rfl rfl)
theorem dX2_lookOn_66 : decode cX2_lookOn 66 = .ok (.iload_n 3, 1) := dk_29 (dk_at dksX2_lookOn_2 18 rfl rfl)
theorem dX2_lookOn_67 : decode cX2_lookOn 67 = .ok (.ishl, 1) := dk_120 (dk_at dksX2_lookOn_2 19 rfl rfl)
theorem dX2_lookOn_68 : decode cX2_lookOn 68 = .ok (.ior, 1) := dk_128 (dk_at dksX2_lookOn_2 20 rfl rfl)
theorem dX2_lookOn_69 : decode cX2_lookOn 69 = .ok (.putfield 268, 3) := dk_181 1 12 (dk_at dksX2_lookOn_2 21 rfl rfl)
theorem dX2_lookOn_72 : decode cX2_lookOn 72 = .ok (.aload_n 0, 1) := dk_42 (dk_at dksX2_lookOn_3 0 rfl rfl)
theorem dX2_lookOn_73 : decode cX2_lookOn 73 = .ok (.iload_n 3, 1) := dk_29 (dk_at dksX2_lookOn_3 1 rfl rfl)
theorem dX2_lookOn_74 : decode cX2_lookOn 74 = .ok (.putfield 271, 3) := dk_181 1 15 (dk_at dksX2_lookOn_3 2 rfl rfl)
theorem dX2_lookOn_77 : decode cX2_lookOn 77 = .ok (.aload_n 0, 1) := dk_42 (dk_at dksX2_lookOn_3 5 rfl rfl)
theorem dX2_lookOn_78 : decode cX2_lookOn 78 = .ok (.dup, 1) := dk_89 (dk_at dksX2_lookOn_3 6 rfl rfl)
theorem dX2_lookOn_79 : decode cX2_lookOn 79 = .ok (.getfield 277, 3) := dk_180 1 21 (dk_at dksX2_lookOn_3 7 rfl rfl)
theorem dX2_lookOn_82 : decode cX2_lookOn 82 = .ok (.aload_n 0, 1) := dk_42 (dk_at dksX2_lookOn_3 10 rfl rfl)
theorem dX2_lookOn_83 : decode cX2_lookOn 83 = .ok (.getfield 16, 3) := dk_180 0 16 (dk_at dksX2_lookOn_3 11 rfl rfl)
theorem dX2_lookOn_86 : decode cX2_lookOn 86 = .ok (.iload_n 3, 1) := dk_29 (dk_at dksX2_lookOn_3 14 rfl rfl)
theorem dX2_lookOn_87 : decode cX2_lookOn 87 = .ok (.iaload, 1) := dk_46 (dk_at dksX2_lookOn_3 15 rfl rfl)
theorem dX2_lookOn_88 : decode cX2_lookOn 88 = .ok (.iadd, 1) := dk_96 (dk_at dksX2_lookOn_3 16 rfl rfl)
theorem dX2_lookOn_89 : decode cX2_lookOn 89 = .ok (.putfield 277, 3) := dk_181 1 21 (dk_at dksX2_lookOn_3 17 rfl rfl)
theorem dX2_lookOn_92 : decode cX2_lookOn 92 = .ok (.iconst 0, 1) := dk_3 (dk_at dksX2_lookOn_3 20 rfl rfl)
theorem dX2_lookOn_93 : decode cX2_lookOn 93 = .ok (.istore 4, 2) := dk_54 4 (dk_at dksX2_lookOn_3 21 rfl rfl)
theorem dX2_lookOn_95 : decode cX2_lookOn 95 = .ok (.iload 4, 2) := dk_21 4 (dk_at dksX2_lookOn_4 0 rfl rfl)
theorem dX2_lookOn_97 : decode cX2_lookOn 97 = .ok (.aload_n 0, 1) := dk_42 (dk_at dksX2_lookOn_4 2 rfl rfl)
theorem dX2_lookOn_98 : decode cX2_lookOn 98 = .ok (.getfield 123, 3) := dk_180 0 123 (dk_at dksX2_lookOn_4 3 rfl rfl)
theorem dX2_lookOn_101 : decode cX2_lookOn 101 = .ok (.if_icmp .ge 36, 3) := dk_162 0 36 (dk_at dksX2_lookOn_4 6 rfl rfl)
theorem dX2_lookOn_104 : decode cX2_lookOn 104 = .ok (.aload_n 0, 1) := dk_42 (dk_at dksX2_lookOn_4 9 rfl rfl)
theorem dX2_lookOn_105 : decode cX2_lookOn 105 = .ok (.dup, 1) := dk_89 (dk_at dksX2_lookOn_4 10 rfl rfl)
theorem dX2_lookOn_106 : decode cX2_lookOn 106 = .ok (.getfield 280, 3) := dk_180 1 24 (dk_at dksX2_lookOn_4 11 rfl rfl)
theorem dX2_lookOn_109 : decode cX2_lookOn 109 = .ok (.aload_n 0, 1) := dk_42 (dk_at dksX2_lookOn_4 14 rfl rfl)
theorem dX2_lookOn_110 : decode cX2_lookOn 110 = .ok (.iload 4, 2) := dk_21 4 (dk_at dksX2_lookOn_4 15 rfl rfl)
theorem dX2_lookOn_112 : decode cX2_lookOn 112 = .ok (.iload_n 3, 1) := dk_29 (dk_at dksX2_lookOn_4 17 rfl rfl)
theorem dX2_lookOn_113 : decode cX2_lookOn 113 = .ok (.invokevirtual 223, 3) := dk_182 0 223 (dk_at dksX2_lookOn_4 18 rfl rfl)
theorem dX2_lookOn_116 : decode cX2_lookOn 116 = .ok (.ifCond .eq 10, 3) := dk_153 0 10 (dk_at dksX2_lookOn_4 21 rfl rfl)
theorem dX2_lookOn_119 : decode cX2_lookOn 119 = .ok (.iconst 1, 1) := dk_4 (dk_at dksX2_lookOn_5 0 rfl rfl)
theorem dX2_lookOn_120 : decode cX2_lookOn 120 = .ok (.iload 4, 2) := dk_21 4 (dk_at dksX2_lookOn_5 1 rfl rfl)
theorem dX2_lookOn_122 : decode cX2_lookOn 122 = .ok (.ishl, 1) := dk_120 (dk_at dksX2_lookOn_5 3 rfl rfl)
theorem dX2_lookOn_123 : decode cX2_lookOn 123 = .ok (.goto 4, 3) := dk_167 0 4 (dk_at dksX2_lookOn_5 4 rfl rfl)
theorem dX2_lookOn_126 : decode cX2_lookOn 126 = .ok (.iconst 0, 1) := dk_3 (dk_at dksX2_lookOn_5 7 rfl rfl)
theorem dX2_lookOn_127 : decode cX2_lookOn 127 = .ok (.ior, 1) := dk_128 (dk_at dksX2_lookOn_5 8 rfl rfl)
theorem dX2_lookOn_128 : decode cX2_lookOn 128 = .ok (.putfield 280, 3) := dk_181 1 24 (dk_at dksX2_lookOn_5 9 rfl rfl)
theorem dX2_lookOn_131 : decode cX2_lookOn 131 = .ok (.iinc 4 1, 3) := dk_132 4 1 (dk_at dksX2_lookOn_5 12 rfl rfl)
theorem dX2_lookOn_134 : decode cX2_lookOn 134 = .ok (.goto (-39), 3) := dk_167 255 217 (dk_at dksX2_lookOn_5 15 rfl rfl)
theorem dX2_lookOn_137 : decode cX2_lookOn 137 = .ok (.iinc 2 1, 3) := dk_132 2 1 (dk_at dksX2_lookOn_5 18 rfl rfl)
theorem dX2_lookOn_140 : decode cX2_lookOn 140 = .ok (.goto (-138), 3) := dk_167 255 118 (dk_at dksX2_lookOn_5 21 rfl rfl)
theorem dX2_lookOn_143 : decode cX2_lookOn 143 = .ok (.aload_n 0, 1) := dk_42 (dk_at dksX2_lookOn_6 0 rfl rfl)
theorem dX2_lookOn_144 : decode cX2_lookOn 144 = .ok (.getfield 45, 3) := dk_180 0 45 (dk_at dksX2_lookOn_6 1 rfl rfl)
theorem dX2_lookOn_147 : decode cX2_lookOn 147 = .ok (.iload_n 1, 1) := dk_27 (dk_at dksX2_lookOn_6 4 rfl rfl)
theorem dX2_lookOn_148 : decode cX2_lookOn 148 = .ok (.iaload, 1) := dk_46 (dk_at dksX2_lookOn_6 5 rfl rfl)
theorem dX2_lookOn_149 : decode cX2_lookOn 149 = .ok (.ireturn, 1) := dk_172 (dk_at dksX2_lookOn_6 6 rfl rfl)
abbrev cX2_tell : ByteArray := prog_8_method_6_code
def yX2_tell : MethodName := ⟨RX2, "tell", "(I)V"⟩
def dkwX2_tell_0 : List UInt8 := [42, 180, 0, 52, 42, 180, 0, 113, 27, 79, 42, 89, 180, 0, 113, 4, 96, 181, 0, 113, 177]
abbrev dktX2_tell_0 : List UInt8 := dkwX2_tell_0 ++ []
theorem dksX2_tell_0 : cX2_tell.data.toList.drop 0 = dktX2_tell_0 := by decide +kernel
theorem dX2_tell_0 : decode cX2_tell 0 = .ok (.aload_n 0, 1) := dk_42 (dk_at dksX2_tell_0 0 rfl rfl)
theorem dX2_tell_1 : decode cX2_tell 1 = .ok (.getfield 52, 3) := dk_180 0 52 (dk_at dksX2_tell_0 1 rfl rfl)
theorem dX2_tell_4 : decode cX2_tell 4 = .ok (.aload_n 0, 1) := dk_42 (dk_at dksX2_tell_0 4 rfl rfl)
theorem dX2_tell_5 : decode cX2_tell 5 = .ok (.getfield 113, 3) := dk_180 0 113 (dk_at dksX2_tell_0 5 rfl rfl)
theorem dX2_tell_8 : decode cX2_tell 8 = .ok (.iload_n 1, 1) := dk_27 (dk_at dksX2_tell_0 8 rfl rfl)
theorem dX2_tell_9 : decode cX2_tell 9 = .ok (.iastore, 1) := dk_79 (dk_at dksX2_tell_0 9 rfl rfl)
theorem dX2_tell_10 : decode cX2_tell 10 = .ok (.aload_n 0, 1) := dk_42 (dk_at dksX2_tell_0 10 rfl rfl)
theorem dX2_tell_11 : decode cX2_tell 11 = .ok (.dup, 1) := dk_89 (dk_at dksX2_tell_0 11 rfl rfl)
theorem dX2_tell_12 : decode cX2_tell 12 = .ok (.getfield 113, 3) := dk_180 0 113 (dk_at dksX2_tell_0 12 rfl rfl)
theorem dX2_tell_15 : decode cX2_tell 15 = .ok (.iconst 1, 1) := dk_4 (dk_at dksX2_tell_0 15 rfl rfl)
theorem dX2_tell_16 : decode cX2_tell 16 = .ok (.iadd, 1) := dk_96 (dk_at dksX2_tell_0 16 rfl rfl)
theorem dX2_tell_17 : decode cX2_tell 17 = .ok (.putfield 113, 3) := dk_181 0 113 (dk_at dksX2_tell_0 17 rfl rfl)
theorem dX2_tell_20 : decode cX2_tell 20 = .ok (.return_, 1) := dk_177 (dk_at dksX2_tell_0 20 rfl rfl)
abbrev cX2_swap : ByteArray := prog_8_method_52_code
def yX2_swap : MethodName := ⟨RX2, "swap", "(III)Z"⟩
def dkwX2_swap_4 : List UInt8 := [29, 96, 21, 4, 79, 4, 172]
abbrev dktX2_swap_4 : List UInt8 := dkwX2_swap_4 ++ []
def dkwX2_swap_3 : List UInt8 := [27, 104, 28, 96, 42, 180, 0, 42, 16, 10, 27, 104, 29, 96, 46, 79, 42, 180, 0, 42, 16, 10, 27, 104]
abbrev dktX2_swap_3 : List UInt8 := dkwX2_swap_3 ++ dktX2_swap_4
def dkwX2_swap_2 : List UInt8 := [160, 0, 5, 3, 172, 42, 180, 0, 42, 16, 10, 27, 104, 28, 96, 46, 54, 4, 42, 180, 0, 42, 16, 10]
abbrev dktX2_swap_2 : List UInt8 := dkwX2_swap_2 ++ dktX2_swap_3
def dkwX2_swap_1 : List UInt8 := [184, 0, 119, 153, 0, 24, 29, 3, 42, 180, 0, 45, 27, 46, 4, 100, 184, 0, 119, 153, 0, 8, 28, 29]
abbrev dktX2_swap_1 : List UInt8 := dkwX2_swap_1 ++ dktX2_swap_2
def dkwX2_swap_0 : List UInt8 := [42, 3, 181, 0, 110, 42, 27, 182, 1, 9, 153, 0, 40, 28, 3, 42, 180, 0, 45, 27, 46, 4, 100]
abbrev dktX2_swap_0 : List UInt8 := dkwX2_swap_0 ++ dktX2_swap_1
theorem dksX2_swap_0 : cX2_swap.data.toList.drop 0 = dktX2_swap_0 := by decide +kernel
theorem dksX2_swap_1 : cX2_swap.data.toList.drop 23 = dktX2_swap_1 := dk_seg dksX2_swap_0 23 rfl rfl
theorem dksX2_swap_2 : cX2_swap.data.toList.drop 47 = dktX2_swap_2 := dk_seg dksX2_swap_1 24 rfl rfl
theorem dksX2_swap_3 : cX2_swap.data.toList.drop 71 = dktX2_swap_3 := dk_seg dksX2_swap_2 24 rfl rfl
theorem dksX2_swap_4 : cX2_swap.data.toList.drop 95 = dktX2_swap_4 := dk_seg dksX2_swap_3 24 rfl rfl
theorem dX2_swap_0 : decode cX2_swap 0 = .ok (.aload_n 0, 1) := dk_42 (dk_at dksX2_swap_0 0 rfl rfl)
theorem dX2_swap_1 : decode cX2_swap 1 = .ok (.iconst 0, 1) := dk_3 (dk_at dksX2_swap_0 1 rfl rfl)
theorem dX2_swap_2 : decode cX2_swap 2 = .ok (.putfield 110, 3) := dk_181 0 110 (dk_at dksX2_swap_0 2 rfl rfl)
theorem dX2_swap_5 : decode cX2_swap 5 = .ok (.aload_n 0, 1) := dk_42 (dk_at dksX2_swap_0 5 rfl rfl)
theorem dX2_swap_6 : decode cX2_swap 6 = .ok (.iload_n 1, 1) := dk_27 (dk_at dksX2_swap_0 6 rfl rfl)
theorem dX2_swap_7 : decode cX2_swap 7 = .ok (.invokevirtual 265, 3) := dk_182 1 9 (dk_at dksX2_swap_0 7 rfl rfl)
theorem dX2_swap_10 : decode cX2_swap 10 = .ok (.ifCond .eq 40, 3) := dk_153 0 40 (dk_at dksX2_swap_0 10 rfl rfl)
theorem dX2_swap_13 : decode cX2_swap 13 = .ok (.iload_n 2, 1) := dk_28 (dk_at dksX2_swap_0 13 rfl rfl)
theorem dX2_swap_14 : decode cX2_swap 14 = .ok (.iconst 0, 1) := dk_3 (dk_at dksX2_swap_0 14 rfl rfl)
theorem dX2_swap_15 : decode cX2_swap 15 = .ok (.aload_n 0, 1) := dk_42 (dk_at dksX2_swap_0 15 rfl rfl)
theorem dX2_swap_16 : decode cX2_swap 16 = .ok (.getfield 45, 3) := dk_180 0 45 (dk_at dksX2_swap_0 16 rfl rfl)
theorem dX2_swap_19 : decode cX2_swap 19 = .ok (.iload_n 1, 1) := dk_27 (dk_at dksX2_swap_0 19 rfl rfl)
theorem dX2_swap_20 : decode cX2_swap 20 = .ok (.iaload, 1) := dk_46 (dk_at dksX2_swap_0 20 rfl rfl)
theorem dX2_swap_21 : decode cX2_swap 21 = .ok (.iconst 1, 1) := dk_4 (dk_at dksX2_swap_0 21 rfl rfl)
theorem dX2_swap_22 : decode cX2_swap 22 = .ok (.isub, 1) := dk_100 (dk_at dksX2_swap_0 22 rfl rfl)
theorem dX2_swap_23 : decode cX2_swap 23 = .ok (.invokestatic 119, 3) := dk_184 0 119 (dk_at dksX2_swap_1 0 rfl rfl)
theorem dX2_swap_26 : decode cX2_swap 26 = .ok (.ifCond .eq 24, 3) := dk_153 0 24 (dk_at dksX2_swap_1 3 rfl rfl)
theorem dX2_swap_29 : decode cX2_swap 29 = .ok (.iload_n 3, 1) := dk_29 (dk_at dksX2_swap_1 6 rfl rfl)
theorem dX2_swap_30 : decode cX2_swap 30 = .ok (.iconst 0, 1) := dk_3 (dk_at dksX2_swap_1 7 rfl rfl)
theorem dX2_swap_31 : decode cX2_swap 31 = .ok (.aload_n 0, 1) := dk_42 (dk_at dksX2_swap_1 8 rfl rfl)
theorem dX2_swap_32 : decode cX2_swap 32 = .ok (.getfield 45, 3) := dk_180 0 45 (dk_at dksX2_swap_1 9 rfl rfl)
theorem dX2_swap_35 : decode cX2_swap 35 = .ok (.iload_n 1, 1) := dk_27 (dk_at dksX2_swap_1 12 rfl rfl)
theorem dX2_swap_36 : decode cX2_swap 36 = .ok (.iaload, 1) := dk_46 (dk_at dksX2_swap_1 13 rfl rfl)
theorem dX2_swap_37 : decode cX2_swap 37 = .ok (.iconst 1, 1) := dk_4 (dk_at dksX2_swap_1 14 rfl rfl)
theorem dX2_swap_38 : decode cX2_swap 38 = .ok (.isub, 1) := dk_100 (dk_at dksX2_swap_1 15 rfl rfl)
theorem dX2_swap_39 : decode cX2_swap 39 = .ok (.invokestatic 119, 3) := dk_184 0 119 (dk_at dksX2_swap_1 16 rfl rfl)
theorem dX2_swap_42 : decode cX2_swap 42 = .ok (.ifCond .eq 8, 3) := dk_153 0 8 (dk_at dksX2_swap_1 19 rfl rfl)
theorem dX2_swap_45 : decode cX2_swap 45 = .ok (.iload_n 2, 1) := dk_28 (dk_at dksX2_swap_1 22 rfl rfl)
theorem dX2_swap_46 : decode cX2_swap 46 = .ok (.iload_n 3, 1) := dk_29 (dk_at dksX2_swap_1 23 rfl rfl)
theorem dX2_swap_47 : decode cX2_swap 47 = .ok (.if_icmp .ne 5, 3) := dk_160 0 5 (dk_at dksX2_swap_2 0 rfl rfl)
theorem dX2_swap_50 : decode cX2_swap 50 = .ok (.iconst 0, 1) := dk_3 (dk_at dksX2_swap_2 3 rfl rfl)
theorem dX2_swap_51 : decode cX2_swap 51 = .ok (.ireturn, 1) := dk_172 (dk_at dksX2_swap_2 4 rfl rfl)
theorem dX2_swap_52 : decode cX2_swap 52 = .ok (.aload_n 0, 1) := dk_42 (dk_at dksX2_swap_2 5 rfl rfl)
theorem dX2_swap_53 : decode cX2_swap 53 = .ok (.getfield 42, 3) := dk_180 0 42 (dk_at dksX2_swap_2 6 rfl rfl)
theorem dX2_swap_56 : decode cX2_swap 56 = .ok (.bipush 10, 2) := dk_16 10 (dk_at dksX2_swap_2 9 rfl rfl)
theorem dX2_swap_58 : decode cX2_swap 58 = .ok (.iload_n 1, 1) := dk_27 (dk_at dksX2_swap_2 11 rfl rfl)
theorem dX2_swap_59 : decode cX2_swap 59 = .ok (.imul, 1) := dk_104 (dk_at dksX2_swap_2 12 rfl rfl)
theorem dX2_swap_60 : decode cX2_swap 60 = .ok (.iload_n 2, 1) := dk_28 (dk_at dksX2_swap_2 13 rfl rfl)
theorem dX2_swap_61 : decode cX2_swap 61 = .ok (.iadd, 1) := dk_96 (dk_at dksX2_swap_2 14 rfl rfl)
theorem dX2_swap_62 : decode cX2_swap 62 = .ok (.iaload, 1) := dk_46 (dk_at dksX2_swap_2 15 rfl rfl)
theorem dX2_swap_63 : decode cX2_swap 63 = .ok (.istore 4, 2) := dk_54 4 (dk_at dksX2_swap_2 16 rfl rfl)
theorem dX2_swap_65 : decode cX2_swap 65 = .ok (.aload_n 0, 1) := dk_42 (dk_at dksX2_swap_2 18 rfl rfl)
theorem dX2_swap_66 : decode cX2_swap 66 = .ok (.getfield 42, 3) := dk_180 0 42 (dk_at dksX2_swap_2 19 rfl rfl)
theorem dX2_swap_69 : decode cX2_swap 69 = .ok (.bipush 10, 2) := dk_16 10 (dk_at dksX2_swap_2 22 rfl rfl)
theorem dX2_swap_71 : decode cX2_swap 71 = .ok (.iload_n 1, 1) := dk_27 (dk_at dksX2_swap_3 0 rfl rfl)
theorem dX2_swap_72 : decode cX2_swap 72 = .ok (.imul, 1) := dk_104 (dk_at dksX2_swap_3 1 rfl rfl)
theorem dX2_swap_73 : decode cX2_swap 73 = .ok (.iload_n 2, 1) := dk_28 (dk_at dksX2_swap_3 2 rfl rfl)
theorem dX2_swap_74 : decode cX2_swap 74 = .ok (.iadd, 1) := dk_96 (dk_at dksX2_swap_3 3 rfl rfl)
theorem dX2_swap_75 : decode cX2_swap 75 = .ok (.aload_n 0, 1) := dk_42 (dk_at dksX2_swap_3 4 rfl rfl)
theorem dX2_swap_76 : decode cX2_swap 76 = .ok (.getfield 42, 3) := dk_180 0 42 (dk_at dksX2_swap_3 5 rfl rfl)
theorem dX2_swap_79 : decode cX2_swap 79 = .ok (.bipush 10, 2) := dk_16 10 (dk_at dksX2_swap_3 8 rfl rfl)
theorem dX2_swap_81 : decode cX2_swap 81 = .ok (.iload_n 1, 1) := dk_27 (dk_at dksX2_swap_3 10 rfl rfl)
theorem dX2_swap_82 : decode cX2_swap 82 = .ok (.imul, 1) := dk_104 (dk_at dksX2_swap_3 11 rfl rfl)
theorem dX2_swap_83 : decode cX2_swap 83 = .ok (.iload_n 3, 1) := dk_29 (dk_at dksX2_swap_3 12 rfl rfl)
theorem dX2_swap_84 : decode cX2_swap 84 = .ok (.iadd, 1) := dk_96 (dk_at dksX2_swap_3 13 rfl rfl)
theorem dX2_swap_85 : decode cX2_swap 85 = .ok (.iaload, 1) := dk_46 (dk_at dksX2_swap_3 14 rfl rfl)
theorem dX2_swap_86 : decode cX2_swap 86 = .ok (.iastore, 1) := dk_79 (dk_at dksX2_swap_3 15 rfl rfl)
theorem dX2_swap_87 : decode cX2_swap 87 = .ok (.aload_n 0, 1) := dk_42 (dk_at dksX2_swap_3 16 rfl rfl)
theorem dX2_swap_88 : decode cX2_swap 88 = .ok (.getfield 42, 3) := dk_180 0 42 (dk_at dksX2_swap_3 17 rfl rfl)
theorem dX2_swap_91 : decode cX2_swap 91 = .ok (.bipush 10, 2) := dk_16 10 (dk_at dksX2_swap_3 20 rfl rfl)
theorem dX2_swap_93 : decode cX2_swap 93 = .ok (.iload_n 1, 1) := dk_27 (dk_at dksX2_swap_3 22 rfl rfl)
theorem dX2_swap_94 : decode cX2_swap 94 = .ok (.imul, 1) := dk_104 (dk_at dksX2_swap_3 23 rfl rfl)
theorem dX2_swap_95 : decode cX2_swap 95 = .ok (.iload_n 3, 1) := dk_29 (dk_at dksX2_swap_4 0 rfl rfl)
theorem dX2_swap_96 : decode cX2_swap 96 = .ok (.iadd, 1) := dk_96 (dk_at dksX2_swap_4 1 rfl rfl)
theorem dX2_swap_97 : decode cX2_swap 97 = .ok (.iload 4, 2) := dk_21 4 (dk_at dksX2_swap_4 2 rfl rfl)
theorem dX2_swap_99 : decode cX2_swap 99 = .ok (.iastore, 1) := dk_79 (dk_at dksX2_swap_4 4 rfl rfl)
theorem dX2_swap_100 : decode cX2_swap 100 = .ok (.iconst 1, 1) := dk_4 (dk_at dksX2_swap_4 5 rfl rfl)
theorem dX2_swap_101 : decode cX2_swap 101 = .ok (.ireturn, 1) := dk_172 (dk_at dksX2_swap_4 6 rfl rfl)
abbrev cX2_turn : ByteArray := prog_8_method_53_code
def yX2_turn : MethodName := ⟨RX2, "turn", "(I)Z"⟩
def dkwX2_turn_3 : List UInt8 := [27, 104, 29, 96, 21, 4, 79, 132, 2, 1, 132, 3, 255, 167, 255, 197, 4, 172]
abbrev dktX2_turn_3 : List UInt8 := dkwX2_turn_3 ++ []
def dkwX2_turn_2 : List UInt8 := [16, 10, 27, 104, 28, 96, 42, 180, 0, 42, 16, 10, 27, 104, 29, 96, 46, 79, 42, 180, 0, 42, 16, 10]
abbrev dktX2_turn_2 : List UInt8 := dkwX2_turn_2 ++ dktX2_turn_3
def dkwX2_turn_1 : List UInt8 := [100, 62, 28, 29, 162, 0, 60, 42, 180, 0, 42, 16, 10, 27, 104, 28, 96, 46, 54, 4, 42, 180, 0, 42]
abbrev dktX2_turn_1 : List UInt8 := dkwX2_turn_1 ++ dktX2_turn_2
def dkwX2_turn_0 : List UInt8 := [42, 3, 181, 0, 110, 42, 27, 182, 1, 9, 154, 0, 5, 3, 172, 3, 61, 42, 180, 0, 45, 27, 46, 4]
abbrev dktX2_turn_0 : List UInt8 := dkwX2_turn_0 ++ dktX2_turn_1
theorem dksX2_turn_0 : cX2_turn.data.toList.drop 0 = dktX2_turn_0 := by decide +kernel
theorem dksX2_turn_1 : cX2_turn.data.toList.drop 24 = dktX2_turn_1 := dk_seg dksX2_turn_0 24 rfl rfl
theorem dksX2_turn_2 : cX2_turn.data.toList.drop 48 = dktX2_turn_2 := dk_seg dksX2_turn_1 24 rfl rfl
theorem dksX2_turn_3 : cX2_turn.data.toList.drop 72 = dktX2_turn_3 := dk_seg dksX2_turn_2 24 rfl rfl
theorem dX2_turn_0 : decode cX2_turn 0 = .ok (.aload_n 0, 1) := dk_42 (dk_at dksX2_turn_0 0 rfl rfl)
theorem dX2_turn_1 : decode cX2_turn 1 = .ok (.iconst 0, 1) := dk_3 (dk_at dksX2_turn_0 1 rfl rfl)
theorem dX2_turn_2 : decode cX2_turn 2 = .ok (.putfield 110, 3) := dk_181 0 110 (dk_at dksX2_turn_0 2 rfl rfl)
theorem dX2_turn_5 : decode cX2_turn 5 = .ok (.aload_n 0, 1) := dk_42 (dk_at dksX2_turn_0 5 rfl rfl)
theorem dX2_turn_6 : decode cX2_turn 6 = .ok (.iload_n 1, 1) := dk_27 (dk_at dksX2_turn_0 6 rfl rfl)
theorem dX2_turn_7 : decode cX2_turn 7 = .ok (.invokevirtual 265, 3) := dk_182 1 9 (dk_at dksX2_turn_0 7 rfl rfl)
theorem dX2_turn_10 : decode cX2_turn 10 = .ok (.ifCond .ne 5, 3) := dk_154 0 5 (dk_at dksX2_turn_0 10 rfl rfl)
theorem dX2_turn_13 : decode cX2_turn 13 = .ok (.iconst 0, 1) := dk_3 (dk_at dksX2_turn_0 13 rfl rfl)
theorem dX2_turn_14 : decode cX2_turn 14 = .ok (.ireturn, 1) := dk_172 (dk_at dksX2_turn_0 14 rfl rfl)
theorem dX2_turn_15 : decode cX2_turn 15 = .ok (.iconst 0, 1) := dk_3 (dk_at dksX2_turn_0 15 rfl rfl)
theorem dX2_turn_16 : decode cX2_turn 16 = .ok (.istore_n 2, 1) := dk_61 (dk_at dksX2_turn_0 16 rfl rfl)
theorem dX2_turn_17 : decode cX2_turn 17 = .ok (.aload_n 0, 1) := dk_42 (dk_at dksX2_turn_0 17 rfl rfl)
theorem dX2_turn_18 : decode cX2_turn 18 = .ok (.getfield 45, 3) := dk_180 0 45 (dk_at dksX2_turn_0 18 rfl rfl)
theorem dX2_turn_21 : decode cX2_turn 21 = .ok (.iload_n 1, 1) := dk_27 (dk_at dksX2_turn_0 21 rfl rfl)
theorem dX2_turn_22 : decode cX2_turn 22 = .ok (.iaload, 1) := dk_46 (dk_at dksX2_turn_0 22 rfl rfl)
theorem dX2_turn_23 : decode cX2_turn 23 = .ok (.iconst 1, 1) := dk_4 (dk_at dksX2_turn_0 23 rfl rfl)
theorem dX2_turn_24 : decode cX2_turn 24 = .ok (.isub, 1) := dk_100 (dk_at dksX2_turn_1 0 rfl rfl)
theorem dX2_turn_25 : decode cX2_turn 25 = .ok (.istore_n 3, 1) := dk_62 (dk_at dksX2_turn_1 1 rfl rfl)
theorem dX2_turn_26 : decode cX2_turn 26 = .ok (.iload_n 2, 1) := dk_28 (dk_at dksX2_turn_1 2 rfl rfl)
theorem dX2_turn_27 : decode cX2_turn 27 = .ok (.iload_n 3, 1) := dk_29 (dk_at dksX2_turn_1 3 rfl rfl)
theorem dX2_turn_28 : decode cX2_turn 28 = .ok (.if_icmp .ge 60, 3) := dk_162 0 60 (dk_at dksX2_turn_1 4 rfl rfl)
theorem dX2_turn_31 : decode cX2_turn 31 = .ok (.aload_n 0, 1) := dk_42 (dk_at dksX2_turn_1 7 rfl rfl)
theorem dX2_turn_32 : decode cX2_turn 32 = .ok (.getfield 42, 3) := dk_180 0 42 (dk_at dksX2_turn_1 8 rfl rfl)
theorem dX2_turn_35 : decode cX2_turn 35 = .ok (.bipush 10, 2) := dk_16 10 (dk_at dksX2_turn_1 11 rfl rfl)
theorem dX2_turn_37 : decode cX2_turn 37 = .ok (.iload_n 1, 1) := dk_27 (dk_at dksX2_turn_1 13 rfl rfl)
theorem dX2_turn_38 : decode cX2_turn 38 = .ok (.imul, 1) := dk_104 (dk_at dksX2_turn_1 14 rfl rfl)
theorem dX2_turn_39 : decode cX2_turn 39 = .ok (.iload_n 2, 1) := dk_28 (dk_at dksX2_turn_1 15 rfl rfl)
theorem dX2_turn_40 : decode cX2_turn 40 = .ok (.iadd, 1) := dk_96 (dk_at dksX2_turn_1 16 rfl rfl)
theorem dX2_turn_41 : decode cX2_turn 41 = .ok (.iaload, 1) := dk_46 (dk_at dksX2_turn_1 17 rfl rfl)
theorem dX2_turn_42 : decode cX2_turn 42 = .ok (.istore 4, 2) := dk_54 4 (dk_at dksX2_turn_1 18 rfl rfl)
theorem dX2_turn_44 : decode cX2_turn 44 = .ok (.aload_n 0, 1) := dk_42 (dk_at dksX2_turn_1 20 rfl rfl)
theorem dX2_turn_45 : decode cX2_turn 45 = .ok (.getfield 42, 3) := dk_180 0 42 (dk_at dksX2_turn_1 21 rfl rfl)
theorem dX2_turn_48 : decode cX2_turn 48 = .ok (.bipush 10, 2) := dk_16 10 (dk_at dksX2_turn_2 0 rfl rfl)
theorem dX2_turn_50 : decode cX2_turn 50 = .ok (.iload_n 1, 1) := dk_27 (dk_at dksX2_turn_2 2 rfl rfl)
theorem dX2_turn_51 : decode cX2_turn 51 = .ok (.imul, 1) := dk_104 (dk_at dksX2_turn_2 3 rfl rfl)
theorem dX2_turn_52 : decode cX2_turn 52 = .ok (.iload_n 2, 1) := dk_28 (dk_at dksX2_turn_2 4 rfl rfl)
theorem dX2_turn_53 : decode cX2_turn 53 = .ok (.iadd, 1) := dk_96 (dk_at dksX2_turn_2 5 rfl rfl)
theorem dX2_turn_54 : decode cX2_turn 54 = .ok (.aload_n 0, 1) := dk_42 (dk_at dksX2_turn_2 6 rfl rfl)
theorem dX2_turn_55 : decode cX2_turn 55 = .ok (.getfield 42, 3) := dk_180 0 42 (dk_at dksX2_turn_2 7 rfl rfl)
theorem dX2_turn_58 : decode cX2_turn 58 = .ok (.bipush 10, 2) := dk_16 10 (dk_at dksX2_turn_2 10 rfl rfl)
theorem dX2_turn_60 : decode cX2_turn 60 = .ok (.iload_n 1, 1) := dk_27 (dk_at dksX2_turn_2 12 rfl rfl)
theorem dX2_turn_61 : decode cX2_turn 61 = .ok (.imul, 1) := dk_104 (dk_at dksX2_turn_2 13 rfl rfl)
theorem dX2_turn_62 : decode cX2_turn 62 = .ok (.iload_n 3, 1) := dk_29 (dk_at dksX2_turn_2 14 rfl rfl)
theorem dX2_turn_63 : decode cX2_turn 63 = .ok (.iadd, 1) := dk_96 (dk_at dksX2_turn_2 15 rfl rfl)
theorem dX2_turn_64 : decode cX2_turn 64 = .ok (.iaload, 1) := dk_46 (dk_at dksX2_turn_2 16 rfl rfl)
theorem dX2_turn_65 : decode cX2_turn 65 = .ok (.iastore, 1) := dk_79 (dk_at dksX2_turn_2 17 rfl rfl)
theorem dX2_turn_66 : decode cX2_turn 66 = .ok (.aload_n 0, 1) := dk_42 (dk_at dksX2_turn_2 18 rfl rfl)
theorem dX2_turn_67 : decode cX2_turn 67 = .ok (.getfield 42, 3) := dk_180 0 42 (dk_at dksX2_turn_2 19 rfl rfl)
theorem dX2_turn_70 : decode cX2_turn 70 = .ok (.bipush 10, 2) := dk_16 10 (dk_at dksX2_turn_2 22 rfl rfl)
theorem dX2_turn_72 : decode cX2_turn 72 = .ok (.iload_n 1, 1) := dk_27 (dk_at dksX2_turn_3 0 rfl rfl)
theorem dX2_turn_73 : decode cX2_turn 73 = .ok (.imul, 1) := dk_104 (dk_at dksX2_turn_3 1 rfl rfl)
theorem dX2_turn_74 : decode cX2_turn 74 = .ok (.iload_n 3, 1) := dk_29 (dk_at dksX2_turn_3 2 rfl rfl)
theorem dX2_turn_75 : decode cX2_turn 75 = .ok (.iadd, 1) := dk_96 (dk_at dksX2_turn_3 3 rfl rfl)
theorem dX2_turn_76 : decode cX2_turn 76 = .ok (.iload 4, 2) := dk_21 4 (dk_at dksX2_turn_3 4 rfl rfl)
theorem dX2_turn_78 : decode cX2_turn 78 = .ok (.iastore, 1) := dk_79 (dk_at dksX2_turn_3 6 rfl rfl)
theorem dX2_turn_79 : decode cX2_turn 79 = .ok (.iinc 2 1, 3) := dk_132 2 1 (dk_at dksX2_turn_3 7 rfl rfl)
theorem dX2_turn_82 : decode cX2_turn 82 = .ok (.iinc 3 (-1), 3) := dk_132 3 255 (dk_at dksX2_turn_3 10 rfl rfl)
theorem dX2_turn_85 : decode cX2_turn 85 = .ok (.goto (-59), 3) := dk_167 255 197 (dk_at dksX2_turn_3 13 rfl rfl)
theorem dX2_turn_88 : decode cX2_turn 88 = .ok (.iconst 1, 1) := dk_4 (dk_at dksX2_turn_3 16 rfl rfl)
theorem dX2_turn_89 : decode cX2_turn 89 = .ok (.ireturn, 1) := dk_172 (dk_at dksX2_turn_3 17 rfl rfl)
abbrev cX2_joined : ByteArray := prog_8_method_54_code
def yX2_joined : MethodName := ⟨RX2, "joined", "(II)I"⟩
def dkwX2_joined_3 : List UInt8 := [154, 0, 8, 16, 254, 167, 0, 4, 29, 172]
abbrev dktX2_joined_3 : List UInt8 := dkwX2_joined_3 ++ []
def dkwX2_joined_2 : List UInt8 := [182, 1, 30, 96, 62, 42, 3, 181, 0, 113, 42, 42, 180, 1, 18, 182, 1, 33, 42, 180, 1, 18]
abbrev dktX2_joined_2 : List UInt8 := dkwX2_joined_2 ++ dktX2_joined_3
def dkwX2_joined_1 : List UInt8 := [42, 182, 1, 27, 42, 27, 182, 1, 30, 62, 29, 42, 180, 0, 45, 27, 46, 160, 0, 11, 29, 42, 28]
abbrev dktX2_joined_1 : List UInt8 := dkwX2_joined_1 ++ dktX2_joined_2
def dkwX2_joined_0 : List UInt8 := [42, 3, 181, 0, 110, 42, 27, 182, 1, 36, 153, 0, 11, 42, 28, 182, 1, 36, 154, 0, 6, 16, 253, 172]
abbrev dktX2_joined_0 : List UInt8 := dkwX2_joined_0 ++ dktX2_joined_1
theorem dksX2_joined_0 : cX2_joined.data.toList.drop 0 = dktX2_joined_0 := by decide +kernel
theorem dksX2_joined_1 : cX2_joined.data.toList.drop 24 = dktX2_joined_1 := dk_seg dksX2_joined_0 24 rfl rfl
theorem dksX2_joined_2 : cX2_joined.data.toList.drop 47 = dktX2_joined_2 := dk_seg dksX2_joined_1 23 rfl rfl
theorem dksX2_joined_3 : cX2_joined.data.toList.drop 69 = dktX2_joined_3 := dk_seg dksX2_joined_2 22 rfl rfl
theorem dX2_joined_0 : decode cX2_joined 0 = .ok (.aload_n 0, 1) := dk_42 (dk_at dksX2_joined_0 0 rfl rfl)
theorem dX2_joined_1 : decode cX2_joined 1 = .ok (.iconst 0, 1) := dk_3 (dk_at dksX2_joined_0 1 rfl rfl)
theorem dX2_joined_2 : decode cX2_joined 2 = .ok (.putfield 110, 3) := dk_181 0 110 (dk_at dksX2_joined_0 2 rfl rfl)
theorem dX2_joined_5 : decode cX2_joined 5 = .ok (.aload_n 0, 1) := dk_42 (dk_at dksX2_joined_0 5 rfl rfl)
theorem dX2_joined_6 : decode cX2_joined 6 = .ok (.iload_n 1, 1) := dk_27 (dk_at dksX2_joined_0 6 rfl rfl)
theorem dX2_joined_7 : decode cX2_joined 7 = .ok (.invokevirtual 292, 3) := dk_182 1 36 (dk_at dksX2_joined_0 7 rfl rfl)
theorem dX2_joined_10 : decode cX2_joined 10 = .ok (.ifCond .eq 11, 3) := dk_153 0 11 (dk_at dksX2_joined_0 10 rfl rfl)
theorem dX2_joined_13 : decode cX2_joined 13 = .ok (.aload_n 0, 1) := dk_42 (dk_at dksX2_joined_0 13 rfl rfl)
theorem dX2_joined_14 : decode cX2_joined 14 = .ok (.iload_n 2, 1) := dk_28 (dk_at dksX2_joined_0 14 rfl rfl)
theorem dX2_joined_15 : decode cX2_joined 15 = .ok (.invokevirtual 292, 3) := dk_182 1 36 (dk_at dksX2_joined_0 15 rfl rfl)
theorem dX2_joined_18 : decode cX2_joined 18 = .ok (.ifCond .ne 6, 3) := dk_154 0 6 (dk_at dksX2_joined_0 18 rfl rfl)
theorem dX2_joined_21 : decode cX2_joined 21 = .ok (.bipush (-3), 2) := dk_16 253 (dk_at dksX2_joined_0 21 rfl rfl)
theorem dX2_joined_23 : decode cX2_joined 23 = .ok (.ireturn, 1) := dk_172 (dk_at dksX2_joined_0 23 rfl rfl)
theorem dX2_joined_24 : decode cX2_joined 24 = .ok (.aload_n 0, 1) := dk_42 (dk_at dksX2_joined_1 0 rfl rfl)
theorem dX2_joined_25 : decode cX2_joined 25 = .ok (.invokevirtual 283, 3) := dk_182 1 27 (dk_at dksX2_joined_1 1 rfl rfl)
theorem dX2_joined_28 : decode cX2_joined 28 = .ok (.aload_n 0, 1) := dk_42 (dk_at dksX2_joined_1 4 rfl rfl)
theorem dX2_joined_29 : decode cX2_joined 29 = .ok (.iload_n 1, 1) := dk_27 (dk_at dksX2_joined_1 5 rfl rfl)
theorem dX2_joined_30 : decode cX2_joined 30 = .ok (.invokevirtual 286, 3) := dk_182 1 30 (dk_at dksX2_joined_1 6 rfl rfl)
theorem dX2_joined_33 : decode cX2_joined 33 = .ok (.istore_n 3, 1) := dk_62 (dk_at dksX2_joined_1 9 rfl rfl)
theorem dX2_joined_34 : decode cX2_joined 34 = .ok (.iload_n 3, 1) := dk_29 (dk_at dksX2_joined_1 10 rfl rfl)
theorem dX2_joined_35 : decode cX2_joined 35 = .ok (.aload_n 0, 1) := dk_42 (dk_at dksX2_joined_1 11 rfl rfl)
theorem dX2_joined_36 : decode cX2_joined 36 = .ok (.getfield 45, 3) := dk_180 0 45 (dk_at dksX2_joined_1 12 rfl rfl)
theorem dX2_joined_39 : decode cX2_joined 39 = .ok (.iload_n 1, 1) := dk_27 (dk_at dksX2_joined_1 15 rfl rfl)
theorem dX2_joined_40 : decode cX2_joined 40 = .ok (.iaload, 1) := dk_46 (dk_at dksX2_joined_1 16 rfl rfl)
theorem dX2_joined_41 : decode cX2_joined 41 = .ok (.if_icmp .ne 11, 3) := dk_160 0 11 (dk_at dksX2_joined_1 17 rfl rfl)
theorem dX2_joined_44 : decode cX2_joined 44 = .ok (.iload_n 3, 1) := dk_29 (dk_at dksX2_joined_1 20 rfl rfl)
theorem dX2_joined_45 : decode cX2_joined 45 = .ok (.aload_n 0, 1) := dk_42 (dk_at dksX2_joined_1 21 rfl rfl)
theorem dX2_joined_46 : decode cX2_joined 46 = .ok (.iload_n 2, 1) := dk_28 (dk_at dksX2_joined_1 22 rfl rfl)
theorem dX2_joined_47 : decode cX2_joined 47 = .ok (.invokevirtual 286, 3) := dk_182 1 30 (dk_at dksX2_joined_2 0 rfl rfl)
theorem dX2_joined_50 : decode cX2_joined 50 = .ok (.iadd, 1) := dk_96 (dk_at dksX2_joined_2 3 rfl rfl)
theorem dX2_joined_51 : decode cX2_joined 51 = .ok (.istore_n 3, 1) := dk_62 (dk_at dksX2_joined_2 4 rfl rfl)
theorem dX2_joined_52 : decode cX2_joined 52 = .ok (.aload_n 0, 1) := dk_42 (dk_at dksX2_joined_2 5 rfl rfl)
theorem dX2_joined_53 : decode cX2_joined 53 = .ok (.iconst 0, 1) := dk_3 (dk_at dksX2_joined_2 6 rfl rfl)
theorem dX2_joined_54 : decode cX2_joined 54 = .ok (.putfield 113, 3) := dk_181 0 113 (dk_at dksX2_joined_2 7 rfl rfl)
theorem dX2_joined_57 : decode cX2_joined 57 = .ok (.aload_n 0, 1) := dk_42 (dk_at dksX2_joined_2 10 rfl rfl)
theorem dX2_joined_58 : decode cX2_joined 58 = .ok (.aload_n 0, 1) := dk_42 (dk_at dksX2_joined_2 11 rfl rfl)
theorem dX2_joined_59 : decode cX2_joined 59 = .ok (.getfield 274, 3) := dk_180 1 18 (dk_at dksX2_joined_2 12 rfl rfl)
theorem dX2_joined_62 : decode cX2_joined 62 = .ok (.invokevirtual 289, 3) := dk_182 1 33 (dk_at dksX2_joined_2 15 rfl rfl)
theorem dX2_joined_65 : decode cX2_joined 65 = .ok (.aload_n 0, 1) := dk_42 (dk_at dksX2_joined_2 18 rfl rfl)
theorem dX2_joined_66 : decode cX2_joined 66 = .ok (.getfield 274, 3) := dk_180 1 18 (dk_at dksX2_joined_2 19 rfl rfl)
theorem dX2_joined_69 : decode cX2_joined 69 = .ok (.ifCond .ne 8, 3) := dk_154 0 8 (dk_at dksX2_joined_3 0 rfl rfl)
theorem dX2_joined_72 : decode cX2_joined 72 = .ok (.bipush (-2), 2) := dk_16 254 (dk_at dksX2_joined_3 3 rfl rfl)
theorem dX2_joined_74 : decode cX2_joined 74 = .ok (.goto 4, 3) := dk_167 0 4 (dk_at dksX2_joined_3 5 rfl rfl)
theorem dX2_joined_77 : decode cX2_joined 77 = .ok (.iload_n 3, 1) := dk_29 (dk_at dksX2_joined_3 8 rfl rfl)
theorem dX2_joined_78 : decode cX2_joined 78 = .ok (.ireturn, 1) := dk_172 (dk_at dksX2_joined_3 9 rfl rfl)
abbrev cX2_isWhole : ByteArray := prog_8_method_48_code
def yX2_isWhole : MethodName := ⟨RX2, "isWhole", "(I)Z"⟩
def dkwX2_isWhole_2 : List UInt8 := [172]
abbrev dktX2_isWhole_2 : List UInt8 := dkwX2_isWhole_2 ++ []
def dkwX2_isWhole_1 : List UInt8 := [180, 0, 42, 16, 10, 27, 104, 28, 96, 46, 16, 99, 160, 0, 5, 3, 172, 132, 2, 1, 167, 255, 225, 4]
abbrev dktX2_isWhole_1 : List UInt8 := dkwX2_isWhole_1 ++ dktX2_isWhole_2
def dkwX2_isWhole_0 : List UInt8 := [42, 27, 182, 1, 9, 154, 0, 5, 3, 172, 3, 61, 28, 42, 180, 0, 45, 27, 46, 162, 0, 27, 42]
abbrev dktX2_isWhole_0 : List UInt8 := dkwX2_isWhole_0 ++ dktX2_isWhole_1
theorem dksX2_isWhole_0 : cX2_isWhole.data.toList.drop 0 = dktX2_isWhole_0 := by decide +kernel
theorem dksX2_isWhole_1 : cX2_isWhole.data.toList.drop 23 = dktX2_isWhole_1 := dk_seg dksX2_isWhole_0 23 rfl rfl
theorem dksX2_isWhole_2 : cX2_isWhole.data.toList.drop 47 = dktX2_isWhole_2 := dk_seg dksX2_isWhole_1 24 rfl rfl
theorem dX2_isWhole_0 : decode cX2_isWhole 0 = .ok (.aload_n 0, 1) := dk_42 (dk_at dksX2_isWhole_0 0 rfl rfl)
theorem dX2_isWhole_1 : decode cX2_isWhole 1 = .ok (.iload_n 1, 1) := dk_27 (dk_at dksX2_isWhole_0 1 rfl rfl)
theorem dX2_isWhole_2 : decode cX2_isWhole 2 = .ok (.invokevirtual 265, 3) := dk_182 1 9 (dk_at dksX2_isWhole_0 2 rfl rfl)
theorem dX2_isWhole_5 : decode cX2_isWhole 5 = .ok (.ifCond .ne 5, 3) := dk_154 0 5 (dk_at dksX2_isWhole_0 5 rfl rfl)
theorem dX2_isWhole_8 : decode cX2_isWhole 8 = .ok (.iconst 0, 1) := dk_3 (dk_at dksX2_isWhole_0 8 rfl rfl)
theorem dX2_isWhole_9 : decode cX2_isWhole 9 = .ok (.ireturn, 1) := dk_172 (dk_at dksX2_isWhole_0 9 rfl rfl)
theorem dX2_isWhole_10 : decode cX2_isWhole 10 = .ok (.iconst 0, 1) := dk_3 (dk_at dksX2_isWhole_0 10 rfl rfl)
theorem dX2_isWhole_11 : decode cX2_isWhole 11 = .ok (.istore_n 2, 1) := dk_61 (dk_at dksX2_isWhole_0 11 rfl rfl)
theorem dX2_isWhole_12 : decode cX2_isWhole 12 = .ok (.iload_n 2, 1) := dk_28 (dk_at dksX2_isWhole_0 12 rfl rfl)
theorem dX2_isWhole_13 : decode cX2_isWhole 13 = .ok (.aload_n 0, 1) := dk_42 (dk_at dksX2_isWhole_0 13 rfl rfl)
theorem dX2_isWhole_14 : decode cX2_isWhole 14 = .ok (.getfield 45, 3) := dk_180 0 45 (dk_at dksX2_isWhole_0 14 rfl rfl)
theorem dX2_isWhole_17 : decode cX2_isWhole 17 = .ok (.iload_n 1, 1) := dk_27 (dk_at dksX2_isWhole_0 17 rfl rfl)
theorem dX2_isWhole_18 : decode cX2_isWhole 18 = .ok (.iaload, 1) := dk_46 (dk_at dksX2_isWhole_0 18 rfl rfl)
theorem dX2_isWhole_19 : decode cX2_isWhole 19 = .ok (.if_icmp .ge 27, 3) := dk_162 0 27 (dk_at dksX2_isWhole_0 19 rfl rfl)
theorem dX2_isWhole_22 : decode cX2_isWhole 22 = .ok (.aload_n 0, 1) := dk_42 (dk_at dksX2_isWhole_0 22 rfl rfl)
theorem dX2_isWhole_23 : decode cX2_isWhole 23 = .ok (.getfield 42, 3) := dk_180 0 42 (dk_at dksX2_isWhole_1 0 rfl rfl)
theorem dX2_isWhole_26 : decode cX2_isWhole 26 = .ok (.bipush 10, 2) := dk_16 10 (dk_at dksX2_isWhole_1 3 rfl rfl)
theorem dX2_isWhole_28 : decode cX2_isWhole 28 = .ok (.iload_n 1, 1) := dk_27 (dk_at dksX2_isWhole_1 5 rfl rfl)
theorem dX2_isWhole_29 : decode cX2_isWhole 29 = .ok (.imul, 1) := dk_104 (dk_at dksX2_isWhole_1 6 rfl rfl)
theorem dX2_isWhole_30 : decode cX2_isWhole 30 = .ok (.iload_n 2, 1) := dk_28 (dk_at dksX2_isWhole_1 7 rfl rfl)
theorem dX2_isWhole_31 : decode cX2_isWhole 31 = .ok (.iadd, 1) := dk_96 (dk_at dksX2_isWhole_1 8 rfl rfl)
theorem dX2_isWhole_32 : decode cX2_isWhole 32 = .ok (.iaload, 1) := dk_46 (dk_at dksX2_isWhole_1 9 rfl rfl)
theorem dX2_isWhole_33 : decode cX2_isWhole 33 = .ok (.bipush 99, 2) := dk_16 99 (dk_at dksX2_isWhole_1 10 rfl rfl)
theorem dX2_isWhole_35 : decode cX2_isWhole 35 = .ok (.if_icmp .ne 5, 3) := dk_160 0 5 (dk_at dksX2_isWhole_1 12 rfl rfl)
theorem dX2_isWhole_38 : decode cX2_isWhole 38 = .ok (.iconst 0, 1) := dk_3 (dk_at dksX2_isWhole_1 15 rfl rfl)
theorem dX2_isWhole_39 : decode cX2_isWhole 39 = .ok (.ireturn, 1) := dk_172 (dk_at dksX2_isWhole_1 16 rfl rfl)
theorem dX2_isWhole_40 : decode cX2_isWhole 40 = .ok (.iinc 2 1, 3) := dk_132 2 1 (dk_at dksX2_isWhole_1 17 rfl rfl)
theorem dX2_isWhole_43 : decode cX2_isWhole 43 = .ok (.goto (-31), 3) := dk_167 255 225 (dk_at dksX2_isWhole_1 20 rfl rfl)
theorem dX2_isWhole_46 : decode cX2_isWhole 46 = .ok (.iconst 1, 1) := dk_4 (dk_at dksX2_isWhole_1 23 rfl rfl)
theorem dX2_isWhole_47 : decode cX2_isWhole 47 = .ok (.ireturn, 1) := dk_172 (dk_at dksX2_isWhole_2 0 rfl rfl)
abbrev cX2_falls : ByteArray := prog_8_method_56_code
def yX2_falls : MethodName := ⟨RX2, "falls", "(III)I"⟩
def dkwX2_falls_7 : List UInt8 := [181, 0, 32, 42, 21, 6, 181, 0, 36, 42, 21, 7, 181, 0, 236, 21, 4, 172]
abbrev dktX2_falls_7 : List UInt8 := dkwX2_falls_7 ++ []
def dkwX2_falls_6 : List UInt8 := [153, 0, 14, 21, 4, 4, 21, 8, 120, 2, 130, 126, 54, 4, 132, 8, 1, 167, 255, 217, 42, 21, 5]
abbrev dktX2_falls_6 : List UInt8 := dkwX2_falls_6 ++ dktX2_falls_7
def dkwX2_falls_5 : List UInt8 := [21, 8, 6, 162, 0, 39, 21, 4, 21, 8, 184, 0, 239, 153, 0, 23, 42, 21, 8, 182, 1, 39]
abbrev dktX2_falls_5 : List UInt8 := dkwX2_falls_5 ++ dktX2_falls_6
def dkwX2_falls_4 : List UInt8 := [180, 0, 236, 54, 7, 42, 27, 181, 0, 32, 42, 28, 181, 0, 36, 42, 29, 181, 0, 236, 3, 54, 8]
abbrev dktX2_falls_4 : List UInt8 := dkwX2_falls_4 ++ dktX2_falls_5
def dkwX2_falls_3 : List UInt8 := [3, 128, 54, 4, 132, 5, 1, 167, 255, 216, 42, 180, 0, 32, 54, 5, 42, 180, 0, 36, 54, 6, 42]
abbrev dktX2_falls_3 : List UInt8 := dkwX2_falls_3 ++ dktX2_falls_4
def dkwX2_falls_2 : List UInt8 := [21, 5, 182, 1, 36, 153, 0, 19, 42, 21, 5, 182, 1, 39, 153, 0, 10, 4, 21, 5, 120, 167, 0, 4]
abbrev dktX2_falls_2 : List UInt8 := dkwX2_falls_2 ++ dktX2_falls_3
def dkwX2_falls_1 : List UInt8 := [184, 0, 233, 154, 0, 5, 2, 172, 3, 54, 4, 3, 54, 5, 21, 5, 6, 162, 0, 40, 21, 4, 42]
abbrev dktX2_falls_1 : List UInt8 := dkwX2_falls_1 ++ dktX2_falls_2
def dkwX2_falls_0 : List UInt8 := [42, 3, 181, 0, 110, 3, 27, 184, 0, 233, 153, 0, 19, 4, 28, 184, 0, 233, 153, 0, 11, 5, 29]
abbrev dktX2_falls_0 : List UInt8 := dkwX2_falls_0 ++ dktX2_falls_1
theorem dksX2_falls_0 : cX2_falls.data.toList.drop 0 = dktX2_falls_0 := by decide +kernel
theorem dksX2_falls_1 : cX2_falls.data.toList.drop 23 = dktX2_falls_1 := dk_seg dksX2_falls_0 23 rfl rfl
theorem dksX2_falls_2 : cX2_falls.data.toList.drop 46 = dktX2_falls_2 := dk_seg dksX2_falls_1 23 rfl rfl
theorem dksX2_falls_3 : cX2_falls.data.toList.drop 70 = dktX2_falls_3 := dk_seg dksX2_falls_2 24 rfl rfl
theorem dksX2_falls_4 : cX2_falls.data.toList.drop 93 = dktX2_falls_4 := dk_seg dksX2_falls_3 23 rfl rfl
theorem dksX2_falls_5 : cX2_falls.data.toList.drop 116 = dktX2_falls_5 := dk_seg dksX2_falls_4 23 rfl rfl
theorem dksX2_falls_6 : cX2_falls.data.toList.drop 138 = dktX2_falls_6 := dk_seg dksX2_falls_5 22 rfl rfl
theorem dksX2_falls_7 : cX2_falls.data.toList.drop 161 = dktX2_falls_7 := dk_seg dksX2_falls_6 23 rfl rfl
theorem dX2_falls_0 : decode cX2_falls 0 = .ok (.aload_n 0, 1) := dk_42 (dk_at dksX2_falls_0 0 rfl rfl)
theorem dX2_falls_1 : decode cX2_falls 1 = .ok (.iconst 0, 1) := dk_3 (dk_at dksX2_falls_0 1 rfl rfl)
theorem dX2_falls_2 : decode cX2_falls 2 = .ok (.putfield 110, 3) := dk_181 0 110 (dk_at dksX2_falls_0 2 rfl rfl)
theorem dX2_falls_5 : decode cX2_falls 5 = .ok (.iconst 0, 1) := dk_3 (dk_at dksX2_falls_0 5 rfl rfl)
theorem dX2_falls_6 : decode cX2_falls 6 = .ok (.iload_n 1, 1) := dk_27 (dk_at dksX2_falls_0 6 rfl rfl)
theorem dX2_falls_7 : decode cX2_falls 7 = .ok (.invokestatic 233, 3) := dk_184 0 233 (dk_at dksX2_falls_0 7 rfl rfl)
theorem dX2_falls_10 : decode cX2_falls 10 = .ok (.ifCond .eq 19, 3) := dk_153 0 19 (dk_at dksX2_falls_0 10 rfl rfl)
theorem dX2_falls_13 : decode cX2_falls 13 = .ok (.iconst 1, 1) := dk_4 (dk_at dksX2_falls_0 13 rfl rfl)
theorem dX2_falls_14 : decode cX2_falls 14 = .ok (.iload_n 2, 1) := dk_28 (dk_at dksX2_falls_0 14 rfl rfl)
theorem dX2_falls_15 : decode cX2_falls 15 = .ok (.invokestatic 233, 3) := dk_184 0 233 (dk_at dksX2_falls_0 15 rfl rfl)
theorem dX2_falls_18 : decode cX2_falls 18 = .ok (.ifCond .eq 11, 3) := dk_153 0 11 (dk_at dksX2_falls_0 18 rfl rfl)
theorem dX2_falls_21 : decode cX2_falls 21 = .ok (.iconst 2, 1) := dk_5 (dk_at dksX2_falls_0 21 rfl rfl)
theorem dX2_falls_22 : decode cX2_falls 22 = .ok (.iload_n 3, 1) := dk_29 (dk_at dksX2_falls_0 22 rfl rfl)
theorem dX2_falls_23 : decode cX2_falls 23 = .ok (.invokestatic 233, 3) := dk_184 0 233 (dk_at dksX2_falls_1 0 rfl rfl)
theorem dX2_falls_26 : decode cX2_falls 26 = .ok (.ifCond .ne 5, 3) := dk_154 0 5 (dk_at dksX2_falls_1 3 rfl rfl)
theorem dX2_falls_29 : decode cX2_falls 29 = .ok (.iconst (-1), 1) := dk_2 (dk_at dksX2_falls_1 6 rfl rfl)
theorem dX2_falls_30 : decode cX2_falls 30 = .ok (.ireturn, 1) := dk_172 (dk_at dksX2_falls_1 7 rfl rfl)
theorem dX2_falls_31 : decode cX2_falls 31 = .ok (.iconst 0, 1) := dk_3 (dk_at dksX2_falls_1 8 rfl rfl)
theorem dX2_falls_32 : decode cX2_falls 32 = .ok (.istore 4, 2) := dk_54 4 (dk_at dksX2_falls_1 9 rfl rfl)
theorem dX2_falls_34 : decode cX2_falls 34 = .ok (.iconst 0, 1) := dk_3 (dk_at dksX2_falls_1 11 rfl rfl)
theorem dX2_falls_35 : decode cX2_falls 35 = .ok (.istore 5, 2) := dk_54 5 (dk_at dksX2_falls_1 12 rfl rfl)
theorem dX2_falls_37 : decode cX2_falls 37 = .ok (.iload 5, 2) := dk_21 5 (dk_at dksX2_falls_1 14 rfl rfl)
theorem dX2_falls_39 : decode cX2_falls 39 = .ok (.iconst 3, 1) := dk_6 (dk_at dksX2_falls_1 16 rfl rfl)
theorem dX2_falls_40 : decode cX2_falls 40 = .ok (.if_icmp .ge 40, 3) := dk_162 0 40 (dk_at dksX2_falls_1 17 rfl rfl)
theorem dX2_falls_43 : decode cX2_falls 43 = .ok (.iload 4, 2) := dk_21 4 (dk_at dksX2_falls_1 20 rfl rfl)
theorem dX2_falls_45 : decode cX2_falls 45 = .ok (.aload_n 0, 1) := dk_42 (dk_at dksX2_falls_1 22 rfl rfl)
theorem dX2_falls_46 : decode cX2_falls 46 = .ok (.iload 5, 2) := dk_21 5 (dk_at dksX2_falls_2 0 rfl rfl)
theorem dX2_falls_48 : decode cX2_falls 48 = .ok (.invokevirtual 292, 3) := dk_182 1 36 (dk_at dksX2_falls_2 2 rfl rfl)
theorem dX2_falls_51 : decode cX2_falls 51 = .ok (.ifCond .eq 19, 3) := dk_153 0 19 (dk_at dksX2_falls_2 5 rfl rfl)
theorem dX2_falls_54 : decode cX2_falls 54 = .ok (.aload_n 0, 1) := dk_42 (dk_at dksX2_falls_2 8 rfl rfl)
theorem dX2_falls_55 : decode cX2_falls 55 = .ok (.iload 5, 2) := dk_21 5 (dk_at dksX2_falls_2 9 rfl rfl)
theorem dX2_falls_57 : decode cX2_falls 57 = .ok (.invokevirtual 295, 3) := dk_182 1 39 (dk_at dksX2_falls_2 11 rfl rfl)
theorem dX2_falls_60 : decode cX2_falls 60 = .ok (.ifCond .eq 10, 3) := dk_153 0 10 (dk_at dksX2_falls_2 14 rfl rfl)
theorem dX2_falls_63 : decode cX2_falls 63 = .ok (.iconst 1, 1) := dk_4 (dk_at dksX2_falls_2 17 rfl rfl)
theorem dX2_falls_64 : decode cX2_falls 64 = .ok (.iload 5, 2) := dk_21 5 (dk_at dksX2_falls_2 18 rfl rfl)
theorem dX2_falls_66 : decode cX2_falls 66 = .ok (.ishl, 1) := dk_120 (dk_at dksX2_falls_2 20 rfl rfl)
theorem dX2_falls_67 : decode cX2_falls 67 = .ok (.goto 4, 3) := dk_167 0 4 (dk_at dksX2_falls_2 21 rfl rfl)
theorem dX2_falls_70 : decode cX2_falls 70 = .ok (.iconst 0, 1) := dk_3 (dk_at dksX2_falls_3 0 rfl rfl)
theorem dX2_falls_71 : decode cX2_falls 71 = .ok (.ior, 1) := dk_128 (dk_at dksX2_falls_3 1 rfl rfl)
theorem dX2_falls_72 : decode cX2_falls 72 = .ok (.istore 4, 2) := dk_54 4 (dk_at dksX2_falls_3 2 rfl rfl)
theorem dX2_falls_74 : decode cX2_falls 74 = .ok (.iinc 5 1, 3) := dk_132 5 1 (dk_at dksX2_falls_3 4 rfl rfl)
theorem dX2_falls_77 : decode cX2_falls 77 = .ok (.goto (-40), 3) := dk_167 255 216 (dk_at dksX2_falls_3 7 rfl rfl)
theorem dX2_falls_80 : decode cX2_falls 80 = .ok (.aload_n 0, 1) := dk_42 (dk_at dksX2_falls_3 10 rfl rfl)
theorem dX2_falls_81 : decode cX2_falls 81 = .ok (.getfield 32, 3) := dk_180 0 32 (dk_at dksX2_falls_3 11 rfl rfl)
theorem dX2_falls_84 : decode cX2_falls 84 = .ok (.istore 5, 2) := dk_54 5 (dk_at dksX2_falls_3 14 rfl rfl)
theorem dX2_falls_86 : decode cX2_falls 86 = .ok (.aload_n 0, 1) := dk_42 (dk_at dksX2_falls_3 16 rfl rfl)
theorem dX2_falls_87 : decode cX2_falls 87 = .ok (.getfield 36, 3) := dk_180 0 36 (dk_at dksX2_falls_3 17 rfl rfl)
theorem dX2_falls_90 : decode cX2_falls 90 = .ok (.istore 6, 2) := dk_54 6 (dk_at dksX2_falls_3 20 rfl rfl)
theorem dX2_falls_92 : decode cX2_falls 92 = .ok (.aload_n 0, 1) := dk_42 (dk_at dksX2_falls_3 22 rfl rfl)
theorem dX2_falls_93 : decode cX2_falls 93 = .ok (.getfield 236, 3) := dk_180 0 236 (dk_at dksX2_falls_4 0 rfl rfl)
theorem dX2_falls_96 : decode cX2_falls 96 = .ok (.istore 7, 2) := dk_54 7 (dk_at dksX2_falls_4 3 rfl rfl)
theorem dX2_falls_98 : decode cX2_falls 98 = .ok (.aload_n 0, 1) := dk_42 (dk_at dksX2_falls_4 5 rfl rfl)
theorem dX2_falls_99 : decode cX2_falls 99 = .ok (.iload_n 1, 1) := dk_27 (dk_at dksX2_falls_4 6 rfl rfl)
theorem dX2_falls_100 : decode cX2_falls 100 = .ok (.putfield 32, 3) := dk_181 0 32 (dk_at dksX2_falls_4 7 rfl rfl)
theorem dX2_falls_103 : decode cX2_falls 103 = .ok (.aload_n 0, 1) := dk_42 (dk_at dksX2_falls_4 10 rfl rfl)
theorem dX2_falls_104 : decode cX2_falls 104 = .ok (.iload_n 2, 1) := dk_28 (dk_at dksX2_falls_4 11 rfl rfl)
theorem dX2_falls_105 : decode cX2_falls 105 = .ok (.putfield 36, 3) := dk_181 0 36 (dk_at dksX2_falls_4 12 rfl rfl)
theorem dX2_falls_108 : decode cX2_falls 108 = .ok (.aload_n 0, 1) := dk_42 (dk_at dksX2_falls_4 15 rfl rfl)
theorem dX2_falls_109 : decode cX2_falls 109 = .ok (.iload_n 3, 1) := dk_29 (dk_at dksX2_falls_4 16 rfl rfl)
theorem dX2_falls_110 : decode cX2_falls 110 = .ok (.putfield 236, 3) := dk_181 0 236 (dk_at dksX2_falls_4 17 rfl rfl)
theorem dX2_falls_113 : decode cX2_falls 113 = .ok (.iconst 0, 1) := dk_3 (dk_at dksX2_falls_4 20 rfl rfl)
theorem dX2_falls_114 : decode cX2_falls 114 = .ok (.istore 8, 2) := dk_54 8 (dk_at dksX2_falls_4 21 rfl rfl)
theorem dX2_falls_116 : decode cX2_falls 116 = .ok (.iload 8, 2) := dk_21 8 (dk_at dksX2_falls_5 0 rfl rfl)
theorem dX2_falls_118 : decode cX2_falls 118 = .ok (.iconst 3, 1) := dk_6 (dk_at dksX2_falls_5 2 rfl rfl)
theorem dX2_falls_119 : decode cX2_falls 119 = .ok (.if_icmp .ge 39, 3) := dk_162 0 39 (dk_at dksX2_falls_5 3 rfl rfl)
theorem dX2_falls_122 : decode cX2_falls 122 = .ok (.iload 4, 2) := dk_21 4 (dk_at dksX2_falls_5 6 rfl rfl)
theorem dX2_falls_124 : decode cX2_falls 124 = .ok (.iload 8, 2) := dk_21 8 (dk_at dksX2_falls_5 8 rfl rfl)
theorem dX2_falls_126 : decode cX2_falls 126 = .ok (.invokestatic 239, 3) := dk_184 0 239 (dk_at dksX2_falls_5 10 rfl rfl)
theorem dX2_falls_129 : decode cX2_falls 129 = .ok (.ifCond .eq 23, 3) := dk_153 0 23 (dk_at dksX2_falls_5 13 rfl rfl)
theorem dX2_falls_132 : decode cX2_falls 132 = .ok (.aload_n 0, 1) := dk_42 (dk_at dksX2_falls_5 16 rfl rfl)
theorem dX2_falls_133 : decode cX2_falls 133 = .ok (.iload 8, 2) := dk_21 8 (dk_at dksX2_falls_5 17 rfl rfl)
theorem dX2_falls_135 : decode cX2_falls 135 = .ok (.invokevirtual 295, 3) := dk_182 1 39 (dk_at dksX2_falls_5 19 rfl rfl)
theorem dX2_falls_138 : decode cX2_falls 138 = .ok (.ifCond .eq 14, 3) := dk_153 0 14 (dk_at dksX2_falls_6 0 rfl rfl)
theorem dX2_falls_141 : decode cX2_falls 141 = .ok (.iload 4, 2) := dk_21 4 (dk_at dksX2_falls_6 3 rfl rfl)
theorem dX2_falls_143 : decode cX2_falls 143 = .ok (.iconst 1, 1) := dk_4 (dk_at dksX2_falls_6 5 rfl rfl)
theorem dX2_falls_144 : decode cX2_falls 144 = .ok (.iload 8, 2) := dk_21 8 (dk_at dksX2_falls_6 6 rfl rfl)
theorem dX2_falls_146 : decode cX2_falls 146 = .ok (.ishl, 1) := dk_120 (dk_at dksX2_falls_6 8 rfl rfl)
theorem dX2_falls_147 : decode cX2_falls 147 = .ok (.iconst (-1), 1) := dk_2 (dk_at dksX2_falls_6 9 rfl rfl)
theorem dX2_falls_148 : decode cX2_falls 148 = .ok (.ixor, 1) := dk_130 (dk_at dksX2_falls_6 10 rfl rfl)
theorem dX2_falls_149 : decode cX2_falls 149 = .ok (.iand, 1) := dk_126 (dk_at dksX2_falls_6 11 rfl rfl)
theorem dX2_falls_150 : decode cX2_falls 150 = .ok (.istore 4, 2) := dk_54 4 (dk_at dksX2_falls_6 12 rfl rfl)
theorem dX2_falls_152 : decode cX2_falls 152 = .ok (.iinc 8 1, 3) := dk_132 8 1 (dk_at dksX2_falls_6 14 rfl rfl)
theorem dX2_falls_155 : decode cX2_falls 155 = .ok (.goto (-39), 3) := dk_167 255 217 (dk_at dksX2_falls_6 17 rfl rfl)
theorem dX2_falls_158 : decode cX2_falls 158 = .ok (.aload_n 0, 1) := dk_42 (dk_at dksX2_falls_6 20 rfl rfl)
theorem dX2_falls_159 : decode cX2_falls 159 = .ok (.iload 5, 2) := dk_21 5 (dk_at dksX2_falls_6 21 rfl rfl)
theorem dX2_falls_161 : decode cX2_falls 161 = .ok (.putfield 32, 3) := dk_181 0 32 (dk_at dksX2_falls_7 0 rfl rfl)
theorem dX2_falls_164 : decode cX2_falls 164 = .ok (.aload_n 0, 1) := dk_42 (dk_at dksX2_falls_7 3 rfl rfl)
theorem dX2_falls_165 : decode cX2_falls 165 = .ok (.iload 6, 2) := dk_21 6 (dk_at dksX2_falls_7 4 rfl rfl)
theorem dX2_falls_167 : decode cX2_falls 167 = .ok (.putfield 36, 3) := dk_181 0 36 (dk_at dksX2_falls_7 6 rfl rfl)
theorem dX2_falls_170 : decode cX2_falls 170 = .ok (.aload_n 0, 1) := dk_42 (dk_at dksX2_falls_7 9 rfl rfl)
theorem dX2_falls_171 : decode cX2_falls 171 = .ok (.iload 7, 2) := dk_21 7 (dk_at dksX2_falls_7 10 rfl rfl)
theorem dX2_falls_173 : decode cX2_falls 173 = .ok (.putfield 236, 3) := dk_181 0 236 (dk_at dksX2_falls_7 12 rfl rfl)
theorem dX2_falls_176 : decode cX2_falls 176 = .ok (.iload 4, 2) := dk_21 4 (dk_at dksX2_falls_7 15 rfl rfl)
theorem dX2_falls_178 : decode cX2_falls 178 = .ok (.ireturn, 1) := dk_172 (dk_at dksX2_falls_7 17 rfl rfl)
abbrev cX2_isLawful : ByteArray := prog_8_method_55_code
def yX2_isLawful : MethodName := ⟨RX2, "isLawful", "(I)Z"⟩
def dkwX2_isLawful_0 : List UInt8 := [42, 182, 1, 27, 42, 27, 182, 1, 30, 42, 180, 0, 45, 27, 46, 160, 0, 7, 4, 167, 0, 4, 3, 172]
abbrev dktX2_isLawful_0 : List UInt8 := dkwX2_isLawful_0 ++ []
theorem dksX2_isLawful_0 : cX2_isLawful.data.toList.drop 0 = dktX2_isLawful_0 := by decide +kernel
theorem dX2_isLawful_0 : decode cX2_isLawful 0 = .ok (.aload_n 0, 1) := dk_42 (dk_at dksX2_isLawful_0 0 rfl rfl)
theorem dX2_isLawful_1 : decode cX2_isLawful 1 = .ok (.invokevirtual 283, 3) := dk_182 1 27 (dk_at dksX2_isLawful_0 1 rfl rfl)
theorem dX2_isLawful_4 : decode cX2_isLawful 4 = .ok (.aload_n 0, 1) := dk_42 (dk_at dksX2_isLawful_0 4 rfl rfl)
theorem dX2_isLawful_5 : decode cX2_isLawful 5 = .ok (.iload_n 1, 1) := dk_27 (dk_at dksX2_isLawful_0 5 rfl rfl)
theorem dX2_isLawful_6 : decode cX2_isLawful 6 = .ok (.invokevirtual 286, 3) := dk_182 1 30 (dk_at dksX2_isLawful_0 6 rfl rfl)
theorem dX2_isLawful_9 : decode cX2_isLawful 9 = .ok (.aload_n 0, 1) := dk_42 (dk_at dksX2_isLawful_0 9 rfl rfl)
theorem dX2_isLawful_10 : decode cX2_isLawful 10 = .ok (.getfield 45, 3) := dk_180 0 45 (dk_at dksX2_isLawful_0 10 rfl rfl)
theorem dX2_isLawful_13 : decode cX2_isLawful 13 = .ok (.iload_n 1, 1) := dk_27 (dk_at dksX2_isLawful_0 13 rfl rfl)
theorem dX2_isLawful_14 : decode cX2_isLawful 14 = .ok (.iaload, 1) := dk_46 (dk_at dksX2_isLawful_0 14 rfl rfl)
theorem dX2_isLawful_15 : decode cX2_isLawful 15 = .ok (.if_icmp .ne 7, 3) := dk_160 0 7 (dk_at dksX2_isLawful_0 15 rfl rfl)
theorem dX2_isLawful_18 : decode cX2_isLawful 18 = .ok (.iconst 1, 1) := dk_4 (dk_at dksX2_isLawful_0 18 rfl rfl)
theorem dX2_isLawful_19 : decode cX2_isLawful 19 = .ok (.goto 4, 3) := dk_167 0 4 (dk_at dksX2_isLawful_0 19 rfl rfl)
theorem dX2_isLawful_22 : decode cX2_isLawful 22 = .ok (.iconst 0, 1) := dk_3 (dk_at dksX2_isLawful_0 22 rfl rfl)
theorem dX2_isLawful_23 : decode cX2_isLawful 23 = .ok (.ireturn, 1) := dk_172 (dk_at dksX2_isLawful_0 23 rfl rfl)
abbrev cX2_longest : ByteArray := prog_8_method_66_code
def yX2_longest : MethodName := ⟨RX2, "longest", "()I"⟩
def dkwX2_longest_0 : List UInt8 := [42, 3, 181, 0, 110, 42, 42, 182, 1, 42, 182, 1, 67, 172]
abbrev dktX2_longest_0 : List UInt8 := dkwX2_longest_0 ++ []
theorem dksX2_longest_0 : cX2_longest.data.toList.drop 0 = dktX2_longest_0 := by decide +kernel
theorem dX2_longest_0 : decode cX2_longest 0 = .ok (.aload_n 0, 1) := dk_42 (dk_at dksX2_longest_0 0 rfl rfl)
theorem dX2_longest_1 : decode cX2_longest 1 = .ok (.iconst 0, 1) := dk_3 (dk_at dksX2_longest_0 1 rfl rfl)
theorem dX2_longest_2 : decode cX2_longest 2 = .ok (.putfield 110, 3) := dk_181 0 110 (dk_at dksX2_longest_0 2 rfl rfl)
theorem dX2_longest_5 : decode cX2_longest 5 = .ok (.aload_n 0, 1) := dk_42 (dk_at dksX2_longest_0 5 rfl rfl)
theorem dX2_longest_6 : decode cX2_longest 6 = .ok (.aload_n 0, 1) := dk_42 (dk_at dksX2_longest_0 6 rfl rfl)
theorem dX2_longest_7 : decode cX2_longest 7 = .ok (.invokevirtual 298, 3) := dk_182 1 42 (dk_at dksX2_longest_0 7 rfl rfl)
theorem dX2_longest_10 : decode cX2_longest 10 = .ok (.invokevirtual 323, 3) := dk_182 1 67 (dk_at dksX2_longest_0 10 rfl rfl)
theorem dX2_longest_13 : decode cX2_longest 13 = .ok (.ireturn, 1) := dk_172 (dk_at dksX2_longest_0 13 rfl rfl)
abbrev cX2_all : ByteArray := prog_8_method_58_code
def yX2_all : MethodName := ⟨RX2, "all", "()I"⟩
def dkwX2_all_0 : List UInt8 := [4, 42, 180, 0, 116, 120, 4, 100, 172]
abbrev dktX2_all_0 : List UInt8 := dkwX2_all_0 ++ []
theorem dksX2_all_0 : cX2_all.data.toList.drop 0 = dktX2_all_0 := by decide +kernel
theorem dX2_all_0 : decode cX2_all 0 = .ok (.iconst 1, 1) := dk_4 (dk_at dksX2_all_0 0 rfl rfl)
theorem dX2_all_1 : decode cX2_all 1 = .ok (.aload_n 0, 1) := dk_42 (dk_at dksX2_all_0 1 rfl rfl)
theorem dX2_all_2 : decode cX2_all 2 = .ok (.getfield 116, 3) := dk_180 0 116 (dk_at dksX2_all_0 2 rfl rfl)
theorem dX2_all_5 : decode cX2_all 5 = .ok (.ishl, 1) := dk_120 (dk_at dksX2_all_0 5 rfl rfl)
theorem dX2_all_6 : decode cX2_all 6 = .ok (.iconst 1, 1) := dk_4 (dk_at dksX2_all_0 6 rfl rfl)
theorem dX2_all_7 : decode cX2_all 7 = .ok (.isub, 1) := dk_100 (dk_at dksX2_all_0 7 rfl rfl)
theorem dX2_all_8 : decode cX2_all 8 = .ok (.ireturn, 1) := dk_172 (dk_at dksX2_all_0 8 rfl rfl)
abbrev cX2_longestBy : ByteArray := prog_8_method_65_code
def yX2_longestBy : MethodName := ⟨RX2, "longestBy", "(I)I"⟩
def dkwX2_longestBy_9 : List UInt8 := [181, 0, 113, 42, 28, 29, 27, 182, 1, 64, 21, 4, 172]
abbrev dktX2_longestBy_9 : List UInt8 := dkwX2_longestBy_9 ++ []
def dkwX2_longestBy_8 : List UInt8 := [167, 0, 4, 3, 84, 132, 6, 1, 167, 255, 185, 132, 5, 1, 167, 255, 167, 42, 27, 182, 1, 61, 42, 3]
abbrev dktX2_longestBy_8 : List UInt8 := dkwX2_longestBy_8 ++ dktX2_longestBy_9
def dkwX2_longestBy_7 : List UInt8 := [21, 5, 21, 6, 184, 1, 48, 21, 5, 184, 0, 196, 42, 180, 0, 252, 100, 21, 4, 160, 0, 7, 4]
abbrev dktX2_longestBy_7 : List UInt8 := dkwX2_longestBy_7 ++ dktX2_longestBy_8
def dkwX2_longestBy_6 : List UInt8 := [153, 0, 52, 42, 180, 0, 67, 21, 5, 21, 6, 184, 1, 48, 47, 9, 148, 158, 0, 35, 42, 180, 0, 61]
abbrev dktX2_longestBy_6 : List UInt8 := dkwX2_longestBy_6 ++ dktX2_longestBy_7
def dkwX2_longestBy_5 : List UInt8 := [163, 0, 86, 2, 54, 6, 21, 6, 42, 180, 0, 116, 162, 0, 68, 21, 5, 21, 6, 184, 1, 45]
abbrev dktX2_longestBy_5 : List UInt8 := dkwX2_longestBy_5 ++ dktX2_longestBy_6
def dkwX2_longestBy_4 : List UInt8 := [167, 255, 200, 132, 5, 1, 167, 255, 182, 42, 182, 1, 58, 3, 54, 5, 21, 5, 42, 182, 1, 42]
abbrev dktX2_longestBy_4 : List UInt8 := dkwX2_longestBy_4 ++ dktX2_longestBy_5
def dkwX2_longestBy_3 : List UInt8 := [158, 0, 20, 21, 4, 21, 5, 184, 0, 196, 42, 180, 0, 252, 100, 184, 0, 210, 54, 4, 132, 6, 1]
abbrev dktX2_longestBy_3 : List UInt8 := dkwX2_longestBy_3 ++ dktX2_longestBy_4
def dkwX2_longestBy_2 : List UInt8 := [21, 6, 184, 0, 239, 153, 0, 37, 42, 180, 0, 67, 21, 5, 21, 6, 184, 1, 48, 47, 9, 148]
abbrev dktX2_longestBy_2 : List UInt8 := dkwX2_longestBy_2 ++ dktX2_longestBy_3
def dkwX2_longestBy_1 : List UInt8 := [21, 5, 42, 182, 1, 42, 163, 0, 71, 3, 54, 6, 21, 6, 42, 180, 0, 116, 162, 0, 53, 21, 5]
abbrev dktX2_longestBy_1 : List UInt8 := dkwX2_longestBy_1 ++ dktX2_longestBy_2
def dkwX2_longestBy_0 : List UInt8 := [42, 182, 0, 255, 61, 42, 182, 1, 2, 62, 42, 28, 29, 27, 182, 1, 54, 3, 54, 4, 3, 54, 5]
abbrev dktX2_longestBy_0 : List UInt8 := dkwX2_longestBy_0 ++ dktX2_longestBy_1
theorem dksX2_longestBy_0 : cX2_longestBy.data.toList.drop 0 = dktX2_longestBy_0 := by decide +kernel
theorem dksX2_longestBy_1 : cX2_longestBy.data.toList.drop 23 = dktX2_longestBy_1 := dk_seg dksX2_longestBy_0 23 rfl rfl
theorem dksX2_longestBy_2 : cX2_longestBy.data.toList.drop 46 = dktX2_longestBy_2 := dk_seg dksX2_longestBy_1 23 rfl rfl
theorem dksX2_longestBy_3 : cX2_longestBy.data.toList.drop 68 = dktX2_longestBy_3 := dk_seg dksX2_longestBy_2 22 rfl rfl
theorem dksX2_longestBy_4 : cX2_longestBy.data.toList.drop 91 = dktX2_longestBy_4 := dk_seg dksX2_longestBy_3 23 rfl rfl
theorem dksX2_longestBy_5 : cX2_longestBy.data.toList.drop 113 = dktX2_longestBy_5 := dk_seg dksX2_longestBy_4 22 rfl rfl
theorem dksX2_longestBy_6 : cX2_longestBy.data.toList.drop 135 = dktX2_longestBy_6 := dk_seg dksX2_longestBy_5 22 rfl rfl
theorem dksX2_longestBy_7 : cX2_longestBy.data.toList.drop 159 = dktX2_longestBy_7 := dk_seg dksX2_longestBy_6 24 rfl rfl
theorem dksX2_longestBy_8 : cX2_longestBy.data.toList.drop 182 = dktX2_longestBy_8 := dk_seg dksX2_longestBy_7 23 rfl rfl
theorem dksX2_longestBy_9 : cX2_longestBy.data.toList.drop 206 = dktX2_longestBy_9 := dk_seg dksX2_longestBy_8 24 rfl rfl
theorem dX2_longestBy_0 : decode cX2_longestBy 0 = .ok (.aload_n 0, 1) := dk_42 (dk_at dksX2_longestBy_0 0 rfl rfl)
theorem dX2_longestBy_1 : decode cX2_longestBy 1 = .ok (.invokevirtual 255, 3) := dk_182 0 255 (dk_at dksX2_longestBy_0 1 rfl rfl)
theorem dX2_longestBy_4 : decode cX2_longestBy 4 = .ok (.istore_n 2, 1) := dk_61 (dk_at dksX2_longestBy_0 4 rfl rfl)
theorem dX2_longestBy_5 : decode cX2_longestBy 5 = .ok (.aload_n 0, 1) := dk_42 (dk_at dksX2_longestBy_0 5 rfl rfl)
theorem dX2_longestBy_6 : decode cX2_longestBy 6 = .ok (.invokevirtual 258, 3) := dk_182 1 2 (dk_at dksX2_longestBy_0 6 rfl rfl)
theorem dX2_longestBy_9 : decode cX2_longestBy 9 = .ok (.istore_n 3, 1) := dk_62 (dk_at dksX2_longestBy_0 9 rfl rfl)
theorem dX2_longestBy_10 : decode cX2_longestBy 10 = .ok (.aload_n 0, 1) := dk_42 (dk_at dksX2_longestBy_0 10 rfl rfl)
theorem dX2_longestBy_11 : decode cX2_longestBy 11 = .ok (.iload_n 2, 1) := dk_28 (dk_at dksX2_longestBy_0 11 rfl rfl)
theorem dX2_longestBy_12 : decode cX2_longestBy 12 = .ok (.iload_n 3, 1) := dk_29 (dk_at dksX2_longestBy_0 12 rfl rfl)
theorem dX2_longestBy_13 : decode cX2_longestBy 13 = .ok (.iload_n 1, 1) := dk_27 (dk_at dksX2_longestBy_0 13 rfl rfl)
theorem dX2_longestBy_14 : decode cX2_longestBy 14 = .ok (.invokevirtual 310, 3) := dk_182 1 54 (dk_at dksX2_longestBy_0 14 rfl rfl)
theorem dX2_longestBy_17 : decode cX2_longestBy 17 = .ok (.iconst 0, 1) := dk_3 (dk_at dksX2_longestBy_0 17 rfl rfl)
theorem dX2_longestBy_18 : decode cX2_longestBy 18 = .ok (.istore 4, 2) := dk_54 4 (dk_at dksX2_longestBy_0 18 rfl rfl)
theorem dX2_longestBy_20 : decode cX2_longestBy 20 = .ok (.iconst 0, 1) := dk_3 (dk_at dksX2_longestBy_0 20 rfl rfl)
theorem dX2_longestBy_21 : decode cX2_longestBy 21 = .ok (.istore 5, 2) := dk_54 5 (dk_at dksX2_longestBy_0 21 rfl rfl)
theorem dX2_longestBy_23 : decode cX2_longestBy 23 = .ok (.iload 5, 2) := dk_21 5 (dk_at dksX2_longestBy_1 0 rfl rfl)
theorem dX2_longestBy_25 : decode cX2_longestBy 25 = .ok (.aload_n 0, 1) := dk_42 (dk_at dksX2_longestBy_1 2 rfl rfl)
theorem dX2_longestBy_26 : decode cX2_longestBy 26 = .ok (.invokevirtual 298, 3) := dk_182 1 42 (dk_at dksX2_longestBy_1 3 rfl rfl)
theorem dX2_longestBy_29 : decode cX2_longestBy 29 = .ok (.if_icmp .gt 71, 3) := dk_163 0 71 (dk_at dksX2_longestBy_1 6 rfl rfl)
theorem dX2_longestBy_32 : decode cX2_longestBy 32 = .ok (.iconst 0, 1) := dk_3 (dk_at dksX2_longestBy_1 9 rfl rfl)
theorem dX2_longestBy_33 : decode cX2_longestBy 33 = .ok (.istore 6, 2) := dk_54 6 (dk_at dksX2_longestBy_1 10 rfl rfl)
theorem dX2_longestBy_35 : decode cX2_longestBy 35 = .ok (.iload 6, 2) := dk_21 6 (dk_at dksX2_longestBy_1 12 rfl rfl)
theorem dX2_longestBy_37 : decode cX2_longestBy 37 = .ok (.aload_n 0, 1) := dk_42 (dk_at dksX2_longestBy_1 14 rfl rfl)
theorem dX2_longestBy_38 : decode cX2_longestBy 38 = .ok (.getfield 116, 3) := dk_180 0 116 (dk_at dksX2_longestBy_1 15 rfl rfl)
theorem dX2_longestBy_41 : decode cX2_longestBy 41 = .ok (.if_icmp .ge 53, 3) := dk_162 0 53 (dk_at dksX2_longestBy_1 18 rfl rfl)
theorem dX2_longestBy_44 : decode cX2_longestBy 44 = .ok (.iload 5, 2) := dk_21 5 (dk_at dksX2_longestBy_1 21 rfl rfl)
theorem dX2_longestBy_46 : decode cX2_longestBy 46 = .ok (.iload 6, 2) := dk_21 6 (dk_at dksX2_longestBy_2 0 rfl rfl)
theorem dX2_longestBy_48 : decode cX2_longestBy 48 = .ok (.invokestatic 239, 3) := dk_184 0 239 (dk_at dksX2_longestBy_2 2 rfl rfl)
theorem dX2_longestBy_51 : decode cX2_longestBy 51 = .ok (.ifCond .eq 37, 3) := dk_153 0 37 (dk_at dksX2_longestBy_2 5 rfl rfl)
theorem dX2_longestBy_54 : decode cX2_longestBy 54 = .ok (.aload_n 0, 1) := dk_42 (dk_at dksX2_longestBy_2 8 rfl rfl)
theorem dX2_longestBy_55 : decode cX2_longestBy 55 = .ok (.getfield 67, 3) := dk_180 0 67 (dk_at dksX2_longestBy_2 9 rfl rfl)
theorem dX2_longestBy_58 : decode cX2_longestBy 58 = .ok (.iload 5, 2) := dk_21 5 (dk_at dksX2_longestBy_2 12 rfl rfl)
theorem dX2_longestBy_60 : decode cX2_longestBy 60 = .ok (.iload 6, 2) := dk_21 6 (dk_at dksX2_longestBy_2 14 rfl rfl)
theorem dX2_longestBy_62 : decode cX2_longestBy 62 = .ok (.invokestatic 304, 3) := dk_184 1 48 (dk_at dksX2_longestBy_2 16 rfl rfl)
theorem dX2_longestBy_65 : decode cX2_longestBy 65 = .ok (.laload, 1) := dk_47 (dk_at dksX2_longestBy_2 19 rfl rfl)
theorem dX2_longestBy_66 : decode cX2_longestBy 66 = .ok (.lconst 0, 1) := dk_9 (dk_at dksX2_longestBy_2 20 rfl rfl)
theorem dX2_longestBy_67 : decode cX2_longestBy 67 = .ok (.lcmp, 1) := dk_148 (dk_at dksX2_longestBy_2 21 rfl rfl)
theorem dX2_longestBy_68 : decode cX2_longestBy 68 = .ok (.ifCond .le 20, 3) := dk_158 0 20 (dk_at dksX2_longestBy_3 0 rfl rfl)
theorem dX2_longestBy_71 : decode cX2_longestBy 71 = .ok (.iload 4, 2) := dk_21 4 (dk_at dksX2_longestBy_3 3 rfl rfl)
theorem dX2_longestBy_73 : decode cX2_longestBy 73 = .ok (.iload 5, 2) := dk_21 5 (dk_at dksX2_longestBy_3 5 rfl rfl)
theorem dX2_longestBy_75 : decode cX2_longestBy 75 = .ok (.invokestatic 196, 3) := dk_184 0 196 (dk_at dksX2_longestBy_3 7 rfl rfl)
theorem dX2_longestBy_78 : decode cX2_longestBy 78 = .ok (.aload_n 0, 1) := dk_42 (dk_at dksX2_longestBy_3 10 rfl rfl)
theorem dX2_longestBy_79 : decode cX2_longestBy 79 = .ok (.getfield 252, 3) := dk_180 0 252 (dk_at dksX2_longestBy_3 11 rfl rfl)
theorem dX2_longestBy_82 : decode cX2_longestBy 82 = .ok (.isub, 1) := dk_100 (dk_at dksX2_longestBy_3 14 rfl rfl)
theorem dX2_longestBy_83 : decode cX2_longestBy 83 = .ok (.invokestatic 210, 3) := dk_184 0 210 (dk_at dksX2_longestBy_3 15 rfl rfl)
theorem dX2_longestBy_86 : decode cX2_longestBy 86 = .ok (.istore 4, 2) := dk_54 4 (dk_at dksX2_longestBy_3 18 rfl rfl)
theorem dX2_longestBy_88 : decode cX2_longestBy 88 = .ok (.iinc 6 1, 3) := dk_132 6 1 (dk_at dksX2_longestBy_3 20 rfl rfl)
theorem dX2_longestBy_91 : decode cX2_longestBy 91 = .ok (.goto (-56), 3) := dk_167 255 200 (dk_at dksX2_longestBy_4 0 rfl rfl)
theorem dX2_longestBy_94 : decode cX2_longestBy 94 = .ok (.iinc 5 1, 3) := dk_132 5 1 (dk_at dksX2_longestBy_4 3 rfl rfl)
theorem dX2_longestBy_97 : decode cX2_longestBy 97 = .ok (.goto (-74), 3) := dk_167 255 182 (dk_at dksX2_longestBy_4 6 rfl rfl)
theorem dX2_longestBy_100 : decode cX2_longestBy 100 = .ok (.aload_n 0, 1) := dk_42 (dk_at dksX2_longestBy_4 9 rfl rfl)
theorem dX2_longestBy_101 : decode cX2_longestBy 101 = .ok (.invokevirtual 314, 3) := dk_182 1 58 (dk_at dksX2_longestBy_4 10 rfl rfl)
theorem dX2_longestBy_104 : decode cX2_longestBy 104 = .ok (.iconst 0, 1) := dk_3 (dk_at dksX2_longestBy_4 13 rfl rfl)
theorem dX2_longestBy_105 : decode cX2_longestBy 105 = .ok (.istore 5, 2) := dk_54 5 (dk_at dksX2_longestBy_4 14 rfl rfl)
theorem dX2_longestBy_107 : decode cX2_longestBy 107 = .ok (.iload 5, 2) := dk_21 5 (dk_at dksX2_longestBy_4 16 rfl rfl)
theorem dX2_longestBy_109 : decode cX2_longestBy 109 = .ok (.aload_n 0, 1) := dk_42 (dk_at dksX2_longestBy_4 18 rfl rfl)
theorem dX2_longestBy_110 : decode cX2_longestBy 110 = .ok (.invokevirtual 298, 3) := dk_182 1 42 (dk_at dksX2_longestBy_4 19 rfl rfl)
theorem dX2_longestBy_113 : decode cX2_longestBy 113 = .ok (.if_icmp .gt 86, 3) := dk_163 0 86 (dk_at dksX2_longestBy_5 0 rfl rfl)
theorem dX2_longestBy_116 : decode cX2_longestBy 116 = .ok (.iconst (-1), 1) := dk_2 (dk_at dksX2_longestBy_5 3 rfl rfl)
theorem dX2_longestBy_117 : decode cX2_longestBy 117 = .ok (.istore 6, 2) := dk_54 6 (dk_at dksX2_longestBy_5 4 rfl rfl)
theorem dX2_longestBy_119 : decode cX2_longestBy 119 = .ok (.iload 6, 2) := dk_21 6 (dk_at dksX2_longestBy_5 6 rfl rfl)
theorem dX2_longestBy_121 : decode cX2_longestBy 121 = .ok (.aload_n 0, 1) := dk_42 (dk_at dksX2_longestBy_5 8 rfl rfl)
theorem dX2_longestBy_122 : decode cX2_longestBy 122 = .ok (.getfield 116, 3) := dk_180 0 116 (dk_at dksX2_longestBy_5 9 rfl rfl)
theorem dX2_longestBy_125 : decode cX2_longestBy 125 = .ok (.if_icmp .ge 68, 3) := dk_162 0 68 (dk_at dksX2_longestBy_5 12 rfl rfl)
theorem dX2_longestBy_128 : decode cX2_longestBy 128 = .ok (.iload 5, 2) := dk_21 5 (dk_at dksX2_longestBy_5 15 rfl rfl)
theorem dX2_longestBy_130 : decode cX2_longestBy 130 = .ok (.iload 6, 2) := dk_21 6 (dk_at dksX2_longestBy_5 17 rfl rfl)
theorem dX2_longestBy_132 : decode cX2_longestBy 132 = .ok (.invokestatic 301, 3) := dk_184 1 45 (dk_at dksX2_longestBy_5 19 rfl rfl)
theorem dX2_longestBy_135 : decode cX2_longestBy 135 = .ok (.ifCond .eq 52, 3) := dk_153 0 52 (dk_at dksX2_longestBy_6 0 rfl rfl)
theorem dX2_longestBy_138 : decode cX2_longestBy 138 = .ok (.aload_n 0, 1) := dk_42 (dk_at dksX2_longestBy_6 3 rfl rfl)
theorem dX2_longestBy_139 : decode cX2_longestBy 139 = .ok (.getfield 67, 3) := dk_180 0 67 (dk_at dksX2_longestBy_6 4 rfl rfl)
theorem dX2_longestBy_142 : decode cX2_longestBy 142 = .ok (.iload 5, 2) := dk_21 5 (dk_at dksX2_longestBy_6 7 rfl rfl)
theorem dX2_longestBy_144 : decode cX2_longestBy 144 = .ok (.iload 6, 2) := dk_21 6 (dk_at dksX2_longestBy_6 9 rfl rfl)
theorem dX2_longestBy_146 : decode cX2_longestBy 146 = .ok (.invokestatic 304, 3) := dk_184 1 48 (dk_at dksX2_longestBy_6 11 rfl rfl)
theorem dX2_longestBy_149 : decode cX2_longestBy 149 = .ok (.laload, 1) := dk_47 (dk_at dksX2_longestBy_6 14 rfl rfl)
theorem dX2_longestBy_150 : decode cX2_longestBy 150 = .ok (.lconst 0, 1) := dk_9 (dk_at dksX2_longestBy_6 15 rfl rfl)
theorem dX2_longestBy_151 : decode cX2_longestBy 151 = .ok (.lcmp, 1) := dk_148 (dk_at dksX2_longestBy_6 16 rfl rfl)
theorem dX2_longestBy_152 : decode cX2_longestBy 152 = .ok (.ifCond .le 35, 3) := dk_158 0 35 (dk_at dksX2_longestBy_6 17 rfl rfl)
theorem dX2_longestBy_155 : decode cX2_longestBy 155 = .ok (.aload_n 0, 1) := dk_42 (dk_at dksX2_longestBy_6 20 rfl rfl)
theorem dX2_longestBy_156 : decode cX2_longestBy 156 = .ok (.getfield 61, 3) := dk_180 0 61 (dk_at dksX2_longestBy_6 21 rfl rfl)
theorem dX2_longestBy_159 : decode cX2_longestBy 159 = .ok (.iload 5, 2) := dk_21 5 (dk_at dksX2_longestBy_7 0 rfl rfl)
theorem dX2_longestBy_161 : decode cX2_longestBy 161 = .ok (.iload 6, 2) := dk_21 6 (dk_at dksX2_longestBy_7 2 rfl rfl)
theorem dX2_longestBy_163 : decode cX2_longestBy 163 = .ok (.invokestatic 304, 3) := dk_184 1 48 (dk_at dksX2_longestBy_7 4 rfl rfl)
theorem dX2_longestBy_166 : decode cX2_longestBy 166 = .ok (.iload 5, 2) := dk_21 5 (dk_at dksX2_longestBy_7 7 rfl rfl)
theorem dX2_longestBy_168 : decode cX2_longestBy 168 = .ok (.invokestatic 196, 3) := dk_184 0 196 (dk_at dksX2_longestBy_7 9 rfl rfl)
theorem dX2_longestBy_171 : decode cX2_longestBy 171 = .ok (.aload_n 0, 1) := dk_42 (dk_at dksX2_longestBy_7 12 rfl rfl)
theorem dX2_longestBy_172 : decode cX2_longestBy 172 = .ok (.getfield 252, 3) := dk_180 0 252 (dk_at dksX2_longestBy_7 13 rfl rfl)
theorem dX2_longestBy_175 : decode cX2_longestBy 175 = .ok (.isub, 1) := dk_100 (dk_at dksX2_longestBy_7 16 rfl rfl)
theorem dX2_longestBy_176 : decode cX2_longestBy 176 = .ok (.iload 4, 2) := dk_21 4 (dk_at dksX2_longestBy_7 17 rfl rfl)
theorem dX2_longestBy_178 : decode cX2_longestBy 178 = .ok (.if_icmp .ne 7, 3) := dk_160 0 7 (dk_at dksX2_longestBy_7 19 rfl rfl)
theorem dX2_longestBy_181 : decode cX2_longestBy 181 = .ok (.iconst 1, 1) := dk_4 (dk_at dksX2_longestBy_7 22 rfl rfl)
theorem dX2_longestBy_182 : decode cX2_longestBy 182 = .ok (.goto 4, 3) := dk_167 0 4 (dk_at dksX2_longestBy_8 0 rfl rfl)
theorem dX2_longestBy_185 : decode cX2_longestBy 185 = .ok (.iconst 0, 1) := dk_3 (dk_at dksX2_longestBy_8 3 rfl rfl)
theorem dX2_longestBy_186 : decode cX2_longestBy 186 = .ok (.bastore, 1) := dk_84 (dk_at dksX2_longestBy_8 4 rfl rfl)
theorem dX2_longestBy_187 : decode cX2_longestBy 187 = .ok (.iinc 6 1, 3) := dk_132 6 1 (dk_at dksX2_longestBy_8 5 rfl rfl)
theorem dX2_longestBy_190 : decode cX2_longestBy 190 = .ok (.goto (-71), 3) := dk_167 255 185 (dk_at dksX2_longestBy_8 8 rfl rfl)
theorem dX2_longestBy_193 : decode cX2_longestBy 193 = .ok (.iinc 5 1, 3) := dk_132 5 1 (dk_at dksX2_longestBy_8 11 rfl rfl)
theorem dX2_longestBy_196 : decode cX2_longestBy 196 = .ok (.goto (-89), 3) := dk_167 255 167 (dk_at dksX2_longestBy_8 14 rfl rfl)
theorem dX2_longestBy_199 : decode cX2_longestBy 199 = .ok (.aload_n 0, 1) := dk_42 (dk_at dksX2_longestBy_8 17 rfl rfl)
theorem dX2_longestBy_200 : decode cX2_longestBy 200 = .ok (.iload_n 1, 1) := dk_27 (dk_at dksX2_longestBy_8 18 rfl rfl)
theorem dX2_longestBy_201 : decode cX2_longestBy 201 = .ok (.invokevirtual 317, 3) := dk_182 1 61 (dk_at dksX2_longestBy_8 19 rfl rfl)
theorem dX2_longestBy_204 : decode cX2_longestBy 204 = .ok (.aload_n 0, 1) := dk_42 (dk_at dksX2_longestBy_8 22 rfl rfl)
theorem dX2_longestBy_205 : decode cX2_longestBy 205 = .ok (.iconst 0, 1) := dk_3 (dk_at dksX2_longestBy_8 23 rfl rfl)
theorem dX2_longestBy_206 : decode cX2_longestBy 206 = .ok (.putfield 113, 3) := dk_181 0 113 (dk_at dksX2_longestBy_9 0 rfl rfl)
theorem dX2_longestBy_209 : decode cX2_longestBy 209 = .ok (.aload_n 0, 1) := dk_42 (dk_at dksX2_longestBy_9 3 rfl rfl)
theorem dX2_longestBy_210 : decode cX2_longestBy 210 = .ok (.iload_n 2, 1) := dk_28 (dk_at dksX2_longestBy_9 4 rfl rfl)
theorem dX2_longestBy_211 : decode cX2_longestBy 211 = .ok (.iload_n 3, 1) := dk_29 (dk_at dksX2_longestBy_9 5 rfl rfl)
theorem dX2_longestBy_212 : decode cX2_longestBy 212 = .ok (.iload_n 1, 1) := dk_27 (dk_at dksX2_longestBy_9 6 rfl rfl)
theorem dX2_longestBy_213 : decode cX2_longestBy 213 = .ok (.invokevirtual 320, 3) := dk_182 1 64 (dk_at dksX2_longestBy_9 7 rfl rfl)
theorem dX2_longestBy_216 : decode cX2_longestBy 216 = .ok (.iload 4, 2) := dk_21 4 (dk_at dksX2_longestBy_9 10 rfl rfl)
theorem dX2_longestBy_218 : decode cX2_longestBy 218 = .ok (.ireturn, 1) := dk_172 (dk_at dksX2_longestBy_9 12 rfl rfl)
abbrev cX2_findRows : ByteArray := prog_8_method_64_code
def yX2_findRows : MethodName := ⟨RX2, "findRows", "(III)V"⟩
def dkwX2_findRows_7 : List UInt8 := [167, 255, 147, 132, 4, 1, 167, 255, 129, 177]
abbrev dktX2_findRows_7 : List UInt8 := dkwX2_findRows_7 ++ []
def dkwX2_findRows_6 : List UInt8 := [21, 8, 120, 128, 21, 8, 184, 1, 48, 92, 47, 22, 6, 97, 80, 132, 8, 1, 167, 255, 193, 132, 5, 1]
abbrev dktX2_findRows_6 : List UInt8 := dkwX2_findRows_6 ++ dktX2_findRows_7
def dkwX2_findRows_5 : List UInt8 := [153, 0, 38, 42, 21, 4, 21, 5, 21, 8, 182, 1, 51, 153, 0, 25, 42, 180, 0, 67, 21, 4, 4]
abbrev dktX2_findRows_5 : List UInt8 := dkwX2_findRows_5 ++ dktX2_findRows_6
def dkwX2_findRows_4 : List UInt8 := [21, 8, 42, 180, 0, 116, 162, 0, 60, 22, 6, 9, 148, 158, 0, 53, 29, 21, 8, 184, 0, 239]
abbrev dktX2_findRows_4 : List UInt8 := dkwX2_findRows_4 ++ dktX2_findRows_5
def dkwX2_findRows_3 : List UInt8 := [153, 0, 18, 42, 180, 0, 67, 21, 4, 21, 5, 184, 1, 48, 47, 167, 0, 4, 9, 55, 6, 3, 54, 8]
abbrev dktX2_findRows_3 : List UInt8 := dkwX2_findRows_3 ++ dktX2_findRows_4
def dkwX2_findRows_2 : List UInt8 := [163, 0, 124, 2, 54, 5, 21, 5, 42, 180, 0, 116, 162, 0, 106, 21, 4, 21, 5, 184, 1, 45]
abbrev dktX2_findRows_2 : List UInt8 := dkwX2_findRows_2 ++ dktX2_findRows_3
def dkwX2_findRows_1 : List UInt8 := [167, 255, 237, 42, 180, 0, 67, 27, 28, 184, 1, 48, 10, 80, 3, 54, 4, 21, 4, 42, 182, 1, 42]
abbrev dktX2_findRows_1 : List UInt8 := dkwX2_findRows_1 ++ dktX2_findRows_2
def dkwX2_findRows_0 : List UInt8 := [3, 54, 4, 21, 4, 17, 44, 0, 162, 0, 17, 42, 180, 0, 67, 21, 4, 9, 80, 132, 4, 1]
abbrev dktX2_findRows_0 : List UInt8 := dkwX2_findRows_0 ++ dktX2_findRows_1
theorem dksX2_findRows_0 : cX2_findRows.data.toList.drop 0 = dktX2_findRows_0 := by decide +kernel
theorem dksX2_findRows_1 : cX2_findRows.data.toList.drop 22 = dktX2_findRows_1 := dk_seg dksX2_findRows_0 22 rfl rfl
theorem dksX2_findRows_2 : cX2_findRows.data.toList.drop 45 = dktX2_findRows_2 := dk_seg dksX2_findRows_1 23 rfl rfl
theorem dksX2_findRows_3 : cX2_findRows.data.toList.drop 67 = dktX2_findRows_3 := dk_seg dksX2_findRows_2 22 rfl rfl
theorem dksX2_findRows_4 : cX2_findRows.data.toList.drop 91 = dktX2_findRows_4 := dk_seg dksX2_findRows_3 24 rfl rfl
theorem dksX2_findRows_5 : cX2_findRows.data.toList.drop 113 = dktX2_findRows_5 := dk_seg dksX2_findRows_4 22 rfl rfl
theorem dksX2_findRows_6 : cX2_findRows.data.toList.drop 136 = dktX2_findRows_6 := dk_seg dksX2_findRows_5 23 rfl rfl
theorem dksX2_findRows_7 : cX2_findRows.data.toList.drop 160 = dktX2_findRows_7 := dk_seg dksX2_findRows_6 24 rfl rfl
theorem dX2_findRows_0 : decode cX2_findRows 0 = .ok (.iconst 0, 1) := dk_3 (dk_at dksX2_findRows_0 0 rfl rfl)
theorem dX2_findRows_1 : decode cX2_findRows 1 = .ok (.istore 4, 2) := dk_54 4 (dk_at dksX2_findRows_0 1 rfl rfl)
theorem dX2_findRows_3 : decode cX2_findRows 3 = .ok (.iload 4, 2) := dk_21 4 (dk_at dksX2_findRows_0 3 rfl rfl)
theorem dX2_findRows_5 : decode cX2_findRows 5 = .ok (.sipush 11264, 3) := dk_17 44 0 (dk_at dksX2_findRows_0 5 rfl rfl)
theorem dX2_findRows_8 : decode cX2_findRows 8 = .ok (.if_icmp .ge 17, 3) := dk_162 0 17 (dk_at dksX2_findRows_0 8 rfl rfl)
theorem dX2_findRows_11 : decode cX2_findRows 11 = .ok (.aload_n 0, 1) := dk_42 (dk_at dksX2_findRows_0 11 rfl rfl)
theorem dX2_findRows_12 : decode cX2_findRows 12 = .ok (.getfield 67, 3) := dk_180 0 67 (dk_at dksX2_findRows_0 12 rfl rfl)
theorem dX2_findRows_15 : decode cX2_findRows 15 = .ok (.iload 4, 2) := dk_21 4 (dk_at dksX2_findRows_0 15 rfl rfl)
theorem dX2_findRows_17 : decode cX2_findRows 17 = .ok (.lconst 0, 1) := dk_9 (dk_at dksX2_findRows_0 17 rfl rfl)
theorem dX2_findRows_18 : decode cX2_findRows 18 = .ok (.lastore, 1) := dk_80 (dk_at dksX2_findRows_0 18 rfl rfl)
theorem dX2_findRows_19 : decode cX2_findRows 19 = .ok (.iinc 4 1, 3) := dk_132 4 1 (dk_at dksX2_findRows_0 19 rfl rfl)
theorem dX2_findRows_22 : decode cX2_findRows 22 = .ok (.goto (-19), 3) := dk_167 255 237 (dk_at dksX2_findRows_1 0 rfl rfl)
theorem dX2_findRows_25 : decode cX2_findRows 25 = .ok (.aload_n 0, 1) := dk_42 (dk_at dksX2_findRows_1 3 rfl rfl)
theorem dX2_findRows_26 : decode cX2_findRows 26 = .ok (.getfield 67, 3) := dk_180 0 67 (dk_at dksX2_findRows_1 4 rfl rfl)
theorem dX2_findRows_29 : decode cX2_findRows 29 = .ok (.iload_n 1, 1) := dk_27 (dk_at dksX2_findRows_1 7 rfl rfl)
theorem dX2_findRows_30 : decode cX2_findRows 30 = .ok (.iload_n 2, 1) := dk_28 (dk_at dksX2_findRows_1 8 rfl rfl)
theorem dX2_findRows_31 : decode cX2_findRows 31 = .ok (.invokestatic 304, 3) := dk_184 1 48 (dk_at dksX2_findRows_1 9 rfl rfl)
theorem dX2_findRows_34 : decode cX2_findRows 34 = .ok (.lconst 1, 1) := dk_10 (dk_at dksX2_findRows_1 12 rfl rfl)
theorem dX2_findRows_35 : decode cX2_findRows 35 = .ok (.lastore, 1) := dk_80 (dk_at dksX2_findRows_1 13 rfl rfl)
theorem dX2_findRows_36 : decode cX2_findRows 36 = .ok (.iconst 0, 1) := dk_3 (dk_at dksX2_findRows_1 14 rfl rfl)
theorem dX2_findRows_37 : decode cX2_findRows 37 = .ok (.istore 4, 2) := dk_54 4 (dk_at dksX2_findRows_1 15 rfl rfl)
theorem dX2_findRows_39 : decode cX2_findRows 39 = .ok (.iload 4, 2) := dk_21 4 (dk_at dksX2_findRows_1 17 rfl rfl)
theorem dX2_findRows_41 : decode cX2_findRows 41 = .ok (.aload_n 0, 1) := dk_42 (dk_at dksX2_findRows_1 19 rfl rfl)
theorem dX2_findRows_42 : decode cX2_findRows 42 = .ok (.invokevirtual 298, 3) := dk_182 1 42 (dk_at dksX2_findRows_1 20 rfl rfl)
theorem dX2_findRows_45 : decode cX2_findRows 45 = .ok (.if_icmp .gt 124, 3) := dk_163 0 124 (dk_at dksX2_findRows_2 0 rfl rfl)
theorem dX2_findRows_48 : decode cX2_findRows 48 = .ok (.iconst (-1), 1) := dk_2 (dk_at dksX2_findRows_2 3 rfl rfl)
theorem dX2_findRows_49 : decode cX2_findRows 49 = .ok (.istore 5, 2) := dk_54 5 (dk_at dksX2_findRows_2 4 rfl rfl)
theorem dX2_findRows_51 : decode cX2_findRows 51 = .ok (.iload 5, 2) := dk_21 5 (dk_at dksX2_findRows_2 6 rfl rfl)
theorem dX2_findRows_53 : decode cX2_findRows 53 = .ok (.aload_n 0, 1) := dk_42 (dk_at dksX2_findRows_2 8 rfl rfl)
theorem dX2_findRows_54 : decode cX2_findRows 54 = .ok (.getfield 116, 3) := dk_180 0 116 (dk_at dksX2_findRows_2 9 rfl rfl)
theorem dX2_findRows_57 : decode cX2_findRows 57 = .ok (.if_icmp .ge 106, 3) := dk_162 0 106 (dk_at dksX2_findRows_2 12 rfl rfl)
theorem dX2_findRows_60 : decode cX2_findRows 60 = .ok (.iload 4, 2) := dk_21 4 (dk_at dksX2_findRows_2 15 rfl rfl)
theorem dX2_findRows_62 : decode cX2_findRows 62 = .ok (.iload 5, 2) := dk_21 5 (dk_at dksX2_findRows_2 17 rfl rfl)
theorem dX2_findRows_64 : decode cX2_findRows 64 = .ok (.invokestatic 301, 3) := dk_184 1 45 (dk_at dksX2_findRows_2 19 rfl rfl)
theorem dX2_findRows_67 : decode cX2_findRows 67 = .ok (.ifCond .eq 18, 3) := dk_153 0 18 (dk_at dksX2_findRows_3 0 rfl rfl)
theorem dX2_findRows_70 : decode cX2_findRows 70 = .ok (.aload_n 0, 1) := dk_42 (dk_at dksX2_findRows_3 3 rfl rfl)
theorem dX2_findRows_71 : decode cX2_findRows 71 = .ok (.getfield 67, 3) := dk_180 0 67 (dk_at dksX2_findRows_3 4 rfl rfl)
theorem dX2_findRows_74 : decode cX2_findRows 74 = .ok (.iload 4, 2) := dk_21 4 (dk_at dksX2_findRows_3 7 rfl rfl)
theorem dX2_findRows_76 : decode cX2_findRows 76 = .ok (.iload 5, 2) := dk_21 5 (dk_at dksX2_findRows_3 9 rfl rfl)
theorem dX2_findRows_78 : decode cX2_findRows 78 = .ok (.invokestatic 304, 3) := dk_184 1 48 (dk_at dksX2_findRows_3 11 rfl rfl)
theorem dX2_findRows_81 : decode cX2_findRows 81 = .ok (.laload, 1) := dk_47 (dk_at dksX2_findRows_3 14 rfl rfl)
theorem dX2_findRows_82 : decode cX2_findRows 82 = .ok (.goto 4, 3) := dk_167 0 4 (dk_at dksX2_findRows_3 15 rfl rfl)
theorem dX2_findRows_85 : decode cX2_findRows 85 = .ok (.lconst 0, 1) := dk_9 (dk_at dksX2_findRows_3 18 rfl rfl)
theorem dX2_findRows_86 : decode cX2_findRows 86 = .ok (.lstore 6, 2) := dk_55 6 (dk_at dksX2_findRows_3 19 rfl rfl)
theorem dX2_findRows_88 : decode cX2_findRows 88 = .ok (.iconst 0, 1) := dk_3 (dk_at dksX2_findRows_3 21 rfl rfl)
theorem dX2_findRows_89 : decode cX2_findRows 89 = .ok (.istore 8, 2) := dk_54 8 (dk_at dksX2_findRows_3 22 rfl rfl)
theorem dX2_findRows_91 : decode cX2_findRows 91 = .ok (.iload 8, 2) := dk_21 8 (dk_at dksX2_findRows_4 0 rfl rfl)
theorem dX2_findRows_93 : decode cX2_findRows 93 = .ok (.aload_n 0, 1) := dk_42 (dk_at dksX2_findRows_4 2 rfl rfl)
theorem dX2_findRows_94 : decode cX2_findRows 94 = .ok (.getfield 116, 3) := dk_180 0 116 (dk_at dksX2_findRows_4 3 rfl rfl)
theorem dX2_findRows_97 : decode cX2_findRows 97 = .ok (.if_icmp .ge 60, 3) := dk_162 0 60 (dk_at dksX2_findRows_4 6 rfl rfl)
theorem dX2_findRows_100 : decode cX2_findRows 100 = .ok (.lload 6, 2) := dk_22 6 (dk_at dksX2_findRows_4 9 rfl rfl)
theorem dX2_findRows_102 : decode cX2_findRows 102 = .ok (.lconst 0, 1) := dk_9 (dk_at dksX2_findRows_4 11 rfl rfl)
theorem dX2_findRows_103 : decode cX2_findRows 103 = .ok (.lcmp, 1) := dk_148 (dk_at dksX2_findRows_4 12 rfl rfl)
theorem dX2_findRows_104 : decode cX2_findRows 104 = .ok (.ifCond .le 53, 3) := dk_158 0 53 (dk_at dksX2_findRows_4 13 rfl rfl)
theorem dX2_findRows_107 : decode cX2_findRows 107 = .ok (.iload_n 3, 1) := dk_29 (dk_at dksX2_findRows_4 16 rfl rfl)
theorem dX2_findRows_108 : decode cX2_findRows 108 = .ok (.iload 8, 2) := dk_21 8 (dk_at dksX2_findRows_4 17 rfl rfl)
theorem dX2_findRows_110 : decode cX2_findRows 110 = .ok (.invokestatic 239, 3) := dk_184 0 239 (dk_at dksX2_findRows_4 19 rfl rfl)
theorem dX2_findRows_113 : decode cX2_findRows 113 = .ok (.ifCond .eq 38, 3) := dk_153 0 38 (dk_at dksX2_findRows_5 0 rfl rfl)
theorem dX2_findRows_116 : decode cX2_findRows 116 = .ok (.aload_n 0, 1) := dk_42 (dk_at dksX2_findRows_5 3 rfl rfl)
theorem dX2_findRows_117 : decode cX2_findRows 117 = .ok (.iload 4, 2) := dk_21 4 (dk_at dksX2_findRows_5 4 rfl rfl)
theorem dX2_findRows_119 : decode cX2_findRows 119 = .ok (.iload 5, 2) := dk_21 5 (dk_at dksX2_findRows_5 6 rfl rfl)
theorem dX2_findRows_121 : decode cX2_findRows 121 = .ok (.iload 8, 2) := dk_21 8 (dk_at dksX2_findRows_5 8 rfl rfl)
theorem dX2_findRows_123 : decode cX2_findRows 123 = .ok (.invokevirtual 307, 3) := dk_182 1 51 (dk_at dksX2_findRows_5 10 rfl rfl)
theorem dX2_findRows_126 : decode cX2_findRows 126 = .ok (.ifCond .eq 25, 3) := dk_153 0 25 (dk_at dksX2_findRows_5 13 rfl rfl)
theorem dX2_findRows_129 : decode cX2_findRows 129 = .ok (.aload_n 0, 1) := dk_42 (dk_at dksX2_findRows_5 16 rfl rfl)
theorem dX2_findRows_130 : decode cX2_findRows 130 = .ok (.getfield 67, 3) := dk_180 0 67 (dk_at dksX2_findRows_5 17 rfl rfl)
theorem dX2_findRows_133 : decode cX2_findRows 133 = .ok (.iload 4, 2) := dk_21 4 (dk_at dksX2_findRows_5 20 rfl rfl)
theorem dX2_findRows_135 : decode cX2_findRows 135 = .ok (.iconst 1, 1) := dk_4 (dk_at dksX2_findRows_5 22 rfl rfl)
theorem dX2_findRows_136 : decode cX2_findRows 136 = .ok (.iload 8, 2) := dk_21 8 (dk_at dksX2_findRows_6 0 rfl rfl)
theorem dX2_findRows_138 : decode cX2_findRows 138 = .ok (.ishl, 1) := dk_120 (dk_at dksX2_findRows_6 2 rfl rfl)
theorem dX2_findRows_139 : decode cX2_findRows 139 = .ok (.ior, 1) := dk_128 (dk_at dksX2_findRows_6 3 rfl rfl)
theorem dX2_findRows_140 : decode cX2_findRows 140 = .ok (.iload 8, 2) := dk_21 8 (dk_at dksX2_findRows_6 4 rfl rfl)
theorem dX2_findRows_142 : decode cX2_findRows 142 = .ok (.invokestatic 304, 3) := dk_184 1 48 (dk_at dksX2_findRows_6 6 rfl rfl)
theorem dX2_findRows_145 : decode cX2_findRows 145 = .ok (.dup2, 1) := dk_92 (dk_at dksX2_findRows_6 9 rfl rfl)
theorem dX2_findRows_146 : decode cX2_findRows 146 = .ok (.laload, 1) := dk_47 (dk_at dksX2_findRows_6 10 rfl rfl)
theorem dX2_findRows_147 : decode cX2_findRows 147 = .ok (.lload 6, 2) := dk_22 6 (dk_at dksX2_findRows_6 11 rfl rfl)
theorem dX2_findRows_149 : decode cX2_findRows 149 = .ok (.ladd, 1) := dk_97 (dk_at dksX2_findRows_6 13 rfl rfl)
theorem dX2_findRows_150 : decode cX2_findRows 150 = .ok (.lastore, 1) := dk_80 (dk_at dksX2_findRows_6 14 rfl rfl)
theorem dX2_findRows_151 : decode cX2_findRows 151 = .ok (.iinc 8 1, 3) := dk_132 8 1 (dk_at dksX2_findRows_6 15 rfl rfl)
theorem dX2_findRows_154 : decode cX2_findRows 154 = .ok (.goto (-63), 3) := dk_167 255 193 (dk_at dksX2_findRows_6 18 rfl rfl)
theorem dX2_findRows_157 : decode cX2_findRows 157 = .ok (.iinc 5 1, 3) := dk_132 5 1 (dk_at dksX2_findRows_6 21 rfl rfl)
theorem dX2_findRows_160 : decode cX2_findRows 160 = .ok (.goto (-109), 3) := dk_167 255 147 (dk_at dksX2_findRows_7 0 rfl rfl)
theorem dX2_findRows_163 : decode cX2_findRows 163 = .ok (.iinc 4 1, 3) := dk_132 4 1 (dk_at dksX2_findRows_7 3 rfl rfl)
theorem dX2_findRows_166 : decode cX2_findRows 166 = .ok (.goto (-127), 3) := dk_167 255 129 (dk_at dksX2_findRows_7 6 rfl rfl)
theorem dX2_findRows_169 : decode cX2_findRows 169 = .ok (.return_, 1) := dk_177 (dk_at dksX2_findRows_7 9 rfl rfl)
abbrev cX2_place : ByteArray := prog_8_method_57_code
def yX2_place : MethodName := ⟨RX2, "place", "(II)I"⟩
def dkwX2_place_0 : List UInt8 := [16, 11, 26, 104, 27, 2, 160, 0, 8, 16, 10, 167, 0, 4, 27, 96, 172]
abbrev dktX2_place_0 : List UInt8 := dkwX2_place_0 ++ []
theorem dksX2_place_0 : cX2_place.data.toList.drop 0 = dktX2_place_0 := by decide +kernel
theorem dX2_place_0 : decode cX2_place 0 = .ok (.bipush 11, 2) := dk_16 11 (dk_at dksX2_place_0 0 rfl rfl)
theorem dX2_place_2 : decode cX2_place 2 = .ok (.iload_n 0, 1) := dk_26 (dk_at dksX2_place_0 2 rfl rfl)
theorem dX2_place_3 : decode cX2_place 3 = .ok (.imul, 1) := dk_104 (dk_at dksX2_place_0 3 rfl rfl)
theorem dX2_place_4 : decode cX2_place 4 = .ok (.iload_n 1, 1) := dk_27 (dk_at dksX2_place_0 4 rfl rfl)
theorem dX2_place_5 : decode cX2_place 5 = .ok (.iconst (-1), 1) := dk_2 (dk_at dksX2_place_0 5 rfl rfl)
theorem dX2_place_6 : decode cX2_place 6 = .ok (.if_icmp .ne 8, 3) := dk_160 0 8 (dk_at dksX2_place_0 6 rfl rfl)
theorem dX2_place_9 : decode cX2_place 9 = .ok (.bipush 10, 2) := dk_16 10 (dk_at dksX2_place_0 9 rfl rfl)
theorem dX2_place_11 : decode cX2_place 11 = .ok (.goto 4, 3) := dk_167 0 4 (dk_at dksX2_place_0 11 rfl rfl)
theorem dX2_place_14 : decode cX2_place 14 = .ok (.iload_n 1, 1) := dk_27 (dk_at dksX2_place_0 14 rfl rfl)
theorem dX2_place_15 : decode cX2_place 15 = .ok (.iadd, 1) := dk_96 (dk_at dksX2_place_0 15 rfl rfl)
theorem dX2_place_16 : decode cX2_place 16 = .ok (.ireturn, 1) := dk_172 (dk_at dksX2_place_0 16 rfl rfl)
abbrev cX2_isState : ByteArray := prog_8_method_60_code
def yX2_isState : MethodName := ⟨RX2, "isState", "(II)Z"⟩
def dkwX2_isState_0 : List UInt8 := [27, 2, 160, 0, 15, 26, 154, 0, 7, 4, 167, 0, 12, 3, 167, 0, 8, 26, 27, 184, 0, 239, 172]
abbrev dktX2_isState_0 : List UInt8 := dkwX2_isState_0 ++ []
theorem dksX2_isState_0 : cX2_isState.data.toList.drop 0 = dktX2_isState_0 := by decide +kernel
theorem dX2_isState_0 : decode cX2_isState 0 = .ok (.iload_n 1, 1) := dk_27 (dk_at dksX2_isState_0 0 rfl rfl)
theorem dX2_isState_1 : decode cX2_isState 1 = .ok (.iconst (-1), 1) := dk_2 (dk_at dksX2_isState_0 1 rfl rfl)
theorem dX2_isState_2 : decode cX2_isState 2 = .ok (.if_icmp .ne 15, 3) := dk_160 0 15 (dk_at dksX2_isState_0 2 rfl rfl)
theorem dX2_isState_5 : decode cX2_isState 5 = .ok (.iload_n 0, 1) := dk_26 (dk_at dksX2_isState_0 5 rfl rfl)
theorem dX2_isState_6 : decode cX2_isState 6 = .ok (.ifCond .ne 7, 3) := dk_154 0 7 (dk_at dksX2_isState_0 6 rfl rfl)
theorem dX2_isState_9 : decode cX2_isState 9 = .ok (.iconst 1, 1) := dk_4 (dk_at dksX2_isState_0 9 rfl rfl)
theorem dX2_isState_10 : decode cX2_isState 10 = .ok (.goto 12, 3) := dk_167 0 12 (dk_at dksX2_isState_0 10 rfl rfl)
theorem dX2_isState_13 : decode cX2_isState 13 = .ok (.iconst 0, 1) := dk_3 (dk_at dksX2_isState_0 13 rfl rfl)
theorem dX2_isState_14 : decode cX2_isState 14 = .ok (.goto 8, 3) := dk_167 0 8 (dk_at dksX2_isState_0 14 rfl rfl)
theorem dX2_isState_17 : decode cX2_isState 17 = .ok (.iload_n 0, 1) := dk_26 (dk_at dksX2_isState_0 17 rfl rfl)
theorem dX2_isState_18 : decode cX2_isState 18 = .ok (.iload_n 1, 1) := dk_27 (dk_at dksX2_isState_0 18 rfl rfl)
theorem dX2_isState_19 : decode cX2_isState 19 = .ok (.invokestatic 239, 3) := dk_184 0 239 (dk_at dksX2_isState_0 19 rfl rfl)
theorem dX2_isState_22 : decode cX2_isState 22 = .ok (.ireturn, 1) := dk_172 (dk_at dksX2_isState_0 22 rfl rfl)
abbrev cX2_may : ByteArray := prog_8_method_59_code
def yX2_may : MethodName := ⟨RX2, "may", "(III)Z"⟩
def dkwX2_may_0 : List UInt8 := [42, 27, 28, 29, 182, 1, 5, 154, 0, 7, 4, 167, 0, 4, 3, 172]
abbrev dktX2_may_0 : List UInt8 := dkwX2_may_0 ++ []
theorem dksX2_may_0 : cX2_may.data.toList.drop 0 = dktX2_may_0 := by decide +kernel
theorem dX2_may_0 : decode cX2_may 0 = .ok (.aload_n 0, 1) := dk_42 (dk_at dksX2_may_0 0 rfl rfl)
theorem dX2_may_1 : decode cX2_may 1 = .ok (.iload_n 1, 1) := dk_27 (dk_at dksX2_may_0 1 rfl rfl)
theorem dX2_may_2 : decode cX2_may 2 = .ok (.iload_n 2, 1) := dk_28 (dk_at dksX2_may_0 2 rfl rfl)
theorem dX2_may_3 : decode cX2_may 3 = .ok (.iload_n 3, 1) := dk_29 (dk_at dksX2_may_0 3 rfl rfl)
theorem dX2_may_4 : decode cX2_may 4 = .ok (.invokevirtual 261, 3) := dk_182 1 5 (dk_at dksX2_may_0 4 rfl rfl)
theorem dX2_may_7 : decode cX2_may 7 = .ok (.ifCond .ne 7, 3) := dk_154 0 7 (dk_at dksX2_may_0 7 rfl rfl)
theorem dX2_may_10 : decode cX2_may 10 = .ok (.iconst 1, 1) := dk_4 (dk_at dksX2_may_0 10 rfl rfl)
theorem dX2_may_11 : decode cX2_may 11 = .ok (.goto 4, 3) := dk_167 0 4 (dk_at dksX2_may_0 11 rfl rfl)
theorem dX2_may_14 : decode cX2_may 14 = .ok (.iconst 0, 1) := dk_3 (dk_at dksX2_may_0 14 rfl rfl)
theorem dX2_may_15 : decode cX2_may 15 = .ok (.ireturn, 1) := dk_172 (dk_at dksX2_may_0 15 rfl rfl)
abbrev cX2_noEnds : ByteArray := prog_8_method_61_code
def yX2_noEnds : MethodName := ⟨RX2, "noEnds", "()V"⟩
def dkwX2_noEnds_0 : List UInt8 := [3, 60, 27, 17, 44, 0, 162, 0, 16, 42, 180, 0, 61, 27, 3, 84, 132, 1, 1, 167, 255, 239, 177]
abbrev dktX2_noEnds_0 : List UInt8 := dkwX2_noEnds_0 ++ []
theorem dksX2_noEnds_0 : cX2_noEnds.data.toList.drop 0 = dktX2_noEnds_0 := by decide +kernel
theorem dX2_noEnds_0 : decode cX2_noEnds 0 = .ok (.iconst 0, 1) := dk_3 (dk_at dksX2_noEnds_0 0 rfl rfl)
theorem dX2_noEnds_1 : decode cX2_noEnds 1 = .ok (.istore_n 1, 1) := dk_60 (dk_at dksX2_noEnds_0 1 rfl rfl)
theorem dX2_noEnds_2 : decode cX2_noEnds 2 = .ok (.iload_n 1, 1) := dk_27 (dk_at dksX2_noEnds_0 2 rfl rfl)
theorem dX2_noEnds_3 : decode cX2_noEnds 3 = .ok (.sipush 11264, 3) := dk_17 44 0 (dk_at dksX2_noEnds_0 3 rfl rfl)
theorem dX2_noEnds_6 : decode cX2_noEnds 6 = .ok (.if_icmp .ge 16, 3) := dk_162 0 16 (dk_at dksX2_noEnds_0 6 rfl rfl)
theorem dX2_noEnds_9 : decode cX2_noEnds 9 = .ok (.aload_n 0, 1) := dk_42 (dk_at dksX2_noEnds_0 9 rfl rfl)
theorem dX2_noEnds_10 : decode cX2_noEnds 10 = .ok (.getfield 61, 3) := dk_180 0 61 (dk_at dksX2_noEnds_0 10 rfl rfl)
theorem dX2_noEnds_13 : decode cX2_noEnds 13 = .ok (.iload_n 1, 1) := dk_27 (dk_at dksX2_noEnds_0 13 rfl rfl)
theorem dX2_noEnds_14 : decode cX2_noEnds 14 = .ok (.iconst 0, 1) := dk_3 (dk_at dksX2_noEnds_0 14 rfl rfl)
theorem dX2_noEnds_15 : decode cX2_noEnds 15 = .ok (.bastore, 1) := dk_84 (dk_at dksX2_noEnds_0 15 rfl rfl)
theorem dX2_noEnds_16 : decode cX2_noEnds 16 = .ok (.iinc 1 1, 3) := dk_132 1 1 (dk_at dksX2_noEnds_0 16 rfl rfl)
theorem dX2_noEnds_19 : decode cX2_noEnds 19 = .ok (.goto (-17), 3) := dk_167 255 239 (dk_at dksX2_noEnds_0 19 rfl rfl)
theorem dX2_noEnds_22 : decode cX2_noEnds 22 = .ok (.return_, 1) := dk_177 (dk_at dksX2_noEnds_0 22 rfl rfl)
abbrev cX2_findEnds : ByteArray := prog_8_method_62_code
def yX2_findEnds : MethodName := ⟨RX2, "findEnds", "(I)V"⟩
def dkwX2_findEnds_5 : List UInt8 := [184, 1, 48, 21, 4, 84, 132, 3, 1, 167, 255, 141, 132, 2, 255, 167, 255, 129, 177]
abbrev dktX2_findEnds_5 : List UInt8 := dkwX2_findEnds_5 ++ []
def dkwX2_findEnds_4 : List UInt8 := [153, 0, 7, 4, 167, 0, 4, 3, 54, 4, 132, 5, 1, 167, 255, 193, 42, 180, 0, 64, 28, 29]
abbrev dktX2_findEnds_4 : List UInt8 := dkwX2_findEnds_4 ++ dktX2_findEnds_5
def dkwX2_findEnds_3 : List UInt8 := [21, 5, 182, 1, 51, 153, 0, 26, 42, 180, 0, 64, 28, 4, 21, 5, 120, 128, 21, 5, 184, 1, 48, 51]
abbrev dktX2_findEnds_3 : List UInt8 := dkwX2_findEnds_3 ++ dktX2_findEnds_4
def dkwX2_findEnds_2 : List UInt8 := [180, 0, 116, 162, 0, 60, 21, 4, 154, 0, 55, 27, 21, 5, 184, 0, 239, 153, 0, 37, 42, 28, 29]
abbrev dktX2_findEnds_2 : List UInt8 := dkwX2_findEnds_2 ++ dktX2_findEnds_3
def dkwX2_findEnds_1 : List UInt8 := [154, 0, 6, 167, 0, 96, 42, 180, 0, 61, 28, 29, 184, 1, 48, 51, 54, 4, 3, 54, 5, 21, 5, 42]
abbrev dktX2_findEnds_1 : List UInt8 := dkwX2_findEnds_1 ++ dktX2_findEnds_2
def dkwX2_findEnds_0 : List UInt8 := [42, 182, 1, 42, 61, 28, 155, 0, 129, 2, 62, 29, 42, 180, 0, 116, 162, 0, 113, 28, 29, 184, 1, 45]
abbrev dktX2_findEnds_0 : List UInt8 := dkwX2_findEnds_0 ++ dktX2_findEnds_1
theorem dksX2_findEnds_0 : cX2_findEnds.data.toList.drop 0 = dktX2_findEnds_0 := by decide +kernel
theorem dksX2_findEnds_1 : cX2_findEnds.data.toList.drop 24 = dktX2_findEnds_1 := dk_seg dksX2_findEnds_0 24 rfl rfl
theorem dksX2_findEnds_2 : cX2_findEnds.data.toList.drop 48 = dktX2_findEnds_2 := dk_seg dksX2_findEnds_1 24 rfl rfl
theorem dksX2_findEnds_3 : cX2_findEnds.data.toList.drop 71 = dktX2_findEnds_3 := dk_seg dksX2_findEnds_2 23 rfl rfl
theorem dksX2_findEnds_4 : cX2_findEnds.data.toList.drop 95 = dktX2_findEnds_4 := dk_seg dksX2_findEnds_3 24 rfl rfl
theorem dksX2_findEnds_5 : cX2_findEnds.data.toList.drop 117 = dktX2_findEnds_5 := dk_seg dksX2_findEnds_4 22 rfl rfl
theorem dX2_findEnds_0 : decode cX2_findEnds 0 = .ok (.aload_n 0, 1) := dk_42 (dk_at dksX2_findEnds_0 0 rfl rfl)
theorem dX2_findEnds_1 : decode cX2_findEnds 1 = .ok (.invokevirtual 298, 3) := dk_182 1 42 (dk_at dksX2_findEnds_0 1 rfl rfl)
theorem dX2_findEnds_4 : decode cX2_findEnds 4 = .ok (.istore_n 2, 1) := dk_61 (dk_at dksX2_findEnds_0 4 rfl rfl)
theorem dX2_findEnds_5 : decode cX2_findEnds 5 = .ok (.iload_n 2, 1) := dk_28 (dk_at dksX2_findEnds_0 5 rfl rfl)
theorem dX2_findEnds_6 : decode cX2_findEnds 6 = .ok (.ifCond .lt 129, 3) := dk_155 0 129 (dk_at dksX2_findEnds_0 6 rfl rfl)
theorem dX2_findEnds_9 : decode cX2_findEnds 9 = .ok (.iconst (-1), 1) := dk_2 (dk_at dksX2_findEnds_0 9 rfl rfl)
theorem dX2_findEnds_10 : decode cX2_findEnds 10 = .ok (.istore_n 3, 1) := dk_62 (dk_at dksX2_findEnds_0 10 rfl rfl)
theorem dX2_findEnds_11 : decode cX2_findEnds 11 = .ok (.iload_n 3, 1) := dk_29 (dk_at dksX2_findEnds_0 11 rfl rfl)
theorem dX2_findEnds_12 : decode cX2_findEnds 12 = .ok (.aload_n 0, 1) := dk_42 (dk_at dksX2_findEnds_0 12 rfl rfl)
theorem dX2_findEnds_13 : decode cX2_findEnds 13 = .ok (.getfield 116, 3) := dk_180 0 116 (dk_at dksX2_findEnds_0 13 rfl rfl)
theorem dX2_findEnds_16 : decode cX2_findEnds 16 = .ok (.if_icmp .ge 113, 3) := dk_162 0 113 (dk_at dksX2_findEnds_0 16 rfl rfl)
theorem dX2_findEnds_19 : decode cX2_findEnds 19 = .ok (.iload_n 2, 1) := dk_28 (dk_at dksX2_findEnds_0 19 rfl rfl)
theorem dX2_findEnds_20 : decode cX2_findEnds 20 = .ok (.iload_n 3, 1) := dk_29 (dk_at dksX2_findEnds_0 20 rfl rfl)
theorem dX2_findEnds_21 : decode cX2_findEnds 21 = .ok (.invokestatic 301, 3) := dk_184 1 45 (dk_at dksX2_findEnds_0 21 rfl rfl)
theorem dX2_findEnds_24 : decode cX2_findEnds 24 = .ok (.ifCond .ne 6, 3) := dk_154 0 6 (dk_at dksX2_findEnds_1 0 rfl rfl)
theorem dX2_findEnds_27 : decode cX2_findEnds 27 = .ok (.goto 96, 3) := dk_167 0 96 (dk_at dksX2_findEnds_1 3 rfl rfl)
theorem dX2_findEnds_30 : decode cX2_findEnds 30 = .ok (.aload_n 0, 1) := dk_42 (dk_at dksX2_findEnds_1 6 rfl rfl)
theorem dX2_findEnds_31 : decode cX2_findEnds 31 = .ok (.getfield 61, 3) := dk_180 0 61 (dk_at dksX2_findEnds_1 7 rfl rfl)
theorem dX2_findEnds_34 : decode cX2_findEnds 34 = .ok (.iload_n 2, 1) := dk_28 (dk_at dksX2_findEnds_1 10 rfl rfl)
theorem dX2_findEnds_35 : decode cX2_findEnds 35 = .ok (.iload_n 3, 1) := dk_29 (dk_at dksX2_findEnds_1 11 rfl rfl)
theorem dX2_findEnds_36 : decode cX2_findEnds 36 = .ok (.invokestatic 304, 3) := dk_184 1 48 (dk_at dksX2_findEnds_1 12 rfl rfl)
theorem dX2_findEnds_39 : decode cX2_findEnds 39 = .ok (.baload, 1) := dk_51 (dk_at dksX2_findEnds_1 15 rfl rfl)
theorem dX2_findEnds_40 : decode cX2_findEnds 40 = .ok (.istore 4, 2) := dk_54 4 (dk_at dksX2_findEnds_1 16 rfl rfl)
theorem dX2_findEnds_42 : decode cX2_findEnds 42 = .ok (.iconst 0, 1) := dk_3 (dk_at dksX2_findEnds_1 18 rfl rfl)
theorem dX2_findEnds_43 : decode cX2_findEnds 43 = .ok (.istore 5, 2) := dk_54 5 (dk_at dksX2_findEnds_1 19 rfl rfl)
theorem dX2_findEnds_45 : decode cX2_findEnds 45 = .ok (.iload 5, 2) := dk_21 5 (dk_at dksX2_findEnds_1 21 rfl rfl)
theorem dX2_findEnds_47 : decode cX2_findEnds 47 = .ok (.aload_n 0, 1) := dk_42 (dk_at dksX2_findEnds_1 23 rfl rfl)
theorem dX2_findEnds_48 : decode cX2_findEnds 48 = .ok (.getfield 116, 3) := dk_180 0 116 (dk_at dksX2_findEnds_2 0 rfl rfl)
theorem dX2_findEnds_51 : decode cX2_findEnds 51 = .ok (.if_icmp .ge 60, 3) := dk_162 0 60 (dk_at dksX2_findEnds_2 3 rfl rfl)
theorem dX2_findEnds_54 : decode cX2_findEnds 54 = .ok (.iload 4, 2) := dk_21 4 (dk_at dksX2_findEnds_2 6 rfl rfl)
theorem dX2_findEnds_56 : decode cX2_findEnds 56 = .ok (.ifCond .ne 55, 3) := dk_154 0 55 (dk_at dksX2_findEnds_2 8 rfl rfl)
theorem dX2_findEnds_59 : decode cX2_findEnds 59 = .ok (.iload_n 1, 1) := dk_27 (dk_at dksX2_findEnds_2 11 rfl rfl)
theorem dX2_findEnds_60 : decode cX2_findEnds 60 = .ok (.iload 5, 2) := dk_21 5 (dk_at dksX2_findEnds_2 12 rfl rfl)
theorem dX2_findEnds_62 : decode cX2_findEnds 62 = .ok (.invokestatic 239, 3) := dk_184 0 239 (dk_at dksX2_findEnds_2 14 rfl rfl)
theorem dX2_findEnds_65 : decode cX2_findEnds 65 = .ok (.ifCond .eq 37, 3) := dk_153 0 37 (dk_at dksX2_findEnds_2 17 rfl rfl)
theorem dX2_findEnds_68 : decode cX2_findEnds 68 = .ok (.aload_n 0, 1) := dk_42 (dk_at dksX2_findEnds_2 20 rfl rfl)
theorem dX2_findEnds_69 : decode cX2_findEnds 69 = .ok (.iload_n 2, 1) := dk_28 (dk_at dksX2_findEnds_2 21 rfl rfl)
theorem dX2_findEnds_70 : decode cX2_findEnds 70 = .ok (.iload_n 3, 1) := dk_29 (dk_at dksX2_findEnds_2 22 rfl rfl)
theorem dX2_findEnds_71 : decode cX2_findEnds 71 = .ok (.iload 5, 2) := dk_21 5 (dk_at dksX2_findEnds_3 0 rfl rfl)
theorem dX2_findEnds_73 : decode cX2_findEnds 73 = .ok (.invokevirtual 307, 3) := dk_182 1 51 (dk_at dksX2_findEnds_3 2 rfl rfl)
theorem dX2_findEnds_76 : decode cX2_findEnds 76 = .ok (.ifCond .eq 26, 3) := dk_153 0 26 (dk_at dksX2_findEnds_3 5 rfl rfl)
theorem dX2_findEnds_79 : decode cX2_findEnds 79 = .ok (.aload_n 0, 1) := dk_42 (dk_at dksX2_findEnds_3 8 rfl rfl)
theorem dX2_findEnds_80 : decode cX2_findEnds 80 = .ok (.getfield 64, 3) := dk_180 0 64 (dk_at dksX2_findEnds_3 9 rfl rfl)
theorem dX2_findEnds_83 : decode cX2_findEnds 83 = .ok (.iload_n 2, 1) := dk_28 (dk_at dksX2_findEnds_3 12 rfl rfl)
theorem dX2_findEnds_84 : decode cX2_findEnds 84 = .ok (.iconst 1, 1) := dk_4 (dk_at dksX2_findEnds_3 13 rfl rfl)
theorem dX2_findEnds_85 : decode cX2_findEnds 85 = .ok (.iload 5, 2) := dk_21 5 (dk_at dksX2_findEnds_3 14 rfl rfl)
theorem dX2_findEnds_87 : decode cX2_findEnds 87 = .ok (.ishl, 1) := dk_120 (dk_at dksX2_findEnds_3 16 rfl rfl)
theorem dX2_findEnds_88 : decode cX2_findEnds 88 = .ok (.ior, 1) := dk_128 (dk_at dksX2_findEnds_3 17 rfl rfl)
theorem dX2_findEnds_89 : decode cX2_findEnds 89 = .ok (.iload 5, 2) := dk_21 5 (dk_at dksX2_findEnds_3 18 rfl rfl)
theorem dX2_findEnds_91 : decode cX2_findEnds 91 = .ok (.invokestatic 304, 3) := dk_184 1 48 (dk_at dksX2_findEnds_3 20 rfl rfl)
theorem dX2_findEnds_94 : decode cX2_findEnds 94 = .ok (.baload, 1) := dk_51 (dk_at dksX2_findEnds_3 23 rfl rfl)
theorem dX2_findEnds_95 : decode cX2_findEnds 95 = .ok (.ifCond .eq 7, 3) := dk_153 0 7 (dk_at dksX2_findEnds_4 0 rfl rfl)
theorem dX2_findEnds_98 : decode cX2_findEnds 98 = .ok (.iconst 1, 1) := dk_4 (dk_at dksX2_findEnds_4 3 rfl rfl)
theorem dX2_findEnds_99 : decode cX2_findEnds 99 = .ok (.goto 4, 3) := dk_167 0 4 (dk_at dksX2_findEnds_4 4 rfl rfl)
theorem dX2_findEnds_102 : decode cX2_findEnds 102 = .ok (.iconst 0, 1) := dk_3 (dk_at dksX2_findEnds_4 7 rfl rfl)
theorem dX2_findEnds_103 : decode cX2_findEnds 103 = .ok (.istore 4, 2) := dk_54 4 (dk_at dksX2_findEnds_4 8 rfl rfl)
theorem dX2_findEnds_105 : decode cX2_findEnds 105 = .ok (.iinc 5 1, 3) := dk_132 5 1 (dk_at dksX2_findEnds_4 10 rfl rfl)
theorem dX2_findEnds_108 : decode cX2_findEnds 108 = .ok (.goto (-63), 3) := dk_167 255 193 (dk_at dksX2_findEnds_4 13 rfl rfl)
theorem dX2_findEnds_111 : decode cX2_findEnds 111 = .ok (.aload_n 0, 1) := dk_42 (dk_at dksX2_findEnds_4 16 rfl rfl)
theorem dX2_findEnds_112 : decode cX2_findEnds 112 = .ok (.getfield 64, 3) := dk_180 0 64 (dk_at dksX2_findEnds_4 17 rfl rfl)
theorem dX2_findEnds_115 : decode cX2_findEnds 115 = .ok (.iload_n 2, 1) := dk_28 (dk_at dksX2_findEnds_4 20 rfl rfl)
theorem dX2_findEnds_116 : decode cX2_findEnds 116 = .ok (.iload_n 3, 1) := dk_29 (dk_at dksX2_findEnds_4 21 rfl rfl)
theorem dX2_findEnds_117 : decode cX2_findEnds 117 = .ok (.invokestatic 304, 3) := dk_184 1 48 (dk_at dksX2_findEnds_5 0 rfl rfl)
theorem dX2_findEnds_120 : decode cX2_findEnds 120 = .ok (.iload 4, 2) := dk_21 4 (dk_at dksX2_findEnds_5 3 rfl rfl)
theorem dX2_findEnds_122 : decode cX2_findEnds 122 = .ok (.bastore, 1) := dk_84 (dk_at dksX2_findEnds_5 5 rfl rfl)
theorem dX2_findEnds_123 : decode cX2_findEnds 123 = .ok (.iinc 3 1, 3) := dk_132 3 1 (dk_at dksX2_findEnds_5 6 rfl rfl)
theorem dX2_findEnds_126 : decode cX2_findEnds 126 = .ok (.goto (-115), 3) := dk_167 255 141 (dk_at dksX2_findEnds_5 9 rfl rfl)
theorem dX2_findEnds_129 : decode cX2_findEnds 129 = .ok (.iinc 2 (-1), 3) := dk_132 2 255 (dk_at dksX2_findEnds_5 12 rfl rfl)
theorem dX2_findEnds_132 : decode cX2_findEnds 132 = .ok (.goto (-127), 3) := dk_167 255 129 (dk_at dksX2_findEnds_5 15 rfl rfl)
theorem dX2_findEnds_135 : decode cX2_findEnds 135 = .ok (.return_, 1) := dk_177 (dk_at dksX2_findEnds_5 18 rfl rfl)
abbrev cX2_tellWay : ByteArray := prog_8_method_63_code
def yX2_tellWay : MethodName := ⟨RX2, "tellWay", "(III)V"⟩
def dkwX2_tellWay_4 : List UInt8 := [167, 255, 171, 177]
abbrev dktX2_tellWay_4 : List UInt8 := dkwX2_tellWay_4 ++ []
def dkwX2_tellWay_3 : List UInt8 := [167, 255, 211, 42, 21, 6, 182, 1, 33, 21, 4, 4, 21, 6, 120, 128, 54, 4, 21, 6, 54, 5]
abbrev dktX2_tellWay_3 : List UInt8 := dkwX2_tellWay_3 ++ dktX2_tellWay_4
def dkwX2_tellWay_2 : List UInt8 := [180, 0, 64, 21, 4, 4, 21, 6, 120, 128, 21, 6, 184, 1, 48, 51, 154, 0, 9, 132, 6, 1]
abbrev dktX2_tellWay_2 : List UInt8 := dkwX2_tellWay_2 ++ dktX2_tellWay_3
def dkwX2_tellWay_1 : List UInt8 := [29, 21, 6, 184, 0, 239, 153, 0, 36, 42, 21, 4, 21, 5, 21, 6, 182, 1, 51, 153, 0, 23, 42]
abbrev dktX2_tellWay_1 : List UInt8 := dkwX2_tellWay_1 ++ dktX2_tellWay_2
def dkwX2_tellWay_0 : List UInt8 := [27, 54, 4, 28, 54, 5, 42, 180, 0, 61, 21, 4, 21, 5, 184, 1, 48, 51, 154, 0, 76, 3, 54, 6]
abbrev dktX2_tellWay_0 : List UInt8 := dkwX2_tellWay_0 ++ dktX2_tellWay_1
theorem dksX2_tellWay_0 : cX2_tellWay.data.toList.drop 0 = dktX2_tellWay_0 := by decide +kernel
theorem dksX2_tellWay_1 : cX2_tellWay.data.toList.drop 24 = dktX2_tellWay_1 := dk_seg dksX2_tellWay_0 24 rfl rfl
theorem dksX2_tellWay_2 : cX2_tellWay.data.toList.drop 47 = dktX2_tellWay_2 := dk_seg dksX2_tellWay_1 23 rfl rfl
theorem dksX2_tellWay_3 : cX2_tellWay.data.toList.drop 69 = dktX2_tellWay_3 := dk_seg dksX2_tellWay_2 22 rfl rfl
theorem dksX2_tellWay_4 : cX2_tellWay.data.toList.drop 91 = dktX2_tellWay_4 := dk_seg dksX2_tellWay_3 22 rfl rfl
theorem dX2_tellWay_0 : decode cX2_tellWay 0 = .ok (.iload_n 1, 1) := dk_27 (dk_at dksX2_tellWay_0 0 rfl rfl)
theorem dX2_tellWay_1 : decode cX2_tellWay 1 = .ok (.istore 4, 2) := dk_54 4 (dk_at dksX2_tellWay_0 1 rfl rfl)
theorem dX2_tellWay_3 : decode cX2_tellWay 3 = .ok (.iload_n 2, 1) := dk_28 (dk_at dksX2_tellWay_0 3 rfl rfl)
theorem dX2_tellWay_4 : decode cX2_tellWay 4 = .ok (.istore 5, 2) := dk_54 5 (dk_at dksX2_tellWay_0 4 rfl rfl)
theorem dX2_tellWay_6 : decode cX2_tellWay 6 = .ok (.aload_n 0, 1) := dk_42 (dk_at dksX2_tellWay_0 6 rfl rfl)
theorem dX2_tellWay_7 : decode cX2_tellWay 7 = .ok (.getfield 61, 3) := dk_180 0 61 (dk_at dksX2_tellWay_0 7 rfl rfl)
theorem dX2_tellWay_10 : decode cX2_tellWay 10 = .ok (.iload 4, 2) := dk_21 4 (dk_at dksX2_tellWay_0 10 rfl rfl)
theorem dX2_tellWay_12 : decode cX2_tellWay 12 = .ok (.iload 5, 2) := dk_21 5 (dk_at dksX2_tellWay_0 12 rfl rfl)
theorem dX2_tellWay_14 : decode cX2_tellWay 14 = .ok (.invokestatic 304, 3) := dk_184 1 48 (dk_at dksX2_tellWay_0 14 rfl rfl)
theorem dX2_tellWay_17 : decode cX2_tellWay 17 = .ok (.baload, 1) := dk_51 (dk_at dksX2_tellWay_0 17 rfl rfl)
theorem dX2_tellWay_18 : decode cX2_tellWay 18 = .ok (.ifCond .ne 76, 3) := dk_154 0 76 (dk_at dksX2_tellWay_0 18 rfl rfl)
theorem dX2_tellWay_21 : decode cX2_tellWay 21 = .ok (.iconst 0, 1) := dk_3 (dk_at dksX2_tellWay_0 21 rfl rfl)
theorem dX2_tellWay_22 : decode cX2_tellWay 22 = .ok (.istore 6, 2) := dk_54 6 (dk_at dksX2_tellWay_0 22 rfl rfl)
theorem dX2_tellWay_24 : decode cX2_tellWay 24 = .ok (.iload_n 3, 1) := dk_29 (dk_at dksX2_tellWay_1 0 rfl rfl)
theorem dX2_tellWay_25 : decode cX2_tellWay 25 = .ok (.iload 6, 2) := dk_21 6 (dk_at dksX2_tellWay_1 1 rfl rfl)
theorem dX2_tellWay_27 : decode cX2_tellWay 27 = .ok (.invokestatic 239, 3) := dk_184 0 239 (dk_at dksX2_tellWay_1 3 rfl rfl)
theorem dX2_tellWay_30 : decode cX2_tellWay 30 = .ok (.ifCond .eq 36, 3) := dk_153 0 36 (dk_at dksX2_tellWay_1 6 rfl rfl)
theorem dX2_tellWay_33 : decode cX2_tellWay 33 = .ok (.aload_n 0, 1) := dk_42 (dk_at dksX2_tellWay_1 9 rfl rfl)
theorem dX2_tellWay_34 : decode cX2_tellWay 34 = .ok (.iload 4, 2) := dk_21 4 (dk_at dksX2_tellWay_1 10 rfl rfl)
theorem dX2_tellWay_36 : decode cX2_tellWay 36 = .ok (.iload 5, 2) := dk_21 5 (dk_at dksX2_tellWay_1 12 rfl rfl)
theorem dX2_tellWay_38 : decode cX2_tellWay 38 = .ok (.iload 6, 2) := dk_21 6 (dk_at dksX2_tellWay_1 14 rfl rfl)
theorem dX2_tellWay_40 : decode cX2_tellWay 40 = .ok (.invokevirtual 307, 3) := dk_182 1 51 (dk_at dksX2_tellWay_1 16 rfl rfl)
theorem dX2_tellWay_43 : decode cX2_tellWay 43 = .ok (.ifCond .eq 23, 3) := dk_153 0 23 (dk_at dksX2_tellWay_1 19 rfl rfl)
theorem dX2_tellWay_46 : decode cX2_tellWay 46 = .ok (.aload_n 0, 1) := dk_42 (dk_at dksX2_tellWay_1 22 rfl rfl)
theorem dX2_tellWay_47 : decode cX2_tellWay 47 = .ok (.getfield 64, 3) := dk_180 0 64 (dk_at dksX2_tellWay_2 0 rfl rfl)
theorem dX2_tellWay_50 : decode cX2_tellWay 50 = .ok (.iload 4, 2) := dk_21 4 (dk_at dksX2_tellWay_2 3 rfl rfl)
theorem dX2_tellWay_52 : decode cX2_tellWay 52 = .ok (.iconst 1, 1) := dk_4 (dk_at dksX2_tellWay_2 5 rfl rfl)
theorem dX2_tellWay_53 : decode cX2_tellWay 53 = .ok (.iload 6, 2) := dk_21 6 (dk_at dksX2_tellWay_2 6 rfl rfl)
theorem dX2_tellWay_55 : decode cX2_tellWay 55 = .ok (.ishl, 1) := dk_120 (dk_at dksX2_tellWay_2 8 rfl rfl)
theorem dX2_tellWay_56 : decode cX2_tellWay 56 = .ok (.ior, 1) := dk_128 (dk_at dksX2_tellWay_2 9 rfl rfl)
theorem dX2_tellWay_57 : decode cX2_tellWay 57 = .ok (.iload 6, 2) := dk_21 6 (dk_at dksX2_tellWay_2 10 rfl rfl)
theorem dX2_tellWay_59 : decode cX2_tellWay 59 = .ok (.invokestatic 304, 3) := dk_184 1 48 (dk_at dksX2_tellWay_2 12 rfl rfl)
theorem dX2_tellWay_62 : decode cX2_tellWay 62 = .ok (.baload, 1) := dk_51 (dk_at dksX2_tellWay_2 15 rfl rfl)
theorem dX2_tellWay_63 : decode cX2_tellWay 63 = .ok (.ifCond .ne 9, 3) := dk_154 0 9 (dk_at dksX2_tellWay_2 16 rfl rfl)
theorem dX2_tellWay_66 : decode cX2_tellWay 66 = .ok (.iinc 6 1, 3) := dk_132 6 1 (dk_at dksX2_tellWay_2 19 rfl rfl)
theorem dX2_tellWay_69 : decode cX2_tellWay 69 = .ok (.goto (-45), 3) := dk_167 255 211 (dk_at dksX2_tellWay_3 0 rfl rfl)
theorem dX2_tellWay_72 : decode cX2_tellWay 72 = .ok (.aload_n 0, 1) := dk_42 (dk_at dksX2_tellWay_3 3 rfl rfl)
theorem dX2_tellWay_73 : decode cX2_tellWay 73 = .ok (.iload 6, 2) := dk_21 6 (dk_at dksX2_tellWay_3 4 rfl rfl)
theorem dX2_tellWay_75 : decode cX2_tellWay 75 = .ok (.invokevirtual 289, 3) := dk_182 1 33 (dk_at dksX2_tellWay_3 6 rfl rfl)
theorem dX2_tellWay_78 : decode cX2_tellWay 78 = .ok (.iload 4, 2) := dk_21 4 (dk_at dksX2_tellWay_3 9 rfl rfl)
theorem dX2_tellWay_80 : decode cX2_tellWay 80 = .ok (.iconst 1, 1) := dk_4 (dk_at dksX2_tellWay_3 11 rfl rfl)
theorem dX2_tellWay_81 : decode cX2_tellWay 81 = .ok (.iload 6, 2) := dk_21 6 (dk_at dksX2_tellWay_3 12 rfl rfl)
theorem dX2_tellWay_83 : decode cX2_tellWay 83 = .ok (.ishl, 1) := dk_120 (dk_at dksX2_tellWay_3 14 rfl rfl)
theorem dX2_tellWay_84 : decode cX2_tellWay 84 = .ok (.ior, 1) := dk_128 (dk_at dksX2_tellWay_3 15 rfl rfl)
theorem dX2_tellWay_85 : decode cX2_tellWay 85 = .ok (.istore 4, 2) := dk_54 4 (dk_at dksX2_tellWay_3 16 rfl rfl)
theorem dX2_tellWay_87 : decode cX2_tellWay 87 = .ok (.iload 6, 2) := dk_21 6 (dk_at dksX2_tellWay_3 18 rfl rfl)
theorem dX2_tellWay_89 : decode cX2_tellWay 89 = .ok (.istore 5, 2) := dk_54 5 (dk_at dksX2_tellWay_3 20 rfl rfl)
theorem dX2_tellWay_91 : decode cX2_tellWay 91 = .ok (.goto (-85), 3) := dk_167 255 171 (dk_at dksX2_tellWay_4 0 rfl rfl)
theorem dX2_tellWay_94 : decode cX2_tellWay 94 = .ok (.return_, 1) := dk_177 (dk_at dksX2_tellWay_4 3 rfl rfl)
abbrev cX2_ways : ByteArray := prog_8_method_67_code
def yX2_ways : MethodName := ⟨RX2, "ways", "(I)J"⟩
def dkwX2_ways_4 : List UInt8 := [21, 5, 184, 1, 48, 47, 97, 65, 132, 5, 1, 167, 255, 205, 132, 4, 1, 167, 255, 187, 32, 173]
abbrev dktX2_ways_4 : List UInt8 := dkwX2_ways_4 ++ []
def dkwX2_ways_3 : List UInt8 := [153, 0, 32, 21, 4, 184, 0, 196, 42, 180, 0, 252, 27, 96, 160, 0, 18, 32, 42, 180, 0, 67, 21, 4]
abbrev dktX2_ways_3 : List UInt8 := dkwX2_ways_3 ++ dktX2_ways_4
def dkwX2_ways_2 : List UInt8 := [163, 0, 66, 2, 54, 5, 21, 5, 42, 180, 0, 116, 162, 0, 48, 21, 4, 21, 5, 184, 1, 45]
abbrev dktX2_ways_2 : List UInt8 := dkwX2_ways_2 ++ dktX2_ways_3
def dkwX2_ways_1 : List UInt8 := [42, 182, 1, 2, 42, 182, 1, 42, 182, 1, 54, 9, 65, 3, 54, 4, 21, 4, 42, 182, 1, 42]
abbrev dktX2_ways_1 : List UInt8 := dkwX2_ways_1 ++ dktX2_ways_2
def dkwX2_ways_0 : List UInt8 := [42, 3, 181, 0, 110, 27, 3, 16, 10, 184, 0, 119, 154, 0, 7, 20, 1, 70, 173, 42, 42, 182, 0, 255]
abbrev dktX2_ways_0 : List UInt8 := dkwX2_ways_0 ++ dktX2_ways_1
theorem dksX2_ways_0 : cX2_ways.data.toList.drop 0 = dktX2_ways_0 := by decide +kernel
theorem dksX2_ways_1 : cX2_ways.data.toList.drop 24 = dktX2_ways_1 := dk_seg dksX2_ways_0 24 rfl rfl
theorem dksX2_ways_2 : cX2_ways.data.toList.drop 46 = dktX2_ways_2 := dk_seg dksX2_ways_1 22 rfl rfl
theorem dksX2_ways_3 : cX2_ways.data.toList.drop 68 = dktX2_ways_3 := dk_seg dksX2_ways_2 22 rfl rfl
theorem dksX2_ways_4 : cX2_ways.data.toList.drop 92 = dktX2_ways_4 := dk_seg dksX2_ways_3 24 rfl rfl
theorem dX2_ways_0 : decode cX2_ways 0 = .ok (.aload_n 0, 1) := dk_42 (dk_at dksX2_ways_0 0 rfl rfl)
theorem dX2_ways_1 : decode cX2_ways 1 = .ok (.iconst 0, 1) := dk_3 (dk_at dksX2_ways_0 1 rfl rfl)
theorem dX2_ways_2 : decode cX2_ways 2 = .ok (.putfield 110, 3) := dk_181 0 110 (dk_at dksX2_ways_0 2 rfl rfl)
theorem dX2_ways_5 : decode cX2_ways 5 = .ok (.iload_n 1, 1) := dk_27 (dk_at dksX2_ways_0 5 rfl rfl)
theorem dX2_ways_6 : decode cX2_ways 6 = .ok (.iconst 0, 1) := dk_3 (dk_at dksX2_ways_0 6 rfl rfl)
theorem dX2_ways_7 : decode cX2_ways 7 = .ok (.bipush 10, 2) := dk_16 10 (dk_at dksX2_ways_0 7 rfl rfl)
theorem dX2_ways_9 : decode cX2_ways 9 = .ok (.invokestatic 119, 3) := dk_184 0 119 (dk_at dksX2_ways_0 9 rfl rfl)
theorem dX2_ways_12 : decode cX2_ways 12 = .ok (.ifCond .ne 7, 3) := dk_154 0 7 (dk_at dksX2_ways_0 12 rfl rfl)
theorem dX2_ways_15 : decode cX2_ways 15 = .ok (.ldc2_w 326, 3) := dk_20 1 70 (dk_at dksX2_ways_0 15 rfl rfl)
theorem dX2_ways_18 : decode cX2_ways 18 = .ok (.lreturn, 1) := dk_173 (dk_at dksX2_ways_0 18 rfl rfl)
theorem dX2_ways_19 : decode cX2_ways 19 = .ok (.aload_n 0, 1) := dk_42 (dk_at dksX2_ways_0 19 rfl rfl)
theorem dX2_ways_20 : decode cX2_ways 20 = .ok (.aload_n 0, 1) := dk_42 (dk_at dksX2_ways_0 20 rfl rfl)
theorem dX2_ways_21 : decode cX2_ways 21 = .ok (.invokevirtual 255, 3) := dk_182 0 255 (dk_at dksX2_ways_0 21 rfl rfl)
theorem dX2_ways_24 : decode cX2_ways 24 = .ok (.aload_n 0, 1) := dk_42 (dk_at dksX2_ways_1 0 rfl rfl)
theorem dX2_ways_25 : decode cX2_ways 25 = .ok (.invokevirtual 258, 3) := dk_182 1 2 (dk_at dksX2_ways_1 1 rfl rfl)
theorem dX2_ways_28 : decode cX2_ways 28 = .ok (.aload_n 0, 1) := dk_42 (dk_at dksX2_ways_1 4 rfl rfl)
theorem dX2_ways_29 : decode cX2_ways 29 = .ok (.invokevirtual 298, 3) := dk_182 1 42 (dk_at dksX2_ways_1 5 rfl rfl)
theorem dX2_ways_32 : decode cX2_ways 32 = .ok (.invokevirtual 310, 3) := dk_182 1 54 (dk_at dksX2_ways_1 8 rfl rfl)
theorem dX2_ways_35 : decode cX2_ways 35 = .ok (.lconst 0, 1) := dk_9 (dk_at dksX2_ways_1 11 rfl rfl)
theorem dX2_ways_36 : decode cX2_ways 36 = .ok (.lstore_n 2, 1) := dk_65 (dk_at dksX2_ways_1 12 rfl rfl)
theorem dX2_ways_37 : decode cX2_ways 37 = .ok (.iconst 0, 1) := dk_3 (dk_at dksX2_ways_1 13 rfl rfl)
theorem dX2_ways_38 : decode cX2_ways 38 = .ok (.istore 4, 2) := dk_54 4 (dk_at dksX2_ways_1 14 rfl rfl)
theorem dX2_ways_40 : decode cX2_ways 40 = .ok (.iload 4, 2) := dk_21 4 (dk_at dksX2_ways_1 16 rfl rfl)
theorem dX2_ways_42 : decode cX2_ways 42 = .ok (.aload_n 0, 1) := dk_42 (dk_at dksX2_ways_1 18 rfl rfl)
theorem dX2_ways_43 : decode cX2_ways 43 = .ok (.invokevirtual 298, 3) := dk_182 1 42 (dk_at dksX2_ways_1 19 rfl rfl)
theorem dX2_ways_46 : decode cX2_ways 46 = .ok (.if_icmp .gt 66, 3) := dk_163 0 66 (dk_at dksX2_ways_2 0 rfl rfl)
theorem dX2_ways_49 : decode cX2_ways 49 = .ok (.iconst (-1), 1) := dk_2 (dk_at dksX2_ways_2 3 rfl rfl)
theorem dX2_ways_50 : decode cX2_ways 50 = .ok (.istore 5, 2) := dk_54 5 (dk_at dksX2_ways_2 4 rfl rfl)
theorem dX2_ways_52 : decode cX2_ways 52 = .ok (.iload 5, 2) := dk_21 5 (dk_at dksX2_ways_2 6 rfl rfl)
theorem dX2_ways_54 : decode cX2_ways 54 = .ok (.aload_n 0, 1) := dk_42 (dk_at dksX2_ways_2 8 rfl rfl)
theorem dX2_ways_55 : decode cX2_ways 55 = .ok (.getfield 116, 3) := dk_180 0 116 (dk_at dksX2_ways_2 9 rfl rfl)
theorem dX2_ways_58 : decode cX2_ways 58 = .ok (.if_icmp .ge 48, 3) := dk_162 0 48 (dk_at dksX2_ways_2 12 rfl rfl)
theorem dX2_ways_61 : decode cX2_ways 61 = .ok (.iload 4, 2) := dk_21 4 (dk_at dksX2_ways_2 15 rfl rfl)
theorem dX2_ways_63 : decode cX2_ways 63 = .ok (.iload 5, 2) := dk_21 5 (dk_at dksX2_ways_2 17 rfl rfl)
theorem dX2_ways_65 : decode cX2_ways 65 = .ok (.invokestatic 301, 3) := dk_184 1 45 (dk_at dksX2_ways_2 19 rfl rfl)
theorem dX2_ways_68 : decode cX2_ways 68 = .ok (.ifCond .eq 32, 3) := dk_153 0 32 (dk_at dksX2_ways_3 0 rfl rfl)
theorem dX2_ways_71 : decode cX2_ways 71 = .ok (.iload 4, 2) := dk_21 4 (dk_at dksX2_ways_3 3 rfl rfl)
theorem dX2_ways_73 : decode cX2_ways 73 = .ok (.invokestatic 196, 3) := dk_184 0 196 (dk_at dksX2_ways_3 5 rfl rfl)
theorem dX2_ways_76 : decode cX2_ways 76 = .ok (.aload_n 0, 1) := dk_42 (dk_at dksX2_ways_3 8 rfl rfl)
theorem dX2_ways_77 : decode cX2_ways 77 = .ok (.getfield 252, 3) := dk_180 0 252 (dk_at dksX2_ways_3 9 rfl rfl)
theorem dX2_ways_80 : decode cX2_ways 80 = .ok (.iload_n 1, 1) := dk_27 (dk_at dksX2_ways_3 12 rfl rfl)
theorem dX2_ways_81 : decode cX2_ways 81 = .ok (.iadd, 1) := dk_96 (dk_at dksX2_ways_3 13 rfl rfl)
theorem dX2_ways_82 : decode cX2_ways 82 = .ok (.if_icmp .ne 18, 3) := dk_160 0 18 (dk_at dksX2_ways_3 14 rfl rfl)
theorem dX2_ways_85 : decode cX2_ways 85 = .ok (.lload_n 2, 1) := dk_32 (dk_at dksX2_ways_3 17 rfl rfl)
theorem dX2_ways_86 : decode cX2_ways 86 = .ok (.aload_n 0, 1) := dk_42 (dk_at dksX2_ways_3 18 rfl rfl)
theorem dX2_ways_87 : decode cX2_ways 87 = .ok (.getfield 67, 3) := dk_180 0 67 (dk_at dksX2_ways_3 19 rfl rfl)
theorem dX2_ways_90 : decode cX2_ways 90 = .ok (.iload 4, 2) := dk_21 4 (dk_at dksX2_ways_3 22 rfl rfl)
theorem dX2_ways_92 : decode cX2_ways 92 = .ok (.iload 5, 2) := dk_21 5 (dk_at dksX2_ways_4 0 rfl rfl)
theorem dX2_ways_94 : decode cX2_ways 94 = .ok (.invokestatic 304, 3) := dk_184 1 48 (dk_at dksX2_ways_4 2 rfl rfl)
theorem dX2_ways_97 : decode cX2_ways 97 = .ok (.laload, 1) := dk_47 (dk_at dksX2_ways_4 5 rfl rfl)
theorem dX2_ways_98 : decode cX2_ways 98 = .ok (.ladd, 1) := dk_97 (dk_at dksX2_ways_4 6 rfl rfl)
theorem dX2_ways_99 : decode cX2_ways 99 = .ok (.lstore_n 2, 1) := dk_65 (dk_at dksX2_ways_4 7 rfl rfl)
theorem dX2_ways_100 : decode cX2_ways 100 = .ok (.iinc 5 1, 3) := dk_132 5 1 (dk_at dksX2_ways_4 8 rfl rfl)
theorem dX2_ways_103 : decode cX2_ways 103 = .ok (.goto (-51), 3) := dk_167 255 205 (dk_at dksX2_ways_4 11 rfl rfl)
theorem dX2_ways_106 : decode cX2_ways 106 = .ok (.iinc 4 1, 3) := dk_132 4 1 (dk_at dksX2_ways_4 14 rfl rfl)
theorem dX2_ways_109 : decode cX2_ways 109 = .ok (.goto (-69), 3) := dk_167 255 187 (dk_at dksX2_ways_4 17 rfl rfl)
theorem dX2_ways_112 : decode cX2_ways 112 = .ok (.lload_n 2, 1) := dk_32 (dk_at dksX2_ways_4 20 rfl rfl)
theorem dX2_ways_113 : decode cX2_ways 113 = .ok (.lreturn, 1) := dk_173 (dk_at dksX2_ways_4 21 rfl rfl)
abbrev cX2_between : ByteArray := prog_8_method_70_code
def yX2_between : MethodName := ⟨RX2, "between", "(II)I"⟩
def dkwX2_between_0 : List UInt8 := [42, 3, 181, 0, 110, 42, 27, 28, 4, 182, 1, 75, 172]
abbrev dktX2_between_0 : List UInt8 := dkwX2_between_0 ++ []
theorem dksX2_between_0 : cX2_between.data.toList.drop 0 = dktX2_between_0 := by decide +kernel
theorem dX2_between_0 : decode cX2_between 0 = .ok (.aload_n 0, 1) := dk_42 (dk_at dksX2_between_0 0 rfl rfl)
theorem dX2_between_1 : decode cX2_between 1 = .ok (.iconst 0, 1) := dk_3 (dk_at dksX2_between_0 1 rfl rfl)
theorem dX2_between_2 : decode cX2_between 2 = .ok (.putfield 110, 3) := dk_181 0 110 (dk_at dksX2_between_0 2 rfl rfl)
theorem dX2_between_5 : decode cX2_between 5 = .ok (.aload_n 0, 1) := dk_42 (dk_at dksX2_between_0 5 rfl rfl)
theorem dX2_between_6 : decode cX2_between 6 = .ok (.iload_n 1, 1) := dk_27 (dk_at dksX2_between_0 6 rfl rfl)
theorem dX2_between_7 : decode cX2_between 7 = .ok (.iload_n 2, 1) := dk_28 (dk_at dksX2_between_0 7 rfl rfl)
theorem dX2_between_8 : decode cX2_between 8 = .ok (.iconst 1, 1) := dk_4 (dk_at dksX2_between_0 8 rfl rfl)
theorem dX2_between_9 : decode cX2_between 9 = .ok (.invokevirtual 331, 3) := dk_182 1 75 (dk_at dksX2_between_0 9 rfl rfl)
theorem dX2_between_12 : decode cX2_between 12 = .ok (.ireturn, 1) := dk_172 (dk_at dksX2_between_0 12 rfl rfl)
abbrev cX2_betweenBy : ByteArray := prog_8_method_69_code
def yX2_betweenBy : MethodName := ⟨RX2, "betweenBy", "(IIZ)I"⟩
def dkwX2_betweenBy_6 : List UInt8 := [172]
abbrev dktX2_betweenBy_6 : List UInt8 := dkwX2_betweenBy_6 ++ []
def dkwX2_betweenBy_5 : List UInt8 := [167, 255, 193, 42, 27, 21, 5, 182, 1, 72, 153, 0, 6, 21, 5, 172, 132, 4, 1, 167, 255, 138, 16, 254]
abbrev dktX2_betweenBy_5 : List UInt8 := dkwX2_betweenBy_5 ++ dktX2_betweenBy_6
def dkwX2_betweenBy_4 : List UInt8 := [160, 0, 9, 21, 5, 4, 160, 0, 15, 42, 180, 0, 61, 21, 6, 28, 184, 1, 48, 4, 84, 132, 6, 1]
abbrev dktX2_betweenBy_4 : List UInt8 := dkwX2_betweenBy_4 ++ dktX2_betweenBy_5
def dkwX2_betweenBy_3 : List UInt8 := [153, 0, 45, 21, 6, 27, 184, 0, 239, 153, 0, 36, 21, 6, 184, 0, 196, 21, 5, 160, 0, 26, 27, 28]
abbrev dktX2_betweenBy_3 : List UInt8 := dkwX2_betweenBy_3 ++ dktX2_betweenBy_4
def dkwX2_betweenBy_2 : List UInt8 := [54, 5, 42, 182, 1, 58, 3, 54, 6, 21, 6, 42, 182, 1, 42, 163, 0, 60, 21, 6, 28, 184, 0, 239]
abbrev dktX2_betweenBy_2 : List UInt8 := dkwX2_betweenBy_2 ++ dktX2_betweenBy_3
def dkwX2_betweenBy_1 : List UInt8 := [180, 0, 116, 162, 0, 115, 29, 153, 0, 13, 42, 180, 0, 116, 21, 4, 100, 167, 0, 7, 21, 4, 4, 96]
abbrev dktX2_betweenBy_1 : List UInt8 := dkwX2_betweenBy_1 ++ dktX2_betweenBy_2
def dkwX2_betweenBy_0 : List UInt8 := [42, 27, 182, 0, 216, 153, 0, 11, 42, 28, 182, 0, 216, 154, 0, 5, 2, 172, 3, 54, 4, 21, 4, 42]
abbrev dktX2_betweenBy_0 : List UInt8 := dkwX2_betweenBy_0 ++ dktX2_betweenBy_1
theorem dksX2_betweenBy_0 : cX2_betweenBy.data.toList.drop 0 = dktX2_betweenBy_0 := by decide +kernel
theorem dksX2_betweenBy_1 : cX2_betweenBy.data.toList.drop 24 = dktX2_betweenBy_1 := dk_seg dksX2_betweenBy_0 24 rfl rfl
theorem dksX2_betweenBy_2 : cX2_betweenBy.data.toList.drop 48 = dktX2_betweenBy_2 := dk_seg dksX2_betweenBy_1 24 rfl rfl
theorem dksX2_betweenBy_3 : cX2_betweenBy.data.toList.drop 72 = dktX2_betweenBy_3 := dk_seg dksX2_betweenBy_2 24 rfl rfl
theorem dksX2_betweenBy_4 : cX2_betweenBy.data.toList.drop 96 = dktX2_betweenBy_4 := dk_seg dksX2_betweenBy_3 24 rfl rfl
theorem dksX2_betweenBy_5 : cX2_betweenBy.data.toList.drop 120 = dktX2_betweenBy_5 := dk_seg dksX2_betweenBy_4 24 rfl rfl
theorem dksX2_betweenBy_6 : cX2_betweenBy.data.toList.drop 144 = dktX2_betweenBy_6 := dk_seg dksX2_betweenBy_5 24 rfl rfl
theorem dX2_betweenBy_0 : decode cX2_betweenBy 0 = .ok (.aload_n 0, 1) := dk_42 (dk_at dksX2_betweenBy_0 0 rfl rfl)
theorem dX2_betweenBy_1 : decode cX2_betweenBy 1 = .ok (.iload_n 1, 1) := dk_27 (dk_at dksX2_betweenBy_0 1 rfl rfl)
theorem dX2_betweenBy_2 : decode cX2_betweenBy 2 = .ok (.invokevirtual 216, 3) := dk_182 0 216 (dk_at dksX2_betweenBy_0 2 rfl rfl)
theorem dX2_betweenBy_5 : decode cX2_betweenBy 5 = .ok (.ifCond .eq 11, 3) := dk_153 0 11 (dk_at dksX2_betweenBy_0 5 rfl rfl)
theorem dX2_betweenBy_8 : decode cX2_betweenBy 8 = .ok (.aload_n 0, 1) := dk_42 (dk_at dksX2_betweenBy_0 8 rfl rfl)
theorem dX2_betweenBy_9 : decode cX2_betweenBy 9 = .ok (.iload_n 2, 1) := dk_28 (dk_at dksX2_betweenBy_0 9 rfl rfl)
theorem dX2_betweenBy_10 : decode cX2_betweenBy 10 = .ok (.invokevirtual 216, 3) := dk_182 0 216 (dk_at dksX2_betweenBy_0 10 rfl rfl)
theorem dX2_betweenBy_13 : decode cX2_betweenBy 13 = .ok (.ifCond .ne 5, 3) := dk_154 0 5 (dk_at dksX2_betweenBy_0 13 rfl rfl)
theorem dX2_betweenBy_16 : decode cX2_betweenBy 16 = .ok (.iconst (-1), 1) := dk_2 (dk_at dksX2_betweenBy_0 16 rfl rfl)
theorem dX2_betweenBy_17 : decode cX2_betweenBy 17 = .ok (.ireturn, 1) := dk_172 (dk_at dksX2_betweenBy_0 17 rfl rfl)
theorem dX2_betweenBy_18 : decode cX2_betweenBy 18 = .ok (.iconst 0, 1) := dk_3 (dk_at dksX2_betweenBy_0 18 rfl rfl)
theorem dX2_betweenBy_19 : decode cX2_betweenBy 19 = .ok (.istore 4, 2) := dk_54 4 (dk_at dksX2_betweenBy_0 19 rfl rfl)
theorem dX2_betweenBy_21 : decode cX2_betweenBy 21 = .ok (.iload 4, 2) := dk_21 4 (dk_at dksX2_betweenBy_0 21 rfl rfl)
theorem dX2_betweenBy_23 : decode cX2_betweenBy 23 = .ok (.aload_n 0, 1) := dk_42 (dk_at dksX2_betweenBy_0 23 rfl rfl)
theorem dX2_betweenBy_24 : decode cX2_betweenBy 24 = .ok (.getfield 116, 3) := dk_180 0 116 (dk_at dksX2_betweenBy_1 0 rfl rfl)
theorem dX2_betweenBy_27 : decode cX2_betweenBy 27 = .ok (.if_icmp .ge 115, 3) := dk_162 0 115 (dk_at dksX2_betweenBy_1 3 rfl rfl)
theorem dX2_betweenBy_30 : decode cX2_betweenBy 30 = .ok (.iload_n 3, 1) := dk_29 (dk_at dksX2_betweenBy_1 6 rfl rfl)
theorem dX2_betweenBy_31 : decode cX2_betweenBy 31 = .ok (.ifCond .eq 13, 3) := dk_153 0 13 (dk_at dksX2_betweenBy_1 7 rfl rfl)
theorem dX2_betweenBy_34 : decode cX2_betweenBy 34 = .ok (.aload_n 0, 1) := dk_42 (dk_at dksX2_betweenBy_1 10 rfl rfl)
theorem dX2_betweenBy_35 : decode cX2_betweenBy 35 = .ok (.getfield 116, 3) := dk_180 0 116 (dk_at dksX2_betweenBy_1 11 rfl rfl)
theorem dX2_betweenBy_38 : decode cX2_betweenBy 38 = .ok (.iload 4, 2) := dk_21 4 (dk_at dksX2_betweenBy_1 14 rfl rfl)
theorem dX2_betweenBy_40 : decode cX2_betweenBy 40 = .ok (.isub, 1) := dk_100 (dk_at dksX2_betweenBy_1 16 rfl rfl)
theorem dX2_betweenBy_41 : decode cX2_betweenBy 41 = .ok (.goto 7, 3) := dk_167 0 7 (dk_at dksX2_betweenBy_1 17 rfl rfl)
theorem dX2_betweenBy_44 : decode cX2_betweenBy 44 = .ok (.iload 4, 2) := dk_21 4 (dk_at dksX2_betweenBy_1 20 rfl rfl)
theorem dX2_betweenBy_46 : decode cX2_betweenBy 46 = .ok (.iconst 1, 1) := dk_4 (dk_at dksX2_betweenBy_1 22 rfl rfl)
theorem dX2_betweenBy_47 : decode cX2_betweenBy 47 = .ok (.iadd, 1) := dk_96 (dk_at dksX2_betweenBy_1 23 rfl rfl)
theorem dX2_betweenBy_48 : decode cX2_betweenBy 48 = .ok (.istore 5, 2) := dk_54 5 (dk_at dksX2_betweenBy_2 0 rfl rfl)
theorem dX2_betweenBy_50 : decode cX2_betweenBy 50 = .ok (.aload_n 0, 1) := dk_42 (dk_at dksX2_betweenBy_2 2 rfl rfl)
theorem dX2_betweenBy_51 : decode cX2_betweenBy 51 = .ok (.invokevirtual 314, 3) := dk_182 1 58 (dk_at dksX2_betweenBy_2 3 rfl rfl)
theorem dX2_betweenBy_54 : decode cX2_betweenBy 54 = .ok (.iconst 0, 1) := dk_3 (dk_at dksX2_betweenBy_2 6 rfl rfl)
theorem dX2_betweenBy_55 : decode cX2_betweenBy 55 = .ok (.istore 6, 2) := dk_54 6 (dk_at dksX2_betweenBy_2 7 rfl rfl)
theorem dX2_betweenBy_57 : decode cX2_betweenBy 57 = .ok (.iload 6, 2) := dk_21 6 (dk_at dksX2_betweenBy_2 9 rfl rfl)
theorem dX2_betweenBy_59 : decode cX2_betweenBy 59 = .ok (.aload_n 0, 1) := dk_42 (dk_at dksX2_betweenBy_2 11 rfl rfl)
theorem dX2_betweenBy_60 : decode cX2_betweenBy 60 = .ok (.invokevirtual 298, 3) := dk_182 1 42 (dk_at dksX2_betweenBy_2 12 rfl rfl)
theorem dX2_betweenBy_63 : decode cX2_betweenBy 63 = .ok (.if_icmp .gt 60, 3) := dk_163 0 60 (dk_at dksX2_betweenBy_2 15 rfl rfl)
theorem dX2_betweenBy_66 : decode cX2_betweenBy 66 = .ok (.iload 6, 2) := dk_21 6 (dk_at dksX2_betweenBy_2 18 rfl rfl)
theorem dX2_betweenBy_68 : decode cX2_betweenBy 68 = .ok (.iload_n 2, 1) := dk_28 (dk_at dksX2_betweenBy_2 20 rfl rfl)
theorem dX2_betweenBy_69 : decode cX2_betweenBy 69 = .ok (.invokestatic 239, 3) := dk_184 0 239 (dk_at dksX2_betweenBy_2 21 rfl rfl)
theorem dX2_betweenBy_72 : decode cX2_betweenBy 72 = .ok (.ifCond .eq 45, 3) := dk_153 0 45 (dk_at dksX2_betweenBy_3 0 rfl rfl)
theorem dX2_betweenBy_75 : decode cX2_betweenBy 75 = .ok (.iload 6, 2) := dk_21 6 (dk_at dksX2_betweenBy_3 3 rfl rfl)
theorem dX2_betweenBy_77 : decode cX2_betweenBy 77 = .ok (.iload_n 1, 1) := dk_27 (dk_at dksX2_betweenBy_3 5 rfl rfl)
theorem dX2_betweenBy_78 : decode cX2_betweenBy 78 = .ok (.invokestatic 239, 3) := dk_184 0 239 (dk_at dksX2_betweenBy_3 6 rfl rfl)
theorem dX2_betweenBy_81 : decode cX2_betweenBy 81 = .ok (.ifCond .eq 36, 3) := dk_153 0 36 (dk_at dksX2_betweenBy_3 9 rfl rfl)
theorem dX2_betweenBy_84 : decode cX2_betweenBy 84 = .ok (.iload 6, 2) := dk_21 6 (dk_at dksX2_betweenBy_3 12 rfl rfl)
theorem dX2_betweenBy_86 : decode cX2_betweenBy 86 = .ok (.invokestatic 196, 3) := dk_184 0 196 (dk_at dksX2_betweenBy_3 14 rfl rfl)
theorem dX2_betweenBy_89 : decode cX2_betweenBy 89 = .ok (.iload 5, 2) := dk_21 5 (dk_at dksX2_betweenBy_3 17 rfl rfl)
theorem dX2_betweenBy_91 : decode cX2_betweenBy 91 = .ok (.if_icmp .ne 26, 3) := dk_160 0 26 (dk_at dksX2_betweenBy_3 19 rfl rfl)
theorem dX2_betweenBy_94 : decode cX2_betweenBy 94 = .ok (.iload_n 1, 1) := dk_27 (dk_at dksX2_betweenBy_3 22 rfl rfl)
theorem dX2_betweenBy_95 : decode cX2_betweenBy 95 = .ok (.iload_n 2, 1) := dk_28 (dk_at dksX2_betweenBy_3 23 rfl rfl)
theorem dX2_betweenBy_96 : decode cX2_betweenBy 96 = .ok (.if_icmp .ne 9, 3) := dk_160 0 9 (dk_at dksX2_betweenBy_4 0 rfl rfl)
theorem dX2_betweenBy_99 : decode cX2_betweenBy 99 = .ok (.iload 5, 2) := dk_21 5 (dk_at dksX2_betweenBy_4 3 rfl rfl)
theorem dX2_betweenBy_101 : decode cX2_betweenBy 101 = .ok (.iconst 1, 1) := dk_4 (dk_at dksX2_betweenBy_4 5 rfl rfl)
theorem dX2_betweenBy_102 : decode cX2_betweenBy 102 = .ok (.if_icmp .ne 15, 3) := dk_160 0 15 (dk_at dksX2_betweenBy_4 6 rfl rfl)
theorem dX2_betweenBy_105 : decode cX2_betweenBy 105 = .ok (.aload_n 0, 1) := dk_42 (dk_at dksX2_betweenBy_4 9 rfl rfl)
theorem dX2_betweenBy_106 : decode cX2_betweenBy 106 = .ok (.getfield 61, 3) := dk_180 0 61 (dk_at dksX2_betweenBy_4 10 rfl rfl)
theorem dX2_betweenBy_109 : decode cX2_betweenBy 109 = .ok (.iload 6, 2) := dk_21 6 (dk_at dksX2_betweenBy_4 13 rfl rfl)
theorem dX2_betweenBy_111 : decode cX2_betweenBy 111 = .ok (.iload_n 2, 1) := dk_28 (dk_at dksX2_betweenBy_4 15 rfl rfl)
theorem dX2_betweenBy_112 : decode cX2_betweenBy 112 = .ok (.invokestatic 304, 3) := dk_184 1 48 (dk_at dksX2_betweenBy_4 16 rfl rfl)
theorem dX2_betweenBy_115 : decode cX2_betweenBy 115 = .ok (.iconst 1, 1) := dk_4 (dk_at dksX2_betweenBy_4 19 rfl rfl)
theorem dX2_betweenBy_116 : decode cX2_betweenBy 116 = .ok (.bastore, 1) := dk_84 (dk_at dksX2_betweenBy_4 20 rfl rfl)
theorem dX2_betweenBy_117 : decode cX2_betweenBy 117 = .ok (.iinc 6 1, 3) := dk_132 6 1 (dk_at dksX2_betweenBy_4 21 rfl rfl)
theorem dX2_betweenBy_120 : decode cX2_betweenBy 120 = .ok (.goto (-63), 3) := dk_167 255 193 (dk_at dksX2_betweenBy_5 0 rfl rfl)
theorem dX2_betweenBy_123 : decode cX2_betweenBy 123 = .ok (.aload_n 0, 1) := dk_42 (dk_at dksX2_betweenBy_5 3 rfl rfl)
theorem dX2_betweenBy_124 : decode cX2_betweenBy 124 = .ok (.iload_n 1, 1) := dk_27 (dk_at dksX2_betweenBy_5 4 rfl rfl)
theorem dX2_betweenBy_125 : decode cX2_betweenBy 125 = .ok (.iload 5, 2) := dk_21 5 (dk_at dksX2_betweenBy_5 5 rfl rfl)
theorem dX2_betweenBy_127 : decode cX2_betweenBy 127 = .ok (.invokevirtual 328, 3) := dk_182 1 72 (dk_at dksX2_betweenBy_5 7 rfl rfl)
theorem dX2_betweenBy_130 : decode cX2_betweenBy 130 = .ok (.ifCond .eq 6, 3) := dk_153 0 6 (dk_at dksX2_betweenBy_5 10 rfl rfl)
theorem dX2_betweenBy_133 : decode cX2_betweenBy 133 = .ok (.iload 5, 2) := dk_21 5 (dk_at dksX2_betweenBy_5 13 rfl rfl)
theorem dX2_betweenBy_135 : decode cX2_betweenBy 135 = .ok (.ireturn, 1) := dk_172 (dk_at dksX2_betweenBy_5 15 rfl rfl)
theorem dX2_betweenBy_136 : decode cX2_betweenBy 136 = .ok (.iinc 4 1, 3) := dk_132 4 1 (dk_at dksX2_betweenBy_5 16 rfl rfl)
theorem dX2_betweenBy_139 : decode cX2_betweenBy 139 = .ok (.goto (-118), 3) := dk_167 255 138 (dk_at dksX2_betweenBy_5 19 rfl rfl)
theorem dX2_betweenBy_142 : decode cX2_betweenBy 142 = .ok (.bipush (-2), 2) := dk_16 254 (dk_at dksX2_betweenBy_5 22 rfl rfl)
theorem dX2_betweenBy_144 : decode cX2_betweenBy 144 = .ok (.ireturn, 1) := dk_172 (dk_at dksX2_betweenBy_6 0 rfl rfl)
abbrev cX2_tellFrom : ByteArray := prog_8_method_68_code
def yX2_tellFrom : MethodName := ⟨RX2, "tellFrom", "(II)Z"⟩
def dkwX2_tellFrom_2 : List UInt8 := [120, 27, 42, 182, 1, 42, 182, 1, 64, 4, 172]
abbrev dktX2_tellFrom_2 : List UInt8 := dkwX2_tellFrom_2 ++ []
def dkwX2_tellFrom_1 : List UInt8 := [120, 27, 184, 1, 48, 51, 154, 0, 5, 3, 172, 42, 3, 181, 0, 113, 42, 27, 182, 1, 33, 42, 4, 27]
abbrev dktX2_tellFrom_1 : List UInt8 := dkwX2_tellFrom_1 ++ dktX2_tellFrom_2
def dkwX2_tellFrom_0 : List UInt8 := [42, 42, 182, 1, 42, 182, 1, 61, 42, 3, 2, 27, 182, 1, 51, 153, 0, 18, 42, 180, 0, 64, 4, 27]
abbrev dktX2_tellFrom_0 : List UInt8 := dkwX2_tellFrom_0 ++ dktX2_tellFrom_1
theorem dksX2_tellFrom_0 : cX2_tellFrom.data.toList.drop 0 = dktX2_tellFrom_0 := by decide +kernel
theorem dksX2_tellFrom_1 : cX2_tellFrom.data.toList.drop 24 = dktX2_tellFrom_1 := dk_seg dksX2_tellFrom_0 24 rfl rfl
theorem dksX2_tellFrom_2 : cX2_tellFrom.data.toList.drop 48 = dktX2_tellFrom_2 := dk_seg dksX2_tellFrom_1 24 rfl rfl
theorem dX2_tellFrom_0 : decode cX2_tellFrom 0 = .ok (.aload_n 0, 1) := dk_42 (dk_at dksX2_tellFrom_0 0 rfl rfl)
theorem dX2_tellFrom_1 : decode cX2_tellFrom 1 = .ok (.aload_n 0, 1) := dk_42 (dk_at dksX2_tellFrom_0 1 rfl rfl)
theorem dX2_tellFrom_2 : decode cX2_tellFrom 2 = .ok (.invokevirtual 298, 3) := dk_182 1 42 (dk_at dksX2_tellFrom_0 2 rfl rfl)
theorem dX2_tellFrom_5 : decode cX2_tellFrom 5 = .ok (.invokevirtual 317, 3) := dk_182 1 61 (dk_at dksX2_tellFrom_0 5 rfl rfl)
theorem dX2_tellFrom_8 : decode cX2_tellFrom 8 = .ok (.aload_n 0, 1) := dk_42 (dk_at dksX2_tellFrom_0 8 rfl rfl)
theorem dX2_tellFrom_9 : decode cX2_tellFrom 9 = .ok (.iconst 0, 1) := dk_3 (dk_at dksX2_tellFrom_0 9 rfl rfl)
theorem dX2_tellFrom_10 : decode cX2_tellFrom 10 = .ok (.iconst (-1), 1) := dk_2 (dk_at dksX2_tellFrom_0 10 rfl rfl)
theorem dX2_tellFrom_11 : decode cX2_tellFrom 11 = .ok (.iload_n 1, 1) := dk_27 (dk_at dksX2_tellFrom_0 11 rfl rfl)
theorem dX2_tellFrom_12 : decode cX2_tellFrom 12 = .ok (.invokevirtual 307, 3) := dk_182 1 51 (dk_at dksX2_tellFrom_0 12 rfl rfl)
theorem dX2_tellFrom_15 : decode cX2_tellFrom 15 = .ok (.ifCond .eq 18, 3) := dk_153 0 18 (dk_at dksX2_tellFrom_0 15 rfl rfl)
theorem dX2_tellFrom_18 : decode cX2_tellFrom 18 = .ok (.aload_n 0, 1) := dk_42 (dk_at dksX2_tellFrom_0 18 rfl rfl)
theorem dX2_tellFrom_19 : decode cX2_tellFrom 19 = .ok (.getfield 64, 3) := dk_180 0 64 (dk_at dksX2_tellFrom_0 19 rfl rfl)
theorem dX2_tellFrom_22 : decode cX2_tellFrom 22 = .ok (.iconst 1, 1) := dk_4 (dk_at dksX2_tellFrom_0 22 rfl rfl)
theorem dX2_tellFrom_23 : decode cX2_tellFrom 23 = .ok (.iload_n 1, 1) := dk_27 (dk_at dksX2_tellFrom_0 23 rfl rfl)
theorem dX2_tellFrom_24 : decode cX2_tellFrom 24 = .ok (.ishl, 1) := dk_120 (dk_at dksX2_tellFrom_1 0 rfl rfl)
theorem dX2_tellFrom_25 : decode cX2_tellFrom 25 = .ok (.iload_n 1, 1) := dk_27 (dk_at dksX2_tellFrom_1 1 rfl rfl)
theorem dX2_tellFrom_26 : decode cX2_tellFrom 26 = .ok (.invokestatic 304, 3) := dk_184 1 48 (dk_at dksX2_tellFrom_1 2 rfl rfl)
theorem dX2_tellFrom_29 : decode cX2_tellFrom 29 = .ok (.baload, 1) := dk_51 (dk_at dksX2_tellFrom_1 5 rfl rfl)
theorem dX2_tellFrom_30 : decode cX2_tellFrom 30 = .ok (.ifCond .ne 5, 3) := dk_154 0 5 (dk_at dksX2_tellFrom_1 6 rfl rfl)
theorem dX2_tellFrom_33 : decode cX2_tellFrom 33 = .ok (.iconst 0, 1) := dk_3 (dk_at dksX2_tellFrom_1 9 rfl rfl)
theorem dX2_tellFrom_34 : decode cX2_tellFrom 34 = .ok (.ireturn, 1) := dk_172 (dk_at dksX2_tellFrom_1 10 rfl rfl)
theorem dX2_tellFrom_35 : decode cX2_tellFrom 35 = .ok (.aload_n 0, 1) := dk_42 (dk_at dksX2_tellFrom_1 11 rfl rfl)
theorem dX2_tellFrom_36 : decode cX2_tellFrom 36 = .ok (.iconst 0, 1) := dk_3 (dk_at dksX2_tellFrom_1 12 rfl rfl)
theorem dX2_tellFrom_37 : decode cX2_tellFrom 37 = .ok (.putfield 113, 3) := dk_181 0 113 (dk_at dksX2_tellFrom_1 13 rfl rfl)
theorem dX2_tellFrom_40 : decode cX2_tellFrom 40 = .ok (.aload_n 0, 1) := dk_42 (dk_at dksX2_tellFrom_1 16 rfl rfl)
theorem dX2_tellFrom_41 : decode cX2_tellFrom 41 = .ok (.iload_n 1, 1) := dk_27 (dk_at dksX2_tellFrom_1 17 rfl rfl)
theorem dX2_tellFrom_42 : decode cX2_tellFrom 42 = .ok (.invokevirtual 289, 3) := dk_182 1 33 (dk_at dksX2_tellFrom_1 18 rfl rfl)
theorem dX2_tellFrom_45 : decode cX2_tellFrom 45 = .ok (.aload_n 0, 1) := dk_42 (dk_at dksX2_tellFrom_1 21 rfl rfl)
theorem dX2_tellFrom_46 : decode cX2_tellFrom 46 = .ok (.iconst 1, 1) := dk_4 (dk_at dksX2_tellFrom_1 22 rfl rfl)
theorem dX2_tellFrom_47 : decode cX2_tellFrom 47 = .ok (.iload_n 1, 1) := dk_27 (dk_at dksX2_tellFrom_1 23 rfl rfl)
theorem dX2_tellFrom_48 : decode cX2_tellFrom 48 = .ok (.ishl, 1) := dk_120 (dk_at dksX2_tellFrom_2 0 rfl rfl)
theorem dX2_tellFrom_49 : decode cX2_tellFrom 49 = .ok (.iload_n 1, 1) := dk_27 (dk_at dksX2_tellFrom_2 1 rfl rfl)
theorem dX2_tellFrom_50 : decode cX2_tellFrom 50 = .ok (.aload_n 0, 1) := dk_42 (dk_at dksX2_tellFrom_2 2 rfl rfl)
theorem dX2_tellFrom_51 : decode cX2_tellFrom 51 = .ok (.invokevirtual 298, 3) := dk_182 1 42 (dk_at dksX2_tellFrom_2 3 rfl rfl)
theorem dX2_tellFrom_54 : decode cX2_tellFrom 54 = .ok (.invokevirtual 320, 3) := dk_182 1 64 (dk_at dksX2_tellFrom_2 6 rfl rfl)
theorem dX2_tellFrom_57 : decode cX2_tellFrom 57 = .ok (.iconst 1, 1) := dk_4 (dk_at dksX2_tellFrom_2 9 rfl rfl)
theorem dX2_tellFrom_58 : decode cX2_tellFrom 58 = .ok (.ireturn, 1) := dk_172 (dk_at dksX2_tellFrom_2 10 rfl rfl)
abbrev cX2_shortest : ByteArray := prog_8_method_71_code
def yX2_shortest : MethodName := ⟨RX2, "shortest", "(II)I"⟩
def dkwX2_shortest_0 : List UInt8 := [42, 3, 181, 0, 110, 42, 27, 28, 3, 182, 1, 75, 172]
abbrev dktX2_shortest_0 : List UInt8 := dkwX2_shortest_0 ++ []
theorem dksX2_shortest_0 : cX2_shortest.data.toList.drop 0 = dktX2_shortest_0 := by decide +kernel
theorem dX2_shortest_0 : decode cX2_shortest 0 = .ok (.aload_n 0, 1) := dk_42 (dk_at dksX2_shortest_0 0 rfl rfl)
theorem dX2_shortest_1 : decode cX2_shortest 1 = .ok (.iconst 0, 1) := dk_3 (dk_at dksX2_shortest_0 1 rfl rfl)
theorem dX2_shortest_2 : decode cX2_shortest 2 = .ok (.putfield 110, 3) := dk_181 0 110 (dk_at dksX2_shortest_0 2 rfl rfl)
theorem dX2_shortest_5 : decode cX2_shortest 5 = .ok (.aload_n 0, 1) := dk_42 (dk_at dksX2_shortest_0 5 rfl rfl)
theorem dX2_shortest_6 : decode cX2_shortest 6 = .ok (.iload_n 1, 1) := dk_27 (dk_at dksX2_shortest_0 6 rfl rfl)
theorem dX2_shortest_7 : decode cX2_shortest 7 = .ok (.iload_n 2, 1) := dk_28 (dk_at dksX2_shortest_0 7 rfl rfl)
theorem dX2_shortest_8 : decode cX2_shortest 8 = .ok (.iconst 0, 1) := dk_3 (dk_at dksX2_shortest_0 8 rfl rfl)
theorem dX2_shortest_9 : decode cX2_shortest 9 = .ok (.invokevirtual 331, 3) := dk_182 1 75 (dk_at dksX2_shortest_0 9 rfl rfl)
theorem dX2_shortest_12 : decode cX2_shortest 12 = .ok (.ireturn, 1) := dk_172 (dk_at dksX2_shortest_0 12 rfl rfl)
abbrev cX2_bears : ByteArray := prog_8_method_72_code
def yX2_bears : MethodName := ⟨RX2, "bears", "(I)I"⟩
def dkwX2_bears_2 : List UInt8 := [132, 3, 1, 167, 255, 226, 42, 28, 182, 1, 67, 172]
abbrev dktX2_bears_2 : List UInt8 := dkwX2_bears_2 ++ []
def dkwX2_bears_1 : List UInt8 := [162, 0, 28, 28, 42, 27, 29, 182, 0, 223, 153, 0, 7, 3, 167, 0, 6, 4, 29, 120, 128, 61]
abbrev dktX2_bears_1 : List UInt8 := dkwX2_bears_1 ++ dktX2_bears_2
def dkwX2_bears_0 : List UInt8 := [42, 3, 181, 0, 110, 42, 27, 182, 0, 230, 154, 0, 5, 2, 172, 3, 61, 3, 62, 29, 42, 180, 0, 116]
abbrev dktX2_bears_0 : List UInt8 := dkwX2_bears_0 ++ dktX2_bears_1
theorem dksX2_bears_0 : cX2_bears.data.toList.drop 0 = dktX2_bears_0 := by decide +kernel
theorem dksX2_bears_1 : cX2_bears.data.toList.drop 24 = dktX2_bears_1 := dk_seg dksX2_bears_0 24 rfl rfl
theorem dksX2_bears_2 : cX2_bears.data.toList.drop 46 = dktX2_bears_2 := dk_seg dksX2_bears_1 22 rfl rfl
theorem dX2_bears_0 : decode cX2_bears 0 = .ok (.aload_n 0, 1) := dk_42 (dk_at dksX2_bears_0 0 rfl rfl)
theorem dX2_bears_1 : decode cX2_bears 1 = .ok (.iconst 0, 1) := dk_3 (dk_at dksX2_bears_0 1 rfl rfl)
theorem dX2_bears_2 : decode cX2_bears 2 = .ok (.putfield 110, 3) := dk_181 0 110 (dk_at dksX2_bears_0 2 rfl rfl)
theorem dX2_bears_5 : decode cX2_bears 5 = .ok (.aload_n 0, 1) := dk_42 (dk_at dksX2_bears_0 5 rfl rfl)
theorem dX2_bears_6 : decode cX2_bears 6 = .ok (.iload_n 1, 1) := dk_27 (dk_at dksX2_bears_0 6 rfl rfl)
theorem dX2_bears_7 : decode cX2_bears 7 = .ok (.invokevirtual 230, 3) := dk_182 0 230 (dk_at dksX2_bears_0 7 rfl rfl)
theorem dX2_bears_10 : decode cX2_bears 10 = .ok (.ifCond .ne 5, 3) := dk_154 0 5 (dk_at dksX2_bears_0 10 rfl rfl)
theorem dX2_bears_13 : decode cX2_bears 13 = .ok (.iconst (-1), 1) := dk_2 (dk_at dksX2_bears_0 13 rfl rfl)
theorem dX2_bears_14 : decode cX2_bears 14 = .ok (.ireturn, 1) := dk_172 (dk_at dksX2_bears_0 14 rfl rfl)
theorem dX2_bears_15 : decode cX2_bears 15 = .ok (.iconst 0, 1) := dk_3 (dk_at dksX2_bears_0 15 rfl rfl)
theorem dX2_bears_16 : decode cX2_bears 16 = .ok (.istore_n 2, 1) := dk_61 (dk_at dksX2_bears_0 16 rfl rfl)
theorem dX2_bears_17 : decode cX2_bears 17 = .ok (.iconst 0, 1) := dk_3 (dk_at dksX2_bears_0 17 rfl rfl)
theorem dX2_bears_18 : decode cX2_bears 18 = .ok (.istore_n 3, 1) := dk_62 (dk_at dksX2_bears_0 18 rfl rfl)
theorem dX2_bears_19 : decode cX2_bears 19 = .ok (.iload_n 3, 1) := dk_29 (dk_at dksX2_bears_0 19 rfl rfl)
theorem dX2_bears_20 : decode cX2_bears 20 = .ok (.aload_n 0, 1) := dk_42 (dk_at dksX2_bears_0 20 rfl rfl)
theorem dX2_bears_21 : decode cX2_bears 21 = .ok (.getfield 116, 3) := dk_180 0 116 (dk_at dksX2_bears_0 21 rfl rfl)
theorem dX2_bears_24 : decode cX2_bears 24 = .ok (.if_icmp .ge 28, 3) := dk_162 0 28 (dk_at dksX2_bears_1 0 rfl rfl)
theorem dX2_bears_27 : decode cX2_bears 27 = .ok (.iload_n 2, 1) := dk_28 (dk_at dksX2_bears_1 3 rfl rfl)
theorem dX2_bears_28 : decode cX2_bears 28 = .ok (.aload_n 0, 1) := dk_42 (dk_at dksX2_bears_1 4 rfl rfl)
theorem dX2_bears_29 : decode cX2_bears 29 = .ok (.iload_n 1, 1) := dk_27 (dk_at dksX2_bears_1 5 rfl rfl)
theorem dX2_bears_30 : decode cX2_bears 30 = .ok (.iload_n 3, 1) := dk_29 (dk_at dksX2_bears_1 6 rfl rfl)
theorem dX2_bears_31 : decode cX2_bears 31 = .ok (.invokevirtual 223, 3) := dk_182 0 223 (dk_at dksX2_bears_1 7 rfl rfl)
theorem dX2_bears_34 : decode cX2_bears 34 = .ok (.ifCond .eq 7, 3) := dk_153 0 7 (dk_at dksX2_bears_1 10 rfl rfl)
theorem dX2_bears_37 : decode cX2_bears 37 = .ok (.iconst 0, 1) := dk_3 (dk_at dksX2_bears_1 13 rfl rfl)
theorem dX2_bears_38 : decode cX2_bears 38 = .ok (.goto 6, 3) := dk_167 0 6 (dk_at dksX2_bears_1 14 rfl rfl)
theorem dX2_bears_41 : decode cX2_bears 41 = .ok (.iconst 1, 1) := dk_4 (dk_at dksX2_bears_1 17 rfl rfl)
theorem dX2_bears_42 : decode cX2_bears 42 = .ok (.iload_n 3, 1) := dk_29 (dk_at dksX2_bears_1 18 rfl rfl)
theorem dX2_bears_43 : decode cX2_bears 43 = .ok (.ishl, 1) := dk_120 (dk_at dksX2_bears_1 19 rfl rfl)
theorem dX2_bears_44 : decode cX2_bears 44 = .ok (.ior, 1) := dk_128 (dk_at dksX2_bears_1 20 rfl rfl)
theorem dX2_bears_45 : decode cX2_bears 45 = .ok (.istore_n 2, 1) := dk_61 (dk_at dksX2_bears_1 21 rfl rfl)
theorem dX2_bears_46 : decode cX2_bears 46 = .ok (.iinc 3 1, 3) := dk_132 3 1 (dk_at dksX2_bears_2 0 rfl rfl)
theorem dX2_bears_49 : decode cX2_bears 49 = .ok (.goto (-30), 3) := dk_167 255 226 (dk_at dksX2_bears_2 3 rfl rfl)
theorem dX2_bears_52 : decode cX2_bears 52 = .ok (.aload_n 0, 1) := dk_42 (dk_at dksX2_bears_2 6 rfl rfl)
theorem dX2_bears_53 : decode cX2_bears 53 = .ok (.iload_n 2, 1) := dk_28 (dk_at dksX2_bears_2 7 rfl rfl)
theorem dX2_bears_54 : decode cX2_bears 54 = .ok (.invokevirtual 323, 3) := dk_182 1 67 (dk_at dksX2_bears_2 8 rfl rfl)
theorem dX2_bears_57 : decode cX2_bears 57 = .ok (.ireturn, 1) := dk_172 (dk_at dksX2_bears_2 11 rfl rfl)
abbrev cX2_beside : ByteArray := prog_8_method_74_code
def yX2_beside : MethodName := ⟨RX2, "beside", "(I)I"⟩
def dkwX2_beside_0 : List UInt8 := [42, 3, 181, 0, 110, 42, 27, 182, 0, 216, 153, 0, 11, 42, 27, 182, 1, 79, 167, 0, 4, 2, 172]
abbrev dktX2_beside_0 : List UInt8 := dkwX2_beside_0 ++ []
theorem dksX2_beside_0 : cX2_beside.data.toList.drop 0 = dktX2_beside_0 := by decide +kernel
theorem dX2_beside_0 : decode cX2_beside 0 = .ok (.aload_n 0, 1) := dk_42 (dk_at dksX2_beside_0 0 rfl rfl)
theorem dX2_beside_1 : decode cX2_beside 1 = .ok (.iconst 0, 1) := dk_3 (dk_at dksX2_beside_0 1 rfl rfl)
theorem dX2_beside_2 : decode cX2_beside 2 = .ok (.putfield 110, 3) := dk_181 0 110 (dk_at dksX2_beside_0 2 rfl rfl)
theorem dX2_beside_5 : decode cX2_beside 5 = .ok (.aload_n 0, 1) := dk_42 (dk_at dksX2_beside_0 5 rfl rfl)
theorem dX2_beside_6 : decode cX2_beside 6 = .ok (.iload_n 1, 1) := dk_27 (dk_at dksX2_beside_0 6 rfl rfl)
theorem dX2_beside_7 : decode cX2_beside 7 = .ok (.invokevirtual 216, 3) := dk_182 0 216 (dk_at dksX2_beside_0 7 rfl rfl)
theorem dX2_beside_10 : decode cX2_beside 10 = .ok (.ifCond .eq 11, 3) := dk_153 0 11 (dk_at dksX2_beside_0 10 rfl rfl)
theorem dX2_beside_13 : decode cX2_beside 13 = .ok (.aload_n 0, 1) := dk_42 (dk_at dksX2_beside_0 13 rfl rfl)
theorem dX2_beside_14 : decode cX2_beside 14 = .ok (.iload_n 1, 1) := dk_27 (dk_at dksX2_beside_0 14 rfl rfl)
theorem dX2_beside_15 : decode cX2_beside 15 = .ok (.invokevirtual 335, 3) := dk_182 1 79 (dk_at dksX2_beside_0 15 rfl rfl)
theorem dX2_beside_18 : decode cX2_beside 18 = .ok (.goto 4, 3) := dk_167 0 4 (dk_at dksX2_beside_0 18 rfl rfl)
theorem dX2_beside_21 : decode cX2_beside 21 = .ok (.iconst (-1), 1) := dk_2 (dk_at dksX2_beside_0 21 rfl rfl)
theorem dX2_beside_22 : decode cX2_beside 22 = .ok (.ireturn, 1) := dk_172 (dk_at dksX2_beside_0 22 rfl rfl)
abbrev cX2_besides : ByteArray := prog_8_method_73_code
def yX2_besides : MethodName := ⟨RX2, "besides", "(I)I"⟩
def dkwX2_besides_1 : List UInt8 := [42, 180, 0, 32, 161, 0, 9, 4, 29, 120, 167, 0, 4, 3, 128, 61, 132, 3, 1, 167, 255, 217, 28, 172]
abbrev dktX2_besides_1 : List UInt8 := dkwX2_besides_1 ++ []
def dkwX2_besides_0 : List UInt8 := [3, 61, 3, 62, 29, 42, 180, 0, 116, 162, 0, 37, 28, 29, 27, 159, 0, 22, 42, 27, 29, 182, 0, 242]
abbrev dktX2_besides_0 : List UInt8 := dkwX2_besides_0 ++ dktX2_besides_1
theorem dksX2_besides_0 : cX2_besides.data.toList.drop 0 = dktX2_besides_0 := by decide +kernel
theorem dksX2_besides_1 : cX2_besides.data.toList.drop 24 = dktX2_besides_1 := dk_seg dksX2_besides_0 24 rfl rfl
theorem dX2_besides_0 : decode cX2_besides 0 = .ok (.iconst 0, 1) := dk_3 (dk_at dksX2_besides_0 0 rfl rfl)
theorem dX2_besides_1 : decode cX2_besides 1 = .ok (.istore_n 2, 1) := dk_61 (dk_at dksX2_besides_0 1 rfl rfl)
theorem dX2_besides_2 : decode cX2_besides 2 = .ok (.iconst 0, 1) := dk_3 (dk_at dksX2_besides_0 2 rfl rfl)
theorem dX2_besides_3 : decode cX2_besides 3 = .ok (.istore_n 3, 1) := dk_62 (dk_at dksX2_besides_0 3 rfl rfl)
theorem dX2_besides_4 : decode cX2_besides 4 = .ok (.iload_n 3, 1) := dk_29 (dk_at dksX2_besides_0 4 rfl rfl)
theorem dX2_besides_5 : decode cX2_besides 5 = .ok (.aload_n 0, 1) := dk_42 (dk_at dksX2_besides_0 5 rfl rfl)
theorem dX2_besides_6 : decode cX2_besides 6 = .ok (.getfield 116, 3) := dk_180 0 116 (dk_at dksX2_besides_0 6 rfl rfl)
theorem dX2_besides_9 : decode cX2_besides 9 = .ok (.if_icmp .ge 37, 3) := dk_162 0 37 (dk_at dksX2_besides_0 9 rfl rfl)
theorem dX2_besides_12 : decode cX2_besides 12 = .ok (.iload_n 2, 1) := dk_28 (dk_at dksX2_besides_0 12 rfl rfl)
theorem dX2_besides_13 : decode cX2_besides 13 = .ok (.iload_n 3, 1) := dk_29 (dk_at dksX2_besides_0 13 rfl rfl)
theorem dX2_besides_14 : decode cX2_besides 14 = .ok (.iload_n 1, 1) := dk_27 (dk_at dksX2_besides_0 14 rfl rfl)
theorem dX2_besides_15 : decode cX2_besides 15 = .ok (.if_icmp .eq 22, 3) := dk_159 0 22 (dk_at dksX2_besides_0 15 rfl rfl)
theorem dX2_besides_18 : decode cX2_besides 18 = .ok (.aload_n 0, 1) := dk_42 (dk_at dksX2_besides_0 18 rfl rfl)
theorem dX2_besides_19 : decode cX2_besides 19 = .ok (.iload_n 1, 1) := dk_27 (dk_at dksX2_besides_0 19 rfl rfl)
theorem dX2_besides_20 : decode cX2_besides 20 = .ok (.iload_n 3, 1) := dk_29 (dk_at dksX2_besides_0 20 rfl rfl)
theorem dX2_besides_21 : decode cX2_besides 21 = .ok (.invokevirtual 242, 3) := dk_182 0 242 (dk_at dksX2_besides_0 21 rfl rfl)
theorem dX2_besides_24 : decode cX2_besides 24 = .ok (.aload_n 0, 1) := dk_42 (dk_at dksX2_besides_1 0 rfl rfl)
theorem dX2_besides_25 : decode cX2_besides 25 = .ok (.getfield 32, 3) := dk_180 0 32 (dk_at dksX2_besides_1 1 rfl rfl)
theorem dX2_besides_28 : decode cX2_besides 28 = .ok (.if_icmp .lt 9, 3) := dk_161 0 9 (dk_at dksX2_besides_1 4 rfl rfl)
theorem dX2_besides_31 : decode cX2_besides 31 = .ok (.iconst 1, 1) := dk_4 (dk_at dksX2_besides_1 7 rfl rfl)
theorem dX2_besides_32 : decode cX2_besides 32 = .ok (.iload_n 3, 1) := dk_29 (dk_at dksX2_besides_1 8 rfl rfl)
theorem dX2_besides_33 : decode cX2_besides 33 = .ok (.ishl, 1) := dk_120 (dk_at dksX2_besides_1 9 rfl rfl)
theorem dX2_besides_34 : decode cX2_besides 34 = .ok (.goto 4, 3) := dk_167 0 4 (dk_at dksX2_besides_1 10 rfl rfl)
theorem dX2_besides_37 : decode cX2_besides 37 = .ok (.iconst 0, 1) := dk_3 (dk_at dksX2_besides_1 13 rfl rfl)
theorem dX2_besides_38 : decode cX2_besides 38 = .ok (.ior, 1) := dk_128 (dk_at dksX2_besides_1 14 rfl rfl)
theorem dX2_besides_39 : decode cX2_besides 39 = .ok (.istore_n 2, 1) := dk_61 (dk_at dksX2_besides_1 15 rfl rfl)
theorem dX2_besides_40 : decode cX2_besides 40 = .ok (.iinc 3 1, 3) := dk_132 3 1 (dk_at dksX2_besides_1 16 rfl rfl)
theorem dX2_besides_43 : decode cX2_besides 43 = .ok (.goto (-39), 3) := dk_167 255 217 (dk_at dksX2_besides_1 19 rfl rfl)
theorem dX2_besides_46 : decode cX2_besides 46 = .ok (.iload_n 2, 1) := dk_28 (dk_at dksX2_besides_1 22 rfl rfl)
theorem dX2_besides_47 : decode cX2_besides 47 = .ok (.ireturn, 1) := dk_172 (dk_at dksX2_besides_1 23 rfl rfl)
abbrev cX2_parts : ByteArray := prog_8_method_75_code
def yX2_parts : MethodName := ⟨RX2, "parts", "()I"⟩
def dkwX2_parts_4 : List UInt8 := [167, 255, 181, 28, 172]
abbrev dktX2_parts_4 : List UInt8 := dkwX2_parts_4 ++ []
def dkwX2_parts_3 : List UInt8 := [132, 5, 1, 167, 255, 225, 167, 255, 210, 42, 29, 182, 1, 33, 132, 2, 1, 27, 29, 2, 130, 126, 60]
abbrev dktX2_parts_3 : List UInt8 := dkwX2_parts_3 ++ dktX2_parts_4
def dkwX2_parts_2 : List UInt8 := [162, 0, 28, 21, 4, 21, 5, 184, 0, 239, 153, 0, 12, 29, 42, 21, 5, 182, 1, 79, 128, 62]
abbrev dktX2_parts_2 : List UInt8 := dkwX2_parts_2 ++ dktX2_parts_3
def dkwX2_parts_1 : List UInt8 := [126, 62, 3, 54, 4, 29, 21, 4, 159, 0, 46, 29, 54, 4, 3, 54, 5, 21, 5, 42, 180, 0, 116]
abbrev dktX2_parts_1 : List UInt8 := dkwX2_parts_1 ++ dktX2_parts_2
def dkwX2_parts_0 : List UInt8 := [42, 3, 181, 0, 110, 42, 182, 1, 42, 60, 3, 61, 42, 3, 181, 0, 113, 27, 153, 0, 77, 27, 27, 116]
abbrev dktX2_parts_0 : List UInt8 := dkwX2_parts_0 ++ dktX2_parts_1
theorem dksX2_parts_0 : cX2_parts.data.toList.drop 0 = dktX2_parts_0 := by decide +kernel
theorem dksX2_parts_1 : cX2_parts.data.toList.drop 24 = dktX2_parts_1 := dk_seg dksX2_parts_0 24 rfl rfl
theorem dksX2_parts_2 : cX2_parts.data.toList.drop 47 = dktX2_parts_2 := dk_seg dksX2_parts_1 23 rfl rfl
theorem dksX2_parts_3 : cX2_parts.data.toList.drop 69 = dktX2_parts_3 := dk_seg dksX2_parts_2 22 rfl rfl
theorem dksX2_parts_4 : cX2_parts.data.toList.drop 92 = dktX2_parts_4 := dk_seg dksX2_parts_3 23 rfl rfl
theorem dX2_parts_0 : decode cX2_parts 0 = .ok (.aload_n 0, 1) := dk_42 (dk_at dksX2_parts_0 0 rfl rfl)
theorem dX2_parts_1 : decode cX2_parts 1 = .ok (.iconst 0, 1) := dk_3 (dk_at dksX2_parts_0 1 rfl rfl)
theorem dX2_parts_2 : decode cX2_parts 2 = .ok (.putfield 110, 3) := dk_181 0 110 (dk_at dksX2_parts_0 2 rfl rfl)
theorem dX2_parts_5 : decode cX2_parts 5 = .ok (.aload_n 0, 1) := dk_42 (dk_at dksX2_parts_0 5 rfl rfl)
theorem dX2_parts_6 : decode cX2_parts 6 = .ok (.invokevirtual 298, 3) := dk_182 1 42 (dk_at dksX2_parts_0 6 rfl rfl)
theorem dX2_parts_9 : decode cX2_parts 9 = .ok (.istore_n 1, 1) := dk_60 (dk_at dksX2_parts_0 9 rfl rfl)
theorem dX2_parts_10 : decode cX2_parts 10 = .ok (.iconst 0, 1) := dk_3 (dk_at dksX2_parts_0 10 rfl rfl)
theorem dX2_parts_11 : decode cX2_parts 11 = .ok (.istore_n 2, 1) := dk_61 (dk_at dksX2_parts_0 11 rfl rfl)
theorem dX2_parts_12 : decode cX2_parts 12 = .ok (.aload_n 0, 1) := dk_42 (dk_at dksX2_parts_0 12 rfl rfl)
theorem dX2_parts_13 : decode cX2_parts 13 = .ok (.iconst 0, 1) := dk_3 (dk_at dksX2_parts_0 13 rfl rfl)
theorem dX2_parts_14 : decode cX2_parts 14 = .ok (.putfield 113, 3) := dk_181 0 113 (dk_at dksX2_parts_0 14 rfl rfl)
theorem dX2_parts_17 : decode cX2_parts 17 = .ok (.iload_n 1, 1) := dk_27 (dk_at dksX2_parts_0 17 rfl rfl)
theorem dX2_parts_18 : decode cX2_parts 18 = .ok (.ifCond .eq 77, 3) := dk_153 0 77 (dk_at dksX2_parts_0 18 rfl rfl)
theorem dX2_parts_21 : decode cX2_parts 21 = .ok (.iload_n 1, 1) := dk_27 (dk_at dksX2_parts_0 21 rfl rfl)
theorem dX2_parts_22 : decode cX2_parts 22 = .ok (.iload_n 1, 1) := dk_27 (dk_at dksX2_parts_0 22 rfl rfl)
theorem dX2_parts_23 : decode cX2_parts 23 = .ok (.ineg, 1) := dk_116 (dk_at dksX2_parts_0 23 rfl rfl)
theorem dX2_parts_24 : decode cX2_parts 24 = .ok (.iand, 1) := dk_126 (dk_at dksX2_parts_1 0 rfl rfl)
theorem dX2_parts_25 : decode cX2_parts 25 = .ok (.istore_n 3, 1) := dk_62 (dk_at dksX2_parts_1 1 rfl rfl)
theorem dX2_parts_26 : decode cX2_parts 26 = .ok (.iconst 0, 1) := dk_3 (dk_at dksX2_parts_1 2 rfl rfl)
theorem dX2_parts_27 : decode cX2_parts 27 = .ok (.istore 4, 2) := dk_54 4 (dk_at dksX2_parts_1 3 rfl rfl)
theorem dX2_parts_29 : decode cX2_parts 29 = .ok (.iload_n 3, 1) := dk_29 (dk_at dksX2_parts_1 5 rfl rfl)
theorem dX2_parts_30 : decode cX2_parts 30 = .ok (.iload 4, 2) := dk_21 4 (dk_at dksX2_parts_1 6 rfl rfl)
theorem dX2_parts_32 : decode cX2_parts 32 = .ok (.if_icmp .eq 46, 3) := dk_159 0 46 (dk_at dksX2_parts_1 8 rfl rfl)
theorem dX2_parts_35 : decode cX2_parts 35 = .ok (.iload_n 3, 1) := dk_29 (dk_at dksX2_parts_1 11 rfl rfl)
theorem dX2_parts_36 : decode cX2_parts 36 = .ok (.istore 4, 2) := dk_54 4 (dk_at dksX2_parts_1 12 rfl rfl)
theorem dX2_parts_38 : decode cX2_parts 38 = .ok (.iconst 0, 1) := dk_3 (dk_at dksX2_parts_1 14 rfl rfl)
theorem dX2_parts_39 : decode cX2_parts 39 = .ok (.istore 5, 2) := dk_54 5 (dk_at dksX2_parts_1 15 rfl rfl)
theorem dX2_parts_41 : decode cX2_parts 41 = .ok (.iload 5, 2) := dk_21 5 (dk_at dksX2_parts_1 17 rfl rfl)
theorem dX2_parts_43 : decode cX2_parts 43 = .ok (.aload_n 0, 1) := dk_42 (dk_at dksX2_parts_1 19 rfl rfl)
theorem dX2_parts_44 : decode cX2_parts 44 = .ok (.getfield 116, 3) := dk_180 0 116 (dk_at dksX2_parts_1 20 rfl rfl)
theorem dX2_parts_47 : decode cX2_parts 47 = .ok (.if_icmp .ge 28, 3) := dk_162 0 28 (dk_at dksX2_parts_2 0 rfl rfl)
theorem dX2_parts_50 : decode cX2_parts 50 = .ok (.iload 4, 2) := dk_21 4 (dk_at dksX2_parts_2 3 rfl rfl)
theorem dX2_parts_52 : decode cX2_parts 52 = .ok (.iload 5, 2) := dk_21 5 (dk_at dksX2_parts_2 5 rfl rfl)
theorem dX2_parts_54 : decode cX2_parts 54 = .ok (.invokestatic 239, 3) := dk_184 0 239 (dk_at dksX2_parts_2 7 rfl rfl)
theorem dX2_parts_57 : decode cX2_parts 57 = .ok (.ifCond .eq 12, 3) := dk_153 0 12 (dk_at dksX2_parts_2 10 rfl rfl)
theorem dX2_parts_60 : decode cX2_parts 60 = .ok (.iload_n 3, 1) := dk_29 (dk_at dksX2_parts_2 13 rfl rfl)
theorem dX2_parts_61 : decode cX2_parts 61 = .ok (.aload_n 0, 1) := dk_42 (dk_at dksX2_parts_2 14 rfl rfl)
theorem dX2_parts_62 : decode cX2_parts 62 = .ok (.iload 5, 2) := dk_21 5 (dk_at dksX2_parts_2 15 rfl rfl)
theorem dX2_parts_64 : decode cX2_parts 64 = .ok (.invokevirtual 335, 3) := dk_182 1 79 (dk_at dksX2_parts_2 17 rfl rfl)
theorem dX2_parts_67 : decode cX2_parts 67 = .ok (.ior, 1) := dk_128 (dk_at dksX2_parts_2 20 rfl rfl)
theorem dX2_parts_68 : decode cX2_parts 68 = .ok (.istore_n 3, 1) := dk_62 (dk_at dksX2_parts_2 21 rfl rfl)
theorem dX2_parts_69 : decode cX2_parts 69 = .ok (.iinc 5 1, 3) := dk_132 5 1 (dk_at dksX2_parts_3 0 rfl rfl)
theorem dX2_parts_72 : decode cX2_parts 72 = .ok (.goto (-31), 3) := dk_167 255 225 (dk_at dksX2_parts_3 3 rfl rfl)
theorem dX2_parts_75 : decode cX2_parts 75 = .ok (.goto (-46), 3) := dk_167 255 210 (dk_at dksX2_parts_3 6 rfl rfl)
theorem dX2_parts_78 : decode cX2_parts 78 = .ok (.aload_n 0, 1) := dk_42 (dk_at dksX2_parts_3 9 rfl rfl)
theorem dX2_parts_79 : decode cX2_parts 79 = .ok (.iload_n 3, 1) := dk_29 (dk_at dksX2_parts_3 10 rfl rfl)
theorem dX2_parts_80 : decode cX2_parts 80 = .ok (.invokevirtual 289, 3) := dk_182 1 33 (dk_at dksX2_parts_3 11 rfl rfl)
theorem dX2_parts_83 : decode cX2_parts 83 = .ok (.iinc 2 1, 3) := dk_132 2 1 (dk_at dksX2_parts_3 14 rfl rfl)
theorem dX2_parts_86 : decode cX2_parts 86 = .ok (.iload_n 1, 1) := dk_27 (dk_at dksX2_parts_3 17 rfl rfl)
theorem dX2_parts_87 : decode cX2_parts 87 = .ok (.iload_n 3, 1) := dk_29 (dk_at dksX2_parts_3 18 rfl rfl)
theorem dX2_parts_88 : decode cX2_parts 88 = .ok (.iconst (-1), 1) := dk_2 (dk_at dksX2_parts_3 19 rfl rfl)
theorem dX2_parts_89 : decode cX2_parts 89 = .ok (.ixor, 1) := dk_130 (dk_at dksX2_parts_3 20 rfl rfl)
theorem dX2_parts_90 : decode cX2_parts 90 = .ok (.iand, 1) := dk_126 (dk_at dksX2_parts_3 21 rfl rfl)
theorem dX2_parts_91 : decode cX2_parts 91 = .ok (.istore_n 1, 1) := dk_60 (dk_at dksX2_parts_3 22 rfl rfl)
theorem dX2_parts_92 : decode cX2_parts 92 = .ok (.goto (-75), 3) := dk_167 255 181 (dk_at dksX2_parts_4 0 rfl rfl)
theorem dX2_parts_95 : decode cX2_parts 95 = .ok (.iload_n 2, 1) := dk_28 (dk_at dksX2_parts_4 3 rfl rfl)
theorem dX2_parts_96 : decode cX2_parts 96 = .ok (.ireturn, 1) := dk_172 (dk_at dksX2_parts_4 4 rfl rfl)
abbrev cX2_rare : ByteArray := prog_8_method_76_code
def yX2_rare : MethodName := ⟨RX2, "rare", "()I"⟩
def dkwX2_rare_5 : List UInt8 := [182, 1, 33, 27, 172]
abbrev dktX2_rare_5 : List UInt8 := dkwX2_rare_5 ++ []
def dkwX2_rare_4 : List UInt8 := [161, 0, 6, 167, 0, 8, 29, 60, 21, 4, 61, 132, 3, 1, 167, 255, 169, 42, 3, 181, 0, 113, 42, 28]
abbrev dktX2_rare_4 : List UInt8 := dkwX2_rare_4 ++ dktX2_rare_5
def dkwX2_rare_3 : List UInt8 := [167, 255, 217, 21, 4, 153, 0, 28, 27, 2, 159, 0, 18, 21, 4, 184, 0, 196, 28, 184, 0, 196]
abbrev dktX2_rare_3 : List UInt8 := dkwX2_rare_3 ++ dktX2_rare_4
def dkwX2_rare_2 : List UInt8 := [21, 5, 46, 29, 184, 0, 239, 153, 0, 10, 4, 21, 5, 120, 167, 0, 4, 3, 128, 54, 4, 132, 5, 1]
abbrev dktX2_rare_2 : List UInt8 := dkwX2_rare_2 ++ dktX2_rare_3
def dkwX2_rare_1 : List UInt8 := [162, 0, 87, 3, 54, 4, 3, 54, 5, 21, 5, 42, 180, 0, 116, 162, 0, 36, 21, 4, 42, 180, 0, 13]
abbrev dktX2_rare_1 : List UInt8 := dkwX2_rare_1 ++ dktX2_rare_2
def dkwX2_rare_0 : List UInt8 := [42, 3, 181, 0, 110, 42, 180, 0, 116, 154, 0, 6, 16, 254, 172, 2, 60, 3, 61, 3, 62, 29, 16, 8]
abbrev dktX2_rare_0 : List UInt8 := dkwX2_rare_0 ++ dktX2_rare_1
theorem dksX2_rare_0 : cX2_rare.data.toList.drop 0 = dktX2_rare_0 := by decide +kernel
theorem dksX2_rare_1 : cX2_rare.data.toList.drop 24 = dktX2_rare_1 := dk_seg dksX2_rare_0 24 rfl rfl
theorem dksX2_rare_2 : cX2_rare.data.toList.drop 48 = dktX2_rare_2 := dk_seg dksX2_rare_1 24 rfl rfl
theorem dksX2_rare_3 : cX2_rare.data.toList.drop 72 = dktX2_rare_3 := dk_seg dksX2_rare_2 24 rfl rfl
theorem dksX2_rare_4 : cX2_rare.data.toList.drop 94 = dktX2_rare_4 := dk_seg dksX2_rare_3 22 rfl rfl
theorem dksX2_rare_5 : cX2_rare.data.toList.drop 118 = dktX2_rare_5 := dk_seg dksX2_rare_4 24 rfl rfl
theorem dX2_rare_0 : decode cX2_rare 0 = .ok (.aload_n 0, 1) := dk_42 (dk_at dksX2_rare_0 0 rfl rfl)
theorem dX2_rare_1 : decode cX2_rare 1 = .ok (.iconst 0, 1) := dk_3 (dk_at dksX2_rare_0 1 rfl rfl)
theorem dX2_rare_2 : decode cX2_rare 2 = .ok (.putfield 110, 3) := dk_181 0 110 (dk_at dksX2_rare_0 2 rfl rfl)
theorem dX2_rare_5 : decode cX2_rare 5 = .ok (.aload_n 0, 1) := dk_42 (dk_at dksX2_rare_0 5 rfl rfl)
theorem dX2_rare_6 : decode cX2_rare 6 = .ok (.getfield 116, 3) := dk_180 0 116 (dk_at dksX2_rare_0 6 rfl rfl)
theorem dX2_rare_9 : decode cX2_rare 9 = .ok (.ifCond .ne 6, 3) := dk_154 0 6 (dk_at dksX2_rare_0 9 rfl rfl)
theorem dX2_rare_12 : decode cX2_rare 12 = .ok (.bipush (-2), 2) := dk_16 254 (dk_at dksX2_rare_0 12 rfl rfl)
theorem dX2_rare_14 : decode cX2_rare 14 = .ok (.ireturn, 1) := dk_172 (dk_at dksX2_rare_0 14 rfl rfl)
theorem dX2_rare_15 : decode cX2_rare 15 = .ok (.iconst (-1), 1) := dk_2 (dk_at dksX2_rare_0 15 rfl rfl)
theorem dX2_rare_16 : decode cX2_rare 16 = .ok (.istore_n 1, 1) := dk_60 (dk_at dksX2_rare_0 16 rfl rfl)
theorem dX2_rare_17 : decode cX2_rare 17 = .ok (.iconst 0, 1) := dk_3 (dk_at dksX2_rare_0 17 rfl rfl)
theorem dX2_rare_18 : decode cX2_rare 18 = .ok (.istore_n 2, 1) := dk_61 (dk_at dksX2_rare_0 18 rfl rfl)
theorem dX2_rare_19 : decode cX2_rare 19 = .ok (.iconst 0, 1) := dk_3 (dk_at dksX2_rare_0 19 rfl rfl)
theorem dX2_rare_20 : decode cX2_rare 20 = .ok (.istore_n 3, 1) := dk_62 (dk_at dksX2_rare_0 20 rfl rfl)
theorem dX2_rare_21 : decode cX2_rare 21 = .ok (.iload_n 3, 1) := dk_29 (dk_at dksX2_rare_0 21 rfl rfl)
theorem dX2_rare_22 : decode cX2_rare 22 = .ok (.bipush 8, 2) := dk_16 8 (dk_at dksX2_rare_0 22 rfl rfl)
theorem dX2_rare_24 : decode cX2_rare 24 = .ok (.if_icmp .ge 87, 3) := dk_162 0 87 (dk_at dksX2_rare_1 0 rfl rfl)
theorem dX2_rare_27 : decode cX2_rare 27 = .ok (.iconst 0, 1) := dk_3 (dk_at dksX2_rare_1 3 rfl rfl)
theorem dX2_rare_28 : decode cX2_rare 28 = .ok (.istore 4, 2) := dk_54 4 (dk_at dksX2_rare_1 4 rfl rfl)
theorem dX2_rare_30 : decode cX2_rare 30 = .ok (.iconst 0, 1) := dk_3 (dk_at dksX2_rare_1 6 rfl rfl)
theorem dX2_rare_31 : decode cX2_rare 31 = .ok (.istore 5, 2) := dk_54 5 (dk_at dksX2_rare_1 7 rfl rfl)
theorem dX2_rare_33 : decode cX2_rare 33 = .ok (.iload 5, 2) := dk_21 5 (dk_at dksX2_rare_1 9 rfl rfl)
theorem dX2_rare_35 : decode cX2_rare 35 = .ok (.aload_n 0, 1) := dk_42 (dk_at dksX2_rare_1 11 rfl rfl)
theorem dX2_rare_36 : decode cX2_rare 36 = .ok (.getfield 116, 3) := dk_180 0 116 (dk_at dksX2_rare_1 12 rfl rfl)
theorem dX2_rare_39 : decode cX2_rare 39 = .ok (.if_icmp .ge 36, 3) := dk_162 0 36 (dk_at dksX2_rare_1 15 rfl rfl)
theorem dX2_rare_42 : decode cX2_rare 42 = .ok (.iload 4, 2) := dk_21 4 (dk_at dksX2_rare_1 18 rfl rfl)
theorem dX2_rare_44 : decode cX2_rare 44 = .ok (.aload_n 0, 1) := dk_42 (dk_at dksX2_rare_1 20 rfl rfl)
theorem dX2_rare_45 : decode cX2_rare 45 = .ok (.getfield 13, 3) := dk_180 0 13 (dk_at dksX2_rare_1 21 rfl rfl)
theorem dX2_rare_48 : decode cX2_rare 48 = .ok (.iload 5, 2) := dk_21 5 (dk_at dksX2_rare_2 0 rfl rfl)
theorem dX2_rare_50 : decode cX2_rare 50 = .ok (.iaload, 1) := dk_46 (dk_at dksX2_rare_2 2 rfl rfl)
theorem dX2_rare_51 : decode cX2_rare 51 = .ok (.iload_n 3, 1) := dk_29 (dk_at dksX2_rare_2 3 rfl rfl)
theorem dX2_rare_52 : decode cX2_rare 52 = .ok (.invokestatic 239, 3) := dk_184 0 239 (dk_at dksX2_rare_2 4 rfl rfl)
theorem dX2_rare_55 : decode cX2_rare 55 = .ok (.ifCond .eq 10, 3) := dk_153 0 10 (dk_at dksX2_rare_2 7 rfl rfl)
theorem dX2_rare_58 : decode cX2_rare 58 = .ok (.iconst 1, 1) := dk_4 (dk_at dksX2_rare_2 10 rfl rfl)
theorem dX2_rare_59 : decode cX2_rare 59 = .ok (.iload 5, 2) := dk_21 5 (dk_at dksX2_rare_2 11 rfl rfl)
theorem dX2_rare_61 : decode cX2_rare 61 = .ok (.ishl, 1) := dk_120 (dk_at dksX2_rare_2 13 rfl rfl)
theorem dX2_rare_62 : decode cX2_rare 62 = .ok (.goto 4, 3) := dk_167 0 4 (dk_at dksX2_rare_2 14 rfl rfl)
theorem dX2_rare_65 : decode cX2_rare 65 = .ok (.iconst 0, 1) := dk_3 (dk_at dksX2_rare_2 17 rfl rfl)
theorem dX2_rare_66 : decode cX2_rare 66 = .ok (.ior, 1) := dk_128 (dk_at dksX2_rare_2 18 rfl rfl)
theorem dX2_rare_67 : decode cX2_rare 67 = .ok (.istore 4, 2) := dk_54 4 (dk_at dksX2_rare_2 19 rfl rfl)
theorem dX2_rare_69 : decode cX2_rare 69 = .ok (.iinc 5 1, 3) := dk_132 5 1 (dk_at dksX2_rare_2 21 rfl rfl)
theorem dX2_rare_72 : decode cX2_rare 72 = .ok (.goto (-39), 3) := dk_167 255 217 (dk_at dksX2_rare_3 0 rfl rfl)
theorem dX2_rare_75 : decode cX2_rare 75 = .ok (.iload 4, 2) := dk_21 4 (dk_at dksX2_rare_3 3 rfl rfl)
theorem dX2_rare_77 : decode cX2_rare 77 = .ok (.ifCond .eq 28, 3) := dk_153 0 28 (dk_at dksX2_rare_3 5 rfl rfl)
theorem dX2_rare_80 : decode cX2_rare 80 = .ok (.iload_n 1, 1) := dk_27 (dk_at dksX2_rare_3 8 rfl rfl)
theorem dX2_rare_81 : decode cX2_rare 81 = .ok (.iconst (-1), 1) := dk_2 (dk_at dksX2_rare_3 9 rfl rfl)
theorem dX2_rare_82 : decode cX2_rare 82 = .ok (.if_icmp .eq 18, 3) := dk_159 0 18 (dk_at dksX2_rare_3 10 rfl rfl)
theorem dX2_rare_85 : decode cX2_rare 85 = .ok (.iload 4, 2) := dk_21 4 (dk_at dksX2_rare_3 13 rfl rfl)
theorem dX2_rare_87 : decode cX2_rare 87 = .ok (.invokestatic 196, 3) := dk_184 0 196 (dk_at dksX2_rare_3 15 rfl rfl)
theorem dX2_rare_90 : decode cX2_rare 90 = .ok (.iload_n 2, 1) := dk_28 (dk_at dksX2_rare_3 18 rfl rfl)
theorem dX2_rare_91 : decode cX2_rare 91 = .ok (.invokestatic 196, 3) := dk_184 0 196 (dk_at dksX2_rare_3 19 rfl rfl)
theorem dX2_rare_94 : decode cX2_rare 94 = .ok (.if_icmp .lt 6, 3) := dk_161 0 6 (dk_at dksX2_rare_4 0 rfl rfl)
theorem dX2_rare_97 : decode cX2_rare 97 = .ok (.goto 8, 3) := dk_167 0 8 (dk_at dksX2_rare_4 3 rfl rfl)
theorem dX2_rare_100 : decode cX2_rare 100 = .ok (.iload_n 3, 1) := dk_29 (dk_at dksX2_rare_4 6 rfl rfl)
theorem dX2_rare_101 : decode cX2_rare 101 = .ok (.istore_n 1, 1) := dk_60 (dk_at dksX2_rare_4 7 rfl rfl)
theorem dX2_rare_102 : decode cX2_rare 102 = .ok (.iload 4, 2) := dk_21 4 (dk_at dksX2_rare_4 8 rfl rfl)
theorem dX2_rare_104 : decode cX2_rare 104 = .ok (.istore_n 2, 1) := dk_61 (dk_at dksX2_rare_4 10 rfl rfl)
theorem dX2_rare_105 : decode cX2_rare 105 = .ok (.iinc 3 1, 3) := dk_132 3 1 (dk_at dksX2_rare_4 11 rfl rfl)
theorem dX2_rare_108 : decode cX2_rare 108 = .ok (.goto (-87), 3) := dk_167 255 169 (dk_at dksX2_rare_4 14 rfl rfl)
theorem dX2_rare_111 : decode cX2_rare 111 = .ok (.aload_n 0, 1) := dk_42 (dk_at dksX2_rare_4 17 rfl rfl)
theorem dX2_rare_112 : decode cX2_rare 112 = .ok (.iconst 0, 1) := dk_3 (dk_at dksX2_rare_4 18 rfl rfl)
theorem dX2_rare_113 : decode cX2_rare 113 = .ok (.putfield 113, 3) := dk_181 0 113 (dk_at dksX2_rare_4 19 rfl rfl)
theorem dX2_rare_116 : decode cX2_rare 116 = .ok (.aload_n 0, 1) := dk_42 (dk_at dksX2_rare_4 22 rfl rfl)
theorem dX2_rare_117 : decode cX2_rare 117 = .ok (.iload_n 2, 1) := dk_28 (dk_at dksX2_rare_4 23 rfl rfl)
theorem dX2_rare_118 : decode cX2_rare 118 = .ok (.invokevirtual 289, 3) := dk_182 1 33 (dk_at dksX2_rare_5 0 rfl rfl)
theorem dX2_rare_121 : decode cX2_rare 121 = .ok (.iload_n 1, 1) := dk_27 (dk_at dksX2_rare_5 3 rfl rfl)
theorem dX2_rare_122 : decode cX2_rare 122 = .ok (.ireturn, 1) := dk_172 (dk_at dksX2_rare_5 4 rfl rfl)
abbrev cX2_round : ByteArray := prog_8_method_77_code
def yX2_round : MethodName := ⟨RX2, "round", "()I"⟩
def dkwX2_round_6 : List UInt8 := [172]
abbrev dktX2_round_6 : List UInt8 := dkwX2_round_6 ++ []
def dkwX2_round_5 : List UInt8 := [28, 27, 182, 1, 72, 153, 0, 5, 27, 172, 132, 2, 1, 167, 255, 147, 132, 1, 255, 167, 255, 134, 16, 254]
abbrev dktX2_round_5 : List UInt8 := dkwX2_round_5 ++ dktX2_round_6
def dkwX2_round_4 : List UInt8 := [180, 0, 61, 29, 21, 4, 184, 1, 48, 4, 84, 132, 4, 1, 167, 255, 195, 132, 3, 1, 167, 255, 178, 42]
abbrev dktX2_round_4 : List UInt8 := dkwX2_round_4 ++ dktX2_round_5
def dkwX2_round_3 : List UInt8 := [184, 0, 196, 27, 160, 0, 29, 42, 21, 4, 28, 182, 0, 242, 42, 180, 0, 32, 161, 0, 15, 42]
abbrev dktX2_round_3 : List UInt8 := dkwX2_round_3 ++ dktX2_round_4
def dkwX2_round_2 : List UInt8 := [180, 0, 116, 162, 0, 58, 29, 21, 4, 184, 0, 239, 153, 0, 43, 21, 4, 28, 159, 0, 37, 29]
abbrev dktX2_round_2 : List UInt8 := dkwX2_round_2 ++ dktX2_round_3
def dkwX2_round_1 : List UInt8 := [162, 0, 107, 42, 182, 1, 58, 3, 62, 29, 42, 182, 1, 42, 163, 0, 76, 3, 54, 4, 21, 4, 42]
abbrev dktX2_round_1 : List UInt8 := dkwX2_round_1 ++ dktX2_round_2
def dkwX2_round_0 : List UInt8 := [42, 3, 181, 0, 110, 42, 180, 0, 116, 60, 27, 6, 161, 0, 123, 3, 61, 28, 42, 180, 0, 116]
abbrev dktX2_round_0 : List UInt8 := dkwX2_round_0 ++ dktX2_round_1
theorem dksX2_round_0 : cX2_round.data.toList.drop 0 = dktX2_round_0 := by decide +kernel
theorem dksX2_round_1 : cX2_round.data.toList.drop 22 = dktX2_round_1 := dk_seg dksX2_round_0 22 rfl rfl
theorem dksX2_round_2 : cX2_round.data.toList.drop 45 = dktX2_round_2 := dk_seg dksX2_round_1 23 rfl rfl
theorem dksX2_round_3 : cX2_round.data.toList.drop 67 = dktX2_round_3 := dk_seg dksX2_round_2 22 rfl rfl
theorem dksX2_round_4 : cX2_round.data.toList.drop 89 = dktX2_round_4 := dk_seg dksX2_round_3 22 rfl rfl
theorem dksX2_round_5 : cX2_round.data.toList.drop 113 = dktX2_round_5 := dk_seg dksX2_round_4 24 rfl rfl
theorem dksX2_round_6 : cX2_round.data.toList.drop 137 = dktX2_round_6 := dk_seg dksX2_round_5 24 rfl rfl
theorem dX2_round_0 : decode cX2_round 0 = .ok (.aload_n 0, 1) := dk_42 (dk_at dksX2_round_0 0 rfl rfl)
theorem dX2_round_1 : decode cX2_round 1 = .ok (.iconst 0, 1) := dk_3 (dk_at dksX2_round_0 1 rfl rfl)
theorem dX2_round_2 : decode cX2_round 2 = .ok (.putfield 110, 3) := dk_181 0 110 (dk_at dksX2_round_0 2 rfl rfl)
theorem dX2_round_5 : decode cX2_round 5 = .ok (.aload_n 0, 1) := dk_42 (dk_at dksX2_round_0 5 rfl rfl)
theorem dX2_round_6 : decode cX2_round 6 = .ok (.getfield 116, 3) := dk_180 0 116 (dk_at dksX2_round_0 6 rfl rfl)
theorem dX2_round_9 : decode cX2_round 9 = .ok (.istore_n 1, 1) := dk_60 (dk_at dksX2_round_0 9 rfl rfl)
theorem dX2_round_10 : decode cX2_round 10 = .ok (.iload_n 1, 1) := dk_27 (dk_at dksX2_round_0 10 rfl rfl)
theorem dX2_round_11 : decode cX2_round 11 = .ok (.iconst 3, 1) := dk_6 (dk_at dksX2_round_0 11 rfl rfl)
theorem dX2_round_12 : decode cX2_round 12 = .ok (.if_icmp .lt 123, 3) := dk_161 0 123 (dk_at dksX2_round_0 12 rfl rfl)
theorem dX2_round_15 : decode cX2_round 15 = .ok (.iconst 0, 1) := dk_3 (dk_at dksX2_round_0 15 rfl rfl)
theorem dX2_round_16 : decode cX2_round 16 = .ok (.istore_n 2, 1) := dk_61 (dk_at dksX2_round_0 16 rfl rfl)
theorem dX2_round_17 : decode cX2_round 17 = .ok (.iload_n 2, 1) := dk_28 (dk_at dksX2_round_0 17 rfl rfl)
theorem dX2_round_18 : decode cX2_round 18 = .ok (.aload_n 0, 1) := dk_42 (dk_at dksX2_round_0 18 rfl rfl)
theorem dX2_round_19 : decode cX2_round 19 = .ok (.getfield 116, 3) := dk_180 0 116 (dk_at dksX2_round_0 19 rfl rfl)
theorem dX2_round_22 : decode cX2_round 22 = .ok (.if_icmp .ge 107, 3) := dk_162 0 107 (dk_at dksX2_round_1 0 rfl rfl)
theorem dX2_round_25 : decode cX2_round 25 = .ok (.aload_n 0, 1) := dk_42 (dk_at dksX2_round_1 3 rfl rfl)
theorem dX2_round_26 : decode cX2_round 26 = .ok (.invokevirtual 314, 3) := dk_182 1 58 (dk_at dksX2_round_1 4 rfl rfl)
theorem dX2_round_29 : decode cX2_round 29 = .ok (.iconst 0, 1) := dk_3 (dk_at dksX2_round_1 7 rfl rfl)
theorem dX2_round_30 : decode cX2_round 30 = .ok (.istore_n 3, 1) := dk_62 (dk_at dksX2_round_1 8 rfl rfl)
theorem dX2_round_31 : decode cX2_round 31 = .ok (.iload_n 3, 1) := dk_29 (dk_at dksX2_round_1 9 rfl rfl)
theorem dX2_round_32 : decode cX2_round 32 = .ok (.aload_n 0, 1) := dk_42 (dk_at dksX2_round_1 10 rfl rfl)
theorem dX2_round_33 : decode cX2_round 33 = .ok (.invokevirtual 298, 3) := dk_182 1 42 (dk_at dksX2_round_1 11 rfl rfl)
theorem dX2_round_36 : decode cX2_round 36 = .ok (.if_icmp .gt 76, 3) := dk_163 0 76 (dk_at dksX2_round_1 14 rfl rfl)
theorem dX2_round_39 : decode cX2_round 39 = .ok (.iconst 0, 1) := dk_3 (dk_at dksX2_round_1 17 rfl rfl)
theorem dX2_round_40 : decode cX2_round 40 = .ok (.istore 4, 2) := dk_54 4 (dk_at dksX2_round_1 18 rfl rfl)
theorem dX2_round_42 : decode cX2_round 42 = .ok (.iload 4, 2) := dk_21 4 (dk_at dksX2_round_1 20 rfl rfl)
theorem dX2_round_44 : decode cX2_round 44 = .ok (.aload_n 0, 1) := dk_42 (dk_at dksX2_round_1 22 rfl rfl)
theorem dX2_round_45 : decode cX2_round 45 = .ok (.getfield 116, 3) := dk_180 0 116 (dk_at dksX2_round_2 0 rfl rfl)
theorem dX2_round_48 : decode cX2_round 48 = .ok (.if_icmp .ge 58, 3) := dk_162 0 58 (dk_at dksX2_round_2 3 rfl rfl)
theorem dX2_round_51 : decode cX2_round 51 = .ok (.iload_n 3, 1) := dk_29 (dk_at dksX2_round_2 6 rfl rfl)
theorem dX2_round_52 : decode cX2_round 52 = .ok (.iload 4, 2) := dk_21 4 (dk_at dksX2_round_2 7 rfl rfl)
theorem dX2_round_54 : decode cX2_round 54 = .ok (.invokestatic 239, 3) := dk_184 0 239 (dk_at dksX2_round_2 9 rfl rfl)
theorem dX2_round_57 : decode cX2_round 57 = .ok (.ifCond .eq 43, 3) := dk_153 0 43 (dk_at dksX2_round_2 12 rfl rfl)
theorem dX2_round_60 : decode cX2_round 60 = .ok (.iload 4, 2) := dk_21 4 (dk_at dksX2_round_2 15 rfl rfl)
theorem dX2_round_62 : decode cX2_round 62 = .ok (.iload_n 2, 1) := dk_28 (dk_at dksX2_round_2 17 rfl rfl)
theorem dX2_round_63 : decode cX2_round 63 = .ok (.if_icmp .eq 37, 3) := dk_159 0 37 (dk_at dksX2_round_2 18 rfl rfl)
theorem dX2_round_66 : decode cX2_round 66 = .ok (.iload_n 3, 1) := dk_29 (dk_at dksX2_round_2 21 rfl rfl)
theorem dX2_round_67 : decode cX2_round 67 = .ok (.invokestatic 196, 3) := dk_184 0 196 (dk_at dksX2_round_3 0 rfl rfl)
theorem dX2_round_70 : decode cX2_round 70 = .ok (.iload_n 1, 1) := dk_27 (dk_at dksX2_round_3 3 rfl rfl)
theorem dX2_round_71 : decode cX2_round 71 = .ok (.if_icmp .ne 29, 3) := dk_160 0 29 (dk_at dksX2_round_3 4 rfl rfl)
theorem dX2_round_74 : decode cX2_round 74 = .ok (.aload_n 0, 1) := dk_42 (dk_at dksX2_round_3 7 rfl rfl)
theorem dX2_round_75 : decode cX2_round 75 = .ok (.iload 4, 2) := dk_21 4 (dk_at dksX2_round_3 8 rfl rfl)
theorem dX2_round_77 : decode cX2_round 77 = .ok (.iload_n 2, 1) := dk_28 (dk_at dksX2_round_3 10 rfl rfl)
theorem dX2_round_78 : decode cX2_round 78 = .ok (.invokevirtual 242, 3) := dk_182 0 242 (dk_at dksX2_round_3 11 rfl rfl)
theorem dX2_round_81 : decode cX2_round 81 = .ok (.aload_n 0, 1) := dk_42 (dk_at dksX2_round_3 14 rfl rfl)
theorem dX2_round_82 : decode cX2_round 82 = .ok (.getfield 32, 3) := dk_180 0 32 (dk_at dksX2_round_3 15 rfl rfl)
theorem dX2_round_85 : decode cX2_round 85 = .ok (.if_icmp .lt 15, 3) := dk_161 0 15 (dk_at dksX2_round_3 18 rfl rfl)
theorem dX2_round_88 : decode cX2_round 88 = .ok (.aload_n 0, 1) := dk_42 (dk_at dksX2_round_3 21 rfl rfl)
theorem dX2_round_89 : decode cX2_round 89 = .ok (.getfield 61, 3) := dk_180 0 61 (dk_at dksX2_round_4 0 rfl rfl)
theorem dX2_round_92 : decode cX2_round 92 = .ok (.iload_n 3, 1) := dk_29 (dk_at dksX2_round_4 3 rfl rfl)
theorem dX2_round_93 : decode cX2_round 93 = .ok (.iload 4, 2) := dk_21 4 (dk_at dksX2_round_4 4 rfl rfl)
theorem dX2_round_95 : decode cX2_round 95 = .ok (.invokestatic 304, 3) := dk_184 1 48 (dk_at dksX2_round_4 6 rfl rfl)
theorem dX2_round_98 : decode cX2_round 98 = .ok (.iconst 1, 1) := dk_4 (dk_at dksX2_round_4 9 rfl rfl)
theorem dX2_round_99 : decode cX2_round 99 = .ok (.bastore, 1) := dk_84 (dk_at dksX2_round_4 10 rfl rfl)
theorem dX2_round_100 : decode cX2_round 100 = .ok (.iinc 4 1, 3) := dk_132 4 1 (dk_at dksX2_round_4 11 rfl rfl)
theorem dX2_round_103 : decode cX2_round 103 = .ok (.goto (-61), 3) := dk_167 255 195 (dk_at dksX2_round_4 14 rfl rfl)
theorem dX2_round_106 : decode cX2_round 106 = .ok (.iinc 3 1, 3) := dk_132 3 1 (dk_at dksX2_round_4 17 rfl rfl)
theorem dX2_round_109 : decode cX2_round 109 = .ok (.goto (-78), 3) := dk_167 255 178 (dk_at dksX2_round_4 20 rfl rfl)
theorem dX2_round_112 : decode cX2_round 112 = .ok (.aload_n 0, 1) := dk_42 (dk_at dksX2_round_4 23 rfl rfl)
theorem dX2_round_113 : decode cX2_round 113 = .ok (.iload_n 2, 1) := dk_28 (dk_at dksX2_round_5 0 rfl rfl)
theorem dX2_round_114 : decode cX2_round 114 = .ok (.iload_n 1, 1) := dk_27 (dk_at dksX2_round_5 1 rfl rfl)
theorem dX2_round_115 : decode cX2_round 115 = .ok (.invokevirtual 328, 3) := dk_182 1 72 (dk_at dksX2_round_5 2 rfl rfl)
theorem dX2_round_118 : decode cX2_round 118 = .ok (.ifCond .eq 5, 3) := dk_153 0 5 (dk_at dksX2_round_5 5 rfl rfl)
theorem dX2_round_121 : decode cX2_round 121 = .ok (.iload_n 1, 1) := dk_27 (dk_at dksX2_round_5 8 rfl rfl)
theorem dX2_round_122 : decode cX2_round 122 = .ok (.ireturn, 1) := dk_172 (dk_at dksX2_round_5 9 rfl rfl)
theorem dX2_round_123 : decode cX2_round 123 = .ok (.iinc 2 1, 3) := dk_132 2 1 (dk_at dksX2_round_5 10 rfl rfl)
theorem dX2_round_126 : decode cX2_round 126 = .ok (.goto (-109), 3) := dk_167 255 147 (dk_at dksX2_round_5 13 rfl rfl)
theorem dX2_round_129 : decode cX2_round 129 = .ok (.iinc 1 (-1), 3) := dk_132 1 255 (dk_at dksX2_round_5 16 rfl rfl)
theorem dX2_round_132 : decode cX2_round 132 = .ok (.goto (-122), 3) := dk_167 255 134 (dk_at dksX2_round_5 19 rfl rfl)
theorem dX2_round_135 : decode cX2_round 135 = .ok (.bipush (-2), 2) := dk_16 254 (dk_at dksX2_round_5 22 rfl rfl)
theorem dX2_round_137 : decode cX2_round 137 = .ok (.ireturn, 1) := dk_172 (dk_at dksX2_round_6 0 rfl rfl)
abbrev cX2_shut : ByteArray := prog_8_method_78_code
def yX2_shut : MethodName := ⟨RX2, "shut", "(I)I"⟩
def dkwX2_shut_4 : List UInt8 := [132, 4, 1, 167, 255, 205, 132, 3, 1, 167, 255, 188, 28, 172]
abbrev dktX2_shut_4 : List UInt8 := dkwX2_shut_4 ++ []
def dkwX2_shut_3 : List UInt8 := [184, 1, 48, 47, 9, 148, 158, 0, 17, 29, 184, 0, 196, 27, 164, 0, 9, 28, 29, 2, 130, 126, 61]
abbrev dktX2_shut_3 : List UInt8 := dkwX2_shut_3 ++ dktX2_shut_4
def dkwX2_shut_2 : List UInt8 := [180, 0, 116, 162, 0, 48, 29, 21, 4, 184, 0, 239, 153, 0, 33, 42, 180, 0, 67, 29, 21, 4]
abbrev dktX2_shut_2 : List UInt8 := dkwX2_shut_2 ++ dktX2_shut_3
def dkwX2_shut_1 : List UInt8 := [182, 1, 54, 42, 182, 1, 42, 61, 3, 62, 29, 42, 182, 1, 42, 163, 0, 66, 3, 54, 4, 21, 4, 42]
abbrev dktX2_shut_1 : List UInt8 := dkwX2_shut_1 ++ dktX2_shut_2
def dkwX2_shut_0 : List UInt8 := [42, 3, 181, 0, 110, 27, 3, 16, 9, 184, 0, 119, 154, 0, 5, 2, 172, 42, 3, 2, 42, 182, 1, 42]
abbrev dktX2_shut_0 : List UInt8 := dkwX2_shut_0 ++ dktX2_shut_1
theorem dksX2_shut_0 : cX2_shut.data.toList.drop 0 = dktX2_shut_0 := by decide +kernel
theorem dksX2_shut_1 : cX2_shut.data.toList.drop 24 = dktX2_shut_1 := dk_seg dksX2_shut_0 24 rfl rfl
theorem dksX2_shut_2 : cX2_shut.data.toList.drop 48 = dktX2_shut_2 := dk_seg dksX2_shut_1 24 rfl rfl
theorem dksX2_shut_3 : cX2_shut.data.toList.drop 70 = dktX2_shut_3 := dk_seg dksX2_shut_2 22 rfl rfl
theorem dksX2_shut_4 : cX2_shut.data.toList.drop 93 = dktX2_shut_4 := dk_seg dksX2_shut_3 23 rfl rfl
theorem dX2_shut_0 : decode cX2_shut 0 = .ok (.aload_n 0, 1) := dk_42 (dk_at dksX2_shut_0 0 rfl rfl)
theorem dX2_shut_1 : decode cX2_shut 1 = .ok (.iconst 0, 1) := dk_3 (dk_at dksX2_shut_0 1 rfl rfl)
theorem dX2_shut_2 : decode cX2_shut 2 = .ok (.putfield 110, 3) := dk_181 0 110 (dk_at dksX2_shut_0 2 rfl rfl)
theorem dX2_shut_5 : decode cX2_shut 5 = .ok (.iload_n 1, 1) := dk_27 (dk_at dksX2_shut_0 5 rfl rfl)
theorem dX2_shut_6 : decode cX2_shut 6 = .ok (.iconst 0, 1) := dk_3 (dk_at dksX2_shut_0 6 rfl rfl)
theorem dX2_shut_7 : decode cX2_shut 7 = .ok (.bipush 9, 2) := dk_16 9 (dk_at dksX2_shut_0 7 rfl rfl)
theorem dX2_shut_9 : decode cX2_shut 9 = .ok (.invokestatic 119, 3) := dk_184 0 119 (dk_at dksX2_shut_0 9 rfl rfl)
theorem dX2_shut_12 : decode cX2_shut 12 = .ok (.ifCond .ne 5, 3) := dk_154 0 5 (dk_at dksX2_shut_0 12 rfl rfl)
theorem dX2_shut_15 : decode cX2_shut 15 = .ok (.iconst (-1), 1) := dk_2 (dk_at dksX2_shut_0 15 rfl rfl)
theorem dX2_shut_16 : decode cX2_shut 16 = .ok (.ireturn, 1) := dk_172 (dk_at dksX2_shut_0 16 rfl rfl)
theorem dX2_shut_17 : decode cX2_shut 17 = .ok (.aload_n 0, 1) := dk_42 (dk_at dksX2_shut_0 17 rfl rfl)
theorem dX2_shut_18 : decode cX2_shut 18 = .ok (.iconst 0, 1) := dk_3 (dk_at dksX2_shut_0 18 rfl rfl)
theorem dX2_shut_19 : decode cX2_shut 19 = .ok (.iconst (-1), 1) := dk_2 (dk_at dksX2_shut_0 19 rfl rfl)
theorem dX2_shut_20 : decode cX2_shut 20 = .ok (.aload_n 0, 1) := dk_42 (dk_at dksX2_shut_0 20 rfl rfl)
theorem dX2_shut_21 : decode cX2_shut 21 = .ok (.invokevirtual 298, 3) := dk_182 1 42 (dk_at dksX2_shut_0 21 rfl rfl)
theorem dX2_shut_24 : decode cX2_shut 24 = .ok (.invokevirtual 310, 3) := dk_182 1 54 (dk_at dksX2_shut_1 0 rfl rfl)
theorem dX2_shut_27 : decode cX2_shut 27 = .ok (.aload_n 0, 1) := dk_42 (dk_at dksX2_shut_1 3 rfl rfl)
theorem dX2_shut_28 : decode cX2_shut 28 = .ok (.invokevirtual 298, 3) := dk_182 1 42 (dk_at dksX2_shut_1 4 rfl rfl)
theorem dX2_shut_31 : decode cX2_shut 31 = .ok (.istore_n 2, 1) := dk_61 (dk_at dksX2_shut_1 7 rfl rfl)
theorem dX2_shut_32 : decode cX2_shut 32 = .ok (.iconst 0, 1) := dk_3 (dk_at dksX2_shut_1 8 rfl rfl)
theorem dX2_shut_33 : decode cX2_shut 33 = .ok (.istore_n 3, 1) := dk_62 (dk_at dksX2_shut_1 9 rfl rfl)
theorem dX2_shut_34 : decode cX2_shut 34 = .ok (.iload_n 3, 1) := dk_29 (dk_at dksX2_shut_1 10 rfl rfl)
theorem dX2_shut_35 : decode cX2_shut 35 = .ok (.aload_n 0, 1) := dk_42 (dk_at dksX2_shut_1 11 rfl rfl)
theorem dX2_shut_36 : decode cX2_shut 36 = .ok (.invokevirtual 298, 3) := dk_182 1 42 (dk_at dksX2_shut_1 12 rfl rfl)
theorem dX2_shut_39 : decode cX2_shut 39 = .ok (.if_icmp .gt 66, 3) := dk_163 0 66 (dk_at dksX2_shut_1 15 rfl rfl)
theorem dX2_shut_42 : decode cX2_shut 42 = .ok (.iconst 0, 1) := dk_3 (dk_at dksX2_shut_1 18 rfl rfl)
theorem dX2_shut_43 : decode cX2_shut 43 = .ok (.istore 4, 2) := dk_54 4 (dk_at dksX2_shut_1 19 rfl rfl)
theorem dX2_shut_45 : decode cX2_shut 45 = .ok (.iload 4, 2) := dk_21 4 (dk_at dksX2_shut_1 21 rfl rfl)
theorem dX2_shut_47 : decode cX2_shut 47 = .ok (.aload_n 0, 1) := dk_42 (dk_at dksX2_shut_1 23 rfl rfl)
theorem dX2_shut_48 : decode cX2_shut 48 = .ok (.getfield 116, 3) := dk_180 0 116 (dk_at dksX2_shut_2 0 rfl rfl)
theorem dX2_shut_51 : decode cX2_shut 51 = .ok (.if_icmp .ge 48, 3) := dk_162 0 48 (dk_at dksX2_shut_2 3 rfl rfl)
theorem dX2_shut_54 : decode cX2_shut 54 = .ok (.iload_n 3, 1) := dk_29 (dk_at dksX2_shut_2 6 rfl rfl)
theorem dX2_shut_55 : decode cX2_shut 55 = .ok (.iload 4, 2) := dk_21 4 (dk_at dksX2_shut_2 7 rfl rfl)
theorem dX2_shut_57 : decode cX2_shut 57 = .ok (.invokestatic 239, 3) := dk_184 0 239 (dk_at dksX2_shut_2 9 rfl rfl)
theorem dX2_shut_60 : decode cX2_shut 60 = .ok (.ifCond .eq 33, 3) := dk_153 0 33 (dk_at dksX2_shut_2 12 rfl rfl)
theorem dX2_shut_63 : decode cX2_shut 63 = .ok (.aload_n 0, 1) := dk_42 (dk_at dksX2_shut_2 15 rfl rfl)
theorem dX2_shut_64 : decode cX2_shut 64 = .ok (.getfield 67, 3) := dk_180 0 67 (dk_at dksX2_shut_2 16 rfl rfl)
theorem dX2_shut_67 : decode cX2_shut 67 = .ok (.iload_n 3, 1) := dk_29 (dk_at dksX2_shut_2 19 rfl rfl)
theorem dX2_shut_68 : decode cX2_shut 68 = .ok (.iload 4, 2) := dk_21 4 (dk_at dksX2_shut_2 20 rfl rfl)
theorem dX2_shut_70 : decode cX2_shut 70 = .ok (.invokestatic 304, 3) := dk_184 1 48 (dk_at dksX2_shut_3 0 rfl rfl)
theorem dX2_shut_73 : decode cX2_shut 73 = .ok (.laload, 1) := dk_47 (dk_at dksX2_shut_3 3 rfl rfl)
theorem dX2_shut_74 : decode cX2_shut 74 = .ok (.lconst 0, 1) := dk_9 (dk_at dksX2_shut_3 4 rfl rfl)
theorem dX2_shut_75 : decode cX2_shut 75 = .ok (.lcmp, 1) := dk_148 (dk_at dksX2_shut_3 5 rfl rfl)
theorem dX2_shut_76 : decode cX2_shut 76 = .ok (.ifCond .le 17, 3) := dk_158 0 17 (dk_at dksX2_shut_3 6 rfl rfl)
theorem dX2_shut_79 : decode cX2_shut 79 = .ok (.iload_n 3, 1) := dk_29 (dk_at dksX2_shut_3 9 rfl rfl)
theorem dX2_shut_80 : decode cX2_shut 80 = .ok (.invokestatic 196, 3) := dk_184 0 196 (dk_at dksX2_shut_3 10 rfl rfl)
theorem dX2_shut_83 : decode cX2_shut 83 = .ok (.iload_n 1, 1) := dk_27 (dk_at dksX2_shut_3 13 rfl rfl)
theorem dX2_shut_84 : decode cX2_shut 84 = .ok (.if_icmp .le 9, 3) := dk_164 0 9 (dk_at dksX2_shut_3 14 rfl rfl)
theorem dX2_shut_87 : decode cX2_shut 87 = .ok (.iload_n 2, 1) := dk_28 (dk_at dksX2_shut_3 17 rfl rfl)
theorem dX2_shut_88 : decode cX2_shut 88 = .ok (.iload_n 3, 1) := dk_29 (dk_at dksX2_shut_3 18 rfl rfl)
theorem dX2_shut_89 : decode cX2_shut 89 = .ok (.iconst (-1), 1) := dk_2 (dk_at dksX2_shut_3 19 rfl rfl)
theorem dX2_shut_90 : decode cX2_shut 90 = .ok (.ixor, 1) := dk_130 (dk_at dksX2_shut_3 20 rfl rfl)
theorem dX2_shut_91 : decode cX2_shut 91 = .ok (.iand, 1) := dk_126 (dk_at dksX2_shut_3 21 rfl rfl)
theorem dX2_shut_92 : decode cX2_shut 92 = .ok (.istore_n 2, 1) := dk_61 (dk_at dksX2_shut_3 22 rfl rfl)
theorem dX2_shut_93 : decode cX2_shut 93 = .ok (.iinc 4 1, 3) := dk_132 4 1 (dk_at dksX2_shut_4 0 rfl rfl)
theorem dX2_shut_96 : decode cX2_shut 96 = .ok (.goto (-51), 3) := dk_167 255 205 (dk_at dksX2_shut_4 3 rfl rfl)
theorem dX2_shut_99 : decode cX2_shut 99 = .ok (.iinc 3 1, 3) := dk_132 3 1 (dk_at dksX2_shut_4 6 rfl rfl)
theorem dX2_shut_102 : decode cX2_shut 102 = .ok (.goto (-68), 3) := dk_167 255 188 (dk_at dksX2_shut_4 9 rfl rfl)
theorem dX2_shut_105 : decode cX2_shut 105 = .ok (.iload_n 2, 1) := dk_28 (dk_at dksX2_shut_4 12 rfl rfl)
theorem dX2_shut_106 : decode cX2_shut 106 = .ok (.ireturn, 1) := dk_172 (dk_at dksX2_shut_4 13 rfl rfl)
abbrev cX2_best : ByteArray := prog_8_method_84_code
def yX2_best : MethodName := ⟨RX2, "best", "(II)I"⟩
def dkwX2_best_0 : List UInt8 := [42, 3, 181, 0, 110, 42, 27, 28, 3, 182, 1, 100, 172]
abbrev dktX2_best_0 : List UInt8 := dkwX2_best_0 ++ []
theorem dksX2_best_0 : cX2_best.data.toList.drop 0 = dktX2_best_0 := by decide +kernel
theorem dX2_best_0 : decode cX2_best 0 = .ok (.aload_n 0, 1) := dk_42 (dk_at dksX2_best_0 0 rfl rfl)
theorem dX2_best_1 : decode cX2_best 1 = .ok (.iconst 0, 1) := dk_3 (dk_at dksX2_best_0 1 rfl rfl)
theorem dX2_best_2 : decode cX2_best 2 = .ok (.putfield 110, 3) := dk_181 0 110 (dk_at dksX2_best_0 2 rfl rfl)
theorem dX2_best_5 : decode cX2_best 5 = .ok (.aload_n 0, 1) := dk_42 (dk_at dksX2_best_0 5 rfl rfl)
theorem dX2_best_6 : decode cX2_best 6 = .ok (.iload_n 1, 1) := dk_27 (dk_at dksX2_best_0 6 rfl rfl)
theorem dX2_best_7 : decode cX2_best 7 = .ok (.iload_n 2, 1) := dk_28 (dk_at dksX2_best_0 7 rfl rfl)
theorem dX2_best_8 : decode cX2_best 8 = .ok (.iconst 0, 1) := dk_3 (dk_at dksX2_best_0 8 rfl rfl)
theorem dX2_best_9 : decode cX2_best 9 = .ok (.invokevirtual 356, 3) := dk_182 1 100 (dk_at dksX2_best_0 9 rfl rfl)
theorem dX2_best_12 : decode cX2_best 12 = .ok (.ireturn, 1) := dk_172 (dk_at dksX2_best_0 12 rfl rfl)
abbrev cX2_tellBest : ByteArray := prog_8_method_83_code
def yX2_tellBest : MethodName := ⟨RX2, "tellBest", "(III)I"⟩
def dkwX2_tellBest_3 : List UInt8 := [42, 182, 1, 2, 42, 182, 1, 42, 182, 1, 64, 4, 172]
abbrev dktX2_tellBest_3 : List UInt8 := dkwX2_tellBest_3 ++ []
def dkwX2_tellBest_2 : List UInt8 := [154, 0, 6, 16, 254, 172, 42, 3, 181, 0, 113, 42, 42, 180, 1, 93, 182, 1, 33, 42, 42, 182, 0, 255]
abbrev dktX2_tellBest_2 : List UInt8 := dkwX2_tellBest_2 ++ dktX2_tellBest_3
def dkwX2_tellBest_1 : List UInt8 := [4, 160, 0, 10, 42, 180, 0, 123, 153, 0, 17, 42, 27, 28, 29, 42, 182, 1, 42, 182, 1, 96]
abbrev dktX2_tellBest_1 : List UInt8 := dkwX2_tellBest_1 ++ dktX2_tellBest_2
def dkwX2_tellBest_0 : List UInt8 := [27, 3, 16, 10, 184, 0, 119, 153, 0, 14, 28, 3, 17, 3, 231, 184, 0, 119, 154, 0, 5, 2, 172, 29]
abbrev dktX2_tellBest_0 : List UInt8 := dkwX2_tellBest_0 ++ dktX2_tellBest_1
theorem dksX2_tellBest_0 : cX2_tellBest.data.toList.drop 0 = dktX2_tellBest_0 := by decide +kernel
theorem dksX2_tellBest_1 : cX2_tellBest.data.toList.drop 24 = dktX2_tellBest_1 := dk_seg dksX2_tellBest_0 24 rfl rfl
theorem dksX2_tellBest_2 : cX2_tellBest.data.toList.drop 46 = dktX2_tellBest_2 := dk_seg dksX2_tellBest_1 22 rfl rfl
theorem dksX2_tellBest_3 : cX2_tellBest.data.toList.drop 70 = dktX2_tellBest_3 := dk_seg dksX2_tellBest_2 24 rfl rfl
theorem dX2_tellBest_0 : decode cX2_tellBest 0 = .ok (.iload_n 1, 1) := dk_27 (dk_at dksX2_tellBest_0 0 rfl rfl)
theorem dX2_tellBest_1 : decode cX2_tellBest 1 = .ok (.iconst 0, 1) := dk_3 (dk_at dksX2_tellBest_0 1 rfl rfl)
theorem dX2_tellBest_2 : decode cX2_tellBest 2 = .ok (.bipush 10, 2) := dk_16 10 (dk_at dksX2_tellBest_0 2 rfl rfl)
theorem dX2_tellBest_4 : decode cX2_tellBest 4 = .ok (.invokestatic 119, 3) := dk_184 0 119 (dk_at dksX2_tellBest_0 4 rfl rfl)
theorem dX2_tellBest_7 : decode cX2_tellBest 7 = .ok (.ifCond .eq 14, 3) := dk_153 0 14 (dk_at dksX2_tellBest_0 7 rfl rfl)
theorem dX2_tellBest_10 : decode cX2_tellBest 10 = .ok (.iload_n 2, 1) := dk_28 (dk_at dksX2_tellBest_0 10 rfl rfl)
theorem dX2_tellBest_11 : decode cX2_tellBest 11 = .ok (.iconst 0, 1) := dk_3 (dk_at dksX2_tellBest_0 11 rfl rfl)
theorem dX2_tellBest_12 : decode cX2_tellBest 12 = .ok (.sipush 999, 3) := dk_17 3 231 (dk_at dksX2_tellBest_0 12 rfl rfl)
theorem dX2_tellBest_15 : decode cX2_tellBest 15 = .ok (.invokestatic 119, 3) := dk_184 0 119 (dk_at dksX2_tellBest_0 15 rfl rfl)
theorem dX2_tellBest_18 : decode cX2_tellBest 18 = .ok (.ifCond .ne 5, 3) := dk_154 0 5 (dk_at dksX2_tellBest_0 18 rfl rfl)
theorem dX2_tellBest_21 : decode cX2_tellBest 21 = .ok (.iconst (-1), 1) := dk_2 (dk_at dksX2_tellBest_0 21 rfl rfl)
theorem dX2_tellBest_22 : decode cX2_tellBest 22 = .ok (.ireturn, 1) := dk_172 (dk_at dksX2_tellBest_0 22 rfl rfl)
theorem dX2_tellBest_23 : decode cX2_tellBest 23 = .ok (.iload_n 3, 1) := dk_29 (dk_at dksX2_tellBest_0 23 rfl rfl)
theorem dX2_tellBest_24 : decode cX2_tellBest 24 = .ok (.iconst 1, 1) := dk_4 (dk_at dksX2_tellBest_1 0 rfl rfl)
theorem dX2_tellBest_25 : decode cX2_tellBest 25 = .ok (.if_icmp .ne 10, 3) := dk_160 0 10 (dk_at dksX2_tellBest_1 1 rfl rfl)
theorem dX2_tellBest_28 : decode cX2_tellBest 28 = .ok (.aload_n 0, 1) := dk_42 (dk_at dksX2_tellBest_1 4 rfl rfl)
theorem dX2_tellBest_29 : decode cX2_tellBest 29 = .ok (.getfield 123, 3) := dk_180 0 123 (dk_at dksX2_tellBest_1 5 rfl rfl)
theorem dX2_tellBest_32 : decode cX2_tellBest 32 = .ok (.ifCond .eq 17, 3) := dk_153 0 17 (dk_at dksX2_tellBest_1 8 rfl rfl)
theorem dX2_tellBest_35 : decode cX2_tellBest 35 = .ok (.aload_n 0, 1) := dk_42 (dk_at dksX2_tellBest_1 11 rfl rfl)
theorem dX2_tellBest_36 : decode cX2_tellBest 36 = .ok (.iload_n 1, 1) := dk_27 (dk_at dksX2_tellBest_1 12 rfl rfl)
theorem dX2_tellBest_37 : decode cX2_tellBest 37 = .ok (.iload_n 2, 1) := dk_28 (dk_at dksX2_tellBest_1 13 rfl rfl)
theorem dX2_tellBest_38 : decode cX2_tellBest 38 = .ok (.iload_n 3, 1) := dk_29 (dk_at dksX2_tellBest_1 14 rfl rfl)
theorem dX2_tellBest_39 : decode cX2_tellBest 39 = .ok (.aload_n 0, 1) := dk_42 (dk_at dksX2_tellBest_1 15 rfl rfl)
theorem dX2_tellBest_40 : decode cX2_tellBest 40 = .ok (.invokevirtual 298, 3) := dk_182 1 42 (dk_at dksX2_tellBest_1 16 rfl rfl)
theorem dX2_tellBest_43 : decode cX2_tellBest 43 = .ok (.invokevirtual 352, 3) := dk_182 1 96 (dk_at dksX2_tellBest_1 19 rfl rfl)
theorem dX2_tellBest_46 : decode cX2_tellBest 46 = .ok (.ifCond .ne 6, 3) := dk_154 0 6 (dk_at dksX2_tellBest_2 0 rfl rfl)
theorem dX2_tellBest_49 : decode cX2_tellBest 49 = .ok (.bipush (-2), 2) := dk_16 254 (dk_at dksX2_tellBest_2 3 rfl rfl)
theorem dX2_tellBest_51 : decode cX2_tellBest 51 = .ok (.ireturn, 1) := dk_172 (dk_at dksX2_tellBest_2 5 rfl rfl)
theorem dX2_tellBest_52 : decode cX2_tellBest 52 = .ok (.aload_n 0, 1) := dk_42 (dk_at dksX2_tellBest_2 6 rfl rfl)
theorem dX2_tellBest_53 : decode cX2_tellBest 53 = .ok (.iconst 0, 1) := dk_3 (dk_at dksX2_tellBest_2 7 rfl rfl)
theorem dX2_tellBest_54 : decode cX2_tellBest 54 = .ok (.putfield 113, 3) := dk_181 0 113 (dk_at dksX2_tellBest_2 8 rfl rfl)
theorem dX2_tellBest_57 : decode cX2_tellBest 57 = .ok (.aload_n 0, 1) := dk_42 (dk_at dksX2_tellBest_2 11 rfl rfl)
theorem dX2_tellBest_58 : decode cX2_tellBest 58 = .ok (.aload_n 0, 1) := dk_42 (dk_at dksX2_tellBest_2 12 rfl rfl)
theorem dX2_tellBest_59 : decode cX2_tellBest 59 = .ok (.getfield 349, 3) := dk_180 1 93 (dk_at dksX2_tellBest_2 13 rfl rfl)
theorem dX2_tellBest_62 : decode cX2_tellBest 62 = .ok (.invokevirtual 289, 3) := dk_182 1 33 (dk_at dksX2_tellBest_2 16 rfl rfl)
theorem dX2_tellBest_65 : decode cX2_tellBest 65 = .ok (.aload_n 0, 1) := dk_42 (dk_at dksX2_tellBest_2 19 rfl rfl)
theorem dX2_tellBest_66 : decode cX2_tellBest 66 = .ok (.aload_n 0, 1) := dk_42 (dk_at dksX2_tellBest_2 20 rfl rfl)
theorem dX2_tellBest_67 : decode cX2_tellBest 67 = .ok (.invokevirtual 255, 3) := dk_182 0 255 (dk_at dksX2_tellBest_2 21 rfl rfl)
theorem dX2_tellBest_70 : decode cX2_tellBest 70 = .ok (.aload_n 0, 1) := dk_42 (dk_at dksX2_tellBest_3 0 rfl rfl)
theorem dX2_tellBest_71 : decode cX2_tellBest 71 = .ok (.invokevirtual 258, 3) := dk_182 1 2 (dk_at dksX2_tellBest_3 1 rfl rfl)
theorem dX2_tellBest_74 : decode cX2_tellBest 74 = .ok (.aload_n 0, 1) := dk_42 (dk_at dksX2_tellBest_3 4 rfl rfl)
theorem dX2_tellBest_75 : decode cX2_tellBest 75 = .ok (.invokevirtual 298, 3) := dk_182 1 42 (dk_at dksX2_tellBest_3 5 rfl rfl)
theorem dX2_tellBest_78 : decode cX2_tellBest 78 = .ok (.invokevirtual 320, 3) := dk_182 1 64 (dk_at dksX2_tellBest_3 8 rfl rfl)
theorem dX2_tellBest_81 : decode cX2_tellBest 81 = .ok (.iconst 1, 1) := dk_4 (dk_at dksX2_tellBest_3 11 rfl rfl)
theorem dX2_tellBest_82 : decode cX2_tellBest 82 = .ok (.ireturn, 1) := dk_172 (dk_at dksX2_tellBest_3 12 rfl rfl)
abbrev cX2_findBest : ByteArray := prog_8_method_82_code
def yX2_findBest : MethodName := ⟨RX2, "findBest", "(IIII)Z"⟩
def dkwX2_findBest_13 : List UInt8 := [42, 21, 4, 182, 1, 61, 4, 172]
abbrev dktX2_findBest_13 : List UInt8 := dkwX2_findBest_13 ++ []
def dkwX2_findBest_12 : List UInt8 := [47, 9, 148, 158, 0, 7, 4, 167, 0, 4, 3, 84, 132, 8, 1, 167, 255, 200, 132, 7, 1, 167, 255, 165]
abbrev dktX2_findBest_12 : List UInt8 := dkwX2_findBest_12 ++ dktX2_findBest_13
def dkwX2_findBest_11 : List UInt8 := [184, 1, 48, 21, 7, 21, 8, 184, 1, 45, 153, 0, 24, 42, 180, 0, 67, 21, 7, 21, 8, 184, 1, 48]
abbrev dktX2_findBest_11 : List UInt8 := dkwX2_findBest_11 ++ dktX2_findBest_12
def dkwX2_findBest_10 : List UInt8 := [167, 0, 65, 2, 54, 8, 21, 8, 42, 180, 0, 116, 162, 0, 53, 42, 180, 0, 61, 21, 7, 21, 8]
abbrev dktX2_findBest_10 : List UInt8 := dkwX2_findBest_10 ++ dktX2_findBest_11
def dkwX2_findBest_9 : List UInt8 := [21, 7, 42, 182, 1, 42, 163, 0, 88, 42, 180, 0, 71, 21, 7, 46, 42, 180, 1, 93, 159, 0, 6]
abbrev dktX2_findBest_9 : List UInt8 := dkwX2_findBest_9 ++ dktX2_findBest_10
def dkwX2_findBest_8 : List UInt8 := [4, 54, 6, 132, 7, 1, 167, 255, 86, 21, 6, 154, 0, 5, 3, 172, 42, 182, 1, 58, 3, 54, 7]
abbrev dktX2_findBest_8 : List UInt8 := dkwX2_findBest_8 ++ dktX2_findBest_9
def dkwX2_findBest_7 : List UInt8 := [180, 0, 71, 21, 7, 46, 42, 180, 1, 93, 164, 0, 14, 42, 42, 180, 0, 71, 21, 7, 46, 181, 1, 93]
abbrev dktX2_findBest_7 : List UInt8 := dkwX2_findBest_7 ++ dktX2_findBest_8
def dkwX2_findBest_6 : List UInt8 := [167, 0, 50, 42, 180, 0, 71, 21, 7, 42, 21, 9, 29, 182, 1, 90, 79, 21, 6, 153, 0, 17, 42]
abbrev dktX2_findBest_6 : List UInt8 := dkwX2_findBest_6 ++ dktX2_findBest_7
def dkwX2_findBest_5 : List UInt8 := [21, 7, 184, 0, 196, 42, 180, 0, 252, 27, 96, 160, 0, 63, 42, 21, 9, 182, 1, 82, 28, 164, 0, 6]
abbrev dktX2_findBest_5 : List UInt8 := dkwX2_findBest_5 ++ dktX2_findBest_6
def dkwX2_findBest_4 : List UInt8 := [3, 54, 8, 132, 9, 1, 167, 255, 205, 21, 7, 21, 5, 2, 130, 126, 54, 9, 21, 8, 153, 0, 77]
abbrev dktX2_findBest_4 : List UInt8 := dkwX2_findBest_4 ++ dktX2_findBest_5
def dkwX2_findBest_3 : List UInt8 := [153, 0, 24, 42, 180, 0, 67, 21, 7, 21, 9, 184, 1, 48, 47, 9, 148, 158, 0, 7, 4, 167, 0, 4]
abbrev dktX2_findBest_3 : List UInt8 := dkwX2_findBest_3 ++ dktX2_findBest_4
def dkwX2_findBest_2 : List UInt8 := [54, 9, 21, 9, 42, 180, 0, 116, 162, 0, 48, 21, 8, 154, 0, 30, 21, 7, 21, 9, 184, 1, 45]
abbrev dktX2_findBest_2 : List UInt8 := dkwX2_findBest_2 ++ dktX2_findBest_3
def dkwX2_findBest_1 : List UInt8 := [21, 7, 42, 182, 1, 42, 163, 0, 167, 42, 180, 0, 71, 21, 7, 19, 1, 89, 79, 3, 54, 8, 2]
abbrev dktX2_findBest_1 : List UInt8 := dkwX2_findBest_1 ++ dktX2_findBest_2
def dkwX2_findBest_0 : List UInt8 := [42, 182, 0, 255, 54, 5, 42, 21, 5, 42, 182, 1, 2, 21, 4, 182, 1, 54, 3, 54, 6, 3, 54, 7]
abbrev dktX2_findBest_0 : List UInt8 := dkwX2_findBest_0 ++ dktX2_findBest_1
theorem dksX2_findBest_0 : cX2_findBest.data.toList.drop 0 = dktX2_findBest_0 := by decide +kernel
theorem dksX2_findBest_1 : cX2_findBest.data.toList.drop 24 = dktX2_findBest_1 := dk_seg dksX2_findBest_0 24 rfl rfl
theorem dksX2_findBest_2 : cX2_findBest.data.toList.drop 47 = dktX2_findBest_2 := dk_seg dksX2_findBest_1 23 rfl rfl
theorem dksX2_findBest_3 : cX2_findBest.data.toList.drop 70 = dktX2_findBest_3 := dk_seg dksX2_findBest_2 23 rfl rfl
theorem dksX2_findBest_4 : cX2_findBest.data.toList.drop 94 = dktX2_findBest_4 := dk_seg dksX2_findBest_3 24 rfl rfl
theorem dksX2_findBest_5 : cX2_findBest.data.toList.drop 117 = dktX2_findBest_5 := dk_seg dksX2_findBest_4 23 rfl rfl
theorem dksX2_findBest_6 : cX2_findBest.data.toList.drop 141 = dktX2_findBest_6 := dk_seg dksX2_findBest_5 24 rfl rfl
theorem dksX2_findBest_7 : cX2_findBest.data.toList.drop 164 = dktX2_findBest_7 := dk_seg dksX2_findBest_6 23 rfl rfl
theorem dksX2_findBest_8 : cX2_findBest.data.toList.drop 188 = dktX2_findBest_8 := dk_seg dksX2_findBest_7 24 rfl rfl
theorem dksX2_findBest_9 : cX2_findBest.data.toList.drop 211 = dktX2_findBest_9 := dk_seg dksX2_findBest_8 23 rfl rfl
theorem dksX2_findBest_10 : cX2_findBest.data.toList.drop 234 = dktX2_findBest_10 := dk_seg dksX2_findBest_9 23 rfl rfl
theorem dksX2_findBest_11 : cX2_findBest.data.toList.drop 257 = dktX2_findBest_11 := dk_seg dksX2_findBest_10 23 rfl rfl
theorem dksX2_findBest_12 : cX2_findBest.data.toList.drop 281 = dktX2_findBest_12 := dk_seg dksX2_findBest_11 24 rfl rfl
theorem dksX2_findBest_13 : cX2_findBest.data.toList.drop 305 = dktX2_findBest_13 := dk_seg dksX2_findBest_12 24 rfl rfl
theorem dX2_findBest_0 : decode cX2_findBest 0 = .ok (.aload_n 0, 1) := dk_42 (dk_at dksX2_findBest_0 0 rfl rfl)
theorem dX2_findBest_1 : decode cX2_findBest 1 = .ok (.invokevirtual 255, 3) := dk_182 0 255 (dk_at dksX2_findBest_0 1 rfl rfl)
theorem dX2_findBest_4 : decode cX2_findBest 4 = .ok (.istore 5, 2) := dk_54 5 (dk_at dksX2_findBest_0 4 rfl rfl)
theorem dX2_findBest_6 : decode cX2_findBest 6 = .ok (.aload_n 0, 1) := dk_42 (dk_at dksX2_findBest_0 6 rfl rfl)
theorem dX2_findBest_7 : decode cX2_findBest 7 = .ok (.iload 5, 2) := dk_21 5 (dk_at dksX2_findBest_0 7 rfl rfl)
theorem dX2_findBest_9 : decode cX2_findBest 9 = .ok (.aload_n 0, 1) := dk_42 (dk_at dksX2_findBest_0 9 rfl rfl)
theorem dX2_findBest_10 : decode cX2_findBest 10 = .ok (.invokevirtual 258, 3) := dk_182 1 2 (dk_at dksX2_findBest_0 10 rfl rfl)
theorem dX2_findBest_13 : decode cX2_findBest 13 = .ok (.iload 4, 2) := dk_21 4 (dk_at dksX2_findBest_0 13 rfl rfl)
theorem dX2_findBest_15 : decode cX2_findBest 15 = .ok (.invokevirtual 310, 3) := dk_182 1 54 (dk_at dksX2_findBest_0 15 rfl rfl)
theorem dX2_findBest_18 : decode cX2_findBest 18 = .ok (.iconst 0, 1) := dk_3 (dk_at dksX2_findBest_0 18 rfl rfl)
theorem dX2_findBest_19 : decode cX2_findBest 19 = .ok (.istore 6, 2) := dk_54 6 (dk_at dksX2_findBest_0 19 rfl rfl)
theorem dX2_findBest_21 : decode cX2_findBest 21 = .ok (.iconst 0, 1) := dk_3 (dk_at dksX2_findBest_0 21 rfl rfl)
theorem dX2_findBest_22 : decode cX2_findBest 22 = .ok (.istore 7, 2) := dk_54 7 (dk_at dksX2_findBest_0 22 rfl rfl)
theorem dX2_findBest_24 : decode cX2_findBest 24 = .ok (.iload 7, 2) := dk_21 7 (dk_at dksX2_findBest_1 0 rfl rfl)
theorem dX2_findBest_26 : decode cX2_findBest 26 = .ok (.aload_n 0, 1) := dk_42 (dk_at dksX2_findBest_1 2 rfl rfl)
theorem dX2_findBest_27 : decode cX2_findBest 27 = .ok (.invokevirtual 298, 3) := dk_182 1 42 (dk_at dksX2_findBest_1 3 rfl rfl)
theorem dX2_findBest_30 : decode cX2_findBest 30 = .ok (.if_icmp .gt 167, 3) := dk_163 0 167 (dk_at dksX2_findBest_1 6 rfl rfl)
theorem dX2_findBest_33 : decode cX2_findBest 33 = .ok (.aload_n 0, 1) := dk_42 (dk_at dksX2_findBest_1 9 rfl rfl)
theorem dX2_findBest_34 : decode cX2_findBest 34 = .ok (.getfield 71, 3) := dk_180 0 71 (dk_at dksX2_findBest_1 10 rfl rfl)
theorem dX2_findBest_37 : decode cX2_findBest 37 = .ok (.iload 7, 2) := dk_21 7 (dk_at dksX2_findBest_1 13 rfl rfl)
theorem dX2_findBest_39 : decode cX2_findBest 39 = .ok (.ldc_w 345, 3) := dk_19 1 89 (dk_at dksX2_findBest_1 15 rfl rfl)
theorem dX2_findBest_42 : decode cX2_findBest 42 = .ok (.iastore, 1) := dk_79 (dk_at dksX2_findBest_1 18 rfl rfl)
theorem dX2_findBest_43 : decode cX2_findBest 43 = .ok (.iconst 0, 1) := dk_3 (dk_at dksX2_findBest_1 19 rfl rfl)
theorem dX2_findBest_44 : decode cX2_findBest 44 = .ok (.istore 8, 2) := dk_54 8 (dk_at dksX2_findBest_1 20 rfl rfl)
theorem dX2_findBest_46 : decode cX2_findBest 46 = .ok (.iconst (-1), 1) := dk_2 (dk_at dksX2_findBest_1 22 rfl rfl)
theorem dX2_findBest_47 : decode cX2_findBest 47 = .ok (.istore 9, 2) := dk_54 9 (dk_at dksX2_findBest_2 0 rfl rfl)
theorem dX2_findBest_49 : decode cX2_findBest 49 = .ok (.iload 9, 2) := dk_21 9 (dk_at dksX2_findBest_2 2 rfl rfl)
theorem dX2_findBest_51 : decode cX2_findBest 51 = .ok (.aload_n 0, 1) := dk_42 (dk_at dksX2_findBest_2 4 rfl rfl)
theorem dX2_findBest_52 : decode cX2_findBest 52 = .ok (.getfield 116, 3) := dk_180 0 116 (dk_at dksX2_findBest_2 5 rfl rfl)
theorem dX2_findBest_55 : decode cX2_findBest 55 = .ok (.if_icmp .ge 48, 3) := dk_162 0 48 (dk_at dksX2_findBest_2 8 rfl rfl)
theorem dX2_findBest_58 : decode cX2_findBest 58 = .ok (.iload 8, 2) := dk_21 8 (dk_at dksX2_findBest_2 11 rfl rfl)
theorem dX2_findBest_60 : decode cX2_findBest 60 = .ok (.ifCond .ne 30, 3) := dk_154 0 30 (dk_at dksX2_findBest_2 13 rfl rfl)
theorem dX2_findBest_63 : decode cX2_findBest 63 = .ok (.iload 7, 2) := dk_21 7 (dk_at dksX2_findBest_2 16 rfl rfl)
theorem dX2_findBest_65 : decode cX2_findBest 65 = .ok (.iload 9, 2) := dk_21 9 (dk_at dksX2_findBest_2 18 rfl rfl)
theorem dX2_findBest_67 : decode cX2_findBest 67 = .ok (.invokestatic 301, 3) := dk_184 1 45 (dk_at dksX2_findBest_2 20 rfl rfl)
theorem dX2_findBest_70 : decode cX2_findBest 70 = .ok (.ifCond .eq 24, 3) := dk_153 0 24 (dk_at dksX2_findBest_3 0 rfl rfl)
theorem dX2_findBest_73 : decode cX2_findBest 73 = .ok (.aload_n 0, 1) := dk_42 (dk_at dksX2_findBest_3 3 rfl rfl)
theorem dX2_findBest_74 : decode cX2_findBest 74 = .ok (.getfield 67, 3) := dk_180 0 67 (dk_at dksX2_findBest_3 4 rfl rfl)
theorem dX2_findBest_77 : decode cX2_findBest 77 = .ok (.iload 7, 2) := dk_21 7 (dk_at dksX2_findBest_3 7 rfl rfl)
theorem dX2_findBest_79 : decode cX2_findBest 79 = .ok (.iload 9, 2) := dk_21 9 (dk_at dksX2_findBest_3 9 rfl rfl)
theorem dX2_findBest_81 : decode cX2_findBest 81 = .ok (.invokestatic 304, 3) := dk_184 1 48 (dk_at dksX2_findBest_3 11 rfl rfl)
theorem dX2_findBest_84 : decode cX2_findBest 84 = .ok (.laload, 1) := dk_47 (dk_at dksX2_findBest_3 14 rfl rfl)
theorem dX2_findBest_85 : decode cX2_findBest 85 = .ok (.lconst 0, 1) := dk_9 (dk_at dksX2_findBest_3 15 rfl rfl)
theorem dX2_findBest_86 : decode cX2_findBest 86 = .ok (.lcmp, 1) := dk_148 (dk_at dksX2_findBest_3 16 rfl rfl)
theorem dX2_findBest_87 : decode cX2_findBest 87 = .ok (.ifCond .le 7, 3) := dk_158 0 7 (dk_at dksX2_findBest_3 17 rfl rfl)
theorem dX2_findBest_90 : decode cX2_findBest 90 = .ok (.iconst 1, 1) := dk_4 (dk_at dksX2_findBest_3 20 rfl rfl)
theorem dX2_findBest_91 : decode cX2_findBest 91 = .ok (.goto 4, 3) := dk_167 0 4 (dk_at dksX2_findBest_3 21 rfl rfl)
theorem dX2_findBest_94 : decode cX2_findBest 94 = .ok (.iconst 0, 1) := dk_3 (dk_at dksX2_findBest_4 0 rfl rfl)
theorem dX2_findBest_95 : decode cX2_findBest 95 = .ok (.istore 8, 2) := dk_54 8 (dk_at dksX2_findBest_4 1 rfl rfl)
theorem dX2_findBest_97 : decode cX2_findBest 97 = .ok (.iinc 9 1, 3) := dk_132 9 1 (dk_at dksX2_findBest_4 3 rfl rfl)
theorem dX2_findBest_100 : decode cX2_findBest 100 = .ok (.goto (-51), 3) := dk_167 255 205 (dk_at dksX2_findBest_4 6 rfl rfl)
theorem dX2_findBest_103 : decode cX2_findBest 103 = .ok (.iload 7, 2) := dk_21 7 (dk_at dksX2_findBest_4 9 rfl rfl)
theorem dX2_findBest_105 : decode cX2_findBest 105 = .ok (.iload 5, 2) := dk_21 5 (dk_at dksX2_findBest_4 11 rfl rfl)
theorem dX2_findBest_107 : decode cX2_findBest 107 = .ok (.iconst (-1), 1) := dk_2 (dk_at dksX2_findBest_4 13 rfl rfl)
theorem dX2_findBest_108 : decode cX2_findBest 108 = .ok (.ixor, 1) := dk_130 (dk_at dksX2_findBest_4 14 rfl rfl)
theorem dX2_findBest_109 : decode cX2_findBest 109 = .ok (.iand, 1) := dk_126 (dk_at dksX2_findBest_4 15 rfl rfl)
theorem dX2_findBest_110 : decode cX2_findBest 110 = .ok (.istore 9, 2) := dk_54 9 (dk_at dksX2_findBest_4 16 rfl rfl)
theorem dX2_findBest_112 : decode cX2_findBest 112 = .ok (.iload 8, 2) := dk_21 8 (dk_at dksX2_findBest_4 18 rfl rfl)
theorem dX2_findBest_114 : decode cX2_findBest 114 = .ok (.ifCond .eq 77, 3) := dk_153 0 77 (dk_at dksX2_findBest_4 20 rfl rfl)
theorem dX2_findBest_117 : decode cX2_findBest 117 = .ok (.iload 7, 2) := dk_21 7 (dk_at dksX2_findBest_5 0 rfl rfl)
theorem dX2_findBest_119 : decode cX2_findBest 119 = .ok (.invokestatic 196, 3) := dk_184 0 196 (dk_at dksX2_findBest_5 2 rfl rfl)
theorem dX2_findBest_122 : decode cX2_findBest 122 = .ok (.aload_n 0, 1) := dk_42 (dk_at dksX2_findBest_5 5 rfl rfl)
theorem dX2_findBest_123 : decode cX2_findBest 123 = .ok (.getfield 252, 3) := dk_180 0 252 (dk_at dksX2_findBest_5 6 rfl rfl)
theorem dX2_findBest_126 : decode cX2_findBest 126 = .ok (.iload_n 1, 1) := dk_27 (dk_at dksX2_findBest_5 9 rfl rfl)
theorem dX2_findBest_127 : decode cX2_findBest 127 = .ok (.iadd, 1) := dk_96 (dk_at dksX2_findBest_5 10 rfl rfl)
theorem dX2_findBest_128 : decode cX2_findBest 128 = .ok (.if_icmp .ne 63, 3) := dk_160 0 63 (dk_at dksX2_findBest_5 11 rfl rfl)
theorem dX2_findBest_131 : decode cX2_findBest 131 = .ok (.aload_n 0, 1) := dk_42 (dk_at dksX2_findBest_5 14 rfl rfl)
theorem dX2_findBest_132 : decode cX2_findBest 132 = .ok (.iload 9, 2) := dk_21 9 (dk_at dksX2_findBest_5 15 rfl rfl)
theorem dX2_findBest_134 : decode cX2_findBest 134 = .ok (.invokevirtual 338, 3) := dk_182 1 82 (dk_at dksX2_findBest_5 17 rfl rfl)
theorem dX2_findBest_137 : decode cX2_findBest 137 = .ok (.iload_n 2, 1) := dk_28 (dk_at dksX2_findBest_5 20 rfl rfl)
theorem dX2_findBest_138 : decode cX2_findBest 138 = .ok (.if_icmp .le 6, 3) := dk_164 0 6 (dk_at dksX2_findBest_5 21 rfl rfl)
theorem dX2_findBest_141 : decode cX2_findBest 141 = .ok (.goto 50, 3) := dk_167 0 50 (dk_at dksX2_findBest_6 0 rfl rfl)
theorem dX2_findBest_144 : decode cX2_findBest 144 = .ok (.aload_n 0, 1) := dk_42 (dk_at dksX2_findBest_6 3 rfl rfl)
theorem dX2_findBest_145 : decode cX2_findBest 145 = .ok (.getfield 71, 3) := dk_180 0 71 (dk_at dksX2_findBest_6 4 rfl rfl)
theorem dX2_findBest_148 : decode cX2_findBest 148 = .ok (.iload 7, 2) := dk_21 7 (dk_at dksX2_findBest_6 7 rfl rfl)
theorem dX2_findBest_150 : decode cX2_findBest 150 = .ok (.aload_n 0, 1) := dk_42 (dk_at dksX2_findBest_6 9 rfl rfl)
theorem dX2_findBest_151 : decode cX2_findBest 151 = .ok (.iload 9, 2) := dk_21 9 (dk_at dksX2_findBest_6 10 rfl rfl)
theorem dX2_findBest_153 : decode cX2_findBest 153 = .ok (.iload_n 3, 1) := dk_29 (dk_at dksX2_findBest_6 12 rfl rfl)
theorem dX2_findBest_154 : decode cX2_findBest 154 = .ok (.invokevirtual 346, 3) := dk_182 1 90 (dk_at dksX2_findBest_6 13 rfl rfl)
theorem dX2_findBest_157 : decode cX2_findBest 157 = .ok (.iastore, 1) := dk_79 (dk_at dksX2_findBest_6 16 rfl rfl)
theorem dX2_findBest_158 : decode cX2_findBest 158 = .ok (.iload 6, 2) := dk_21 6 (dk_at dksX2_findBest_6 17 rfl rfl)
theorem dX2_findBest_160 : decode cX2_findBest 160 = .ok (.ifCond .eq 17, 3) := dk_153 0 17 (dk_at dksX2_findBest_6 19 rfl rfl)
theorem dX2_findBest_163 : decode cX2_findBest 163 = .ok (.aload_n 0, 1) := dk_42 (dk_at dksX2_findBest_6 22 rfl rfl)
theorem dX2_findBest_164 : decode cX2_findBest 164 = .ok (.getfield 71, 3) := dk_180 0 71 (dk_at dksX2_findBest_7 0 rfl rfl)
theorem dX2_findBest_167 : decode cX2_findBest 167 = .ok (.iload 7, 2) := dk_21 7 (dk_at dksX2_findBest_7 3 rfl rfl)
theorem dX2_findBest_169 : decode cX2_findBest 169 = .ok (.iaload, 1) := dk_46 (dk_at dksX2_findBest_7 5 rfl rfl)
theorem dX2_findBest_170 : decode cX2_findBest 170 = .ok (.aload_n 0, 1) := dk_42 (dk_at dksX2_findBest_7 6 rfl rfl)
theorem dX2_findBest_171 : decode cX2_findBest 171 = .ok (.getfield 349, 3) := dk_180 1 93 (dk_at dksX2_findBest_7 7 rfl rfl)
theorem dX2_findBest_174 : decode cX2_findBest 174 = .ok (.if_icmp .le 14, 3) := dk_164 0 14 (dk_at dksX2_findBest_7 10 rfl rfl)
theorem dX2_findBest_177 : decode cX2_findBest 177 = .ok (.aload_n 0, 1) := dk_42 (dk_at dksX2_findBest_7 13 rfl rfl)
theorem dX2_findBest_178 : decode cX2_findBest 178 = .ok (.aload_n 0, 1) := dk_42 (dk_at dksX2_findBest_7 14 rfl rfl)
theorem dX2_findBest_179 : decode cX2_findBest 179 = .ok (.getfield 71, 3) := dk_180 0 71 (dk_at dksX2_findBest_7 15 rfl rfl)
theorem dX2_findBest_182 : decode cX2_findBest 182 = .ok (.iload 7, 2) := dk_21 7 (dk_at dksX2_findBest_7 18 rfl rfl)
theorem dX2_findBest_184 : decode cX2_findBest 184 = .ok (.iaload, 1) := dk_46 (dk_at dksX2_findBest_7 20 rfl rfl)
theorem dX2_findBest_185 : decode cX2_findBest 185 = .ok (.putfield 349, 3) := dk_181 1 93 (dk_at dksX2_findBest_7 21 rfl rfl)
theorem dX2_findBest_188 : decode cX2_findBest 188 = .ok (.iconst 1, 1) := dk_4 (dk_at dksX2_findBest_8 0 rfl rfl)
theorem dX2_findBest_189 : decode cX2_findBest 189 = .ok (.istore 6, 2) := dk_54 6 (dk_at dksX2_findBest_8 1 rfl rfl)
theorem dX2_findBest_191 : decode cX2_findBest 191 = .ok (.iinc 7 1, 3) := dk_132 7 1 (dk_at dksX2_findBest_8 3 rfl rfl)
theorem dX2_findBest_194 : decode cX2_findBest 194 = .ok (.goto (-170), 3) := dk_167 255 86 (dk_at dksX2_findBest_8 6 rfl rfl)
theorem dX2_findBest_197 : decode cX2_findBest 197 = .ok (.iload 6, 2) := dk_21 6 (dk_at dksX2_findBest_8 9 rfl rfl)
theorem dX2_findBest_199 : decode cX2_findBest 199 = .ok (.ifCond .ne 5, 3) := dk_154 0 5 (dk_at dksX2_findBest_8 11 rfl rfl)
theorem dX2_findBest_202 : decode cX2_findBest 202 = .ok (.iconst 0, 1) := dk_3 (dk_at dksX2_findBest_8 14 rfl rfl)
theorem dX2_findBest_203 : decode cX2_findBest 203 = .ok (.ireturn, 1) := dk_172 (dk_at dksX2_findBest_8 15 rfl rfl)
theorem dX2_findBest_204 : decode cX2_findBest 204 = .ok (.aload_n 0, 1) := dk_42 (dk_at dksX2_findBest_8 16 rfl rfl)
theorem dX2_findBest_205 : decode cX2_findBest 205 = .ok (.invokevirtual 314, 3) := dk_182 1 58 (dk_at dksX2_findBest_8 17 rfl rfl)
theorem dX2_findBest_208 : decode cX2_findBest 208 = .ok (.iconst 0, 1) := dk_3 (dk_at dksX2_findBest_8 20 rfl rfl)
theorem dX2_findBest_209 : decode cX2_findBest 209 = .ok (.istore 7, 2) := dk_54 7 (dk_at dksX2_findBest_8 21 rfl rfl)
theorem dX2_findBest_211 : decode cX2_findBest 211 = .ok (.iload 7, 2) := dk_21 7 (dk_at dksX2_findBest_9 0 rfl rfl)
theorem dX2_findBest_213 : decode cX2_findBest 213 = .ok (.aload_n 0, 1) := dk_42 (dk_at dksX2_findBest_9 2 rfl rfl)
theorem dX2_findBest_214 : decode cX2_findBest 214 = .ok (.invokevirtual 298, 3) := dk_182 1 42 (dk_at dksX2_findBest_9 3 rfl rfl)
theorem dX2_findBest_217 : decode cX2_findBest 217 = .ok (.if_icmp .gt 88, 3) := dk_163 0 88 (dk_at dksX2_findBest_9 6 rfl rfl)
theorem dX2_findBest_220 : decode cX2_findBest 220 = .ok (.aload_n 0, 1) := dk_42 (dk_at dksX2_findBest_9 9 rfl rfl)
theorem dX2_findBest_221 : decode cX2_findBest 221 = .ok (.getfield 71, 3) := dk_180 0 71 (dk_at dksX2_findBest_9 10 rfl rfl)
theorem dX2_findBest_224 : decode cX2_findBest 224 = .ok (.iload 7, 2) := dk_21 7 (dk_at dksX2_findBest_9 13 rfl rfl)
theorem dX2_findBest_226 : decode cX2_findBest 226 = .ok (.iaload, 1) := dk_46 (dk_at dksX2_findBest_9 15 rfl rfl)
theorem dX2_findBest_227 : decode cX2_findBest 227 = .ok (.aload_n 0, 1) := dk_42 (dk_at dksX2_findBest_9 16 rfl rfl)
theorem dX2_findBest_228 : decode cX2_findBest 228 = .ok (.getfield 349, 3) := dk_180 1 93 (dk_at dksX2_findBest_9 17 rfl rfl)
theorem dX2_findBest_231 : decode cX2_findBest 231 = .ok (.if_icmp .eq 6, 3) := dk_159 0 6 (dk_at dksX2_findBest_9 20 rfl rfl)
theorem dX2_findBest_234 : decode cX2_findBest 234 = .ok (.goto 65, 3) := dk_167 0 65 (dk_at dksX2_findBest_10 0 rfl rfl)
theorem dX2_findBest_237 : decode cX2_findBest 237 = .ok (.iconst (-1), 1) := dk_2 (dk_at dksX2_findBest_10 3 rfl rfl)
theorem dX2_findBest_238 : decode cX2_findBest 238 = .ok (.istore 8, 2) := dk_54 8 (dk_at dksX2_findBest_10 4 rfl rfl)
theorem dX2_findBest_240 : decode cX2_findBest 240 = .ok (.iload 8, 2) := dk_21 8 (dk_at dksX2_findBest_10 6 rfl rfl)
theorem dX2_findBest_242 : decode cX2_findBest 242 = .ok (.aload_n 0, 1) := dk_42 (dk_at dksX2_findBest_10 8 rfl rfl)
theorem dX2_findBest_243 : decode cX2_findBest 243 = .ok (.getfield 116, 3) := dk_180 0 116 (dk_at dksX2_findBest_10 9 rfl rfl)
theorem dX2_findBest_246 : decode cX2_findBest 246 = .ok (.if_icmp .ge 53, 3) := dk_162 0 53 (dk_at dksX2_findBest_10 12 rfl rfl)
theorem dX2_findBest_249 : decode cX2_findBest 249 = .ok (.aload_n 0, 1) := dk_42 (dk_at dksX2_findBest_10 15 rfl rfl)
theorem dX2_findBest_250 : decode cX2_findBest 250 = .ok (.getfield 61, 3) := dk_180 0 61 (dk_at dksX2_findBest_10 16 rfl rfl)
theorem dX2_findBest_253 : decode cX2_findBest 253 = .ok (.iload 7, 2) := dk_21 7 (dk_at dksX2_findBest_10 19 rfl rfl)
theorem dX2_findBest_255 : decode cX2_findBest 255 = .ok (.iload 8, 2) := dk_21 8 (dk_at dksX2_findBest_10 21 rfl rfl)
theorem dX2_findBest_257 : decode cX2_findBest 257 = .ok (.invokestatic 304, 3) := dk_184 1 48 (dk_at dksX2_findBest_11 0 rfl rfl)
theorem dX2_findBest_260 : decode cX2_findBest 260 = .ok (.iload 7, 2) := dk_21 7 (dk_at dksX2_findBest_11 3 rfl rfl)
theorem dX2_findBest_262 : decode cX2_findBest 262 = .ok (.iload 8, 2) := dk_21 8 (dk_at dksX2_findBest_11 5 rfl rfl)
theorem dX2_findBest_264 : decode cX2_findBest 264 = .ok (.invokestatic 301, 3) := dk_184 1 45 (dk_at dksX2_findBest_11 7 rfl rfl)
theorem dX2_findBest_267 : decode cX2_findBest 267 = .ok (.ifCond .eq 24, 3) := dk_153 0 24 (dk_at dksX2_findBest_11 10 rfl rfl)
theorem dX2_findBest_270 : decode cX2_findBest 270 = .ok (.aload_n 0, 1) := dk_42 (dk_at dksX2_findBest_11 13 rfl rfl)
theorem dX2_findBest_271 : decode cX2_findBest 271 = .ok (.getfield 67, 3) := dk_180 0 67 (dk_at dksX2_findBest_11 14 rfl rfl)
theorem dX2_findBest_274 : decode cX2_findBest 274 = .ok (.iload 7, 2) := dk_21 7 (dk_at dksX2_findBest_11 17 rfl rfl)
theorem dX2_findBest_276 : decode cX2_findBest 276 = .ok (.iload 8, 2) := dk_21 8 (dk_at dksX2_findBest_11 19 rfl rfl)
theorem dX2_findBest_278 : decode cX2_findBest 278 = .ok (.invokestatic 304, 3) := dk_184 1 48 (dk_at dksX2_findBest_11 21 rfl rfl)
theorem dX2_findBest_281 : decode cX2_findBest 281 = .ok (.laload, 1) := dk_47 (dk_at dksX2_findBest_12 0 rfl rfl)
theorem dX2_findBest_282 : decode cX2_findBest 282 = .ok (.lconst 0, 1) := dk_9 (dk_at dksX2_findBest_12 1 rfl rfl)
theorem dX2_findBest_283 : decode cX2_findBest 283 = .ok (.lcmp, 1) := dk_148 (dk_at dksX2_findBest_12 2 rfl rfl)
theorem dX2_findBest_284 : decode cX2_findBest 284 = .ok (.ifCond .le 7, 3) := dk_158 0 7 (dk_at dksX2_findBest_12 3 rfl rfl)
theorem dX2_findBest_287 : decode cX2_findBest 287 = .ok (.iconst 1, 1) := dk_4 (dk_at dksX2_findBest_12 6 rfl rfl)
theorem dX2_findBest_288 : decode cX2_findBest 288 = .ok (.goto 4, 3) := dk_167 0 4 (dk_at dksX2_findBest_12 7 rfl rfl)
theorem dX2_findBest_291 : decode cX2_findBest 291 = .ok (.iconst 0, 1) := dk_3 (dk_at dksX2_findBest_12 10 rfl rfl)
theorem dX2_findBest_292 : decode cX2_findBest 292 = .ok (.bastore, 1) := dk_84 (dk_at dksX2_findBest_12 11 rfl rfl)
theorem dX2_findBest_293 : decode cX2_findBest 293 = .ok (.iinc 8 1, 3) := dk_132 8 1 (dk_at dksX2_findBest_12 12 rfl rfl)
theorem dX2_findBest_296 : decode cX2_findBest 296 = .ok (.goto (-56), 3) := dk_167 255 200 (dk_at dksX2_findBest_12 15 rfl rfl)
theorem dX2_findBest_299 : decode cX2_findBest 299 = .ok (.iinc 7 1, 3) := dk_132 7 1 (dk_at dksX2_findBest_12 18 rfl rfl)
theorem dX2_findBest_302 : decode cX2_findBest 302 = .ok (.goto (-91), 3) := dk_167 255 165 (dk_at dksX2_findBest_12 21 rfl rfl)
theorem dX2_findBest_305 : decode cX2_findBest 305 = .ok (.aload_n 0, 1) := dk_42 (dk_at dksX2_findBest_13 0 rfl rfl)
theorem dX2_findBest_306 : decode cX2_findBest 306 = .ok (.iload 4, 2) := dk_21 4 (dk_at dksX2_findBest_13 1 rfl rfl)
theorem dX2_findBest_308 : decode cX2_findBest 308 = .ok (.invokevirtual 317, 3) := dk_182 1 61 (dk_at dksX2_findBest_13 3 rfl rfl)
theorem dX2_findBest_311 : decode cX2_findBest 311 = .ok (.iconst 1, 1) := dk_4 (dk_at dksX2_findBest_13 6 rfl rfl)
theorem dX2_findBest_312 : decode cX2_findBest 312 = .ok (.ireturn, 1) := dk_172 (dk_at dksX2_findBest_13 7 rfl rfl)
abbrev cX2_costIn : ByteArray := prog_8_method_80_code
def yX2_costIn : MethodName := ⟨RX2, "costIn", "(I)I"⟩
def dkwX2_costIn_1 : List UInt8 := [180, 0, 16, 29, 46, 167, 0, 4, 3, 96, 61, 132, 3, 1, 167, 255, 224, 28, 172]
abbrev dktX2_costIn_1 : List UInt8 := dkwX2_costIn_1 ++ []
def dkwX2_costIn_0 : List UInt8 := [3, 61, 3, 62, 29, 42, 180, 0, 116, 162, 0, 30, 28, 27, 29, 184, 0, 239, 153, 0, 12, 42]
abbrev dktX2_costIn_0 : List UInt8 := dkwX2_costIn_0 ++ dktX2_costIn_1
theorem dksX2_costIn_0 : cX2_costIn.data.toList.drop 0 = dktX2_costIn_0 := by decide +kernel
theorem dksX2_costIn_1 : cX2_costIn.data.toList.drop 22 = dktX2_costIn_1 := dk_seg dksX2_costIn_0 22 rfl rfl
theorem dX2_costIn_0 : decode cX2_costIn 0 = .ok (.iconst 0, 1) := dk_3 (dk_at dksX2_costIn_0 0 rfl rfl)
theorem dX2_costIn_1 : decode cX2_costIn 1 = .ok (.istore_n 2, 1) := dk_61 (dk_at dksX2_costIn_0 1 rfl rfl)
theorem dX2_costIn_2 : decode cX2_costIn 2 = .ok (.iconst 0, 1) := dk_3 (dk_at dksX2_costIn_0 2 rfl rfl)
theorem dX2_costIn_3 : decode cX2_costIn 3 = .ok (.istore_n 3, 1) := dk_62 (dk_at dksX2_costIn_0 3 rfl rfl)
theorem dX2_costIn_4 : decode cX2_costIn 4 = .ok (.iload_n 3, 1) := dk_29 (dk_at dksX2_costIn_0 4 rfl rfl)
theorem dX2_costIn_5 : decode cX2_costIn 5 = .ok (.aload_n 0, 1) := dk_42 (dk_at dksX2_costIn_0 5 rfl rfl)
theorem dX2_costIn_6 : decode cX2_costIn 6 = .ok (.getfield 116, 3) := dk_180 0 116 (dk_at dksX2_costIn_0 6 rfl rfl)
theorem dX2_costIn_9 : decode cX2_costIn 9 = .ok (.if_icmp .ge 30, 3) := dk_162 0 30 (dk_at dksX2_costIn_0 9 rfl rfl)
theorem dX2_costIn_12 : decode cX2_costIn 12 = .ok (.iload_n 2, 1) := dk_28 (dk_at dksX2_costIn_0 12 rfl rfl)
theorem dX2_costIn_13 : decode cX2_costIn 13 = .ok (.iload_n 1, 1) := dk_27 (dk_at dksX2_costIn_0 13 rfl rfl)
theorem dX2_costIn_14 : decode cX2_costIn 14 = .ok (.iload_n 3, 1) := dk_29 (dk_at dksX2_costIn_0 14 rfl rfl)
theorem dX2_costIn_15 : decode cX2_costIn 15 = .ok (.invokestatic 239, 3) := dk_184 0 239 (dk_at dksX2_costIn_0 15 rfl rfl)
theorem dX2_costIn_18 : decode cX2_costIn 18 = .ok (.ifCond .eq 12, 3) := dk_153 0 12 (dk_at dksX2_costIn_0 18 rfl rfl)
theorem dX2_costIn_21 : decode cX2_costIn 21 = .ok (.aload_n 0, 1) := dk_42 (dk_at dksX2_costIn_0 21 rfl rfl)
theorem dX2_costIn_22 : decode cX2_costIn 22 = .ok (.getfield 16, 3) := dk_180 0 16 (dk_at dksX2_costIn_1 0 rfl rfl)
theorem dX2_costIn_25 : decode cX2_costIn 25 = .ok (.iload_n 3, 1) := dk_29 (dk_at dksX2_costIn_1 3 rfl rfl)
theorem dX2_costIn_26 : decode cX2_costIn 26 = .ok (.iaload, 1) := dk_46 (dk_at dksX2_costIn_1 4 rfl rfl)
theorem dX2_costIn_27 : decode cX2_costIn 27 = .ok (.goto 4, 3) := dk_167 0 4 (dk_at dksX2_costIn_1 5 rfl rfl)
theorem dX2_costIn_30 : decode cX2_costIn 30 = .ok (.iconst 0, 1) := dk_3 (dk_at dksX2_costIn_1 8 rfl rfl)
theorem dX2_costIn_31 : decode cX2_costIn 31 = .ok (.iadd, 1) := dk_96 (dk_at dksX2_costIn_1 9 rfl rfl)
theorem dX2_costIn_32 : decode cX2_costIn 32 = .ok (.istore_n 2, 1) := dk_61 (dk_at dksX2_costIn_1 10 rfl rfl)
theorem dX2_costIn_33 : decode cX2_costIn 33 = .ok (.iinc 3 1, 3) := dk_132 3 1 (dk_at dksX2_costIn_1 11 rfl rfl)
theorem dX2_costIn_36 : decode cX2_costIn 36 = .ok (.goto (-32), 3) := dk_167 255 224 (dk_at dksX2_costIn_1 14 rfl rfl)
theorem dX2_costIn_39 : decode cX2_costIn 39 = .ok (.iload_n 2, 1) := dk_28 (dk_at dksX2_costIn_1 17 rfl rfl)
theorem dX2_costIn_40 : decode cX2_costIn 40 = .ok (.ireturn, 1) := dk_172 (dk_at dksX2_costIn_1 18 rfl rfl)
abbrev cX2_scoreOf : ByteArray := prog_8_method_81_code
def yX2_scoreOf : MethodName := ⟨RX2, "scoreOf", "(II)I"⟩
def dkwX2_scoreOf_3 : List UInt8 := [167, 255, 221, 28, 154, 0, 7, 29, 167, 0, 5, 21, 4, 172]
abbrev dktX2_scoreOf_3 : List UInt8 := dkwX2_scoreOf_3 ++ []
def dkwX2_scoreOf_2 : List UInt8 := [182, 1, 86, 54, 6, 29, 21, 6, 96, 62, 21, 4, 21, 6, 184, 0, 204, 54, 4, 132, 5, 1]
abbrev dktX2_scoreOf_2 : List UInt8 := dkwX2_scoreOf_2 ++ dktX2_scoreOf_3
def dkwX2_scoreOf_1 : List UInt8 := [62, 19, 1, 85, 54, 4, 3, 54, 5, 21, 5, 42, 180, 0, 123, 162, 0, 32, 42, 27, 21, 5]
abbrev dktX2_scoreOf_1 : List UInt8 := dkwX2_scoreOf_1 ++ dktX2_scoreOf_2
def dkwX2_scoreOf_0 : List UInt8 := [28, 5, 160, 0, 10, 42, 27, 182, 1, 82, 116, 172, 28, 6, 160, 0, 9, 42, 27, 182, 1, 82, 172, 3]
abbrev dktX2_scoreOf_0 : List UInt8 := dkwX2_scoreOf_0 ++ dktX2_scoreOf_1
theorem dksX2_scoreOf_0 : cX2_scoreOf.data.toList.drop 0 = dktX2_scoreOf_0 := by decide +kernel
theorem dksX2_scoreOf_1 : cX2_scoreOf.data.toList.drop 24 = dktX2_scoreOf_1 := dk_seg dksX2_scoreOf_0 24 rfl rfl
theorem dksX2_scoreOf_2 : cX2_scoreOf.data.toList.drop 46 = dktX2_scoreOf_2 := dk_seg dksX2_scoreOf_1 22 rfl rfl
theorem dksX2_scoreOf_3 : cX2_scoreOf.data.toList.drop 68 = dktX2_scoreOf_3 := dk_seg dksX2_scoreOf_2 22 rfl rfl
theorem dX2_scoreOf_0 : decode cX2_scoreOf 0 = .ok (.iload_n 2, 1) := dk_28 (dk_at dksX2_scoreOf_0 0 rfl rfl)
theorem dX2_scoreOf_1 : decode cX2_scoreOf 1 = .ok (.iconst 2, 1) := dk_5 (dk_at dksX2_scoreOf_0 1 rfl rfl)
theorem dX2_scoreOf_2 : decode cX2_scoreOf 2 = .ok (.if_icmp .ne 10, 3) := dk_160 0 10 (dk_at dksX2_scoreOf_0 2 rfl rfl)
theorem dX2_scoreOf_5 : decode cX2_scoreOf 5 = .ok (.aload_n 0, 1) := dk_42 (dk_at dksX2_scoreOf_0 5 rfl rfl)
theorem dX2_scoreOf_6 : decode cX2_scoreOf 6 = .ok (.iload_n 1, 1) := dk_27 (dk_at dksX2_scoreOf_0 6 rfl rfl)
theorem dX2_scoreOf_7 : decode cX2_scoreOf 7 = .ok (.invokevirtual 338, 3) := dk_182 1 82 (dk_at dksX2_scoreOf_0 7 rfl rfl)
theorem dX2_scoreOf_10 : decode cX2_scoreOf 10 = .ok (.ineg, 1) := dk_116 (dk_at dksX2_scoreOf_0 10 rfl rfl)
theorem dX2_scoreOf_11 : decode cX2_scoreOf 11 = .ok (.ireturn, 1) := dk_172 (dk_at dksX2_scoreOf_0 11 rfl rfl)
theorem dX2_scoreOf_12 : decode cX2_scoreOf 12 = .ok (.iload_n 2, 1) := dk_28 (dk_at dksX2_scoreOf_0 12 rfl rfl)
theorem dX2_scoreOf_13 : decode cX2_scoreOf 13 = .ok (.iconst 3, 1) := dk_6 (dk_at dksX2_scoreOf_0 13 rfl rfl)
theorem dX2_scoreOf_14 : decode cX2_scoreOf 14 = .ok (.if_icmp .ne 9, 3) := dk_160 0 9 (dk_at dksX2_scoreOf_0 14 rfl rfl)
theorem dX2_scoreOf_17 : decode cX2_scoreOf 17 = .ok (.aload_n 0, 1) := dk_42 (dk_at dksX2_scoreOf_0 17 rfl rfl)
theorem dX2_scoreOf_18 : decode cX2_scoreOf 18 = .ok (.iload_n 1, 1) := dk_27 (dk_at dksX2_scoreOf_0 18 rfl rfl)
theorem dX2_scoreOf_19 : decode cX2_scoreOf 19 = .ok (.invokevirtual 338, 3) := dk_182 1 82 (dk_at dksX2_scoreOf_0 19 rfl rfl)
theorem dX2_scoreOf_22 : decode cX2_scoreOf 22 = .ok (.ireturn, 1) := dk_172 (dk_at dksX2_scoreOf_0 22 rfl rfl)
theorem dX2_scoreOf_23 : decode cX2_scoreOf 23 = .ok (.iconst 0, 1) := dk_3 (dk_at dksX2_scoreOf_0 23 rfl rfl)
theorem dX2_scoreOf_24 : decode cX2_scoreOf 24 = .ok (.istore_n 3, 1) := dk_62 (dk_at dksX2_scoreOf_1 0 rfl rfl)
theorem dX2_scoreOf_25 : decode cX2_scoreOf 25 = .ok (.ldc_w 341, 3) := dk_19 1 85 (dk_at dksX2_scoreOf_1 1 rfl rfl)
theorem dX2_scoreOf_28 : decode cX2_scoreOf 28 = .ok (.istore 4, 2) := dk_54 4 (dk_at dksX2_scoreOf_1 4 rfl rfl)
theorem dX2_scoreOf_30 : decode cX2_scoreOf 30 = .ok (.iconst 0, 1) := dk_3 (dk_at dksX2_scoreOf_1 6 rfl rfl)
theorem dX2_scoreOf_31 : decode cX2_scoreOf 31 = .ok (.istore 5, 2) := dk_54 5 (dk_at dksX2_scoreOf_1 7 rfl rfl)
theorem dX2_scoreOf_33 : decode cX2_scoreOf 33 = .ok (.iload 5, 2) := dk_21 5 (dk_at dksX2_scoreOf_1 9 rfl rfl)
theorem dX2_scoreOf_35 : decode cX2_scoreOf 35 = .ok (.aload_n 0, 1) := dk_42 (dk_at dksX2_scoreOf_1 11 rfl rfl)
theorem dX2_scoreOf_36 : decode cX2_scoreOf 36 = .ok (.getfield 123, 3) := dk_180 0 123 (dk_at dksX2_scoreOf_1 12 rfl rfl)
theorem dX2_scoreOf_39 : decode cX2_scoreOf 39 = .ok (.if_icmp .ge 32, 3) := dk_162 0 32 (dk_at dksX2_scoreOf_1 15 rfl rfl)
theorem dX2_scoreOf_42 : decode cX2_scoreOf 42 = .ok (.aload_n 0, 1) := dk_42 (dk_at dksX2_scoreOf_1 18 rfl rfl)
theorem dX2_scoreOf_43 : decode cX2_scoreOf 43 = .ok (.iload_n 1, 1) := dk_27 (dk_at dksX2_scoreOf_1 19 rfl rfl)
theorem dX2_scoreOf_44 : decode cX2_scoreOf 44 = .ok (.iload 5, 2) := dk_21 5 (dk_at dksX2_scoreOf_1 20 rfl rfl)
theorem dX2_scoreOf_46 : decode cX2_scoreOf 46 = .ok (.invokevirtual 342, 3) := dk_182 1 86 (dk_at dksX2_scoreOf_2 0 rfl rfl)
theorem dX2_scoreOf_49 : decode cX2_scoreOf 49 = .ok (.istore 6, 2) := dk_54 6 (dk_at dksX2_scoreOf_2 3 rfl rfl)
theorem dX2_scoreOf_51 : decode cX2_scoreOf 51 = .ok (.iload_n 3, 1) := dk_29 (dk_at dksX2_scoreOf_2 5 rfl rfl)
theorem dX2_scoreOf_52 : decode cX2_scoreOf 52 = .ok (.iload 6, 2) := dk_21 6 (dk_at dksX2_scoreOf_2 6 rfl rfl)
theorem dX2_scoreOf_54 : decode cX2_scoreOf 54 = .ok (.iadd, 1) := dk_96 (dk_at dksX2_scoreOf_2 8 rfl rfl)
theorem dX2_scoreOf_55 : decode cX2_scoreOf 55 = .ok (.istore_n 3, 1) := dk_62 (dk_at dksX2_scoreOf_2 9 rfl rfl)
theorem dX2_scoreOf_56 : decode cX2_scoreOf 56 = .ok (.iload 4, 2) := dk_21 4 (dk_at dksX2_scoreOf_2 10 rfl rfl)
theorem dX2_scoreOf_58 : decode cX2_scoreOf 58 = .ok (.iload 6, 2) := dk_21 6 (dk_at dksX2_scoreOf_2 12 rfl rfl)
theorem dX2_scoreOf_60 : decode cX2_scoreOf 60 = .ok (.invokestatic 204, 3) := dk_184 0 204 (dk_at dksX2_scoreOf_2 14 rfl rfl)
theorem dX2_scoreOf_63 : decode cX2_scoreOf 63 = .ok (.istore 4, 2) := dk_54 4 (dk_at dksX2_scoreOf_2 17 rfl rfl)
theorem dX2_scoreOf_65 : decode cX2_scoreOf 65 = .ok (.iinc 5 1, 3) := dk_132 5 1 (dk_at dksX2_scoreOf_2 19 rfl rfl)
theorem dX2_scoreOf_68 : decode cX2_scoreOf 68 = .ok (.goto (-35), 3) := dk_167 255 221 (dk_at dksX2_scoreOf_3 0 rfl rfl)
theorem dX2_scoreOf_71 : decode cX2_scoreOf 71 = .ok (.iload_n 2, 1) := dk_28 (dk_at dksX2_scoreOf_3 3 rfl rfl)
theorem dX2_scoreOf_72 : decode cX2_scoreOf 72 = .ok (.ifCond .ne 7, 3) := dk_154 0 7 (dk_at dksX2_scoreOf_3 4 rfl rfl)
theorem dX2_scoreOf_75 : decode cX2_scoreOf 75 = .ok (.iload_n 3, 1) := dk_29 (dk_at dksX2_scoreOf_3 7 rfl rfl)
theorem dX2_scoreOf_76 : decode cX2_scoreOf 76 = .ok (.goto 5, 3) := dk_167 0 5 (dk_at dksX2_scoreOf_3 8 rfl rfl)
theorem dX2_scoreOf_79 : decode cX2_scoreOf 79 = .ok (.iload 4, 2) := dk_21 4 (dk_at dksX2_scoreOf_3 11 rfl rfl)
theorem dX2_scoreOf_81 : decode cX2_scoreOf 81 = .ok (.ireturn, 1) := dk_172 (dk_at dksX2_scoreOf_3 13 rfl rfl)
abbrev cX2_joyIn : ByteArray := prog_8_method_79_code
def yX2_joyIn : MethodName := ⟨RX2, "joyIn", "(II)I"⟩
def dkwX2_joyIn_1 : List UInt8 := [42, 28, 21, 4, 182, 0, 213, 167, 0, 4, 3, 96, 62, 132, 4, 1, 167, 255, 221, 29, 172]
abbrev dktX2_joyIn_1 : List UInt8 := dkwX2_joyIn_1 ++ []
def dkwX2_joyIn_0 : List UInt8 := [3, 62, 3, 54, 4, 21, 4, 42, 180, 0, 116, 162, 0, 32, 29, 27, 21, 4, 184, 0, 239, 153, 0, 13]
abbrev dktX2_joyIn_0 : List UInt8 := dkwX2_joyIn_0 ++ dktX2_joyIn_1
theorem dksX2_joyIn_0 : cX2_joyIn.data.toList.drop 0 = dktX2_joyIn_0 := by decide +kernel
theorem dksX2_joyIn_1 : cX2_joyIn.data.toList.drop 24 = dktX2_joyIn_1 := dk_seg dksX2_joyIn_0 24 rfl rfl
theorem dX2_joyIn_0 : decode cX2_joyIn 0 = .ok (.iconst 0, 1) := dk_3 (dk_at dksX2_joyIn_0 0 rfl rfl)
theorem dX2_joyIn_1 : decode cX2_joyIn 1 = .ok (.istore_n 3, 1) := dk_62 (dk_at dksX2_joyIn_0 1 rfl rfl)
theorem dX2_joyIn_2 : decode cX2_joyIn 2 = .ok (.iconst 0, 1) := dk_3 (dk_at dksX2_joyIn_0 2 rfl rfl)
theorem dX2_joyIn_3 : decode cX2_joyIn 3 = .ok (.istore 4, 2) := dk_54 4 (dk_at dksX2_joyIn_0 3 rfl rfl)
theorem dX2_joyIn_5 : decode cX2_joyIn 5 = .ok (.iload 4, 2) := dk_21 4 (dk_at dksX2_joyIn_0 5 rfl rfl)
theorem dX2_joyIn_7 : decode cX2_joyIn 7 = .ok (.aload_n 0, 1) := dk_42 (dk_at dksX2_joyIn_0 7 rfl rfl)
theorem dX2_joyIn_8 : decode cX2_joyIn 8 = .ok (.getfield 116, 3) := dk_180 0 116 (dk_at dksX2_joyIn_0 8 rfl rfl)
theorem dX2_joyIn_11 : decode cX2_joyIn 11 = .ok (.if_icmp .ge 32, 3) := dk_162 0 32 (dk_at dksX2_joyIn_0 11 rfl rfl)
theorem dX2_joyIn_14 : decode cX2_joyIn 14 = .ok (.iload_n 3, 1) := dk_29 (dk_at dksX2_joyIn_0 14 rfl rfl)
theorem dX2_joyIn_15 : decode cX2_joyIn 15 = .ok (.iload_n 1, 1) := dk_27 (dk_at dksX2_joyIn_0 15 rfl rfl)
theorem dX2_joyIn_16 : decode cX2_joyIn 16 = .ok (.iload 4, 2) := dk_21 4 (dk_at dksX2_joyIn_0 16 rfl rfl)
theorem dX2_joyIn_18 : decode cX2_joyIn 18 = .ok (.invokestatic 239, 3) := dk_184 0 239 (dk_at dksX2_joyIn_0 18 rfl rfl)
theorem dX2_joyIn_21 : decode cX2_joyIn 21 = .ok (.ifCond .eq 13, 3) := dk_153 0 13 (dk_at dksX2_joyIn_0 21 rfl rfl)
theorem dX2_joyIn_24 : decode cX2_joyIn 24 = .ok (.aload_n 0, 1) := dk_42 (dk_at dksX2_joyIn_1 0 rfl rfl)
theorem dX2_joyIn_25 : decode cX2_joyIn 25 = .ok (.iload_n 2, 1) := dk_28 (dk_at dksX2_joyIn_1 1 rfl rfl)
theorem dX2_joyIn_26 : decode cX2_joyIn 26 = .ok (.iload 4, 2) := dk_21 4 (dk_at dksX2_joyIn_1 2 rfl rfl)
theorem dX2_joyIn_28 : decode cX2_joyIn 28 = .ok (.invokevirtual 213, 3) := dk_182 0 213 (dk_at dksX2_joyIn_1 4 rfl rfl)
theorem dX2_joyIn_31 : decode cX2_joyIn 31 = .ok (.goto 4, 3) := dk_167 0 4 (dk_at dksX2_joyIn_1 7 rfl rfl)
theorem dX2_joyIn_34 : decode cX2_joyIn 34 = .ok (.iconst 0, 1) := dk_3 (dk_at dksX2_joyIn_1 10 rfl rfl)
theorem dX2_joyIn_35 : decode cX2_joyIn 35 = .ok (.iadd, 1) := dk_96 (dk_at dksX2_joyIn_1 11 rfl rfl)
theorem dX2_joyIn_36 : decode cX2_joyIn 36 = .ok (.istore_n 3, 1) := dk_62 (dk_at dksX2_joyIn_1 12 rfl rfl)
theorem dX2_joyIn_37 : decode cX2_joyIn 37 = .ok (.iinc 4 1, 3) := dk_132 4 1 (dk_at dksX2_joyIn_1 13 rfl rfl)
theorem dX2_joyIn_40 : decode cX2_joyIn 40 = .ok (.goto (-35), 3) := dk_167 255 221 (dk_at dksX2_joyIn_1 16 rfl rfl)
theorem dX2_joyIn_43 : decode cX2_joyIn 43 = .ok (.iload_n 3, 1) := dk_29 (dk_at dksX2_joyIn_1 19 rfl rfl)
theorem dX2_joyIn_44 : decode cX2_joyIn 44 = .ok (.ireturn, 1) := dk_172 (dk_at dksX2_joyIn_1 20 rfl rfl)
abbrev cX2_fair : ByteArray := prog_8_method_85_code
def yX2_fair : MethodName := ⟨RX2, "fair", "(II)I"⟩
def dkwX2_fair_0 : List UInt8 := [42, 3, 181, 0, 110, 42, 27, 28, 4, 182, 1, 100, 172]
abbrev dktX2_fair_0 : List UInt8 := dkwX2_fair_0 ++ []
theorem dksX2_fair_0 : cX2_fair.data.toList.drop 0 = dktX2_fair_0 := by decide +kernel
theorem dX2_fair_0 : decode cX2_fair 0 = .ok (.aload_n 0, 1) := dk_42 (dk_at dksX2_fair_0 0 rfl rfl)
theorem dX2_fair_1 : decode cX2_fair 1 = .ok (.iconst 0, 1) := dk_3 (dk_at dksX2_fair_0 1 rfl rfl)
theorem dX2_fair_2 : decode cX2_fair 2 = .ok (.putfield 110, 3) := dk_181 0 110 (dk_at dksX2_fair_0 2 rfl rfl)
theorem dX2_fair_5 : decode cX2_fair 5 = .ok (.aload_n 0, 1) := dk_42 (dk_at dksX2_fair_0 5 rfl rfl)
theorem dX2_fair_6 : decode cX2_fair 6 = .ok (.iload_n 1, 1) := dk_27 (dk_at dksX2_fair_0 6 rfl rfl)
theorem dX2_fair_7 : decode cX2_fair 7 = .ok (.iload_n 2, 1) := dk_28 (dk_at dksX2_fair_0 7 rfl rfl)
theorem dX2_fair_8 : decode cX2_fair 8 = .ok (.iconst 1, 1) := dk_4 (dk_at dksX2_fair_0 8 rfl rfl)
theorem dX2_fair_9 : decode cX2_fair 9 = .ok (.invokevirtual 356, 3) := dk_182 1 100 (dk_at dksX2_fair_0 9 rfl rfl)
theorem dX2_fair_12 : decode cX2_fair 12 = .ok (.ireturn, 1) := dk_172 (dk_at dksX2_fair_0 12 rfl rfl)
abbrev cX2_cheap : ByteArray := prog_8_method_87_code
def yX2_cheap : MethodName := ⟨RX2, "cheap", "(I)I"⟩
def dkwX2_cheap_3 : List UInt8 := [29, 120, 128, 61, 132, 3, 1, 167, 255, 187, 42, 27, 5, 28, 182, 1, 106, 172]
abbrev dktX2_cheap_3 : List UInt8 := dkwX2_cheap_3 ++ []
def dkwX2_cheap_2 : List UInt8 := [4, 167, 0, 4, 3, 54, 4, 132, 5, 1, 167, 255, 222, 28, 21, 4, 153, 0, 7, 3, 167, 0, 6, 4]
abbrev dktX2_cheap_2 : List UInt8 := dkwX2_cheap_2 ++ dktX2_cheap_3
def dkwX2_cheap_1 : List UInt8 := [21, 5, 42, 180, 0, 123, 162, 0, 31, 21, 4, 154, 0, 13, 42, 21, 5, 29, 182, 0, 223, 153, 0, 7]
abbrev dktX2_cheap_1 : List UInt8 := dkwX2_cheap_1 ++ dktX2_cheap_2
def dkwX2_cheap_0 : List UInt8 := [42, 3, 181, 0, 110, 3, 61, 3, 62, 29, 42, 180, 0, 116, 162, 0, 67, 3, 54, 4, 3, 54, 5]
abbrev dktX2_cheap_0 : List UInt8 := dkwX2_cheap_0 ++ dktX2_cheap_1
theorem dksX2_cheap_0 : cX2_cheap.data.toList.drop 0 = dktX2_cheap_0 := by decide +kernel
theorem dksX2_cheap_1 : cX2_cheap.data.toList.drop 23 = dktX2_cheap_1 := dk_seg dksX2_cheap_0 23 rfl rfl
theorem dksX2_cheap_2 : cX2_cheap.data.toList.drop 47 = dktX2_cheap_2 := dk_seg dksX2_cheap_1 24 rfl rfl
theorem dksX2_cheap_3 : cX2_cheap.data.toList.drop 71 = dktX2_cheap_3 := dk_seg dksX2_cheap_2 24 rfl rfl
theorem dX2_cheap_0 : decode cX2_cheap 0 = .ok (.aload_n 0, 1) := dk_42 (dk_at dksX2_cheap_0 0 rfl rfl)
theorem dX2_cheap_1 : decode cX2_cheap 1 = .ok (.iconst 0, 1) := dk_3 (dk_at dksX2_cheap_0 1 rfl rfl)
theorem dX2_cheap_2 : decode cX2_cheap 2 = .ok (.putfield 110, 3) := dk_181 0 110 (dk_at dksX2_cheap_0 2 rfl rfl)
theorem dX2_cheap_5 : decode cX2_cheap 5 = .ok (.iconst 0, 1) := dk_3 (dk_at dksX2_cheap_0 5 rfl rfl)
theorem dX2_cheap_6 : decode cX2_cheap 6 = .ok (.istore_n 2, 1) := dk_61 (dk_at dksX2_cheap_0 6 rfl rfl)
theorem dX2_cheap_7 : decode cX2_cheap 7 = .ok (.iconst 0, 1) := dk_3 (dk_at dksX2_cheap_0 7 rfl rfl)
theorem dX2_cheap_8 : decode cX2_cheap 8 = .ok (.istore_n 3, 1) := dk_62 (dk_at dksX2_cheap_0 8 rfl rfl)
theorem dX2_cheap_9 : decode cX2_cheap 9 = .ok (.iload_n 3, 1) := dk_29 (dk_at dksX2_cheap_0 9 rfl rfl)
theorem dX2_cheap_10 : decode cX2_cheap 10 = .ok (.aload_n 0, 1) := dk_42 (dk_at dksX2_cheap_0 10 rfl rfl)
theorem dX2_cheap_11 : decode cX2_cheap 11 = .ok (.getfield 116, 3) := dk_180 0 116 (dk_at dksX2_cheap_0 11 rfl rfl)
theorem dX2_cheap_14 : decode cX2_cheap 14 = .ok (.if_icmp .ge 67, 3) := dk_162 0 67 (dk_at dksX2_cheap_0 14 rfl rfl)
theorem dX2_cheap_17 : decode cX2_cheap 17 = .ok (.iconst 0, 1) := dk_3 (dk_at dksX2_cheap_0 17 rfl rfl)
theorem dX2_cheap_18 : decode cX2_cheap 18 = .ok (.istore 4, 2) := dk_54 4 (dk_at dksX2_cheap_0 18 rfl rfl)
theorem dX2_cheap_20 : decode cX2_cheap 20 = .ok (.iconst 0, 1) := dk_3 (dk_at dksX2_cheap_0 20 rfl rfl)
theorem dX2_cheap_21 : decode cX2_cheap 21 = .ok (.istore 5, 2) := dk_54 5 (dk_at dksX2_cheap_0 21 rfl rfl)
theorem dX2_cheap_23 : decode cX2_cheap 23 = .ok (.iload 5, 2) := dk_21 5 (dk_at dksX2_cheap_1 0 rfl rfl)
theorem dX2_cheap_25 : decode cX2_cheap 25 = .ok (.aload_n 0, 1) := dk_42 (dk_at dksX2_cheap_1 2 rfl rfl)
theorem dX2_cheap_26 : decode cX2_cheap 26 = .ok (.getfield 123, 3) := dk_180 0 123 (dk_at dksX2_cheap_1 3 rfl rfl)
theorem dX2_cheap_29 : decode cX2_cheap 29 = .ok (.if_icmp .ge 31, 3) := dk_162 0 31 (dk_at dksX2_cheap_1 6 rfl rfl)
theorem dX2_cheap_32 : decode cX2_cheap 32 = .ok (.iload 4, 2) := dk_21 4 (dk_at dksX2_cheap_1 9 rfl rfl)
theorem dX2_cheap_34 : decode cX2_cheap 34 = .ok (.ifCond .ne 13, 3) := dk_154 0 13 (dk_at dksX2_cheap_1 11 rfl rfl)
theorem dX2_cheap_37 : decode cX2_cheap 37 = .ok (.aload_n 0, 1) := dk_42 (dk_at dksX2_cheap_1 14 rfl rfl)
theorem dX2_cheap_38 : decode cX2_cheap 38 = .ok (.iload 5, 2) := dk_21 5 (dk_at dksX2_cheap_1 15 rfl rfl)
theorem dX2_cheap_40 : decode cX2_cheap 40 = .ok (.iload_n 3, 1) := dk_29 (dk_at dksX2_cheap_1 17 rfl rfl)
theorem dX2_cheap_41 : decode cX2_cheap 41 = .ok (.invokevirtual 223, 3) := dk_182 0 223 (dk_at dksX2_cheap_1 18 rfl rfl)
theorem dX2_cheap_44 : decode cX2_cheap 44 = .ok (.ifCond .eq 7, 3) := dk_153 0 7 (dk_at dksX2_cheap_1 21 rfl rfl)
theorem dX2_cheap_47 : decode cX2_cheap 47 = .ok (.iconst 1, 1) := dk_4 (dk_at dksX2_cheap_2 0 rfl rfl)
theorem dX2_cheap_48 : decode cX2_cheap 48 = .ok (.goto 4, 3) := dk_167 0 4 (dk_at dksX2_cheap_2 1 rfl rfl)
theorem dX2_cheap_51 : decode cX2_cheap 51 = .ok (.iconst 0, 1) := dk_3 (dk_at dksX2_cheap_2 4 rfl rfl)
theorem dX2_cheap_52 : decode cX2_cheap 52 = .ok (.istore 4, 2) := dk_54 4 (dk_at dksX2_cheap_2 5 rfl rfl)
theorem dX2_cheap_54 : decode cX2_cheap 54 = .ok (.iinc 5 1, 3) := dk_132 5 1 (dk_at dksX2_cheap_2 7 rfl rfl)
theorem dX2_cheap_57 : decode cX2_cheap 57 = .ok (.goto (-34), 3) := dk_167 255 222 (dk_at dksX2_cheap_2 10 rfl rfl)
theorem dX2_cheap_60 : decode cX2_cheap 60 = .ok (.iload_n 2, 1) := dk_28 (dk_at dksX2_cheap_2 13 rfl rfl)
theorem dX2_cheap_61 : decode cX2_cheap 61 = .ok (.iload 4, 2) := dk_21 4 (dk_at dksX2_cheap_2 14 rfl rfl)
theorem dX2_cheap_63 : decode cX2_cheap 63 = .ok (.ifCond .eq 7, 3) := dk_153 0 7 (dk_at dksX2_cheap_2 16 rfl rfl)
theorem dX2_cheap_66 : decode cX2_cheap 66 = .ok (.iconst 0, 1) := dk_3 (dk_at dksX2_cheap_2 19 rfl rfl)
theorem dX2_cheap_67 : decode cX2_cheap 67 = .ok (.goto 6, 3) := dk_167 0 6 (dk_at dksX2_cheap_2 20 rfl rfl)
theorem dX2_cheap_70 : decode cX2_cheap 70 = .ok (.iconst 1, 1) := dk_4 (dk_at dksX2_cheap_2 23 rfl rfl)
theorem dX2_cheap_71 : decode cX2_cheap 71 = .ok (.iload_n 3, 1) := dk_29 (dk_at dksX2_cheap_3 0 rfl rfl)
theorem dX2_cheap_72 : decode cX2_cheap 72 = .ok (.ishl, 1) := dk_120 (dk_at dksX2_cheap_3 1 rfl rfl)
theorem dX2_cheap_73 : decode cX2_cheap 73 = .ok (.ior, 1) := dk_128 (dk_at dksX2_cheap_3 2 rfl rfl)
theorem dX2_cheap_74 : decode cX2_cheap 74 = .ok (.istore_n 2, 1) := dk_61 (dk_at dksX2_cheap_3 3 rfl rfl)
theorem dX2_cheap_75 : decode cX2_cheap 75 = .ok (.iinc 3 1, 3) := dk_132 3 1 (dk_at dksX2_cheap_3 4 rfl rfl)
theorem dX2_cheap_78 : decode cX2_cheap 78 = .ok (.goto (-69), 3) := dk_167 255 187 (dk_at dksX2_cheap_3 7 rfl rfl)
theorem dX2_cheap_81 : decode cX2_cheap 81 = .ok (.aload_n 0, 1) := dk_42 (dk_at dksX2_cheap_3 10 rfl rfl)
theorem dX2_cheap_82 : decode cX2_cheap 82 = .ok (.iload_n 1, 1) := dk_27 (dk_at dksX2_cheap_3 11 rfl rfl)
theorem dX2_cheap_83 : decode cX2_cheap 83 = .ok (.iconst 2, 1) := dk_5 (dk_at dksX2_cheap_3 12 rfl rfl)
theorem dX2_cheap_84 : decode cX2_cheap 84 = .ok (.iload_n 2, 1) := dk_28 (dk_at dksX2_cheap_3 13 rfl rfl)
theorem dX2_cheap_85 : decode cX2_cheap 85 = .ok (.invokevirtual 362, 3) := dk_182 1 106 (dk_at dksX2_cheap_3 14 rfl rfl)
theorem dX2_cheap_88 : decode cX2_cheap 88 = .ok (.ireturn, 1) := dk_172 (dk_at dksX2_cheap_3 17 rfl rfl)
abbrev cX2_tellCost : ByteArray := prog_8_method_86_code
def yX2_tellCost : MethodName := ⟨RX2, "tellCost", "(III)I"⟩
def dkwX2_tellCost_2 : List UInt8 := [42, 180, 1, 93, 184, 1, 103, 172]
abbrev dktX2_tellCost_2 : List UInt8 := dkwX2_tellCost_2 ++ []
def dkwX2_tellCost_1 : List UInt8 := [154, 0, 6, 16, 254, 172, 42, 3, 181, 0, 113, 42, 42, 182, 0, 255, 42, 182, 1, 2, 29, 182, 1, 64]
abbrev dktX2_tellCost_1 : List UInt8 := dkwX2_tellCost_1 ++ dktX2_tellCost_2
def dkwX2_tellCost_0 : List UInt8 := [27, 3, 16, 10, 184, 0, 119, 154, 0, 5, 2, 172, 42, 27, 19, 1, 85, 28, 29, 182, 1, 96]
abbrev dktX2_tellCost_0 : List UInt8 := dkwX2_tellCost_0 ++ dktX2_tellCost_1
theorem dksX2_tellCost_0 : cX2_tellCost.data.toList.drop 0 = dktX2_tellCost_0 := by decide +kernel
theorem dksX2_tellCost_1 : cX2_tellCost.data.toList.drop 22 = dktX2_tellCost_1 := dk_seg dksX2_tellCost_0 22 rfl rfl
theorem dksX2_tellCost_2 : cX2_tellCost.data.toList.drop 46 = dktX2_tellCost_2 := dk_seg dksX2_tellCost_1 24 rfl rfl
theorem dX2_tellCost_0 : decode cX2_tellCost 0 = .ok (.iload_n 1, 1) := dk_27 (dk_at dksX2_tellCost_0 0 rfl rfl)
theorem dX2_tellCost_1 : decode cX2_tellCost 1 = .ok (.iconst 0, 1) := dk_3 (dk_at dksX2_tellCost_0 1 rfl rfl)
theorem dX2_tellCost_2 : decode cX2_tellCost 2 = .ok (.bipush 10, 2) := dk_16 10 (dk_at dksX2_tellCost_0 2 rfl rfl)
theorem dX2_tellCost_4 : decode cX2_tellCost 4 = .ok (.invokestatic 119, 3) := dk_184 0 119 (dk_at dksX2_tellCost_0 4 rfl rfl)
theorem dX2_tellCost_7 : decode cX2_tellCost 7 = .ok (.ifCond .ne 5, 3) := dk_154 0 5 (dk_at dksX2_tellCost_0 7 rfl rfl)
theorem dX2_tellCost_10 : decode cX2_tellCost 10 = .ok (.iconst (-1), 1) := dk_2 (dk_at dksX2_tellCost_0 10 rfl rfl)
theorem dX2_tellCost_11 : decode cX2_tellCost 11 = .ok (.ireturn, 1) := dk_172 (dk_at dksX2_tellCost_0 11 rfl rfl)
theorem dX2_tellCost_12 : decode cX2_tellCost 12 = .ok (.aload_n 0, 1) := dk_42 (dk_at dksX2_tellCost_0 12 rfl rfl)
theorem dX2_tellCost_13 : decode cX2_tellCost 13 = .ok (.iload_n 1, 1) := dk_27 (dk_at dksX2_tellCost_0 13 rfl rfl)
theorem dX2_tellCost_14 : decode cX2_tellCost 14 = .ok (.ldc_w 341, 3) := dk_19 1 85 (dk_at dksX2_tellCost_0 14 rfl rfl)
theorem dX2_tellCost_17 : decode cX2_tellCost 17 = .ok (.iload_n 2, 1) := dk_28 (dk_at dksX2_tellCost_0 17 rfl rfl)
theorem dX2_tellCost_18 : decode cX2_tellCost 18 = .ok (.iload_n 3, 1) := dk_29 (dk_at dksX2_tellCost_0 18 rfl rfl)
theorem dX2_tellCost_19 : decode cX2_tellCost 19 = .ok (.invokevirtual 352, 3) := dk_182 1 96 (dk_at dksX2_tellCost_0 19 rfl rfl)
theorem dX2_tellCost_22 : decode cX2_tellCost 22 = .ok (.ifCond .ne 6, 3) := dk_154 0 6 (dk_at dksX2_tellCost_1 0 rfl rfl)
theorem dX2_tellCost_25 : decode cX2_tellCost 25 = .ok (.bipush (-2), 2) := dk_16 254 (dk_at dksX2_tellCost_1 3 rfl rfl)
theorem dX2_tellCost_27 : decode cX2_tellCost 27 = .ok (.ireturn, 1) := dk_172 (dk_at dksX2_tellCost_1 5 rfl rfl)
theorem dX2_tellCost_28 : decode cX2_tellCost 28 = .ok (.aload_n 0, 1) := dk_42 (dk_at dksX2_tellCost_1 6 rfl rfl)
theorem dX2_tellCost_29 : decode cX2_tellCost 29 = .ok (.iconst 0, 1) := dk_3 (dk_at dksX2_tellCost_1 7 rfl rfl)
theorem dX2_tellCost_30 : decode cX2_tellCost 30 = .ok (.putfield 113, 3) := dk_181 0 113 (dk_at dksX2_tellCost_1 8 rfl rfl)
theorem dX2_tellCost_33 : decode cX2_tellCost 33 = .ok (.aload_n 0, 1) := dk_42 (dk_at dksX2_tellCost_1 11 rfl rfl)
theorem dX2_tellCost_34 : decode cX2_tellCost 34 = .ok (.aload_n 0, 1) := dk_42 (dk_at dksX2_tellCost_1 12 rfl rfl)
theorem dX2_tellCost_35 : decode cX2_tellCost 35 = .ok (.invokevirtual 255, 3) := dk_182 0 255 (dk_at dksX2_tellCost_1 13 rfl rfl)
theorem dX2_tellCost_38 : decode cX2_tellCost 38 = .ok (.aload_n 0, 1) := dk_42 (dk_at dksX2_tellCost_1 16 rfl rfl)
theorem dX2_tellCost_39 : decode cX2_tellCost 39 = .ok (.invokevirtual 258, 3) := dk_182 1 2 (dk_at dksX2_tellCost_1 17 rfl rfl)
theorem dX2_tellCost_42 : decode cX2_tellCost 42 = .ok (.iload_n 3, 1) := dk_29 (dk_at dksX2_tellCost_1 20 rfl rfl)
theorem dX2_tellCost_43 : decode cX2_tellCost 43 = .ok (.invokevirtual 320, 3) := dk_182 1 64 (dk_at dksX2_tellCost_1 21 rfl rfl)
theorem dX2_tellCost_46 : decode cX2_tellCost 46 = .ok (.aload_n 0, 1) := dk_42 (dk_at dksX2_tellCost_2 0 rfl rfl)
theorem dX2_tellCost_47 : decode cX2_tellCost 47 = .ok (.getfield 349, 3) := dk_180 1 93 (dk_at dksX2_tellCost_2 1 rfl rfl)
theorem dX2_tellCost_50 : decode cX2_tellCost 50 = .ok (.invokestatic 359, 3) := dk_184 1 103 (dk_at dksX2_tellCost_2 4 rfl rfl)
theorem dX2_tellCost_53 : decode cX2_tellCost 53 = .ok (.ireturn, 1) := dk_172 (dk_at dksX2_tellCost_2 7 rfl rfl)
abbrev cX2_dear : ByteArray := prog_8_method_88_code
def yX2_dear : MethodName := ⟨RX2, "dear", "(I)I"⟩
def dkwX2_dear_0 : List UInt8 := [42, 3, 181, 0, 110, 42, 27, 6, 42, 182, 1, 42, 182, 1, 106, 172]
abbrev dktX2_dear_0 : List UInt8 := dkwX2_dear_0 ++ []
theorem dksX2_dear_0 : cX2_dear.data.toList.drop 0 = dktX2_dear_0 := by decide +kernel
theorem dX2_dear_0 : decode cX2_dear 0 = .ok (.aload_n 0, 1) := dk_42 (dk_at dksX2_dear_0 0 rfl rfl)
theorem dX2_dear_1 : decode cX2_dear 1 = .ok (.iconst 0, 1) := dk_3 (dk_at dksX2_dear_0 1 rfl rfl)
theorem dX2_dear_2 : decode cX2_dear 2 = .ok (.putfield 110, 3) := dk_181 0 110 (dk_at dksX2_dear_0 2 rfl rfl)
theorem dX2_dear_5 : decode cX2_dear 5 = .ok (.aload_n 0, 1) := dk_42 (dk_at dksX2_dear_0 5 rfl rfl)
theorem dX2_dear_6 : decode cX2_dear 6 = .ok (.iload_n 1, 1) := dk_27 (dk_at dksX2_dear_0 6 rfl rfl)
theorem dX2_dear_7 : decode cX2_dear 7 = .ok (.iconst 3, 1) := dk_6 (dk_at dksX2_dear_0 7 rfl rfl)
theorem dX2_dear_8 : decode cX2_dear 8 = .ok (.aload_n 0, 1) := dk_42 (dk_at dksX2_dear_0 8 rfl rfl)
theorem dX2_dear_9 : decode cX2_dear 9 = .ok (.invokevirtual 298, 3) := dk_182 1 42 (dk_at dksX2_dear_0 9 rfl rfl)
theorem dX2_dear_12 : decode cX2_dear 12 = .ok (.invokevirtual 362, 3) := dk_182 1 106 (dk_at dksX2_dear_0 12 rfl rfl)
theorem dX2_dear_15 : decode cX2_dear 15 = .ok (.ireturn, 1) := dk_172 (dk_at dksX2_dear_0 15 rfl rfl)
abbrev cX2_game : ByteArray := prog_8_method_91_code
def yX2_game : MethodName := ⟨RX2, "game", "()I"⟩
def dkwX2_game_3 : List UInt8 := [167, 0, 4, 3, 172]
abbrev dktX2_game_3 : List UInt8 := dkwX2_game_3 ++ []
def dkwX2_game_2 : List UInt8 := [182, 1, 33, 42, 42, 180, 0, 77, 27, 46, 182, 1, 33, 42, 180, 0, 74, 27, 51, 153, 0, 7, 4]
abbrev dktX2_game_2 : List UInt8 := dkwX2_game_2 ++ dktX2_game_3
def dkwX2_game_1 : List UInt8 := [181, 0, 113, 42, 42, 180, 0, 74, 27, 51, 153, 0, 12, 42, 180, 0, 80, 27, 46, 167, 0, 4, 2]
abbrev dktX2_game_1 : List UInt8 := dkwX2_game_1 ++ dktX2_game_2
def dkwX2_game_0 : List UInt8 := [42, 3, 181, 0, 110, 42, 182, 1, 113, 42, 182, 0, 255, 42, 182, 1, 2, 184, 1, 48, 60, 42, 3]
abbrev dktX2_game_0 : List UInt8 := dkwX2_game_0 ++ dktX2_game_1
theorem dksX2_game_0 : cX2_game.data.toList.drop 0 = dktX2_game_0 := by decide +kernel
theorem dksX2_game_1 : cX2_game.data.toList.drop 23 = dktX2_game_1 := dk_seg dksX2_game_0 23 rfl rfl
theorem dksX2_game_2 : cX2_game.data.toList.drop 46 = dktX2_game_2 := dk_seg dksX2_game_1 23 rfl rfl
theorem dksX2_game_3 : cX2_game.data.toList.drop 69 = dktX2_game_3 := dk_seg dksX2_game_2 23 rfl rfl
theorem dX2_game_0 : decode cX2_game 0 = .ok (.aload_n 0, 1) := dk_42 (dk_at dksX2_game_0 0 rfl rfl)
theorem dX2_game_1 : decode cX2_game 1 = .ok (.iconst 0, 1) := dk_3 (dk_at dksX2_game_0 1 rfl rfl)
theorem dX2_game_2 : decode cX2_game 2 = .ok (.putfield 110, 3) := dk_181 0 110 (dk_at dksX2_game_0 2 rfl rfl)
theorem dX2_game_5 : decode cX2_game 5 = .ok (.aload_n 0, 1) := dk_42 (dk_at dksX2_game_0 5 rfl rfl)
theorem dX2_game_6 : decode cX2_game 6 = .ok (.invokevirtual 369, 3) := dk_182 1 113 (dk_at dksX2_game_0 6 rfl rfl)
theorem dX2_game_9 : decode cX2_game 9 = .ok (.aload_n 0, 1) := dk_42 (dk_at dksX2_game_0 9 rfl rfl)
theorem dX2_game_10 : decode cX2_game 10 = .ok (.invokevirtual 255, 3) := dk_182 0 255 (dk_at dksX2_game_0 10 rfl rfl)
theorem dX2_game_13 : decode cX2_game 13 = .ok (.aload_n 0, 1) := dk_42 (dk_at dksX2_game_0 13 rfl rfl)
theorem dX2_game_14 : decode cX2_game 14 = .ok (.invokevirtual 258, 3) := dk_182 1 2 (dk_at dksX2_game_0 14 rfl rfl)
theorem dX2_game_17 : decode cX2_game 17 = .ok (.invokestatic 304, 3) := dk_184 1 48 (dk_at dksX2_game_0 17 rfl rfl)
theorem dX2_game_20 : decode cX2_game 20 = .ok (.istore_n 1, 1) := dk_60 (dk_at dksX2_game_0 20 rfl rfl)
theorem dX2_game_21 : decode cX2_game 21 = .ok (.aload_n 0, 1) := dk_42 (dk_at dksX2_game_0 21 rfl rfl)
theorem dX2_game_22 : decode cX2_game 22 = .ok (.iconst 0, 1) := dk_3 (dk_at dksX2_game_0 22 rfl rfl)
theorem dX2_game_23 : decode cX2_game 23 = .ok (.putfield 113, 3) := dk_181 0 113 (dk_at dksX2_game_1 0 rfl rfl)
theorem dX2_game_26 : decode cX2_game 26 = .ok (.aload_n 0, 1) := dk_42 (dk_at dksX2_game_1 3 rfl rfl)
theorem dX2_game_27 : decode cX2_game 27 = .ok (.aload_n 0, 1) := dk_42 (dk_at dksX2_game_1 4 rfl rfl)
theorem dX2_game_28 : decode cX2_game 28 = .ok (.getfield 74, 3) := dk_180 0 74 (dk_at dksX2_game_1 5 rfl rfl)
theorem dX2_game_31 : decode cX2_game 31 = .ok (.iload_n 1, 1) := dk_27 (dk_at dksX2_game_1 8 rfl rfl)
theorem dX2_game_32 : decode cX2_game 32 = .ok (.baload, 1) := dk_51 (dk_at dksX2_game_1 9 rfl rfl)
theorem dX2_game_33 : decode cX2_game 33 = .ok (.ifCond .eq 12, 3) := dk_153 0 12 (dk_at dksX2_game_1 10 rfl rfl)
theorem dX2_game_36 : decode cX2_game 36 = .ok (.aload_n 0, 1) := dk_42 (dk_at dksX2_game_1 13 rfl rfl)
theorem dX2_game_37 : decode cX2_game 37 = .ok (.getfield 80, 3) := dk_180 0 80 (dk_at dksX2_game_1 14 rfl rfl)
theorem dX2_game_40 : decode cX2_game 40 = .ok (.iload_n 1, 1) := dk_27 (dk_at dksX2_game_1 17 rfl rfl)
theorem dX2_game_41 : decode cX2_game 41 = .ok (.iaload, 1) := dk_46 (dk_at dksX2_game_1 18 rfl rfl)
theorem dX2_game_42 : decode cX2_game 42 = .ok (.goto 4, 3) := dk_167 0 4 (dk_at dksX2_game_1 19 rfl rfl)
theorem dX2_game_45 : decode cX2_game 45 = .ok (.iconst (-1), 1) := dk_2 (dk_at dksX2_game_1 22 rfl rfl)
theorem dX2_game_46 : decode cX2_game 46 = .ok (.invokevirtual 289, 3) := dk_182 1 33 (dk_at dksX2_game_2 0 rfl rfl)
theorem dX2_game_49 : decode cX2_game 49 = .ok (.aload_n 0, 1) := dk_42 (dk_at dksX2_game_2 3 rfl rfl)
theorem dX2_game_50 : decode cX2_game 50 = .ok (.aload_n 0, 1) := dk_42 (dk_at dksX2_game_2 4 rfl rfl)
theorem dX2_game_51 : decode cX2_game 51 = .ok (.getfield 77, 3) := dk_180 0 77 (dk_at dksX2_game_2 5 rfl rfl)
theorem dX2_game_54 : decode cX2_game 54 = .ok (.iload_n 1, 1) := dk_27 (dk_at dksX2_game_2 8 rfl rfl)
theorem dX2_game_55 : decode cX2_game 55 = .ok (.iaload, 1) := dk_46 (dk_at dksX2_game_2 9 rfl rfl)
theorem dX2_game_56 : decode cX2_game 56 = .ok (.invokevirtual 289, 3) := dk_182 1 33 (dk_at dksX2_game_2 10 rfl rfl)
theorem dX2_game_59 : decode cX2_game 59 = .ok (.aload_n 0, 1) := dk_42 (dk_at dksX2_game_2 13 rfl rfl)
theorem dX2_game_60 : decode cX2_game 60 = .ok (.getfield 74, 3) := dk_180 0 74 (dk_at dksX2_game_2 14 rfl rfl)
theorem dX2_game_63 : decode cX2_game 63 = .ok (.iload_n 1, 1) := dk_27 (dk_at dksX2_game_2 17 rfl rfl)
theorem dX2_game_64 : decode cX2_game 64 = .ok (.baload, 1) := dk_51 (dk_at dksX2_game_2 18 rfl rfl)
theorem dX2_game_65 : decode cX2_game 65 = .ok (.ifCond .eq 7, 3) := dk_153 0 7 (dk_at dksX2_game_2 19 rfl rfl)
theorem dX2_game_68 : decode cX2_game 68 = .ok (.iconst 1, 1) := dk_4 (dk_at dksX2_game_2 22 rfl rfl)
theorem dX2_game_69 : decode cX2_game 69 = .ok (.goto 4, 3) := dk_167 0 4 (dk_at dksX2_game_3 0 rfl rfl)
theorem dX2_game_72 : decode cX2_game 72 = .ok (.iconst 0, 1) := dk_3 (dk_at dksX2_game_3 3 rfl rfl)
theorem dX2_game_73 : decode cX2_game 73 = .ok (.ireturn, 1) := dk_172 (dk_at dksX2_game_3 4 rfl rfl)
abbrev cX2_findGame : ByteArray := prog_8_method_89_code
def yX2_findGame : MethodName := ⟨RX2, "findGame", "()V"⟩
def dkwX2_findGame_1 : List UInt8 := [153, 0, 9, 42, 27, 28, 182, 1, 109, 132, 2, 1, 167, 255, 231, 132, 1, 255, 167, 255, 219, 177]
abbrev dktX2_findGame_1 : List UInt8 := dkwX2_findGame_1 ++ []
def dkwX2_findGame_0 : List UInt8 := [42, 182, 1, 42, 60, 27, 155, 0, 39, 2, 61, 28, 42, 180, 0, 116, 162, 0, 23, 27, 28, 184, 1, 45]
abbrev dktX2_findGame_0 : List UInt8 := dkwX2_findGame_0 ++ dktX2_findGame_1
theorem dksX2_findGame_0 : cX2_findGame.data.toList.drop 0 = dktX2_findGame_0 := by decide +kernel
theorem dksX2_findGame_1 : cX2_findGame.data.toList.drop 24 = dktX2_findGame_1 := dk_seg dksX2_findGame_0 24 rfl rfl
theorem dX2_findGame_0 : decode cX2_findGame 0 = .ok (.aload_n 0, 1) := dk_42 (dk_at dksX2_findGame_0 0 rfl rfl)
theorem dX2_findGame_1 : decode cX2_findGame 1 = .ok (.invokevirtual 298, 3) := dk_182 1 42 (dk_at dksX2_findGame_0 1 rfl rfl)
theorem dX2_findGame_4 : decode cX2_findGame 4 = .ok (.istore_n 1, 1) := dk_60 (dk_at dksX2_findGame_0 4 rfl rfl)
theorem dX2_findGame_5 : decode cX2_findGame 5 = .ok (.iload_n 1, 1) := dk_27 (dk_at dksX2_findGame_0 5 rfl rfl)
theorem dX2_findGame_6 : decode cX2_findGame 6 = .ok (.ifCond .lt 39, 3) := dk_155 0 39 (dk_at dksX2_findGame_0 6 rfl rfl)
theorem dX2_findGame_9 : decode cX2_findGame 9 = .ok (.iconst (-1), 1) := dk_2 (dk_at dksX2_findGame_0 9 rfl rfl)
theorem dX2_findGame_10 : decode cX2_findGame 10 = .ok (.istore_n 2, 1) := dk_61 (dk_at dksX2_findGame_0 10 rfl rfl)
theorem dX2_findGame_11 : decode cX2_findGame 11 = .ok (.iload_n 2, 1) := dk_28 (dk_at dksX2_findGame_0 11 rfl rfl)
theorem dX2_findGame_12 : decode cX2_findGame 12 = .ok (.aload_n 0, 1) := dk_42 (dk_at dksX2_findGame_0 12 rfl rfl)
theorem dX2_findGame_13 : decode cX2_findGame 13 = .ok (.getfield 116, 3) := dk_180 0 116 (dk_at dksX2_findGame_0 13 rfl rfl)
theorem dX2_findGame_16 : decode cX2_findGame 16 = .ok (.if_icmp .ge 23, 3) := dk_162 0 23 (dk_at dksX2_findGame_0 16 rfl rfl)
theorem dX2_findGame_19 : decode cX2_findGame 19 = .ok (.iload_n 1, 1) := dk_27 (dk_at dksX2_findGame_0 19 rfl rfl)
theorem dX2_findGame_20 : decode cX2_findGame 20 = .ok (.iload_n 2, 1) := dk_28 (dk_at dksX2_findGame_0 20 rfl rfl)
theorem dX2_findGame_21 : decode cX2_findGame 21 = .ok (.invokestatic 301, 3) := dk_184 1 45 (dk_at dksX2_findGame_0 21 rfl rfl)
theorem dX2_findGame_24 : decode cX2_findGame 24 = .ok (.ifCond .eq 9, 3) := dk_153 0 9 (dk_at dksX2_findGame_1 0 rfl rfl)
theorem dX2_findGame_27 : decode cX2_findGame 27 = .ok (.aload_n 0, 1) := dk_42 (dk_at dksX2_findGame_1 3 rfl rfl)
theorem dX2_findGame_28 : decode cX2_findGame 28 = .ok (.iload_n 1, 1) := dk_27 (dk_at dksX2_findGame_1 4 rfl rfl)
theorem dX2_findGame_29 : decode cX2_findGame 29 = .ok (.iload_n 2, 1) := dk_28 (dk_at dksX2_findGame_1 5 rfl rfl)
theorem dX2_findGame_30 : decode cX2_findGame 30 = .ok (.invokevirtual 365, 3) := dk_182 1 109 (dk_at dksX2_findGame_1 6 rfl rfl)
theorem dX2_findGame_33 : decode cX2_findGame 33 = .ok (.iinc 2 1, 3) := dk_132 2 1 (dk_at dksX2_findGame_1 9 rfl rfl)
theorem dX2_findGame_36 : decode cX2_findGame 36 = .ok (.goto (-25), 3) := dk_167 255 231 (dk_at dksX2_findGame_1 12 rfl rfl)
theorem dX2_findGame_39 : decode cX2_findGame 39 = .ok (.iinc 1 (-1), 3) := dk_132 1 255 (dk_at dksX2_findGame_1 15 rfl rfl)
theorem dX2_findGame_42 : decode cX2_findGame 42 = .ok (.goto (-37), 3) := dk_167 255 219 (dk_at dksX2_findGame_1 18 rfl rfl)
theorem dX2_findGame_45 : decode cX2_findGame 45 = .ok (.return_, 1) := dk_177 (dk_at dksX2_findGame_1 21 rfl rfl)
abbrev cX2_findTurn : ByteArray := prog_8_method_90_code
def yX2_findTurn : MethodName := ⟨RX2, "findTurn", "(II)V"⟩
def dkwX2_findTurn_10 : List UInt8 := [21, 4, 79, 132, 4, 1, 167, 255, 104, 177]
abbrev dktX2_findTurn_10 : List UInt8 := dkwX2_findTurn_10 ++ []
def dkwX2_findTurn_9 : List UInt8 := [54, 7, 21, 7, 154, 0, 6, 167, 0, 19, 42, 180, 0, 77, 29, 21, 6, 79, 42, 180, 0, 80, 29]
abbrev dktX2_findTurn_9 : List UInt8 := dkwX2_findTurn_9 ++ dktX2_findTurn_10
def dkwX2_findTurn_8 : List UInt8 := [4, 167, 0, 23, 3, 167, 0, 19, 21, 6, 42, 180, 0, 77, 29, 46, 164, 0, 7, 4, 167, 0, 4, 3]
abbrev dktX2_findTurn_8 : List UInt8 := dkwX2_findTurn_8 ++ dktX2_findTurn_9
def dkwX2_findTurn_7 : List UInt8 := [153, 0, 32, 42, 180, 0, 80, 29, 46, 2, 159, 0, 14, 21, 6, 42, 180, 0, 77, 29, 46, 162, 0, 7]
abbrev dktX2_findTurn_7 : List UInt8 := dkwX2_findTurn_7 ++ dktX2_findTurn_8
def dkwX2_findTurn_6 : List UInt8 := [153, 0, 6, 167, 0, 94, 42, 180, 0, 77, 21, 5, 46, 4, 96, 54, 6, 42, 180, 0, 74, 29, 51]
abbrev dktX2_findTurn_6 : List UInt8 := dkwX2_findTurn_6 ++ dktX2_findTurn_7
def dkwX2_findTurn_5 : List UInt8 := [21, 4, 184, 1, 48, 54, 5, 42, 180, 0, 74, 29, 51, 153, 0, 16, 42, 180, 0, 74, 21, 5, 51]
abbrev dktX2_findTurn_5 : List UInt8 := dkwX2_findTurn_5 ++ dktX2_findTurn_6
def dkwX2_findTurn_4 : List UInt8 := [162, 0, 149, 42, 27, 28, 21, 4, 182, 1, 51, 154, 0, 6, 167, 0, 129, 27, 4, 21, 4, 120, 128]
abbrev dktX2_findTurn_4 : List UInt8 := dkwX2_findTurn_4 ++ dktX2_findTurn_5
def dkwX2_findTurn_3 : List UInt8 := [180, 0, 80, 29, 2, 79, 42, 180, 0, 77, 29, 3, 79, 3, 54, 4, 21, 4, 42, 180, 0, 116]
abbrev dktX2_findTurn_3 : List UInt8 := dkwX2_findTurn_3 ++ dktX2_findTurn_4
def dkwX2_findTurn_2 : List UInt8 := [21, 4, 184, 1, 48, 51, 154, 0, 10, 42, 180, 0, 74, 29, 4, 84, 132, 4, 1, 167, 255, 207, 42]
abbrev dktX2_findTurn_2 : List UInt8 := dkwX2_findTurn_2 ++ dktX2_findTurn_3
def dkwX2_findTurn_1 : List UInt8 := [162, 0, 46, 42, 27, 28, 21, 4, 182, 1, 51, 153, 0, 29, 42, 180, 0, 74, 27, 4, 21, 4, 120, 128]
abbrev dktX2_findTurn_1 : List UInt8 := dkwX2_findTurn_1 ++ dktX2_findTurn_2
def dkwX2_findTurn_0 : List UInt8 := [27, 28, 184, 1, 48, 62, 42, 180, 0, 74, 29, 3, 84, 3, 54, 4, 21, 4, 42, 180, 0, 116]
abbrev dktX2_findTurn_0 : List UInt8 := dkwX2_findTurn_0 ++ dktX2_findTurn_1
theorem dksX2_findTurn_0 : cX2_findTurn.data.toList.drop 0 = dktX2_findTurn_0 := by decide +kernel
theorem dksX2_findTurn_1 : cX2_findTurn.data.toList.drop 22 = dktX2_findTurn_1 := dk_seg dksX2_findTurn_0 22 rfl rfl
theorem dksX2_findTurn_2 : cX2_findTurn.data.toList.drop 46 = dktX2_findTurn_2 := dk_seg dksX2_findTurn_1 24 rfl rfl
theorem dksX2_findTurn_3 : cX2_findTurn.data.toList.drop 69 = dktX2_findTurn_3 := dk_seg dksX2_findTurn_2 23 rfl rfl
theorem dksX2_findTurn_4 : cX2_findTurn.data.toList.drop 91 = dktX2_findTurn_4 := dk_seg dksX2_findTurn_3 22 rfl rfl
theorem dksX2_findTurn_5 : cX2_findTurn.data.toList.drop 114 = dktX2_findTurn_5 := dk_seg dksX2_findTurn_4 23 rfl rfl
theorem dksX2_findTurn_6 : cX2_findTurn.data.toList.drop 137 = dktX2_findTurn_6 := dk_seg dksX2_findTurn_5 23 rfl rfl
theorem dksX2_findTurn_7 : cX2_findTurn.data.toList.drop 160 = dktX2_findTurn_7 := dk_seg dksX2_findTurn_6 23 rfl rfl
theorem dksX2_findTurn_8 : cX2_findTurn.data.toList.drop 184 = dktX2_findTurn_8 := dk_seg dksX2_findTurn_7 24 rfl rfl
theorem dksX2_findTurn_9 : cX2_findTurn.data.toList.drop 208 = dktX2_findTurn_9 := dk_seg dksX2_findTurn_8 24 rfl rfl
theorem dksX2_findTurn_10 : cX2_findTurn.data.toList.drop 231 = dktX2_findTurn_10 := dk_seg dksX2_findTurn_9 23 rfl rfl
theorem dX2_findTurn_0 : decode cX2_findTurn 0 = .ok (.iload_n 1, 1) := dk_27 (dk_at dksX2_findTurn_0 0 rfl rfl)
theorem dX2_findTurn_1 : decode cX2_findTurn 1 = .ok (.iload_n 2, 1) := dk_28 (dk_at dksX2_findTurn_0 1 rfl rfl)
theorem dX2_findTurn_2 : decode cX2_findTurn 2 = .ok (.invokestatic 304, 3) := dk_184 1 48 (dk_at dksX2_findTurn_0 2 rfl rfl)
theorem dX2_findTurn_5 : decode cX2_findTurn 5 = .ok (.istore_n 3, 1) := dk_62 (dk_at dksX2_findTurn_0 5 rfl rfl)
theorem dX2_findTurn_6 : decode cX2_findTurn 6 = .ok (.aload_n 0, 1) := dk_42 (dk_at dksX2_findTurn_0 6 rfl rfl)
theorem dX2_findTurn_7 : decode cX2_findTurn 7 = .ok (.getfield 74, 3) := dk_180 0 74 (dk_at dksX2_findTurn_0 7 rfl rfl)
theorem dX2_findTurn_10 : decode cX2_findTurn 10 = .ok (.iload_n 3, 1) := dk_29 (dk_at dksX2_findTurn_0 10 rfl rfl)
theorem dX2_findTurn_11 : decode cX2_findTurn 11 = .ok (.iconst 0, 1) := dk_3 (dk_at dksX2_findTurn_0 11 rfl rfl)
theorem dX2_findTurn_12 : decode cX2_findTurn 12 = .ok (.bastore, 1) := dk_84 (dk_at dksX2_findTurn_0 12 rfl rfl)
theorem dX2_findTurn_13 : decode cX2_findTurn 13 = .ok (.iconst 0, 1) := dk_3 (dk_at dksX2_findTurn_0 13 rfl rfl)
theorem dX2_findTurn_14 : decode cX2_findTurn 14 = .ok (.istore 4, 2) := dk_54 4 (dk_at dksX2_findTurn_0 14 rfl rfl)
theorem dX2_findTurn_16 : decode cX2_findTurn 16 = .ok (.iload 4, 2) := dk_21 4 (dk_at dksX2_findTurn_0 16 rfl rfl)
theorem dX2_findTurn_18 : decode cX2_findTurn 18 = .ok (.aload_n 0, 1) := dk_42 (dk_at dksX2_findTurn_0 18 rfl rfl)
theorem dX2_findTurn_19 : decode cX2_findTurn 19 = .ok (.getfield 116, 3) := dk_180 0 116 (dk_at dksX2_findTurn_0 19 rfl rfl)
theorem dX2_findTurn_22 : decode cX2_findTurn 22 = .ok (.if_icmp .ge 46, 3) := dk_162 0 46 (dk_at dksX2_findTurn_1 0 rfl rfl)
theorem dX2_findTurn_25 : decode cX2_findTurn 25 = .ok (.aload_n 0, 1) := dk_42 (dk_at dksX2_findTurn_1 3 rfl rfl)
theorem dX2_findTurn_26 : decode cX2_findTurn 26 = .ok (.iload_n 1, 1) := dk_27 (dk_at dksX2_findTurn_1 4 rfl rfl)
theorem dX2_findTurn_27 : decode cX2_findTurn 27 = .ok (.iload_n 2, 1) := dk_28 (dk_at dksX2_findTurn_1 5 rfl rfl)
theorem dX2_findTurn_28 : decode cX2_findTurn 28 = .ok (.iload 4, 2) := dk_21 4 (dk_at dksX2_findTurn_1 6 rfl rfl)
theorem dX2_findTurn_30 : decode cX2_findTurn 30 = .ok (.invokevirtual 307, 3) := dk_182 1 51 (dk_at dksX2_findTurn_1 8 rfl rfl)
theorem dX2_findTurn_33 : decode cX2_findTurn 33 = .ok (.ifCond .eq 29, 3) := dk_153 0 29 (dk_at dksX2_findTurn_1 11 rfl rfl)
theorem dX2_findTurn_36 : decode cX2_findTurn 36 = .ok (.aload_n 0, 1) := dk_42 (dk_at dksX2_findTurn_1 14 rfl rfl)
theorem dX2_findTurn_37 : decode cX2_findTurn 37 = .ok (.getfield 74, 3) := dk_180 0 74 (dk_at dksX2_findTurn_1 15 rfl rfl)
theorem dX2_findTurn_40 : decode cX2_findTurn 40 = .ok (.iload_n 1, 1) := dk_27 (dk_at dksX2_findTurn_1 18 rfl rfl)
theorem dX2_findTurn_41 : decode cX2_findTurn 41 = .ok (.iconst 1, 1) := dk_4 (dk_at dksX2_findTurn_1 19 rfl rfl)
theorem dX2_findTurn_42 : decode cX2_findTurn 42 = .ok (.iload 4, 2) := dk_21 4 (dk_at dksX2_findTurn_1 20 rfl rfl)
theorem dX2_findTurn_44 : decode cX2_findTurn 44 = .ok (.ishl, 1) := dk_120 (dk_at dksX2_findTurn_1 22 rfl rfl)
theorem dX2_findTurn_45 : decode cX2_findTurn 45 = .ok (.ior, 1) := dk_128 (dk_at dksX2_findTurn_1 23 rfl rfl)
theorem dX2_findTurn_46 : decode cX2_findTurn 46 = .ok (.iload 4, 2) := dk_21 4 (dk_at dksX2_findTurn_2 0 rfl rfl)
theorem dX2_findTurn_48 : decode cX2_findTurn 48 = .ok (.invokestatic 304, 3) := dk_184 1 48 (dk_at dksX2_findTurn_2 2 rfl rfl)
theorem dX2_findTurn_51 : decode cX2_findTurn 51 = .ok (.baload, 1) := dk_51 (dk_at dksX2_findTurn_2 5 rfl rfl)
theorem dX2_findTurn_52 : decode cX2_findTurn 52 = .ok (.ifCond .ne 10, 3) := dk_154 0 10 (dk_at dksX2_findTurn_2 6 rfl rfl)
theorem dX2_findTurn_55 : decode cX2_findTurn 55 = .ok (.aload_n 0, 1) := dk_42 (dk_at dksX2_findTurn_2 9 rfl rfl)
theorem dX2_findTurn_56 : decode cX2_findTurn 56 = .ok (.getfield 74, 3) := dk_180 0 74 (dk_at dksX2_findTurn_2 10 rfl rfl)
theorem dX2_findTurn_59 : decode cX2_findTurn 59 = .ok (.iload_n 3, 1) := dk_29 (dk_at dksX2_findTurn_2 13 rfl rfl)
theorem dX2_findTurn_60 : decode cX2_findTurn 60 = .ok (.iconst 1, 1) := dk_4 (dk_at dksX2_findTurn_2 14 rfl rfl)
theorem dX2_findTurn_61 : decode cX2_findTurn 61 = .ok (.bastore, 1) := dk_84 (dk_at dksX2_findTurn_2 15 rfl rfl)
theorem dX2_findTurn_62 : decode cX2_findTurn 62 = .ok (.iinc 4 1, 3) := dk_132 4 1 (dk_at dksX2_findTurn_2 16 rfl rfl)
theorem dX2_findTurn_65 : decode cX2_findTurn 65 = .ok (.goto (-49), 3) := dk_167 255 207 (dk_at dksX2_findTurn_2 19 rfl rfl)
theorem dX2_findTurn_68 : decode cX2_findTurn 68 = .ok (.aload_n 0, 1) := dk_42 (dk_at dksX2_findTurn_2 22 rfl rfl)
theorem dX2_findTurn_69 : decode cX2_findTurn 69 = .ok (.getfield 80, 3) := dk_180 0 80 (dk_at dksX2_findTurn_3 0 rfl rfl)
theorem dX2_findTurn_72 : decode cX2_findTurn 72 = .ok (.iload_n 3, 1) := dk_29 (dk_at dksX2_findTurn_3 3 rfl rfl)
theorem dX2_findTurn_73 : decode cX2_findTurn 73 = .ok (.iconst (-1), 1) := dk_2 (dk_at dksX2_findTurn_3 4 rfl rfl)
theorem dX2_findTurn_74 : decode cX2_findTurn 74 = .ok (.iastore, 1) := dk_79 (dk_at dksX2_findTurn_3 5 rfl rfl)
theorem dX2_findTurn_75 : decode cX2_findTurn 75 = .ok (.aload_n 0, 1) := dk_42 (dk_at dksX2_findTurn_3 6 rfl rfl)
theorem dX2_findTurn_76 : decode cX2_findTurn 76 = .ok (.getfield 77, 3) := dk_180 0 77 (dk_at dksX2_findTurn_3 7 rfl rfl)
theorem dX2_findTurn_79 : decode cX2_findTurn 79 = .ok (.iload_n 3, 1) := dk_29 (dk_at dksX2_findTurn_3 10 rfl rfl)
theorem dX2_findTurn_80 : decode cX2_findTurn 80 = .ok (.iconst 0, 1) := dk_3 (dk_at dksX2_findTurn_3 11 rfl rfl)
theorem dX2_findTurn_81 : decode cX2_findTurn 81 = .ok (.iastore, 1) := dk_79 (dk_at dksX2_findTurn_3 12 rfl rfl)
theorem dX2_findTurn_82 : decode cX2_findTurn 82 = .ok (.iconst 0, 1) := dk_3 (dk_at dksX2_findTurn_3 13 rfl rfl)
theorem dX2_findTurn_83 : decode cX2_findTurn 83 = .ok (.istore 4, 2) := dk_54 4 (dk_at dksX2_findTurn_3 14 rfl rfl)
theorem dX2_findTurn_85 : decode cX2_findTurn 85 = .ok (.iload 4, 2) := dk_21 4 (dk_at dksX2_findTurn_3 16 rfl rfl)
theorem dX2_findTurn_87 : decode cX2_findTurn 87 = .ok (.aload_n 0, 1) := dk_42 (dk_at dksX2_findTurn_3 18 rfl rfl)
theorem dX2_findTurn_88 : decode cX2_findTurn 88 = .ok (.getfield 116, 3) := dk_180 0 116 (dk_at dksX2_findTurn_3 19 rfl rfl)
theorem dX2_findTurn_91 : decode cX2_findTurn 91 = .ok (.if_icmp .ge 149, 3) := dk_162 0 149 (dk_at dksX2_findTurn_4 0 rfl rfl)
theorem dX2_findTurn_94 : decode cX2_findTurn 94 = .ok (.aload_n 0, 1) := dk_42 (dk_at dksX2_findTurn_4 3 rfl rfl)
theorem dX2_findTurn_95 : decode cX2_findTurn 95 = .ok (.iload_n 1, 1) := dk_27 (dk_at dksX2_findTurn_4 4 rfl rfl)
theorem dX2_findTurn_96 : decode cX2_findTurn 96 = .ok (.iload_n 2, 1) := dk_28 (dk_at dksX2_findTurn_4 5 rfl rfl)
theorem dX2_findTurn_97 : decode cX2_findTurn 97 = .ok (.iload 4, 2) := dk_21 4 (dk_at dksX2_findTurn_4 6 rfl rfl)
theorem dX2_findTurn_99 : decode cX2_findTurn 99 = .ok (.invokevirtual 307, 3) := dk_182 1 51 (dk_at dksX2_findTurn_4 8 rfl rfl)
theorem dX2_findTurn_102 : decode cX2_findTurn 102 = .ok (.ifCond .ne 6, 3) := dk_154 0 6 (dk_at dksX2_findTurn_4 11 rfl rfl)
theorem dX2_findTurn_105 : decode cX2_findTurn 105 = .ok (.goto 129, 3) := dk_167 0 129 (dk_at dksX2_findTurn_4 14 rfl rfl)
theorem dX2_findTurn_108 : decode cX2_findTurn 108 = .ok (.iload_n 1, 1) := dk_27 (dk_at dksX2_findTurn_4 17 rfl rfl)
theorem dX2_findTurn_109 : decode cX2_findTurn 109 = .ok (.iconst 1, 1) := dk_4 (dk_at dksX2_findTurn_4 18 rfl rfl)
theorem dX2_findTurn_110 : decode cX2_findTurn 110 = .ok (.iload 4, 2) := dk_21 4 (dk_at dksX2_findTurn_4 19 rfl rfl)
theorem dX2_findTurn_112 : decode cX2_findTurn 112 = .ok (.ishl, 1) := dk_120 (dk_at dksX2_findTurn_4 21 rfl rfl)
theorem dX2_findTurn_113 : decode cX2_findTurn 113 = .ok (.ior, 1) := dk_128 (dk_at dksX2_findTurn_4 22 rfl rfl)
theorem dX2_findTurn_114 : decode cX2_findTurn 114 = .ok (.iload 4, 2) := dk_21 4 (dk_at dksX2_findTurn_5 0 rfl rfl)
theorem dX2_findTurn_116 : decode cX2_findTurn 116 = .ok (.invokestatic 304, 3) := dk_184 1 48 (dk_at dksX2_findTurn_5 2 rfl rfl)
theorem dX2_findTurn_119 : decode cX2_findTurn 119 = .ok (.istore 5, 2) := dk_54 5 (dk_at dksX2_findTurn_5 5 rfl rfl)
theorem dX2_findTurn_121 : decode cX2_findTurn 121 = .ok (.aload_n 0, 1) := dk_42 (dk_at dksX2_findTurn_5 7 rfl rfl)
theorem dX2_findTurn_122 : decode cX2_findTurn 122 = .ok (.getfield 74, 3) := dk_180 0 74 (dk_at dksX2_findTurn_5 8 rfl rfl)
theorem dX2_findTurn_125 : decode cX2_findTurn 125 = .ok (.iload_n 3, 1) := dk_29 (dk_at dksX2_findTurn_5 11 rfl rfl)
theorem dX2_findTurn_126 : decode cX2_findTurn 126 = .ok (.baload, 1) := dk_51 (dk_at dksX2_findTurn_5 12 rfl rfl)
theorem dX2_findTurn_127 : decode cX2_findTurn 127 = .ok (.ifCond .eq 16, 3) := dk_153 0 16 (dk_at dksX2_findTurn_5 13 rfl rfl)
theorem dX2_findTurn_130 : decode cX2_findTurn 130 = .ok (.aload_n 0, 1) := dk_42 (dk_at dksX2_findTurn_5 16 rfl rfl)
theorem dX2_findTurn_131 : decode cX2_findTurn 131 = .ok (.getfield 74, 3) := dk_180 0 74 (dk_at dksX2_findTurn_5 17 rfl rfl)
theorem dX2_findTurn_134 : decode cX2_findTurn 134 = .ok (.iload 5, 2) := dk_21 5 (dk_at dksX2_findTurn_5 20 rfl rfl)
theorem dX2_findTurn_136 : decode cX2_findTurn 136 = .ok (.baload, 1) := dk_51 (dk_at dksX2_findTurn_5 22 rfl rfl)
theorem dX2_findTurn_137 : decode cX2_findTurn 137 = .ok (.ifCond .eq 6, 3) := dk_153 0 6 (dk_at dksX2_findTurn_6 0 rfl rfl)
theorem dX2_findTurn_140 : decode cX2_findTurn 140 = .ok (.goto 94, 3) := dk_167 0 94 (dk_at dksX2_findTurn_6 3 rfl rfl)
theorem dX2_findTurn_143 : decode cX2_findTurn 143 = .ok (.aload_n 0, 1) := dk_42 (dk_at dksX2_findTurn_6 6 rfl rfl)
theorem dX2_findTurn_144 : decode cX2_findTurn 144 = .ok (.getfield 77, 3) := dk_180 0 77 (dk_at dksX2_findTurn_6 7 rfl rfl)
theorem dX2_findTurn_147 : decode cX2_findTurn 147 = .ok (.iload 5, 2) := dk_21 5 (dk_at dksX2_findTurn_6 10 rfl rfl)
theorem dX2_findTurn_149 : decode cX2_findTurn 149 = .ok (.iaload, 1) := dk_46 (dk_at dksX2_findTurn_6 12 rfl rfl)
theorem dX2_findTurn_150 : decode cX2_findTurn 150 = .ok (.iconst 1, 1) := dk_4 (dk_at dksX2_findTurn_6 13 rfl rfl)
theorem dX2_findTurn_151 : decode cX2_findTurn 151 = .ok (.iadd, 1) := dk_96 (dk_at dksX2_findTurn_6 14 rfl rfl)
theorem dX2_findTurn_152 : decode cX2_findTurn 152 = .ok (.istore 6, 2) := dk_54 6 (dk_at dksX2_findTurn_6 15 rfl rfl)
theorem dX2_findTurn_154 : decode cX2_findTurn 154 = .ok (.aload_n 0, 1) := dk_42 (dk_at dksX2_findTurn_6 17 rfl rfl)
theorem dX2_findTurn_155 : decode cX2_findTurn 155 = .ok (.getfield 74, 3) := dk_180 0 74 (dk_at dksX2_findTurn_6 18 rfl rfl)
theorem dX2_findTurn_158 : decode cX2_findTurn 158 = .ok (.iload_n 3, 1) := dk_29 (dk_at dksX2_findTurn_6 21 rfl rfl)
theorem dX2_findTurn_159 : decode cX2_findTurn 159 = .ok (.baload, 1) := dk_51 (dk_at dksX2_findTurn_6 22 rfl rfl)
theorem dX2_findTurn_160 : decode cX2_findTurn 160 = .ok (.ifCond .eq 32, 3) := dk_153 0 32 (dk_at dksX2_findTurn_7 0 rfl rfl)
theorem dX2_findTurn_163 : decode cX2_findTurn 163 = .ok (.aload_n 0, 1) := dk_42 (dk_at dksX2_findTurn_7 3 rfl rfl)
theorem dX2_findTurn_164 : decode cX2_findTurn 164 = .ok (.getfield 80, 3) := dk_180 0 80 (dk_at dksX2_findTurn_7 4 rfl rfl)
theorem dX2_findTurn_167 : decode cX2_findTurn 167 = .ok (.iload_n 3, 1) := dk_29 (dk_at dksX2_findTurn_7 7 rfl rfl)
theorem dX2_findTurn_168 : decode cX2_findTurn 168 = .ok (.iaload, 1) := dk_46 (dk_at dksX2_findTurn_7 8 rfl rfl)
theorem dX2_findTurn_169 : decode cX2_findTurn 169 = .ok (.iconst (-1), 1) := dk_2 (dk_at dksX2_findTurn_7 9 rfl rfl)
theorem dX2_findTurn_170 : decode cX2_findTurn 170 = .ok (.if_icmp .eq 14, 3) := dk_159 0 14 (dk_at dksX2_findTurn_7 10 rfl rfl)
theorem dX2_findTurn_173 : decode cX2_findTurn 173 = .ok (.iload 6, 2) := dk_21 6 (dk_at dksX2_findTurn_7 13 rfl rfl)
theorem dX2_findTurn_175 : decode cX2_findTurn 175 = .ok (.aload_n 0, 1) := dk_42 (dk_at dksX2_findTurn_7 15 rfl rfl)
theorem dX2_findTurn_176 : decode cX2_findTurn 176 = .ok (.getfield 77, 3) := dk_180 0 77 (dk_at dksX2_findTurn_7 16 rfl rfl)
theorem dX2_findTurn_179 : decode cX2_findTurn 179 = .ok (.iload_n 3, 1) := dk_29 (dk_at dksX2_findTurn_7 19 rfl rfl)
theorem dX2_findTurn_180 : decode cX2_findTurn 180 = .ok (.iaload, 1) := dk_46 (dk_at dksX2_findTurn_7 20 rfl rfl)
theorem dX2_findTurn_181 : decode cX2_findTurn 181 = .ok (.if_icmp .ge 7, 3) := dk_162 0 7 (dk_at dksX2_findTurn_7 21 rfl rfl)
theorem dX2_findTurn_184 : decode cX2_findTurn 184 = .ok (.iconst 1, 1) := dk_4 (dk_at dksX2_findTurn_8 0 rfl rfl)
theorem dX2_findTurn_185 : decode cX2_findTurn 185 = .ok (.goto 23, 3) := dk_167 0 23 (dk_at dksX2_findTurn_8 1 rfl rfl)
theorem dX2_findTurn_188 : decode cX2_findTurn 188 = .ok (.iconst 0, 1) := dk_3 (dk_at dksX2_findTurn_8 4 rfl rfl)
theorem dX2_findTurn_189 : decode cX2_findTurn 189 = .ok (.goto 19, 3) := dk_167 0 19 (dk_at dksX2_findTurn_8 5 rfl rfl)
theorem dX2_findTurn_192 : decode cX2_findTurn 192 = .ok (.iload 6, 2) := dk_21 6 (dk_at dksX2_findTurn_8 8 rfl rfl)
theorem dX2_findTurn_194 : decode cX2_findTurn 194 = .ok (.aload_n 0, 1) := dk_42 (dk_at dksX2_findTurn_8 10 rfl rfl)
theorem dX2_findTurn_195 : decode cX2_findTurn 195 = .ok (.getfield 77, 3) := dk_180 0 77 (dk_at dksX2_findTurn_8 11 rfl rfl)
theorem dX2_findTurn_198 : decode cX2_findTurn 198 = .ok (.iload_n 3, 1) := dk_29 (dk_at dksX2_findTurn_8 14 rfl rfl)
theorem dX2_findTurn_199 : decode cX2_findTurn 199 = .ok (.iaload, 1) := dk_46 (dk_at dksX2_findTurn_8 15 rfl rfl)
theorem dX2_findTurn_200 : decode cX2_findTurn 200 = .ok (.if_icmp .le 7, 3) := dk_164 0 7 (dk_at dksX2_findTurn_8 16 rfl rfl)
theorem dX2_findTurn_203 : decode cX2_findTurn 203 = .ok (.iconst 1, 1) := dk_4 (dk_at dksX2_findTurn_8 19 rfl rfl)
theorem dX2_findTurn_204 : decode cX2_findTurn 204 = .ok (.goto 4, 3) := dk_167 0 4 (dk_at dksX2_findTurn_8 20 rfl rfl)
theorem dX2_findTurn_207 : decode cX2_findTurn 207 = .ok (.iconst 0, 1) := dk_3 (dk_at dksX2_findTurn_8 23 rfl rfl)
theorem dX2_findTurn_208 : decode cX2_findTurn 208 = .ok (.istore 7, 2) := dk_54 7 (dk_at dksX2_findTurn_9 0 rfl rfl)
theorem dX2_findTurn_210 : decode cX2_findTurn 210 = .ok (.iload 7, 2) := dk_21 7 (dk_at dksX2_findTurn_9 2 rfl rfl)
theorem dX2_findTurn_212 : decode cX2_findTurn 212 = .ok (.ifCond .ne 6, 3) := dk_154 0 6 (dk_at dksX2_findTurn_9 4 rfl rfl)
theorem dX2_findTurn_215 : decode cX2_findTurn 215 = .ok (.goto 19, 3) := dk_167 0 19 (dk_at dksX2_findTurn_9 7 rfl rfl)
theorem dX2_findTurn_218 : decode cX2_findTurn 218 = .ok (.aload_n 0, 1) := dk_42 (dk_at dksX2_findTurn_9 10 rfl rfl)
theorem dX2_findTurn_219 : decode cX2_findTurn 219 = .ok (.getfield 77, 3) := dk_180 0 77 (dk_at dksX2_findTurn_9 11 rfl rfl)
theorem dX2_findTurn_222 : decode cX2_findTurn 222 = .ok (.iload_n 3, 1) := dk_29 (dk_at dksX2_findTurn_9 14 rfl rfl)
theorem dX2_findTurn_223 : decode cX2_findTurn 223 = .ok (.iload 6, 2) := dk_21 6 (dk_at dksX2_findTurn_9 15 rfl rfl)
theorem dX2_findTurn_225 : decode cX2_findTurn 225 = .ok (.iastore, 1) := dk_79 (dk_at dksX2_findTurn_9 17 rfl rfl)
theorem dX2_findTurn_226 : decode cX2_findTurn 226 = .ok (.aload_n 0, 1) := dk_42 (dk_at dksX2_findTurn_9 18 rfl rfl)
theorem dX2_findTurn_227 : decode cX2_findTurn 227 = .ok (.getfield 80, 3) := dk_180 0 80 (dk_at dksX2_findTurn_9 19 rfl rfl)
theorem dX2_findTurn_230 : decode cX2_findTurn 230 = .ok (.iload_n 3, 1) := dk_29 (dk_at dksX2_findTurn_9 22 rfl rfl)
theorem dX2_findTurn_231 : decode cX2_findTurn 231 = .ok (.iload 4, 2) := dk_21 4 (dk_at dksX2_findTurn_10 0 rfl rfl)
theorem dX2_findTurn_233 : decode cX2_findTurn 233 = .ok (.iastore, 1) := dk_79 (dk_at dksX2_findTurn_10 2 rfl rfl)
theorem dX2_findTurn_234 : decode cX2_findTurn 234 = .ok (.iinc 4 1, 3) := dk_132 4 1 (dk_at dksX2_findTurn_10 3 rfl rfl)
theorem dX2_findTurn_237 : decode cX2_findTurn 237 = .ok (.goto (-152), 3) := dk_167 255 104 (dk_at dksX2_findTurn_10 6 rfl rfl)
theorem dX2_findTurn_240 : decode cX2_findTurn 240 = .ok (.return_, 1) := dk_177 (dk_at dksX2_findTurn_10 9 rfl rfl)
abbrev cX2_greedy : ByteArray := prog_8_method_93_code
def yX2_greedy : MethodName := ⟨RX2, "greedy", "()I"⟩
def dkwX2_greedy_3 : List UInt8 := [180, 0, 86, 27, 46, 182, 1, 33, 42, 180, 0, 83, 27, 51, 153, 0, 7, 4, 167, 0, 4, 3, 172]
abbrev dktX2_greedy_3 : List UInt8 := dkwX2_greedy_3 ++ []
def dkwX2_greedy_2 : List UInt8 := [167, 255, 219, 42, 182, 0, 255, 42, 182, 1, 2, 184, 1, 48, 60, 42, 3, 181, 0, 113, 42, 42]
abbrev dktX2_greedy_2 : List UInt8 := dkwX2_greedy_2 ++ dktX2_greedy_3
def dkwX2_greedy_1 : List UInt8 := [27, 28, 184, 1, 45, 153, 0, 9, 42, 27, 28, 182, 1, 116, 132, 2, 1, 167, 255, 231, 132, 1, 255]
abbrev dktX2_greedy_1 : List UInt8 := dkwX2_greedy_1 ++ dktX2_greedy_2
def dkwX2_greedy_0 : List UInt8 := [42, 3, 181, 0, 110, 42, 182, 1, 42, 60, 27, 155, 0, 39, 2, 61, 28, 42, 180, 0, 116, 162, 0, 23]
abbrev dktX2_greedy_0 : List UInt8 := dkwX2_greedy_0 ++ dktX2_greedy_1
theorem dksX2_greedy_0 : cX2_greedy.data.toList.drop 0 = dktX2_greedy_0 := by decide +kernel
theorem dksX2_greedy_1 : cX2_greedy.data.toList.drop 24 = dktX2_greedy_1 := dk_seg dksX2_greedy_0 24 rfl rfl
theorem dksX2_greedy_2 : cX2_greedy.data.toList.drop 47 = dktX2_greedy_2 := dk_seg dksX2_greedy_1 23 rfl rfl
theorem dksX2_greedy_3 : cX2_greedy.data.toList.drop 69 = dktX2_greedy_3 := dk_seg dksX2_greedy_2 22 rfl rfl
theorem dX2_greedy_0 : decode cX2_greedy 0 = .ok (.aload_n 0, 1) := dk_42 (dk_at dksX2_greedy_0 0 rfl rfl)
theorem dX2_greedy_1 : decode cX2_greedy 1 = .ok (.iconst 0, 1) := dk_3 (dk_at dksX2_greedy_0 1 rfl rfl)
theorem dX2_greedy_2 : decode cX2_greedy 2 = .ok (.putfield 110, 3) := dk_181 0 110 (dk_at dksX2_greedy_0 2 rfl rfl)
theorem dX2_greedy_5 : decode cX2_greedy 5 = .ok (.aload_n 0, 1) := dk_42 (dk_at dksX2_greedy_0 5 rfl rfl)
theorem dX2_greedy_6 : decode cX2_greedy 6 = .ok (.invokevirtual 298, 3) := dk_182 1 42 (dk_at dksX2_greedy_0 6 rfl rfl)
theorem dX2_greedy_9 : decode cX2_greedy 9 = .ok (.istore_n 1, 1) := dk_60 (dk_at dksX2_greedy_0 9 rfl rfl)
theorem dX2_greedy_10 : decode cX2_greedy 10 = .ok (.iload_n 1, 1) := dk_27 (dk_at dksX2_greedy_0 10 rfl rfl)
theorem dX2_greedy_11 : decode cX2_greedy 11 = .ok (.ifCond .lt 39, 3) := dk_155 0 39 (dk_at dksX2_greedy_0 11 rfl rfl)
theorem dX2_greedy_14 : decode cX2_greedy 14 = .ok (.iconst (-1), 1) := dk_2 (dk_at dksX2_greedy_0 14 rfl rfl)
theorem dX2_greedy_15 : decode cX2_greedy 15 = .ok (.istore_n 2, 1) := dk_61 (dk_at dksX2_greedy_0 15 rfl rfl)
theorem dX2_greedy_16 : decode cX2_greedy 16 = .ok (.iload_n 2, 1) := dk_28 (dk_at dksX2_greedy_0 16 rfl rfl)
theorem dX2_greedy_17 : decode cX2_greedy 17 = .ok (.aload_n 0, 1) := dk_42 (dk_at dksX2_greedy_0 17 rfl rfl)
theorem dX2_greedy_18 : decode cX2_greedy 18 = .ok (.getfield 116, 3) := dk_180 0 116 (dk_at dksX2_greedy_0 18 rfl rfl)
theorem dX2_greedy_21 : decode cX2_greedy 21 = .ok (.if_icmp .ge 23, 3) := dk_162 0 23 (dk_at dksX2_greedy_0 21 rfl rfl)
theorem dX2_greedy_24 : decode cX2_greedy 24 = .ok (.iload_n 1, 1) := dk_27 (dk_at dksX2_greedy_1 0 rfl rfl)
theorem dX2_greedy_25 : decode cX2_greedy 25 = .ok (.iload_n 2, 1) := dk_28 (dk_at dksX2_greedy_1 1 rfl rfl)
theorem dX2_greedy_26 : decode cX2_greedy 26 = .ok (.invokestatic 301, 3) := dk_184 1 45 (dk_at dksX2_greedy_1 2 rfl rfl)
theorem dX2_greedy_29 : decode cX2_greedy 29 = .ok (.ifCond .eq 9, 3) := dk_153 0 9 (dk_at dksX2_greedy_1 5 rfl rfl)
theorem dX2_greedy_32 : decode cX2_greedy 32 = .ok (.aload_n 0, 1) := dk_42 (dk_at dksX2_greedy_1 8 rfl rfl)
theorem dX2_greedy_33 : decode cX2_greedy 33 = .ok (.iload_n 1, 1) := dk_27 (dk_at dksX2_greedy_1 9 rfl rfl)
theorem dX2_greedy_34 : decode cX2_greedy 34 = .ok (.iload_n 2, 1) := dk_28 (dk_at dksX2_greedy_1 10 rfl rfl)
theorem dX2_greedy_35 : decode cX2_greedy 35 = .ok (.invokevirtual 372, 3) := dk_182 1 116 (dk_at dksX2_greedy_1 11 rfl rfl)
theorem dX2_greedy_38 : decode cX2_greedy 38 = .ok (.iinc 2 1, 3) := dk_132 2 1 (dk_at dksX2_greedy_1 14 rfl rfl)
theorem dX2_greedy_41 : decode cX2_greedy 41 = .ok (.goto (-25), 3) := dk_167 255 231 (dk_at dksX2_greedy_1 17 rfl rfl)
theorem dX2_greedy_44 : decode cX2_greedy 44 = .ok (.iinc 1 (-1), 3) := dk_132 1 255 (dk_at dksX2_greedy_1 20 rfl rfl)
theorem dX2_greedy_47 : decode cX2_greedy 47 = .ok (.goto (-37), 3) := dk_167 255 219 (dk_at dksX2_greedy_2 0 rfl rfl)
theorem dX2_greedy_50 : decode cX2_greedy 50 = .ok (.aload_n 0, 1) := dk_42 (dk_at dksX2_greedy_2 3 rfl rfl)
theorem dX2_greedy_51 : decode cX2_greedy 51 = .ok (.invokevirtual 255, 3) := dk_182 0 255 (dk_at dksX2_greedy_2 4 rfl rfl)
theorem dX2_greedy_54 : decode cX2_greedy 54 = .ok (.aload_n 0, 1) := dk_42 (dk_at dksX2_greedy_2 7 rfl rfl)
theorem dX2_greedy_55 : decode cX2_greedy 55 = .ok (.invokevirtual 258, 3) := dk_182 1 2 (dk_at dksX2_greedy_2 8 rfl rfl)
theorem dX2_greedy_58 : decode cX2_greedy 58 = .ok (.invokestatic 304, 3) := dk_184 1 48 (dk_at dksX2_greedy_2 11 rfl rfl)
theorem dX2_greedy_61 : decode cX2_greedy 61 = .ok (.istore_n 1, 1) := dk_60 (dk_at dksX2_greedy_2 14 rfl rfl)
theorem dX2_greedy_62 : decode cX2_greedy 62 = .ok (.aload_n 0, 1) := dk_42 (dk_at dksX2_greedy_2 15 rfl rfl)
theorem dX2_greedy_63 : decode cX2_greedy 63 = .ok (.iconst 0, 1) := dk_3 (dk_at dksX2_greedy_2 16 rfl rfl)
theorem dX2_greedy_64 : decode cX2_greedy 64 = .ok (.putfield 113, 3) := dk_181 0 113 (dk_at dksX2_greedy_2 17 rfl rfl)
theorem dX2_greedy_67 : decode cX2_greedy 67 = .ok (.aload_n 0, 1) := dk_42 (dk_at dksX2_greedy_2 20 rfl rfl)
theorem dX2_greedy_68 : decode cX2_greedy 68 = .ok (.aload_n 0, 1) := dk_42 (dk_at dksX2_greedy_2 21 rfl rfl)
theorem dX2_greedy_69 : decode cX2_greedy 69 = .ok (.getfield 86, 3) := dk_180 0 86 (dk_at dksX2_greedy_3 0 rfl rfl)
theorem dX2_greedy_72 : decode cX2_greedy 72 = .ok (.iload_n 1, 1) := dk_27 (dk_at dksX2_greedy_3 3 rfl rfl)
theorem dX2_greedy_73 : decode cX2_greedy 73 = .ok (.iaload, 1) := dk_46 (dk_at dksX2_greedy_3 4 rfl rfl)
theorem dX2_greedy_74 : decode cX2_greedy 74 = .ok (.invokevirtual 289, 3) := dk_182 1 33 (dk_at dksX2_greedy_3 5 rfl rfl)
theorem dX2_greedy_77 : decode cX2_greedy 77 = .ok (.aload_n 0, 1) := dk_42 (dk_at dksX2_greedy_3 8 rfl rfl)
theorem dX2_greedy_78 : decode cX2_greedy 78 = .ok (.getfield 83, 3) := dk_180 0 83 (dk_at dksX2_greedy_3 9 rfl rfl)
theorem dX2_greedy_81 : decode cX2_greedy 81 = .ok (.iload_n 1, 1) := dk_27 (dk_at dksX2_greedy_3 12 rfl rfl)
theorem dX2_greedy_82 : decode cX2_greedy 82 = .ok (.baload, 1) := dk_51 (dk_at dksX2_greedy_3 13 rfl rfl)
theorem dX2_greedy_83 : decode cX2_greedy 83 = .ok (.ifCond .eq 7, 3) := dk_153 0 7 (dk_at dksX2_greedy_3 14 rfl rfl)
theorem dX2_greedy_86 : decode cX2_greedy 86 = .ok (.iconst 1, 1) := dk_4 (dk_at dksX2_greedy_3 17 rfl rfl)
theorem dX2_greedy_87 : decode cX2_greedy 87 = .ok (.goto 4, 3) := dk_167 0 4 (dk_at dksX2_greedy_3 18 rfl rfl)
theorem dX2_greedy_90 : decode cX2_greedy 90 = .ok (.iconst 0, 1) := dk_3 (dk_at dksX2_greedy_3 21 rfl rfl)
theorem dX2_greedy_91 : decode cX2_greedy 91 = .ok (.ireturn, 1) := dk_172 (dk_at dksX2_greedy_3 22 rfl rfl)
abbrev cX2_findGreedy : ByteArray := prog_8_method_92_code
def yX2_findGreedy : MethodName := ⟨RX2, "findGreedy", "(II)V"⟩
def dkwX2_findGreedy_14 : List UInt8 := [54, 10, 132, 11, 1, 167, 255, 152, 42, 180, 0, 86, 17, 44, 0, 29, 96, 21, 9, 79, 177]
abbrev dktX2_findGreedy_14 : List UInt8 := dkwX2_findGreedy_14 ++ []
def dkwX2_findGreedy_13 : List UInt8 := [153, 0, 13, 21, 9, 21, 12, 184, 0, 204, 167, 0, 10, 21, 9, 21, 12, 184, 0, 210, 54, 9, 3]
abbrev dktX2_findGreedy_13 : List UInt8 := dkwX2_findGreedy_13 ++ dktX2_findGreedy_14
def dkwX2_findGreedy_12 : List UInt8 := [21, 11, 184, 1, 48, 46, 4, 96, 54, 12, 21, 10, 153, 0, 8, 21, 12, 167, 0, 25, 21, 7]
abbrev dktX2_findGreedy_12 : List UInt8 := dkwX2_findGreedy_12 ++ dktX2_findGreedy_13
def dkwX2_findGreedy_11 : List UInt8 := [120, 128, 21, 11, 184, 1, 48, 51, 159, 0, 6, 167, 0, 60, 42, 180, 0, 86, 27, 4, 21, 11, 120, 128]
abbrev dktX2_findGreedy_11 : List UInt8 := dkwX2_findGreedy_11 ++ dktX2_findGreedy_12
def dkwX2_findGreedy_10 : List UInt8 := [162, 0, 101, 42, 27, 28, 21, 11, 182, 1, 51, 153, 0, 84, 21, 7, 42, 180, 0, 83, 27, 4, 21, 11]
abbrev dktX2_findGreedy_10 : List UInt8 := dkwX2_findGreedy_10 ++ dktX2_findGreedy_11
def dkwX2_findGreedy_9 : List UInt8 := [153, 0, 7, 4, 167, 0, 4, 3, 84, 3, 54, 9, 4, 54, 10, 3, 54, 11, 21, 11, 42, 180, 0, 116]
abbrev dktX2_findGreedy_9 : List UInt8 := dkwX2_findGreedy_9 ++ dktX2_findGreedy_10
def dkwX2_findGreedy_8 : List UInt8 := [21, 8, 46, 4, 96, 79, 42, 180, 0, 83, 17, 44, 0, 29, 96, 21, 6, 153, 0, 12, 21, 7]
abbrev dktX2_findGreedy_8 : List UInt8 := dkwX2_findGreedy_8 ++ dktX2_findGreedy_9
def dkwX2_findGreedy_7 : List UInt8 := [167, 0, 4, 3, 84, 42, 180, 0, 86, 29, 21, 4, 2, 160, 0, 7, 3, 167, 0, 12, 42, 180, 0, 86]
abbrev dktX2_findGreedy_7 : List UInt8 := dkwX2_findGreedy_7 ++ dktX2_findGreedy_8
def dkwX2_findGreedy_6 : List UInt8 := [54, 8, 42, 180, 0, 83, 29, 21, 4, 2, 159, 0, 13, 42, 180, 0, 83, 21, 8, 51, 153, 0, 7, 4]
abbrev dktX2_findGreedy_6 : List UInt8 := dkwX2_findGreedy_6 ++ dktX2_findGreedy_7
def dkwX2_findGreedy_5 : List UInt8 := [2, 160, 0, 7, 3, 167, 0, 18, 17, 44, 0, 27, 4, 21, 4, 120, 128, 21, 4, 184, 1, 48, 96]
abbrev dktX2_findGreedy_5 : List UInt8 := dkwX2_findGreedy_5 ++ dktX2_findGreedy_6
def dkwX2_findGreedy_4 : List UInt8 := [21, 5, 163, 0, 6, 167, 0, 11, 21, 8, 54, 4, 21, 9, 54, 5, 132, 8, 1, 167, 255, 164, 21, 4]
abbrev dktX2_findGreedy_4 : List UInt8 := dkwX2_findGreedy_4 ++ dktX2_findGreedy_5
def dkwX2_findGreedy_3 : List UInt8 := [4, 167, 0, 4, 3, 54, 7, 42, 21, 8, 182, 0, 227, 54, 9, 21, 4, 2, 159, 0, 13, 21, 9]
abbrev dktX2_findGreedy_3 : List UInt8 := dkwX2_findGreedy_3 ++ dktX2_findGreedy_4
def dkwX2_findGreedy_2 : List UInt8 := [21, 7, 154, 0, 22, 42, 180, 0, 83, 27, 4, 21, 8, 120, 128, 21, 8, 184, 1, 48, 51, 153, 0, 7]
abbrev dktX2_findGreedy_2 : List UInt8 := dkwX2_findGreedy_2 ++ dktX2_findGreedy_3
def dkwX2_findGreedy_1 : List UInt8 := [180, 0, 116, 162, 0, 89, 42, 27, 28, 21, 8, 182, 1, 51, 154, 0, 6, 167, 0, 69, 4, 54, 6]
abbrev dktX2_findGreedy_1 : List UInt8 := dkwX2_findGreedy_1 ++ dktX2_findGreedy_2
def dkwX2_findGreedy_0 : List UInt8 := [27, 28, 184, 1, 48, 62, 2, 54, 4, 3, 54, 5, 3, 54, 6, 3, 54, 7, 3, 54, 8, 21, 8, 42]
abbrev dktX2_findGreedy_0 : List UInt8 := dkwX2_findGreedy_0 ++ dktX2_findGreedy_1
theorem dksX2_findGreedy_0 : cX2_findGreedy.data.toList.drop 0 = dktX2_findGreedy_0 := by decide +kernel
theorem dksX2_findGreedy_1 : cX2_findGreedy.data.toList.drop 24 = dktX2_findGreedy_1 := dk_seg dksX2_findGreedy_0 24 rfl rfl
theorem dksX2_findGreedy_2 : cX2_findGreedy.data.toList.drop 47 = dktX2_findGreedy_2 := dk_seg dksX2_findGreedy_1 23 rfl rfl
theorem dksX2_findGreedy_3 : cX2_findGreedy.data.toList.drop 71 = dktX2_findGreedy_3 := dk_seg dksX2_findGreedy_2 24 rfl rfl
theorem dksX2_findGreedy_4 : cX2_findGreedy.data.toList.drop 94 = dktX2_findGreedy_4 := dk_seg dksX2_findGreedy_3 23 rfl rfl
theorem dksX2_findGreedy_5 : cX2_findGreedy.data.toList.drop 118 = dktX2_findGreedy_5 := dk_seg dksX2_findGreedy_4 24 rfl rfl
theorem dksX2_findGreedy_6 : cX2_findGreedy.data.toList.drop 141 = dktX2_findGreedy_6 := dk_seg dksX2_findGreedy_5 23 rfl rfl
theorem dksX2_findGreedy_7 : cX2_findGreedy.data.toList.drop 165 = dktX2_findGreedy_7 := dk_seg dksX2_findGreedy_6 24 rfl rfl
theorem dksX2_findGreedy_8 : cX2_findGreedy.data.toList.drop 189 = dktX2_findGreedy_8 := dk_seg dksX2_findGreedy_7 24 rfl rfl
theorem dksX2_findGreedy_9 : cX2_findGreedy.data.toList.drop 211 = dktX2_findGreedy_9 := dk_seg dksX2_findGreedy_8 22 rfl rfl
theorem dksX2_findGreedy_10 : cX2_findGreedy.data.toList.drop 235 = dktX2_findGreedy_10 := dk_seg dksX2_findGreedy_9 24 rfl rfl
theorem dksX2_findGreedy_11 : cX2_findGreedy.data.toList.drop 259 = dktX2_findGreedy_11 := dk_seg dksX2_findGreedy_10 24 rfl rfl
theorem dksX2_findGreedy_12 : cX2_findGreedy.data.toList.drop 283 = dktX2_findGreedy_12 := dk_seg dksX2_findGreedy_11 24 rfl rfl
theorem dksX2_findGreedy_13 : cX2_findGreedy.data.toList.drop 305 = dktX2_findGreedy_13 := dk_seg dksX2_findGreedy_12 22 rfl rfl
theorem dksX2_findGreedy_14 : cX2_findGreedy.data.toList.drop 328 = dktX2_findGreedy_14 := dk_seg dksX2_findGreedy_13 23 rfl rfl
theorem dX2_findGreedy_0 : decode cX2_findGreedy 0 = .ok (.iload_n 1, 1) := dk_27 (dk_at dksX2_findGreedy_0 0 rfl rfl)
theorem dX2_findGreedy_1 : decode cX2_findGreedy 1 = .ok (.iload_n 2, 1) := dk_28 (dk_at dksX2_findGreedy_0 1 rfl rfl)
theorem dX2_findGreedy_2 : decode cX2_findGreedy 2 = .ok (.invokestatic 304, 3) := dk_184 1 48 (dk_at dksX2_findGreedy_0 2 rfl rfl)
theorem dX2_findGreedy_5 : decode cX2_findGreedy 5 = .ok (.istore_n 3, 1) := dk_62 (dk_at dksX2_findGreedy_0 5 rfl rfl)
theorem dX2_findGreedy_6 : decode cX2_findGreedy 6 = .ok (.iconst (-1), 1) := dk_2 (dk_at dksX2_findGreedy_0 6 rfl rfl)
theorem dX2_findGreedy_7 : decode cX2_findGreedy 7 = .ok (.istore 4, 2) := dk_54 4 (dk_at dksX2_findGreedy_0 7 rfl rfl)
theorem dX2_findGreedy_9 : decode cX2_findGreedy 9 = .ok (.iconst 0, 1) := dk_3 (dk_at dksX2_findGreedy_0 9 rfl rfl)
theorem dX2_findGreedy_10 : decode cX2_findGreedy 10 = .ok (.istore 5, 2) := dk_54 5 (dk_at dksX2_findGreedy_0 10 rfl rfl)
theorem dX2_findGreedy_12 : decode cX2_findGreedy 12 = .ok (.iconst 0, 1) := dk_3 (dk_at dksX2_findGreedy_0 12 rfl rfl)
theorem dX2_findGreedy_13 : decode cX2_findGreedy 13 = .ok (.istore 6, 2) := dk_54 6 (dk_at dksX2_findGreedy_0 13 rfl rfl)
theorem dX2_findGreedy_15 : decode cX2_findGreedy 15 = .ok (.iconst 0, 1) := dk_3 (dk_at dksX2_findGreedy_0 15 rfl rfl)
theorem dX2_findGreedy_16 : decode cX2_findGreedy 16 = .ok (.istore 7, 2) := dk_54 7 (dk_at dksX2_findGreedy_0 16 rfl rfl)
theorem dX2_findGreedy_18 : decode cX2_findGreedy 18 = .ok (.iconst 0, 1) := dk_3 (dk_at dksX2_findGreedy_0 18 rfl rfl)
theorem dX2_findGreedy_19 : decode cX2_findGreedy 19 = .ok (.istore 8, 2) := dk_54 8 (dk_at dksX2_findGreedy_0 19 rfl rfl)
theorem dX2_findGreedy_21 : decode cX2_findGreedy 21 = .ok (.iload 8, 2) := dk_21 8 (dk_at dksX2_findGreedy_0 21 rfl rfl)
theorem dX2_findGreedy_23 : decode cX2_findGreedy 23 = .ok (.aload_n 0, 1) := dk_42 (dk_at dksX2_findGreedy_0 23 rfl rfl)
theorem dX2_findGreedy_24 : decode cX2_findGreedy 24 = .ok (.getfield 116, 3) := dk_180 0 116 (dk_at dksX2_findGreedy_1 0 rfl rfl)
theorem dX2_findGreedy_27 : decode cX2_findGreedy 27 = .ok (.if_icmp .ge 89, 3) := dk_162 0 89 (dk_at dksX2_findGreedy_1 3 rfl rfl)
theorem dX2_findGreedy_30 : decode cX2_findGreedy 30 = .ok (.aload_n 0, 1) := dk_42 (dk_at dksX2_findGreedy_1 6 rfl rfl)
theorem dX2_findGreedy_31 : decode cX2_findGreedy 31 = .ok (.iload_n 1, 1) := dk_27 (dk_at dksX2_findGreedy_1 7 rfl rfl)
theorem dX2_findGreedy_32 : decode cX2_findGreedy 32 = .ok (.iload_n 2, 1) := dk_28 (dk_at dksX2_findGreedy_1 8 rfl rfl)
theorem dX2_findGreedy_33 : decode cX2_findGreedy 33 = .ok (.iload 8, 2) := dk_21 8 (dk_at dksX2_findGreedy_1 9 rfl rfl)
theorem dX2_findGreedy_35 : decode cX2_findGreedy 35 = .ok (.invokevirtual 307, 3) := dk_182 1 51 (dk_at dksX2_findGreedy_1 11 rfl rfl)
theorem dX2_findGreedy_38 : decode cX2_findGreedy 38 = .ok (.ifCond .ne 6, 3) := dk_154 0 6 (dk_at dksX2_findGreedy_1 14 rfl rfl)
theorem dX2_findGreedy_41 : decode cX2_findGreedy 41 = .ok (.goto 69, 3) := dk_167 0 69 (dk_at dksX2_findGreedy_1 17 rfl rfl)
theorem dX2_findGreedy_44 : decode cX2_findGreedy 44 = .ok (.iconst 1, 1) := dk_4 (dk_at dksX2_findGreedy_1 20 rfl rfl)
theorem dX2_findGreedy_45 : decode cX2_findGreedy 45 = .ok (.istore 6, 2) := dk_54 6 (dk_at dksX2_findGreedy_1 21 rfl rfl)
theorem dX2_findGreedy_47 : decode cX2_findGreedy 47 = .ok (.iload 7, 2) := dk_21 7 (dk_at dksX2_findGreedy_2 0 rfl rfl)
theorem dX2_findGreedy_49 : decode cX2_findGreedy 49 = .ok (.ifCond .ne 22, 3) := dk_154 0 22 (dk_at dksX2_findGreedy_2 2 rfl rfl)
theorem dX2_findGreedy_52 : decode cX2_findGreedy 52 = .ok (.aload_n 0, 1) := dk_42 (dk_at dksX2_findGreedy_2 5 rfl rfl)
theorem dX2_findGreedy_53 : decode cX2_findGreedy 53 = .ok (.getfield 83, 3) := dk_180 0 83 (dk_at dksX2_findGreedy_2 6 rfl rfl)
theorem dX2_findGreedy_56 : decode cX2_findGreedy 56 = .ok (.iload_n 1, 1) := dk_27 (dk_at dksX2_findGreedy_2 9 rfl rfl)
theorem dX2_findGreedy_57 : decode cX2_findGreedy 57 = .ok (.iconst 1, 1) := dk_4 (dk_at dksX2_findGreedy_2 10 rfl rfl)
theorem dX2_findGreedy_58 : decode cX2_findGreedy 58 = .ok (.iload 8, 2) := dk_21 8 (dk_at dksX2_findGreedy_2 11 rfl rfl)
theorem dX2_findGreedy_60 : decode cX2_findGreedy 60 = .ok (.ishl, 1) := dk_120 (dk_at dksX2_findGreedy_2 13 rfl rfl)
theorem dX2_findGreedy_61 : decode cX2_findGreedy 61 = .ok (.ior, 1) := dk_128 (dk_at dksX2_findGreedy_2 14 rfl rfl)
theorem dX2_findGreedy_62 : decode cX2_findGreedy 62 = .ok (.iload 8, 2) := dk_21 8 (dk_at dksX2_findGreedy_2 15 rfl rfl)
theorem dX2_findGreedy_64 : decode cX2_findGreedy 64 = .ok (.invokestatic 304, 3) := dk_184 1 48 (dk_at dksX2_findGreedy_2 17 rfl rfl)
theorem dX2_findGreedy_67 : decode cX2_findGreedy 67 = .ok (.baload, 1) := dk_51 (dk_at dksX2_findGreedy_2 20 rfl rfl)
theorem dX2_findGreedy_68 : decode cX2_findGreedy 68 = .ok (.ifCond .eq 7, 3) := dk_153 0 7 (dk_at dksX2_findGreedy_2 21 rfl rfl)
theorem dX2_findGreedy_71 : decode cX2_findGreedy 71 = .ok (.iconst 1, 1) := dk_4 (dk_at dksX2_findGreedy_3 0 rfl rfl)
theorem dX2_findGreedy_72 : decode cX2_findGreedy 72 = .ok (.goto 4, 3) := dk_167 0 4 (dk_at dksX2_findGreedy_3 1 rfl rfl)
theorem dX2_findGreedy_75 : decode cX2_findGreedy 75 = .ok (.iconst 0, 1) := dk_3 (dk_at dksX2_findGreedy_3 4 rfl rfl)
theorem dX2_findGreedy_76 : decode cX2_findGreedy 76 = .ok (.istore 7, 2) := dk_54 7 (dk_at dksX2_findGreedy_3 5 rfl rfl)
theorem dX2_findGreedy_78 : decode cX2_findGreedy 78 = .ok (.aload_n 0, 1) := dk_42 (dk_at dksX2_findGreedy_3 7 rfl rfl)
theorem dX2_findGreedy_79 : decode cX2_findGreedy 79 = .ok (.iload 8, 2) := dk_21 8 (dk_at dksX2_findGreedy_3 8 rfl rfl)
theorem dX2_findGreedy_81 : decode cX2_findGreedy 81 = .ok (.invokevirtual 227, 3) := dk_182 0 227 (dk_at dksX2_findGreedy_3 10 rfl rfl)
theorem dX2_findGreedy_84 : decode cX2_findGreedy 84 = .ok (.istore 9, 2) := dk_54 9 (dk_at dksX2_findGreedy_3 13 rfl rfl)
theorem dX2_findGreedy_86 : decode cX2_findGreedy 86 = .ok (.iload 4, 2) := dk_21 4 (dk_at dksX2_findGreedy_3 15 rfl rfl)
theorem dX2_findGreedy_88 : decode cX2_findGreedy 88 = .ok (.iconst (-1), 1) := dk_2 (dk_at dksX2_findGreedy_3 17 rfl rfl)
theorem dX2_findGreedy_89 : decode cX2_findGreedy 89 = .ok (.if_icmp .eq 13, 3) := dk_159 0 13 (dk_at dksX2_findGreedy_3 18 rfl rfl)
theorem dX2_findGreedy_92 : decode cX2_findGreedy 92 = .ok (.iload 9, 2) := dk_21 9 (dk_at dksX2_findGreedy_3 21 rfl rfl)
theorem dX2_findGreedy_94 : decode cX2_findGreedy 94 = .ok (.iload 5, 2) := dk_21 5 (dk_at dksX2_findGreedy_4 0 rfl rfl)
theorem dX2_findGreedy_96 : decode cX2_findGreedy 96 = .ok (.if_icmp .gt 6, 3) := dk_163 0 6 (dk_at dksX2_findGreedy_4 2 rfl rfl)
theorem dX2_findGreedy_99 : decode cX2_findGreedy 99 = .ok (.goto 11, 3) := dk_167 0 11 (dk_at dksX2_findGreedy_4 5 rfl rfl)
theorem dX2_findGreedy_102 : decode cX2_findGreedy 102 = .ok (.iload 8, 2) := dk_21 8 (dk_at dksX2_findGreedy_4 8 rfl rfl)
theorem dX2_findGreedy_104 : decode cX2_findGreedy 104 = .ok (.istore 4, 2) := dk_54 4 (dk_at dksX2_findGreedy_4 10 rfl rfl)
theorem dX2_findGreedy_106 : decode cX2_findGreedy 106 = .ok (.iload 9, 2) := dk_21 9 (dk_at dksX2_findGreedy_4 12 rfl rfl)
theorem dX2_findGreedy_108 : decode cX2_findGreedy 108 = .ok (.istore 5, 2) := dk_54 5 (dk_at dksX2_findGreedy_4 14 rfl rfl)
theorem dX2_findGreedy_110 : decode cX2_findGreedy 110 = .ok (.iinc 8 1, 3) := dk_132 8 1 (dk_at dksX2_findGreedy_4 16 rfl rfl)
theorem dX2_findGreedy_113 : decode cX2_findGreedy 113 = .ok (.goto (-92), 3) := dk_167 255 164 (dk_at dksX2_findGreedy_4 19 rfl rfl)
theorem dX2_findGreedy_116 : decode cX2_findGreedy 116 = .ok (.iload 4, 2) := dk_21 4 (dk_at dksX2_findGreedy_4 22 rfl rfl)
theorem dX2_findGreedy_118 : decode cX2_findGreedy 118 = .ok (.iconst (-1), 1) := dk_2 (dk_at dksX2_findGreedy_5 0 rfl rfl)
theorem dX2_findGreedy_119 : decode cX2_findGreedy 119 = .ok (.if_icmp .ne 7, 3) := dk_160 0 7 (dk_at dksX2_findGreedy_5 1 rfl rfl)
theorem dX2_findGreedy_122 : decode cX2_findGreedy 122 = .ok (.iconst 0, 1) := dk_3 (dk_at dksX2_findGreedy_5 4 rfl rfl)
theorem dX2_findGreedy_123 : decode cX2_findGreedy 123 = .ok (.goto 18, 3) := dk_167 0 18 (dk_at dksX2_findGreedy_5 5 rfl rfl)
theorem dX2_findGreedy_126 : decode cX2_findGreedy 126 = .ok (.sipush 11264, 3) := dk_17 44 0 (dk_at dksX2_findGreedy_5 8 rfl rfl)
theorem dX2_findGreedy_129 : decode cX2_findGreedy 129 = .ok (.iload_n 1, 1) := dk_27 (dk_at dksX2_findGreedy_5 11 rfl rfl)
theorem dX2_findGreedy_130 : decode cX2_findGreedy 130 = .ok (.iconst 1, 1) := dk_4 (dk_at dksX2_findGreedy_5 12 rfl rfl)
theorem dX2_findGreedy_131 : decode cX2_findGreedy 131 = .ok (.iload 4, 2) := dk_21 4 (dk_at dksX2_findGreedy_5 13 rfl rfl)
theorem dX2_findGreedy_133 : decode cX2_findGreedy 133 = .ok (.ishl, 1) := dk_120 (dk_at dksX2_findGreedy_5 15 rfl rfl)
theorem dX2_findGreedy_134 : decode cX2_findGreedy 134 = .ok (.ior, 1) := dk_128 (dk_at dksX2_findGreedy_5 16 rfl rfl)
theorem dX2_findGreedy_135 : decode cX2_findGreedy 135 = .ok (.iload 4, 2) := dk_21 4 (dk_at dksX2_findGreedy_5 17 rfl rfl)
theorem dX2_findGreedy_137 : decode cX2_findGreedy 137 = .ok (.invokestatic 304, 3) := dk_184 1 48 (dk_at dksX2_findGreedy_5 19 rfl rfl)
theorem dX2_findGreedy_140 : decode cX2_findGreedy 140 = .ok (.iadd, 1) := dk_96 (dk_at dksX2_findGreedy_5 22 rfl rfl)
theorem dX2_findGreedy_141 : decode cX2_findGreedy 141 = .ok (.istore 8, 2) := dk_54 8 (dk_at dksX2_findGreedy_6 0 rfl rfl)
theorem dX2_findGreedy_143 : decode cX2_findGreedy 143 = .ok (.aload_n 0, 1) := dk_42 (dk_at dksX2_findGreedy_6 2 rfl rfl)
theorem dX2_findGreedy_144 : decode cX2_findGreedy 144 = .ok (.getfield 83, 3) := dk_180 0 83 (dk_at dksX2_findGreedy_6 3 rfl rfl)
theorem dX2_findGreedy_147 : decode cX2_findGreedy 147 = .ok (.iload_n 3, 1) := dk_29 (dk_at dksX2_findGreedy_6 6 rfl rfl)
theorem dX2_findGreedy_148 : decode cX2_findGreedy 148 = .ok (.iload 4, 2) := dk_21 4 (dk_at dksX2_findGreedy_6 7 rfl rfl)
theorem dX2_findGreedy_150 : decode cX2_findGreedy 150 = .ok (.iconst (-1), 1) := dk_2 (dk_at dksX2_findGreedy_6 9 rfl rfl)
theorem dX2_findGreedy_151 : decode cX2_findGreedy 151 = .ok (.if_icmp .eq 13, 3) := dk_159 0 13 (dk_at dksX2_findGreedy_6 10 rfl rfl)
theorem dX2_findGreedy_154 : decode cX2_findGreedy 154 = .ok (.aload_n 0, 1) := dk_42 (dk_at dksX2_findGreedy_6 13 rfl rfl)
theorem dX2_findGreedy_155 : decode cX2_findGreedy 155 = .ok (.getfield 83, 3) := dk_180 0 83 (dk_at dksX2_findGreedy_6 14 rfl rfl)
theorem dX2_findGreedy_158 : decode cX2_findGreedy 158 = .ok (.iload 8, 2) := dk_21 8 (dk_at dksX2_findGreedy_6 17 rfl rfl)
theorem dX2_findGreedy_160 : decode cX2_findGreedy 160 = .ok (.baload, 1) := dk_51 (dk_at dksX2_findGreedy_6 19 rfl rfl)
theorem dX2_findGreedy_161 : decode cX2_findGreedy 161 = .ok (.ifCond .eq 7, 3) := dk_153 0 7 (dk_at dksX2_findGreedy_6 20 rfl rfl)
theorem dX2_findGreedy_164 : decode cX2_findGreedy 164 = .ok (.iconst 1, 1) := dk_4 (dk_at dksX2_findGreedy_6 23 rfl rfl)
theorem dX2_findGreedy_165 : decode cX2_findGreedy 165 = .ok (.goto 4, 3) := dk_167 0 4 (dk_at dksX2_findGreedy_7 0 rfl rfl)
theorem dX2_findGreedy_168 : decode cX2_findGreedy 168 = .ok (.iconst 0, 1) := dk_3 (dk_at dksX2_findGreedy_7 3 rfl rfl)
theorem dX2_findGreedy_169 : decode cX2_findGreedy 169 = .ok (.bastore, 1) := dk_84 (dk_at dksX2_findGreedy_7 4 rfl rfl)
theorem dX2_findGreedy_170 : decode cX2_findGreedy 170 = .ok (.aload_n 0, 1) := dk_42 (dk_at dksX2_findGreedy_7 5 rfl rfl)
theorem dX2_findGreedy_171 : decode cX2_findGreedy 171 = .ok (.getfield 86, 3) := dk_180 0 86 (dk_at dksX2_findGreedy_7 6 rfl rfl)
theorem dX2_findGreedy_174 : decode cX2_findGreedy 174 = .ok (.iload_n 3, 1) := dk_29 (dk_at dksX2_findGreedy_7 9 rfl rfl)
theorem dX2_findGreedy_175 : decode cX2_findGreedy 175 = .ok (.iload 4, 2) := dk_21 4 (dk_at dksX2_findGreedy_7 10 rfl rfl)
theorem dX2_findGreedy_177 : decode cX2_findGreedy 177 = .ok (.iconst (-1), 1) := dk_2 (dk_at dksX2_findGreedy_7 12 rfl rfl)
theorem dX2_findGreedy_178 : decode cX2_findGreedy 178 = .ok (.if_icmp .ne 7, 3) := dk_160 0 7 (dk_at dksX2_findGreedy_7 13 rfl rfl)
theorem dX2_findGreedy_181 : decode cX2_findGreedy 181 = .ok (.iconst 0, 1) := dk_3 (dk_at dksX2_findGreedy_7 16 rfl rfl)
theorem dX2_findGreedy_182 : decode cX2_findGreedy 182 = .ok (.goto 12, 3) := dk_167 0 12 (dk_at dksX2_findGreedy_7 17 rfl rfl)
theorem dX2_findGreedy_185 : decode cX2_findGreedy 185 = .ok (.aload_n 0, 1) := dk_42 (dk_at dksX2_findGreedy_7 20 rfl rfl)
theorem dX2_findGreedy_186 : decode cX2_findGreedy 186 = .ok (.getfield 86, 3) := dk_180 0 86 (dk_at dksX2_findGreedy_7 21 rfl rfl)
theorem dX2_findGreedy_189 : decode cX2_findGreedy 189 = .ok (.iload 8, 2) := dk_21 8 (dk_at dksX2_findGreedy_8 0 rfl rfl)
theorem dX2_findGreedy_191 : decode cX2_findGreedy 191 = .ok (.iaload, 1) := dk_46 (dk_at dksX2_findGreedy_8 2 rfl rfl)
theorem dX2_findGreedy_192 : decode cX2_findGreedy 192 = .ok (.iconst 1, 1) := dk_4 (dk_at dksX2_findGreedy_8 3 rfl rfl)
theorem dX2_findGreedy_193 : decode cX2_findGreedy 193 = .ok (.iadd, 1) := dk_96 (dk_at dksX2_findGreedy_8 4 rfl rfl)
theorem dX2_findGreedy_194 : decode cX2_findGreedy 194 = .ok (.iastore, 1) := dk_79 (dk_at dksX2_findGreedy_8 5 rfl rfl)
theorem dX2_findGreedy_195 : decode cX2_findGreedy 195 = .ok (.aload_n 0, 1) := dk_42 (dk_at dksX2_findGreedy_8 6 rfl rfl)
theorem dX2_findGreedy_196 : decode cX2_findGreedy 196 = .ok (.getfield 83, 3) := dk_180 0 83 (dk_at dksX2_findGreedy_8 7 rfl rfl)
theorem dX2_findGreedy_199 : decode cX2_findGreedy 199 = .ok (.sipush 11264, 3) := dk_17 44 0 (dk_at dksX2_findGreedy_8 10 rfl rfl)
theorem dX2_findGreedy_202 : decode cX2_findGreedy 202 = .ok (.iload_n 3, 1) := dk_29 (dk_at dksX2_findGreedy_8 13 rfl rfl)
theorem dX2_findGreedy_203 : decode cX2_findGreedy 203 = .ok (.iadd, 1) := dk_96 (dk_at dksX2_findGreedy_8 14 rfl rfl)
theorem dX2_findGreedy_204 : decode cX2_findGreedy 204 = .ok (.iload 6, 2) := dk_21 6 (dk_at dksX2_findGreedy_8 15 rfl rfl)
theorem dX2_findGreedy_206 : decode cX2_findGreedy 206 = .ok (.ifCond .eq 12, 3) := dk_153 0 12 (dk_at dksX2_findGreedy_8 17 rfl rfl)
theorem dX2_findGreedy_209 : decode cX2_findGreedy 209 = .ok (.iload 7, 2) := dk_21 7 (dk_at dksX2_findGreedy_8 20 rfl rfl)
theorem dX2_findGreedy_211 : decode cX2_findGreedy 211 = .ok (.ifCond .eq 7, 3) := dk_153 0 7 (dk_at dksX2_findGreedy_9 0 rfl rfl)
theorem dX2_findGreedy_214 : decode cX2_findGreedy 214 = .ok (.iconst 1, 1) := dk_4 (dk_at dksX2_findGreedy_9 3 rfl rfl)
theorem dX2_findGreedy_215 : decode cX2_findGreedy 215 = .ok (.goto 4, 3) := dk_167 0 4 (dk_at dksX2_findGreedy_9 4 rfl rfl)
theorem dX2_findGreedy_218 : decode cX2_findGreedy 218 = .ok (.iconst 0, 1) := dk_3 (dk_at dksX2_findGreedy_9 7 rfl rfl)
theorem dX2_findGreedy_219 : decode cX2_findGreedy 219 = .ok (.bastore, 1) := dk_84 (dk_at dksX2_findGreedy_9 8 rfl rfl)
theorem dX2_findGreedy_220 : decode cX2_findGreedy 220 = .ok (.iconst 0, 1) := dk_3 (dk_at dksX2_findGreedy_9 9 rfl rfl)
theorem dX2_findGreedy_221 : decode cX2_findGreedy 221 = .ok (.istore 9, 2) := dk_54 9 (dk_at dksX2_findGreedy_9 10 rfl rfl)
theorem dX2_findGreedy_223 : decode cX2_findGreedy 223 = .ok (.iconst 1, 1) := dk_4 (dk_at dksX2_findGreedy_9 12 rfl rfl)
theorem dX2_findGreedy_224 : decode cX2_findGreedy 224 = .ok (.istore 10, 2) := dk_54 10 (dk_at dksX2_findGreedy_9 13 rfl rfl)
theorem dX2_findGreedy_226 : decode cX2_findGreedy 226 = .ok (.iconst 0, 1) := dk_3 (dk_at dksX2_findGreedy_9 15 rfl rfl)
theorem dX2_findGreedy_227 : decode cX2_findGreedy 227 = .ok (.istore 11, 2) := dk_54 11 (dk_at dksX2_findGreedy_9 16 rfl rfl)
theorem dX2_findGreedy_229 : decode cX2_findGreedy 229 = .ok (.iload 11, 2) := dk_21 11 (dk_at dksX2_findGreedy_9 18 rfl rfl)
theorem dX2_findGreedy_231 : decode cX2_findGreedy 231 = .ok (.aload_n 0, 1) := dk_42 (dk_at dksX2_findGreedy_9 20 rfl rfl)
theorem dX2_findGreedy_232 : decode cX2_findGreedy 232 = .ok (.getfield 116, 3) := dk_180 0 116 (dk_at dksX2_findGreedy_9 21 rfl rfl)
theorem dX2_findGreedy_235 : decode cX2_findGreedy 235 = .ok (.if_icmp .ge 101, 3) := dk_162 0 101 (dk_at dksX2_findGreedy_10 0 rfl rfl)
theorem dX2_findGreedy_238 : decode cX2_findGreedy 238 = .ok (.aload_n 0, 1) := dk_42 (dk_at dksX2_findGreedy_10 3 rfl rfl)
theorem dX2_findGreedy_239 : decode cX2_findGreedy 239 = .ok (.iload_n 1, 1) := dk_27 (dk_at dksX2_findGreedy_10 4 rfl rfl)
theorem dX2_findGreedy_240 : decode cX2_findGreedy 240 = .ok (.iload_n 2, 1) := dk_28 (dk_at dksX2_findGreedy_10 5 rfl rfl)
theorem dX2_findGreedy_241 : decode cX2_findGreedy 241 = .ok (.iload 11, 2) := dk_21 11 (dk_at dksX2_findGreedy_10 6 rfl rfl)
theorem dX2_findGreedy_243 : decode cX2_findGreedy 243 = .ok (.invokevirtual 307, 3) := dk_182 1 51 (dk_at dksX2_findGreedy_10 8 rfl rfl)
theorem dX2_findGreedy_246 : decode cX2_findGreedy 246 = .ok (.ifCond .eq 84, 3) := dk_153 0 84 (dk_at dksX2_findGreedy_10 11 rfl rfl)
theorem dX2_findGreedy_249 : decode cX2_findGreedy 249 = .ok (.iload 7, 2) := dk_21 7 (dk_at dksX2_findGreedy_10 14 rfl rfl)
theorem dX2_findGreedy_251 : decode cX2_findGreedy 251 = .ok (.aload_n 0, 1) := dk_42 (dk_at dksX2_findGreedy_10 16 rfl rfl)
theorem dX2_findGreedy_252 : decode cX2_findGreedy 252 = .ok (.getfield 83, 3) := dk_180 0 83 (dk_at dksX2_findGreedy_10 17 rfl rfl)
theorem dX2_findGreedy_255 : decode cX2_findGreedy 255 = .ok (.iload_n 1, 1) := dk_27 (dk_at dksX2_findGreedy_10 20 rfl rfl)
theorem dX2_findGreedy_256 : decode cX2_findGreedy 256 = .ok (.iconst 1, 1) := dk_4 (dk_at dksX2_findGreedy_10 21 rfl rfl)
theorem dX2_findGreedy_257 : decode cX2_findGreedy 257 = .ok (.iload 11, 2) := dk_21 11 (dk_at dksX2_findGreedy_10 22 rfl rfl)
theorem dX2_findGreedy_259 : decode cX2_findGreedy 259 = .ok (.ishl, 1) := dk_120 (dk_at dksX2_findGreedy_11 0 rfl rfl)
theorem dX2_findGreedy_260 : decode cX2_findGreedy 260 = .ok (.ior, 1) := dk_128 (dk_at dksX2_findGreedy_11 1 rfl rfl)
theorem dX2_findGreedy_261 : decode cX2_findGreedy 261 = .ok (.iload 11, 2) := dk_21 11 (dk_at dksX2_findGreedy_11 2 rfl rfl)
theorem dX2_findGreedy_263 : decode cX2_findGreedy 263 = .ok (.invokestatic 304, 3) := dk_184 1 48 (dk_at dksX2_findGreedy_11 4 rfl rfl)
theorem dX2_findGreedy_266 : decode cX2_findGreedy 266 = .ok (.baload, 1) := dk_51 (dk_at dksX2_findGreedy_11 7 rfl rfl)
theorem dX2_findGreedy_267 : decode cX2_findGreedy 267 = .ok (.if_icmp .eq 6, 3) := dk_159 0 6 (dk_at dksX2_findGreedy_11 8 rfl rfl)
theorem dX2_findGreedy_270 : decode cX2_findGreedy 270 = .ok (.goto 60, 3) := dk_167 0 60 (dk_at dksX2_findGreedy_11 11 rfl rfl)
theorem dX2_findGreedy_273 : decode cX2_findGreedy 273 = .ok (.aload_n 0, 1) := dk_42 (dk_at dksX2_findGreedy_11 14 rfl rfl)
theorem dX2_findGreedy_274 : decode cX2_findGreedy 274 = .ok (.getfield 86, 3) := dk_180 0 86 (dk_at dksX2_findGreedy_11 15 rfl rfl)
theorem dX2_findGreedy_277 : decode cX2_findGreedy 277 = .ok (.iload_n 1, 1) := dk_27 (dk_at dksX2_findGreedy_11 18 rfl rfl)
theorem dX2_findGreedy_278 : decode cX2_findGreedy 278 = .ok (.iconst 1, 1) := dk_4 (dk_at dksX2_findGreedy_11 19 rfl rfl)
theorem dX2_findGreedy_279 : decode cX2_findGreedy 279 = .ok (.iload 11, 2) := dk_21 11 (dk_at dksX2_findGreedy_11 20 rfl rfl)
theorem dX2_findGreedy_281 : decode cX2_findGreedy 281 = .ok (.ishl, 1) := dk_120 (dk_at dksX2_findGreedy_11 22 rfl rfl)
theorem dX2_findGreedy_282 : decode cX2_findGreedy 282 = .ok (.ior, 1) := dk_128 (dk_at dksX2_findGreedy_11 23 rfl rfl)
theorem dX2_findGreedy_283 : decode cX2_findGreedy 283 = .ok (.iload 11, 2) := dk_21 11 (dk_at dksX2_findGreedy_12 0 rfl rfl)
theorem dX2_findGreedy_285 : decode cX2_findGreedy 285 = .ok (.invokestatic 304, 3) := dk_184 1 48 (dk_at dksX2_findGreedy_12 2 rfl rfl)
theorem dX2_findGreedy_288 : decode cX2_findGreedy 288 = .ok (.iaload, 1) := dk_46 (dk_at dksX2_findGreedy_12 5 rfl rfl)
theorem dX2_findGreedy_289 : decode cX2_findGreedy 289 = .ok (.iconst 1, 1) := dk_4 (dk_at dksX2_findGreedy_12 6 rfl rfl)
theorem dX2_findGreedy_290 : decode cX2_findGreedy 290 = .ok (.iadd, 1) := dk_96 (dk_at dksX2_findGreedy_12 7 rfl rfl)
theorem dX2_findGreedy_291 : decode cX2_findGreedy 291 = .ok (.istore 12, 2) := dk_54 12 (dk_at dksX2_findGreedy_12 8 rfl rfl)
theorem dX2_findGreedy_293 : decode cX2_findGreedy 293 = .ok (.iload 10, 2) := dk_21 10 (dk_at dksX2_findGreedy_12 10 rfl rfl)
theorem dX2_findGreedy_295 : decode cX2_findGreedy 295 = .ok (.ifCond .eq 8, 3) := dk_153 0 8 (dk_at dksX2_findGreedy_12 12 rfl rfl)
theorem dX2_findGreedy_298 : decode cX2_findGreedy 298 = .ok (.iload 12, 2) := dk_21 12 (dk_at dksX2_findGreedy_12 15 rfl rfl)
theorem dX2_findGreedy_300 : decode cX2_findGreedy 300 = .ok (.goto 25, 3) := dk_167 0 25 (dk_at dksX2_findGreedy_12 17 rfl rfl)
theorem dX2_findGreedy_303 : decode cX2_findGreedy 303 = .ok (.iload 7, 2) := dk_21 7 (dk_at dksX2_findGreedy_12 20 rfl rfl)
theorem dX2_findGreedy_305 : decode cX2_findGreedy 305 = .ok (.ifCond .eq 13, 3) := dk_153 0 13 (dk_at dksX2_findGreedy_13 0 rfl rfl)
theorem dX2_findGreedy_308 : decode cX2_findGreedy 308 = .ok (.iload 9, 2) := dk_21 9 (dk_at dksX2_findGreedy_13 3 rfl rfl)
theorem dX2_findGreedy_310 : decode cX2_findGreedy 310 = .ok (.iload 12, 2) := dk_21 12 (dk_at dksX2_findGreedy_13 5 rfl rfl)
theorem dX2_findGreedy_312 : decode cX2_findGreedy 312 = .ok (.invokestatic 204, 3) := dk_184 0 204 (dk_at dksX2_findGreedy_13 7 rfl rfl)
theorem dX2_findGreedy_315 : decode cX2_findGreedy 315 = .ok (.goto 10, 3) := dk_167 0 10 (dk_at dksX2_findGreedy_13 10 rfl rfl)
theorem dX2_findGreedy_318 : decode cX2_findGreedy 318 = .ok (.iload 9, 2) := dk_21 9 (dk_at dksX2_findGreedy_13 13 rfl rfl)
theorem dX2_findGreedy_320 : decode cX2_findGreedy 320 = .ok (.iload 12, 2) := dk_21 12 (dk_at dksX2_findGreedy_13 15 rfl rfl)
theorem dX2_findGreedy_322 : decode cX2_findGreedy 322 = .ok (.invokestatic 210, 3) := dk_184 0 210 (dk_at dksX2_findGreedy_13 17 rfl rfl)
theorem dX2_findGreedy_325 : decode cX2_findGreedy 325 = .ok (.istore 9, 2) := dk_54 9 (dk_at dksX2_findGreedy_13 20 rfl rfl)
theorem dX2_findGreedy_327 : decode cX2_findGreedy 327 = .ok (.iconst 0, 1) := dk_3 (dk_at dksX2_findGreedy_13 22 rfl rfl)
theorem dX2_findGreedy_328 : decode cX2_findGreedy 328 = .ok (.istore 10, 2) := dk_54 10 (dk_at dksX2_findGreedy_14 0 rfl rfl)
theorem dX2_findGreedy_330 : decode cX2_findGreedy 330 = .ok (.iinc 11 1, 3) := dk_132 11 1 (dk_at dksX2_findGreedy_14 2 rfl rfl)
theorem dX2_findGreedy_333 : decode cX2_findGreedy 333 = .ok (.goto (-104), 3) := dk_167 255 152 (dk_at dksX2_findGreedy_14 5 rfl rfl)
theorem dX2_findGreedy_336 : decode cX2_findGreedy 336 = .ok (.aload_n 0, 1) := dk_42 (dk_at dksX2_findGreedy_14 8 rfl rfl)
theorem dX2_findGreedy_337 : decode cX2_findGreedy 337 = .ok (.getfield 86, 3) := dk_180 0 86 (dk_at dksX2_findGreedy_14 9 rfl rfl)
theorem dX2_findGreedy_340 : decode cX2_findGreedy 340 = .ok (.sipush 11264, 3) := dk_17 44 0 (dk_at dksX2_findGreedy_14 12 rfl rfl)
theorem dX2_findGreedy_343 : decode cX2_findGreedy 343 = .ok (.iload_n 3, 1) := dk_29 (dk_at dksX2_findGreedy_14 15 rfl rfl)
theorem dX2_findGreedy_344 : decode cX2_findGreedy 344 = .ok (.iadd, 1) := dk_96 (dk_at dksX2_findGreedy_14 16 rfl rfl)
theorem dX2_findGreedy_345 : decode cX2_findGreedy 345 = .ok (.iload 9, 2) := dk_21 9 (dk_at dksX2_findGreedy_14 17 rfl rfl)
theorem dX2_findGreedy_347 : decode cX2_findGreedy 347 = .ok (.iastore, 1) := dk_79 (dk_at dksX2_findGreedy_14 19 rfl rfl)
theorem dX2_findGreedy_348 : decode cX2_findGreedy 348 = .ok (.return_, 1) := dk_177 (dk_at dksX2_findGreedy_14 20 rfl rfl)
abbrev cX2_mend : ByteArray := prog_8_method_95_code
def yX2_mend : MethodName := ⟨RX2, "mend", "(II)I"⟩
def dkwX2_mend_12 : List UInt8 := [28, 29, 79, 21, 5, 19, 1, 85, 162, 0, 8, 21, 5, 167, 0, 5, 16, 254, 172]
abbrev dktX2_mend_12 : List UInt8 := dkwX2_mend_12 ++ []
def dkwX2_mend_11 : List UInt8 := [21, 5, 19, 1, 85, 162, 0, 10, 42, 27, 21, 4, 182, 1, 122, 28, 2, 159, 0, 10, 42, 180, 0, 9]
abbrev dktX2_mend_11 : List UInt8 := dkwX2_mend_11 ++ dktX2_mend_12
def dkwX2_mend_10 : List UInt8 := [132, 6, 1, 167, 255, 109, 132, 5, 255, 167, 255, 82, 42, 180, 0, 89, 3, 2, 184, 1, 48, 46, 54, 5]
abbrev dktX2_mend_10 : List UInt8 := dkwX2_mend_10 ++ dktX2_mend_11
def dkwX2_mend_9 : List UInt8 := [167, 255, 179, 42, 180, 0, 89, 21, 5, 21, 6, 184, 1, 48, 21, 7, 19, 1, 85, 184, 0, 204, 79]
abbrev dktX2_mend_9 : List UInt8 := dkwX2_mend_9 ++ dktX2_mend_10
def dkwX2_mend_8 : List UInt8 := [42, 27, 21, 5, 182, 1, 119, 160, 0, 7, 3, 167, 0, 4, 4, 96, 184, 0, 204, 54, 7, 132, 8, 1]
abbrev dktX2_mend_8 : List UInt8 := dkwX2_mend_8 ++ dktX2_mend_9
def dkwX2_mend_7 : List UInt8 := [153, 0, 45, 21, 7, 42, 180, 0, 89, 21, 5, 4, 21, 8, 120, 128, 21, 8, 184, 1, 48, 46, 21, 8]
abbrev dktX2_mend_7 : List UInt8 := dkwX2_mend_7 ++ dktX2_mend_8
def dkwX2_mend_6 : List UInt8 := [162, 0, 74, 21, 5, 184, 0, 196, 21, 4, 162, 0, 64, 42, 21, 5, 21, 6, 21, 8, 182, 1, 51]
abbrev dktX2_mend_6 : List UInt8 := dkwX2_mend_6 ++ dktX2_mend_7
def dkwX2_mend_5 : List UInt8 := [21, 4, 160, 0, 7, 3, 167, 0, 6, 19, 1, 85, 54, 7, 3, 54, 8, 21, 8, 42, 180, 0, 116]
abbrev dktX2_mend_5 : List UInt8 := dkwX2_mend_5 ++ dktX2_mend_6
def dkwX2_mend_4 : List UInt8 := [180, 0, 116, 162, 0, 144, 21, 5, 21, 6, 184, 1, 45, 154, 0, 6, 167, 0, 125, 21, 5, 184, 0, 196]
abbrev dktX2_mend_4 : List UInt8 := dkwX2_mend_4 ++ dktX2_mend_5
def dkwX2_mend_3 : List UInt8 := [21, 5, 155, 0, 175, 21, 5, 184, 0, 196, 21, 4, 164, 0, 6, 167, 0, 156, 2, 54, 6, 21, 6, 42]
abbrev dktX2_mend_3 : List UInt8 := dkwX2_mend_3 ++ dktX2_mend_4
def dkwX2_mend_2 : List UInt8 := [159, 0, 10, 42, 180, 0, 9, 28, 3, 79, 42, 180, 0, 45, 27, 46, 54, 4, 42, 182, 1, 42, 54, 5]
abbrev dktX2_mend_2 : List UInt8 := dkwX2_mend_2 ++ dktX2_mend_3
def dkwX2_mend_1 : List UInt8 := [154, 0, 6, 16, 253, 172, 28, 2, 160, 0, 7, 3, 167, 0, 9, 42, 180, 0, 9, 28, 46, 62, 28, 2]
abbrev dktX2_mend_1 : List UInt8 := dkwX2_mend_1 ++ dktX2_mend_2
def dkwX2_mend_0 : List UInt8 := [42, 3, 181, 0, 110, 28, 2, 16, 7, 184, 0, 119, 154, 0, 5, 2, 172, 42, 27, 182, 1, 36]
abbrev dktX2_mend_0 : List UInt8 := dkwX2_mend_0 ++ dktX2_mend_1
theorem dksX2_mend_0 : cX2_mend.data.toList.drop 0 = dktX2_mend_0 := by decide +kernel
theorem dksX2_mend_1 : cX2_mend.data.toList.drop 22 = dktX2_mend_1 := dk_seg dksX2_mend_0 22 rfl rfl
theorem dksX2_mend_2 : cX2_mend.data.toList.drop 46 = dktX2_mend_2 := dk_seg dksX2_mend_1 24 rfl rfl
theorem dksX2_mend_3 : cX2_mend.data.toList.drop 70 = dktX2_mend_3 := dk_seg dksX2_mend_2 24 rfl rfl
theorem dksX2_mend_4 : cX2_mend.data.toList.drop 94 = dktX2_mend_4 := dk_seg dksX2_mend_3 24 rfl rfl
theorem dksX2_mend_5 : cX2_mend.data.toList.drop 118 = dktX2_mend_5 := dk_seg dksX2_mend_4 24 rfl rfl
theorem dksX2_mend_6 : cX2_mend.data.toList.drop 141 = dktX2_mend_6 := dk_seg dksX2_mend_5 23 rfl rfl
theorem dksX2_mend_7 : cX2_mend.data.toList.drop 164 = dktX2_mend_7 := dk_seg dksX2_mend_6 23 rfl rfl
theorem dksX2_mend_8 : cX2_mend.data.toList.drop 188 = dktX2_mend_8 := dk_seg dksX2_mend_7 24 rfl rfl
theorem dksX2_mend_9 : cX2_mend.data.toList.drop 212 = dktX2_mend_9 := dk_seg dksX2_mend_8 24 rfl rfl
theorem dksX2_mend_10 : cX2_mend.data.toList.drop 235 = dktX2_mend_10 := dk_seg dksX2_mend_9 23 rfl rfl
theorem dksX2_mend_11 : cX2_mend.data.toList.drop 259 = dktX2_mend_11 := dk_seg dksX2_mend_10 24 rfl rfl
theorem dksX2_mend_12 : cX2_mend.data.toList.drop 283 = dktX2_mend_12 := dk_seg dksX2_mend_11 24 rfl rfl
theorem dX2_mend_0 : decode cX2_mend 0 = .ok (.aload_n 0, 1) := dk_42 (dk_at dksX2_mend_0 0 rfl rfl)
theorem dX2_mend_1 : decode cX2_mend 1 = .ok (.iconst 0, 1) := dk_3 (dk_at dksX2_mend_0 1 rfl rfl)
theorem dX2_mend_2 : decode cX2_mend 2 = .ok (.putfield 110, 3) := dk_181 0 110 (dk_at dksX2_mend_0 2 rfl rfl)
theorem dX2_mend_5 : decode cX2_mend 5 = .ok (.iload_n 2, 1) := dk_28 (dk_at dksX2_mend_0 5 rfl rfl)
theorem dX2_mend_6 : decode cX2_mend 6 = .ok (.iconst (-1), 1) := dk_2 (dk_at dksX2_mend_0 6 rfl rfl)
theorem dX2_mend_7 : decode cX2_mend 7 = .ok (.bipush 7, 2) := dk_16 7 (dk_at dksX2_mend_0 7 rfl rfl)
theorem dX2_mend_9 : decode cX2_mend 9 = .ok (.invokestatic 119, 3) := dk_184 0 119 (dk_at dksX2_mend_0 9 rfl rfl)
theorem dX2_mend_12 : decode cX2_mend 12 = .ok (.ifCond .ne 5, 3) := dk_154 0 5 (dk_at dksX2_mend_0 12 rfl rfl)
theorem dX2_mend_15 : decode cX2_mend 15 = .ok (.iconst (-1), 1) := dk_2 (dk_at dksX2_mend_0 15 rfl rfl)
theorem dX2_mend_16 : decode cX2_mend 16 = .ok (.ireturn, 1) := dk_172 (dk_at dksX2_mend_0 16 rfl rfl)
theorem dX2_mend_17 : decode cX2_mend 17 = .ok (.aload_n 0, 1) := dk_42 (dk_at dksX2_mend_0 17 rfl rfl)
theorem dX2_mend_18 : decode cX2_mend 18 = .ok (.iload_n 1, 1) := dk_27 (dk_at dksX2_mend_0 18 rfl rfl)
theorem dX2_mend_19 : decode cX2_mend 19 = .ok (.invokevirtual 292, 3) := dk_182 1 36 (dk_at dksX2_mend_0 19 rfl rfl)
theorem dX2_mend_22 : decode cX2_mend 22 = .ok (.ifCond .ne 6, 3) := dk_154 0 6 (dk_at dksX2_mend_1 0 rfl rfl)
theorem dX2_mend_25 : decode cX2_mend 25 = .ok (.bipush (-3), 2) := dk_16 253 (dk_at dksX2_mend_1 3 rfl rfl)
theorem dX2_mend_27 : decode cX2_mend 27 = .ok (.ireturn, 1) := dk_172 (dk_at dksX2_mend_1 5 rfl rfl)
theorem dX2_mend_28 : decode cX2_mend 28 = .ok (.iload_n 2, 1) := dk_28 (dk_at dksX2_mend_1 6 rfl rfl)
theorem dX2_mend_29 : decode cX2_mend 29 = .ok (.iconst (-1), 1) := dk_2 (dk_at dksX2_mend_1 7 rfl rfl)
theorem dX2_mend_30 : decode cX2_mend 30 = .ok (.if_icmp .ne 7, 3) := dk_160 0 7 (dk_at dksX2_mend_1 8 rfl rfl)
theorem dX2_mend_33 : decode cX2_mend 33 = .ok (.iconst 0, 1) := dk_3 (dk_at dksX2_mend_1 11 rfl rfl)
theorem dX2_mend_34 : decode cX2_mend 34 = .ok (.goto 9, 3) := dk_167 0 9 (dk_at dksX2_mend_1 12 rfl rfl)
theorem dX2_mend_37 : decode cX2_mend 37 = .ok (.aload_n 0, 1) := dk_42 (dk_at dksX2_mend_1 15 rfl rfl)
theorem dX2_mend_38 : decode cX2_mend 38 = .ok (.getfield 9, 3) := dk_180 0 9 (dk_at dksX2_mend_1 16 rfl rfl)
theorem dX2_mend_41 : decode cX2_mend 41 = .ok (.iload_n 2, 1) := dk_28 (dk_at dksX2_mend_1 19 rfl rfl)
theorem dX2_mend_42 : decode cX2_mend 42 = .ok (.iaload, 1) := dk_46 (dk_at dksX2_mend_1 20 rfl rfl)
theorem dX2_mend_43 : decode cX2_mend 43 = .ok (.istore_n 3, 1) := dk_62 (dk_at dksX2_mend_1 21 rfl rfl)
theorem dX2_mend_44 : decode cX2_mend 44 = .ok (.iload_n 2, 1) := dk_28 (dk_at dksX2_mend_1 22 rfl rfl)
theorem dX2_mend_45 : decode cX2_mend 45 = .ok (.iconst (-1), 1) := dk_2 (dk_at dksX2_mend_1 23 rfl rfl)
theorem dX2_mend_46 : decode cX2_mend 46 = .ok (.if_icmp .eq 10, 3) := dk_159 0 10 (dk_at dksX2_mend_2 0 rfl rfl)
theorem dX2_mend_49 : decode cX2_mend 49 = .ok (.aload_n 0, 1) := dk_42 (dk_at dksX2_mend_2 3 rfl rfl)
theorem dX2_mend_50 : decode cX2_mend 50 = .ok (.getfield 9, 3) := dk_180 0 9 (dk_at dksX2_mend_2 4 rfl rfl)
theorem dX2_mend_53 : decode cX2_mend 53 = .ok (.iload_n 2, 1) := dk_28 (dk_at dksX2_mend_2 7 rfl rfl)
theorem dX2_mend_54 : decode cX2_mend 54 = .ok (.iconst 0, 1) := dk_3 (dk_at dksX2_mend_2 8 rfl rfl)
theorem dX2_mend_55 : decode cX2_mend 55 = .ok (.iastore, 1) := dk_79 (dk_at dksX2_mend_2 9 rfl rfl)
theorem dX2_mend_56 : decode cX2_mend 56 = .ok (.aload_n 0, 1) := dk_42 (dk_at dksX2_mend_2 10 rfl rfl)
theorem dX2_mend_57 : decode cX2_mend 57 = .ok (.getfield 45, 3) := dk_180 0 45 (dk_at dksX2_mend_2 11 rfl rfl)
theorem dX2_mend_60 : decode cX2_mend 60 = .ok (.iload_n 1, 1) := dk_27 (dk_at dksX2_mend_2 14 rfl rfl)
theorem dX2_mend_61 : decode cX2_mend 61 = .ok (.iaload, 1) := dk_46 (dk_at dksX2_mend_2 15 rfl rfl)
theorem dX2_mend_62 : decode cX2_mend 62 = .ok (.istore 4, 2) := dk_54 4 (dk_at dksX2_mend_2 16 rfl rfl)
theorem dX2_mend_64 : decode cX2_mend 64 = .ok (.aload_n 0, 1) := dk_42 (dk_at dksX2_mend_2 18 rfl rfl)
theorem dX2_mend_65 : decode cX2_mend 65 = .ok (.invokevirtual 298, 3) := dk_182 1 42 (dk_at dksX2_mend_2 19 rfl rfl)
theorem dX2_mend_68 : decode cX2_mend 68 = .ok (.istore 5, 2) := dk_54 5 (dk_at dksX2_mend_2 22 rfl rfl)
theorem dX2_mend_70 : decode cX2_mend 70 = .ok (.iload 5, 2) := dk_21 5 (dk_at dksX2_mend_3 0 rfl rfl)
theorem dX2_mend_72 : decode cX2_mend 72 = .ok (.ifCond .lt 175, 3) := dk_155 0 175 (dk_at dksX2_mend_3 2 rfl rfl)
theorem dX2_mend_75 : decode cX2_mend 75 = .ok (.iload 5, 2) := dk_21 5 (dk_at dksX2_mend_3 5 rfl rfl)
theorem dX2_mend_77 : decode cX2_mend 77 = .ok (.invokestatic 196, 3) := dk_184 0 196 (dk_at dksX2_mend_3 7 rfl rfl)
theorem dX2_mend_80 : decode cX2_mend 80 = .ok (.iload 4, 2) := dk_21 4 (dk_at dksX2_mend_3 10 rfl rfl)
theorem dX2_mend_82 : decode cX2_mend 82 = .ok (.if_icmp .le 6, 3) := dk_164 0 6 (dk_at dksX2_mend_3 12 rfl rfl)
theorem dX2_mend_85 : decode cX2_mend 85 = .ok (.goto 156, 3) := dk_167 0 156 (dk_at dksX2_mend_3 15 rfl rfl)
theorem dX2_mend_88 : decode cX2_mend 88 = .ok (.iconst (-1), 1) := dk_2 (dk_at dksX2_mend_3 18 rfl rfl)
theorem dX2_mend_89 : decode cX2_mend 89 = .ok (.istore 6, 2) := dk_54 6 (dk_at dksX2_mend_3 19 rfl rfl)
theorem dX2_mend_91 : decode cX2_mend 91 = .ok (.iload 6, 2) := dk_21 6 (dk_at dksX2_mend_3 21 rfl rfl)
theorem dX2_mend_93 : decode cX2_mend 93 = .ok (.aload_n 0, 1) := dk_42 (dk_at dksX2_mend_3 23 rfl rfl)
theorem dX2_mend_94 : decode cX2_mend 94 = .ok (.getfield 116, 3) := dk_180 0 116 (dk_at dksX2_mend_4 0 rfl rfl)
theorem dX2_mend_97 : decode cX2_mend 97 = .ok (.if_icmp .ge 144, 3) := dk_162 0 144 (dk_at dksX2_mend_4 3 rfl rfl)
theorem dX2_mend_100 : decode cX2_mend 100 = .ok (.iload 5, 2) := dk_21 5 (dk_at dksX2_mend_4 6 rfl rfl)
theorem dX2_mend_102 : decode cX2_mend 102 = .ok (.iload 6, 2) := dk_21 6 (dk_at dksX2_mend_4 8 rfl rfl)
theorem dX2_mend_104 : decode cX2_mend 104 = .ok (.invokestatic 301, 3) := dk_184 1 45 (dk_at dksX2_mend_4 10 rfl rfl)
theorem dX2_mend_107 : decode cX2_mend 107 = .ok (.ifCond .ne 6, 3) := dk_154 0 6 (dk_at dksX2_mend_4 13 rfl rfl)
theorem dX2_mend_110 : decode cX2_mend 110 = .ok (.goto 125, 3) := dk_167 0 125 (dk_at dksX2_mend_4 16 rfl rfl)
theorem dX2_mend_113 : decode cX2_mend 113 = .ok (.iload 5, 2) := dk_21 5 (dk_at dksX2_mend_4 19 rfl rfl)
theorem dX2_mend_115 : decode cX2_mend 115 = .ok (.invokestatic 196, 3) := dk_184 0 196 (dk_at dksX2_mend_4 21 rfl rfl)
theorem dX2_mend_118 : decode cX2_mend 118 = .ok (.iload 4, 2) := dk_21 4 (dk_at dksX2_mend_5 0 rfl rfl)
theorem dX2_mend_120 : decode cX2_mend 120 = .ok (.if_icmp .ne 7, 3) := dk_160 0 7 (dk_at dksX2_mend_5 2 rfl rfl)
theorem dX2_mend_123 : decode cX2_mend 123 = .ok (.iconst 0, 1) := dk_3 (dk_at dksX2_mend_5 5 rfl rfl)
theorem dX2_mend_124 : decode cX2_mend 124 = .ok (.goto 6, 3) := dk_167 0 6 (dk_at dksX2_mend_5 6 rfl rfl)
theorem dX2_mend_127 : decode cX2_mend 127 = .ok (.ldc_w 341, 3) := dk_19 1 85 (dk_at dksX2_mend_5 9 rfl rfl)
theorem dX2_mend_130 : decode cX2_mend 130 = .ok (.istore 7, 2) := dk_54 7 (dk_at dksX2_mend_5 12 rfl rfl)
theorem dX2_mend_132 : decode cX2_mend 132 = .ok (.iconst 0, 1) := dk_3 (dk_at dksX2_mend_5 14 rfl rfl)
theorem dX2_mend_133 : decode cX2_mend 133 = .ok (.istore 8, 2) := dk_54 8 (dk_at dksX2_mend_5 15 rfl rfl)
theorem dX2_mend_135 : decode cX2_mend 135 = .ok (.iload 8, 2) := dk_21 8 (dk_at dksX2_mend_5 17 rfl rfl)
theorem dX2_mend_137 : decode cX2_mend 137 = .ok (.aload_n 0, 1) := dk_42 (dk_at dksX2_mend_5 19 rfl rfl)
theorem dX2_mend_138 : decode cX2_mend 138 = .ok (.getfield 116, 3) := dk_180 0 116 (dk_at dksX2_mend_5 20 rfl rfl)
theorem dX2_mend_141 : decode cX2_mend 141 = .ok (.if_icmp .ge 74, 3) := dk_162 0 74 (dk_at dksX2_mend_6 0 rfl rfl)
theorem dX2_mend_144 : decode cX2_mend 144 = .ok (.iload 5, 2) := dk_21 5 (dk_at dksX2_mend_6 3 rfl rfl)
theorem dX2_mend_146 : decode cX2_mend 146 = .ok (.invokestatic 196, 3) := dk_184 0 196 (dk_at dksX2_mend_6 5 rfl rfl)
theorem dX2_mend_149 : decode cX2_mend 149 = .ok (.iload 4, 2) := dk_21 4 (dk_at dksX2_mend_6 8 rfl rfl)
theorem dX2_mend_151 : decode cX2_mend 151 = .ok (.if_icmp .ge 64, 3) := dk_162 0 64 (dk_at dksX2_mend_6 10 rfl rfl)
theorem dX2_mend_154 : decode cX2_mend 154 = .ok (.aload_n 0, 1) := dk_42 (dk_at dksX2_mend_6 13 rfl rfl)
theorem dX2_mend_155 : decode cX2_mend 155 = .ok (.iload 5, 2) := dk_21 5 (dk_at dksX2_mend_6 14 rfl rfl)
theorem dX2_mend_157 : decode cX2_mend 157 = .ok (.iload 6, 2) := dk_21 6 (dk_at dksX2_mend_6 16 rfl rfl)
theorem dX2_mend_159 : decode cX2_mend 159 = .ok (.iload 8, 2) := dk_21 8 (dk_at dksX2_mend_6 18 rfl rfl)
theorem dX2_mend_161 : decode cX2_mend 161 = .ok (.invokevirtual 307, 3) := dk_182 1 51 (dk_at dksX2_mend_6 20 rfl rfl)
theorem dX2_mend_164 : decode cX2_mend 164 = .ok (.ifCond .eq 45, 3) := dk_153 0 45 (dk_at dksX2_mend_7 0 rfl rfl)
theorem dX2_mend_167 : decode cX2_mend 167 = .ok (.iload 7, 2) := dk_21 7 (dk_at dksX2_mend_7 3 rfl rfl)
theorem dX2_mend_169 : decode cX2_mend 169 = .ok (.aload_n 0, 1) := dk_42 (dk_at dksX2_mend_7 5 rfl rfl)
theorem dX2_mend_170 : decode cX2_mend 170 = .ok (.getfield 89, 3) := dk_180 0 89 (dk_at dksX2_mend_7 6 rfl rfl)
theorem dX2_mend_173 : decode cX2_mend 173 = .ok (.iload 5, 2) := dk_21 5 (dk_at dksX2_mend_7 9 rfl rfl)
theorem dX2_mend_175 : decode cX2_mend 175 = .ok (.iconst 1, 1) := dk_4 (dk_at dksX2_mend_7 11 rfl rfl)
theorem dX2_mend_176 : decode cX2_mend 176 = .ok (.iload 8, 2) := dk_21 8 (dk_at dksX2_mend_7 12 rfl rfl)
theorem dX2_mend_178 : decode cX2_mend 178 = .ok (.ishl, 1) := dk_120 (dk_at dksX2_mend_7 14 rfl rfl)
theorem dX2_mend_179 : decode cX2_mend 179 = .ok (.ior, 1) := dk_128 (dk_at dksX2_mend_7 15 rfl rfl)
theorem dX2_mend_180 : decode cX2_mend 180 = .ok (.iload 8, 2) := dk_21 8 (dk_at dksX2_mend_7 16 rfl rfl)
theorem dX2_mend_182 : decode cX2_mend 182 = .ok (.invokestatic 304, 3) := dk_184 1 48 (dk_at dksX2_mend_7 18 rfl rfl)
theorem dX2_mend_185 : decode cX2_mend 185 = .ok (.iaload, 1) := dk_46 (dk_at dksX2_mend_7 21 rfl rfl)
theorem dX2_mend_186 : decode cX2_mend 186 = .ok (.iload 8, 2) := dk_21 8 (dk_at dksX2_mend_7 22 rfl rfl)
theorem dX2_mend_188 : decode cX2_mend 188 = .ok (.aload_n 0, 1) := dk_42 (dk_at dksX2_mend_8 0 rfl rfl)
theorem dX2_mend_189 : decode cX2_mend 189 = .ok (.iload_n 1, 1) := dk_27 (dk_at dksX2_mend_8 1 rfl rfl)
theorem dX2_mend_190 : decode cX2_mend 190 = .ok (.iload 5, 2) := dk_21 5 (dk_at dksX2_mend_8 2 rfl rfl)
theorem dX2_mend_192 : decode cX2_mend 192 = .ok (.invokevirtual 375, 3) := dk_182 1 119 (dk_at dksX2_mend_8 4 rfl rfl)
theorem dX2_mend_195 : decode cX2_mend 195 = .ok (.if_icmp .ne 7, 3) := dk_160 0 7 (dk_at dksX2_mend_8 7 rfl rfl)
theorem dX2_mend_198 : decode cX2_mend 198 = .ok (.iconst 0, 1) := dk_3 (dk_at dksX2_mend_8 10 rfl rfl)
theorem dX2_mend_199 : decode cX2_mend 199 = .ok (.goto 4, 3) := dk_167 0 4 (dk_at dksX2_mend_8 11 rfl rfl)
theorem dX2_mend_202 : decode cX2_mend 202 = .ok (.iconst 1, 1) := dk_4 (dk_at dksX2_mend_8 14 rfl rfl)
theorem dX2_mend_203 : decode cX2_mend 203 = .ok (.iadd, 1) := dk_96 (dk_at dksX2_mend_8 15 rfl rfl)
theorem dX2_mend_204 : decode cX2_mend 204 = .ok (.invokestatic 204, 3) := dk_184 0 204 (dk_at dksX2_mend_8 16 rfl rfl)
theorem dX2_mend_207 : decode cX2_mend 207 = .ok (.istore 7, 2) := dk_54 7 (dk_at dksX2_mend_8 19 rfl rfl)
theorem dX2_mend_209 : decode cX2_mend 209 = .ok (.iinc 8 1, 3) := dk_132 8 1 (dk_at dksX2_mend_8 21 rfl rfl)
theorem dX2_mend_212 : decode cX2_mend 212 = .ok (.goto (-77), 3) := dk_167 255 179 (dk_at dksX2_mend_9 0 rfl rfl)
theorem dX2_mend_215 : decode cX2_mend 215 = .ok (.aload_n 0, 1) := dk_42 (dk_at dksX2_mend_9 3 rfl rfl)
theorem dX2_mend_216 : decode cX2_mend 216 = .ok (.getfield 89, 3) := dk_180 0 89 (dk_at dksX2_mend_9 4 rfl rfl)
theorem dX2_mend_219 : decode cX2_mend 219 = .ok (.iload 5, 2) := dk_21 5 (dk_at dksX2_mend_9 7 rfl rfl)
theorem dX2_mend_221 : decode cX2_mend 221 = .ok (.iload 6, 2) := dk_21 6 (dk_at dksX2_mend_9 9 rfl rfl)
theorem dX2_mend_223 : decode cX2_mend 223 = .ok (.invokestatic 304, 3) := dk_184 1 48 (dk_at dksX2_mend_9 11 rfl rfl)
theorem dX2_mend_226 : decode cX2_mend 226 = .ok (.iload 7, 2) := dk_21 7 (dk_at dksX2_mend_9 14 rfl rfl)
theorem dX2_mend_228 : decode cX2_mend 228 = .ok (.ldc_w 341, 3) := dk_19 1 85 (dk_at dksX2_mend_9 16 rfl rfl)
theorem dX2_mend_231 : decode cX2_mend 231 = .ok (.invokestatic 204, 3) := dk_184 0 204 (dk_at dksX2_mend_9 19 rfl rfl)
theorem dX2_mend_234 : decode cX2_mend 234 = .ok (.iastore, 1) := dk_79 (dk_at dksX2_mend_9 22 rfl rfl)
theorem dX2_mend_235 : decode cX2_mend 235 = .ok (.iinc 6 1, 3) := dk_132 6 1 (dk_at dksX2_mend_10 0 rfl rfl)
theorem dX2_mend_238 : decode cX2_mend 238 = .ok (.goto (-147), 3) := dk_167 255 109 (dk_at dksX2_mend_10 3 rfl rfl)
theorem dX2_mend_241 : decode cX2_mend 241 = .ok (.iinc 5 (-1), 3) := dk_132 5 255 (dk_at dksX2_mend_10 6 rfl rfl)
theorem dX2_mend_244 : decode cX2_mend 244 = .ok (.goto (-174), 3) := dk_167 255 82 (dk_at dksX2_mend_10 9 rfl rfl)
theorem dX2_mend_247 : decode cX2_mend 247 = .ok (.aload_n 0, 1) := dk_42 (dk_at dksX2_mend_10 12 rfl rfl)
theorem dX2_mend_248 : decode cX2_mend 248 = .ok (.getfield 89, 3) := dk_180 0 89 (dk_at dksX2_mend_10 13 rfl rfl)
theorem dX2_mend_251 : decode cX2_mend 251 = .ok (.iconst 0, 1) := dk_3 (dk_at dksX2_mend_10 16 rfl rfl)
theorem dX2_mend_252 : decode cX2_mend 252 = .ok (.iconst (-1), 1) := dk_2 (dk_at dksX2_mend_10 17 rfl rfl)
theorem dX2_mend_253 : decode cX2_mend 253 = .ok (.invokestatic 304, 3) := dk_184 1 48 (dk_at dksX2_mend_10 18 rfl rfl)
theorem dX2_mend_256 : decode cX2_mend 256 = .ok (.iaload, 1) := dk_46 (dk_at dksX2_mend_10 21 rfl rfl)
theorem dX2_mend_257 : decode cX2_mend 257 = .ok (.istore 5, 2) := dk_54 5 (dk_at dksX2_mend_10 22 rfl rfl)
theorem dX2_mend_259 : decode cX2_mend 259 = .ok (.iload 5, 2) := dk_21 5 (dk_at dksX2_mend_11 0 rfl rfl)
theorem dX2_mend_261 : decode cX2_mend 261 = .ok (.ldc_w 341, 3) := dk_19 1 85 (dk_at dksX2_mend_11 2 rfl rfl)
theorem dX2_mend_264 : decode cX2_mend 264 = .ok (.if_icmp .ge 10, 3) := dk_162 0 10 (dk_at dksX2_mend_11 5 rfl rfl)
theorem dX2_mend_267 : decode cX2_mend 267 = .ok (.aload_n 0, 1) := dk_42 (dk_at dksX2_mend_11 8 rfl rfl)
theorem dX2_mend_268 : decode cX2_mend 268 = .ok (.iload_n 1, 1) := dk_27 (dk_at dksX2_mend_11 9 rfl rfl)
theorem dX2_mend_269 : decode cX2_mend 269 = .ok (.iload 4, 2) := dk_21 4 (dk_at dksX2_mend_11 10 rfl rfl)
theorem dX2_mend_271 : decode cX2_mend 271 = .ok (.invokevirtual 378, 3) := dk_182 1 122 (dk_at dksX2_mend_11 12 rfl rfl)
theorem dX2_mend_274 : decode cX2_mend 274 = .ok (.iload_n 2, 1) := dk_28 (dk_at dksX2_mend_11 15 rfl rfl)
theorem dX2_mend_275 : decode cX2_mend 275 = .ok (.iconst (-1), 1) := dk_2 (dk_at dksX2_mend_11 16 rfl rfl)
theorem dX2_mend_276 : decode cX2_mend 276 = .ok (.if_icmp .eq 10, 3) := dk_159 0 10 (dk_at dksX2_mend_11 17 rfl rfl)
theorem dX2_mend_279 : decode cX2_mend 279 = .ok (.aload_n 0, 1) := dk_42 (dk_at dksX2_mend_11 20 rfl rfl)
theorem dX2_mend_280 : decode cX2_mend 280 = .ok (.getfield 9, 3) := dk_180 0 9 (dk_at dksX2_mend_11 21 rfl rfl)
theorem dX2_mend_283 : decode cX2_mend 283 = .ok (.iload_n 2, 1) := dk_28 (dk_at dksX2_mend_12 0 rfl rfl)
theorem dX2_mend_284 : decode cX2_mend 284 = .ok (.iload_n 3, 1) := dk_29 (dk_at dksX2_mend_12 1 rfl rfl)
theorem dX2_mend_285 : decode cX2_mend 285 = .ok (.iastore, 1) := dk_79 (dk_at dksX2_mend_12 2 rfl rfl)
theorem dX2_mend_286 : decode cX2_mend 286 = .ok (.iload 5, 2) := dk_21 5 (dk_at dksX2_mend_12 3 rfl rfl)
theorem dX2_mend_288 : decode cX2_mend 288 = .ok (.ldc_w 341, 3) := dk_19 1 85 (dk_at dksX2_mend_12 5 rfl rfl)
theorem dX2_mend_291 : decode cX2_mend 291 = .ok (.if_icmp .ge 8, 3) := dk_162 0 8 (dk_at dksX2_mend_12 8 rfl rfl)
theorem dX2_mend_294 : decode cX2_mend 294 = .ok (.iload 5, 2) := dk_21 5 (dk_at dksX2_mend_12 11 rfl rfl)
theorem dX2_mend_296 : decode cX2_mend 296 = .ok (.goto 5, 3) := dk_167 0 5 (dk_at dksX2_mend_12 13 rfl rfl)
theorem dX2_mend_299 : decode cX2_mend 299 = .ok (.bipush (-2), 2) := dk_16 254 (dk_at dksX2_mend_12 16 rfl rfl)
theorem dX2_mend_301 : decode cX2_mend 301 = .ok (.ireturn, 1) := dk_172 (dk_at dksX2_mend_12 18 rfl rfl)
abbrev cX2_menuAt : ByteArray := prog_8_method_94_code
def yX2_menuAt : MethodName := ⟨RX2, "menuAt", "(II)I"⟩
def dkwX2_menuAt_0 : List UInt8 := [42, 180, 0, 42, 16, 10, 27, 104, 28, 184, 0, 196, 96, 46, 172]
abbrev dktX2_menuAt_0 : List UInt8 := dkwX2_menuAt_0 ++ []
theorem dksX2_menuAt_0 : cX2_menuAt.data.toList.drop 0 = dktX2_menuAt_0 := by decide +kernel
theorem dX2_menuAt_0 : decode cX2_menuAt 0 = .ok (.aload_n 0, 1) := dk_42 (dk_at dksX2_menuAt_0 0 rfl rfl)
theorem dX2_menuAt_1 : decode cX2_menuAt 1 = .ok (.getfield 42, 3) := dk_180 0 42 (dk_at dksX2_menuAt_0 1 rfl rfl)
theorem dX2_menuAt_4 : decode cX2_menuAt 4 = .ok (.bipush 10, 2) := dk_16 10 (dk_at dksX2_menuAt_0 4 rfl rfl)
theorem dX2_menuAt_6 : decode cX2_menuAt 6 = .ok (.iload_n 1, 1) := dk_27 (dk_at dksX2_menuAt_0 6 rfl rfl)
theorem dX2_menuAt_7 : decode cX2_menuAt 7 = .ok (.imul, 1) := dk_104 (dk_at dksX2_menuAt_0 7 rfl rfl)
theorem dX2_menuAt_8 : decode cX2_menuAt 8 = .ok (.iload_n 2, 1) := dk_28 (dk_at dksX2_menuAt_0 8 rfl rfl)
theorem dX2_menuAt_9 : decode cX2_menuAt 9 = .ok (.invokestatic 196, 3) := dk_184 0 196 (dk_at dksX2_menuAt_0 9 rfl rfl)
theorem dX2_menuAt_12 : decode cX2_menuAt 12 = .ok (.iadd, 1) := dk_96 (dk_at dksX2_menuAt_0 12 rfl rfl)
theorem dX2_menuAt_13 : decode cX2_menuAt 13 = .ok (.iaload, 1) := dk_46 (dk_at dksX2_menuAt_0 13 rfl rfl)
theorem dX2_menuAt_14 : decode cX2_menuAt 14 = .ok (.ireturn, 1) := dk_172 (dk_at dksX2_menuAt_0 14 rfl rfl)
abbrev cX2_tellMended : ByteArray := prog_8_method_96_code
def yX2_tellMended : MethodName := ⟨RX2, "tellMended", "(II)V"⟩
def dkwX2_tellMended_4 : List UInt8 := [182, 1, 33, 29, 4, 21, 5, 120, 128, 62, 21, 5, 54, 4, 167, 255, 163, 177]
abbrev dktX2_tellMended_4 : List UInt8 := dkwX2_tellMended_4 ++ []
def dkwX2_tellMended_3 : List UInt8 := [180, 0, 89, 29, 21, 4, 184, 1, 48, 46, 159, 0, 9, 132, 5, 1, 167, 255, 194, 42, 21, 5]
abbrev dktX2_tellMended_3 : List UInt8 := dkwX2_tellMended_3 ++ dktX2_tellMended_4
def dkwX2_tellMended_2 : List UInt8 := [184, 1, 48, 46, 21, 5, 42, 27, 29, 182, 1, 119, 160, 0, 7, 3, 167, 0, 4, 4, 96, 42]
abbrev dktX2_tellMended_2 : List UInt8 := dkwX2_tellMended_2 ++ dktX2_tellMended_3
def dkwX2_tellMended_1 : List UInt8 := [21, 4, 21, 5, 182, 1, 51, 153, 0, 50, 42, 180, 0, 89, 29, 4, 21, 5, 120, 128, 21, 5]
abbrev dktX2_tellMended_1 : List UInt8 := dkwX2_tellMended_1 ++ dktX2_tellMended_2
def dkwX2_tellMended_0 : List UInt8 := [3, 62, 2, 54, 4, 42, 3, 181, 0, 113, 29, 184, 0, 196, 28, 162, 0, 91, 3, 54, 5, 42, 29]
abbrev dktX2_tellMended_0 : List UInt8 := dkwX2_tellMended_0 ++ dktX2_tellMended_1
theorem dksX2_tellMended_0 : cX2_tellMended.data.toList.drop 0 = dktX2_tellMended_0 := by decide +kernel
theorem dksX2_tellMended_1 : cX2_tellMended.data.toList.drop 23 = dktX2_tellMended_1 := dk_seg dksX2_tellMended_0 23 rfl rfl
theorem dksX2_tellMended_2 : cX2_tellMended.data.toList.drop 45 = dktX2_tellMended_2 := dk_seg dksX2_tellMended_1 22 rfl rfl
theorem dksX2_tellMended_3 : cX2_tellMended.data.toList.drop 67 = dktX2_tellMended_3 := dk_seg dksX2_tellMended_2 22 rfl rfl
theorem dksX2_tellMended_4 : cX2_tellMended.data.toList.drop 89 = dktX2_tellMended_4 := dk_seg dksX2_tellMended_3 22 rfl rfl
theorem dX2_tellMended_0 : decode cX2_tellMended 0 = .ok (.iconst 0, 1) := dk_3 (dk_at dksX2_tellMended_0 0 rfl rfl)
theorem dX2_tellMended_1 : decode cX2_tellMended 1 = .ok (.istore_n 3, 1) := dk_62 (dk_at dksX2_tellMended_0 1 rfl rfl)
theorem dX2_tellMended_2 : decode cX2_tellMended 2 = .ok (.iconst (-1), 1) := dk_2 (dk_at dksX2_tellMended_0 2 rfl rfl)
theorem dX2_tellMended_3 : decode cX2_tellMended 3 = .ok (.istore 4, 2) := dk_54 4 (dk_at dksX2_tellMended_0 3 rfl rfl)
theorem dX2_tellMended_5 : decode cX2_tellMended 5 = .ok (.aload_n 0, 1) := dk_42 (dk_at dksX2_tellMended_0 5 rfl rfl)
theorem dX2_tellMended_6 : decode cX2_tellMended 6 = .ok (.iconst 0, 1) := dk_3 (dk_at dksX2_tellMended_0 6 rfl rfl)
theorem dX2_tellMended_7 : decode cX2_tellMended 7 = .ok (.putfield 113, 3) := dk_181 0 113 (dk_at dksX2_tellMended_0 7 rfl rfl)
theorem dX2_tellMended_10 : decode cX2_tellMended 10 = .ok (.iload_n 3, 1) := dk_29 (dk_at dksX2_tellMended_0 10 rfl rfl)
theorem dX2_tellMended_11 : decode cX2_tellMended 11 = .ok (.invokestatic 196, 3) := dk_184 0 196 (dk_at dksX2_tellMended_0 11 rfl rfl)
theorem dX2_tellMended_14 : decode cX2_tellMended 14 = .ok (.iload_n 2, 1) := dk_28 (dk_at dksX2_tellMended_0 14 rfl rfl)
theorem dX2_tellMended_15 : decode cX2_tellMended 15 = .ok (.if_icmp .ge 91, 3) := dk_162 0 91 (dk_at dksX2_tellMended_0 15 rfl rfl)
theorem dX2_tellMended_18 : decode cX2_tellMended 18 = .ok (.iconst 0, 1) := dk_3 (dk_at dksX2_tellMended_0 18 rfl rfl)
theorem dX2_tellMended_19 : decode cX2_tellMended 19 = .ok (.istore 5, 2) := dk_54 5 (dk_at dksX2_tellMended_0 19 rfl rfl)
theorem dX2_tellMended_21 : decode cX2_tellMended 21 = .ok (.aload_n 0, 1) := dk_42 (dk_at dksX2_tellMended_0 21 rfl rfl)
theorem dX2_tellMended_22 : decode cX2_tellMended 22 = .ok (.iload_n 3, 1) := dk_29 (dk_at dksX2_tellMended_0 22 rfl rfl)
theorem dX2_tellMended_23 : decode cX2_tellMended 23 = .ok (.iload 4, 2) := dk_21 4 (dk_at dksX2_tellMended_1 0 rfl rfl)
theorem dX2_tellMended_25 : decode cX2_tellMended 25 = .ok (.iload 5, 2) := dk_21 5 (dk_at dksX2_tellMended_1 2 rfl rfl)
theorem dX2_tellMended_27 : decode cX2_tellMended 27 = .ok (.invokevirtual 307, 3) := dk_182 1 51 (dk_at dksX2_tellMended_1 4 rfl rfl)
theorem dX2_tellMended_30 : decode cX2_tellMended 30 = .ok (.ifCond .eq 50, 3) := dk_153 0 50 (dk_at dksX2_tellMended_1 7 rfl rfl)
theorem dX2_tellMended_33 : decode cX2_tellMended 33 = .ok (.aload_n 0, 1) := dk_42 (dk_at dksX2_tellMended_1 10 rfl rfl)
theorem dX2_tellMended_34 : decode cX2_tellMended 34 = .ok (.getfield 89, 3) := dk_180 0 89 (dk_at dksX2_tellMended_1 11 rfl rfl)
theorem dX2_tellMended_37 : decode cX2_tellMended 37 = .ok (.iload_n 3, 1) := dk_29 (dk_at dksX2_tellMended_1 14 rfl rfl)
theorem dX2_tellMended_38 : decode cX2_tellMended 38 = .ok (.iconst 1, 1) := dk_4 (dk_at dksX2_tellMended_1 15 rfl rfl)
theorem dX2_tellMended_39 : decode cX2_tellMended 39 = .ok (.iload 5, 2) := dk_21 5 (dk_at dksX2_tellMended_1 16 rfl rfl)
theorem dX2_tellMended_41 : decode cX2_tellMended 41 = .ok (.ishl, 1) := dk_120 (dk_at dksX2_tellMended_1 18 rfl rfl)
theorem dX2_tellMended_42 : decode cX2_tellMended 42 = .ok (.ior, 1) := dk_128 (dk_at dksX2_tellMended_1 19 rfl rfl)
theorem dX2_tellMended_43 : decode cX2_tellMended 43 = .ok (.iload 5, 2) := dk_21 5 (dk_at dksX2_tellMended_1 20 rfl rfl)
theorem dX2_tellMended_45 : decode cX2_tellMended 45 = .ok (.invokestatic 304, 3) := dk_184 1 48 (dk_at dksX2_tellMended_2 0 rfl rfl)
theorem dX2_tellMended_48 : decode cX2_tellMended 48 = .ok (.iaload, 1) := dk_46 (dk_at dksX2_tellMended_2 3 rfl rfl)
theorem dX2_tellMended_49 : decode cX2_tellMended 49 = .ok (.iload 5, 2) := dk_21 5 (dk_at dksX2_tellMended_2 4 rfl rfl)
theorem dX2_tellMended_51 : decode cX2_tellMended 51 = .ok (.aload_n 0, 1) := dk_42 (dk_at dksX2_tellMended_2 6 rfl rfl)
theorem dX2_tellMended_52 : decode cX2_tellMended 52 = .ok (.iload_n 1, 1) := dk_27 (dk_at dksX2_tellMended_2 7 rfl rfl)
theorem dX2_tellMended_53 : decode cX2_tellMended 53 = .ok (.iload_n 3, 1) := dk_29 (dk_at dksX2_tellMended_2 8 rfl rfl)
theorem dX2_tellMended_54 : decode cX2_tellMended 54 = .ok (.invokevirtual 375, 3) := dk_182 1 119 (dk_at dksX2_tellMended_2 9 rfl rfl)
theorem dX2_tellMended_57 : decode cX2_tellMended 57 = .ok (.if_icmp .ne 7, 3) := dk_160 0 7 (dk_at dksX2_tellMended_2 12 rfl rfl)
theorem dX2_tellMended_60 : decode cX2_tellMended 60 = .ok (.iconst 0, 1) := dk_3 (dk_at dksX2_tellMended_2 15 rfl rfl)
theorem dX2_tellMended_61 : decode cX2_tellMended 61 = .ok (.goto 4, 3) := dk_167 0 4 (dk_at dksX2_tellMended_2 16 rfl rfl)
theorem dX2_tellMended_64 : decode cX2_tellMended 64 = .ok (.iconst 1, 1) := dk_4 (dk_at dksX2_tellMended_2 19 rfl rfl)
theorem dX2_tellMended_65 : decode cX2_tellMended 65 = .ok (.iadd, 1) := dk_96 (dk_at dksX2_tellMended_2 20 rfl rfl)
theorem dX2_tellMended_66 : decode cX2_tellMended 66 = .ok (.aload_n 0, 1) := dk_42 (dk_at dksX2_tellMended_2 21 rfl rfl)
theorem dX2_tellMended_67 : decode cX2_tellMended 67 = .ok (.getfield 89, 3) := dk_180 0 89 (dk_at dksX2_tellMended_3 0 rfl rfl)
theorem dX2_tellMended_70 : decode cX2_tellMended 70 = .ok (.iload_n 3, 1) := dk_29 (dk_at dksX2_tellMended_3 3 rfl rfl)
theorem dX2_tellMended_71 : decode cX2_tellMended 71 = .ok (.iload 4, 2) := dk_21 4 (dk_at dksX2_tellMended_3 4 rfl rfl)
theorem dX2_tellMended_73 : decode cX2_tellMended 73 = .ok (.invokestatic 304, 3) := dk_184 1 48 (dk_at dksX2_tellMended_3 6 rfl rfl)
theorem dX2_tellMended_76 : decode cX2_tellMended 76 = .ok (.iaload, 1) := dk_46 (dk_at dksX2_tellMended_3 9 rfl rfl)
theorem dX2_tellMended_77 : decode cX2_tellMended 77 = .ok (.if_icmp .eq 9, 3) := dk_159 0 9 (dk_at dksX2_tellMended_3 10 rfl rfl)
theorem dX2_tellMended_80 : decode cX2_tellMended 80 = .ok (.iinc 5 1, 3) := dk_132 5 1 (dk_at dksX2_tellMended_3 13 rfl rfl)
theorem dX2_tellMended_83 : decode cX2_tellMended 83 = .ok (.goto (-62), 3) := dk_167 255 194 (dk_at dksX2_tellMended_3 16 rfl rfl)
theorem dX2_tellMended_86 : decode cX2_tellMended 86 = .ok (.aload_n 0, 1) := dk_42 (dk_at dksX2_tellMended_3 19 rfl rfl)
theorem dX2_tellMended_87 : decode cX2_tellMended 87 = .ok (.iload 5, 2) := dk_21 5 (dk_at dksX2_tellMended_3 20 rfl rfl)
theorem dX2_tellMended_89 : decode cX2_tellMended 89 = .ok (.invokevirtual 289, 3) := dk_182 1 33 (dk_at dksX2_tellMended_4 0 rfl rfl)
theorem dX2_tellMended_92 : decode cX2_tellMended 92 = .ok (.iload_n 3, 1) := dk_29 (dk_at dksX2_tellMended_4 3 rfl rfl)
theorem dX2_tellMended_93 : decode cX2_tellMended 93 = .ok (.iconst 1, 1) := dk_4 (dk_at dksX2_tellMended_4 4 rfl rfl)
theorem dX2_tellMended_94 : decode cX2_tellMended 94 = .ok (.iload 5, 2) := dk_21 5 (dk_at dksX2_tellMended_4 5 rfl rfl)
theorem dX2_tellMended_96 : decode cX2_tellMended 96 = .ok (.ishl, 1) := dk_120 (dk_at dksX2_tellMended_4 7 rfl rfl)
theorem dX2_tellMended_97 : decode cX2_tellMended 97 = .ok (.ior, 1) := dk_128 (dk_at dksX2_tellMended_4 8 rfl rfl)
theorem dX2_tellMended_98 : decode cX2_tellMended 98 = .ok (.istore_n 3, 1) := dk_62 (dk_at dksX2_tellMended_4 9 rfl rfl)
theorem dX2_tellMended_99 : decode cX2_tellMended 99 = .ok (.iload 5, 2) := dk_21 5 (dk_at dksX2_tellMended_4 10 rfl rfl)
theorem dX2_tellMended_101 : decode cX2_tellMended 101 = .ok (.istore 4, 2) := dk_54 4 (dk_at dksX2_tellMended_4 12 rfl rfl)
theorem dX2_tellMended_103 : decode cX2_tellMended 103 = .ok (.goto (-93), 3) := dk_167 255 163 (dk_at dksX2_tellMended_4 14 rfl rfl)
theorem dX2_tellMended_106 : decode cX2_tellMended 106 = .ok (.return_, 1) := dk_177 (dk_at dksX2_tellMended_4 17 rfl rfl)
abbrev cX2_fills : ByteArray := prog_8_method_99_code
def yX2_fills : MethodName := ⟨RX2, "fills", "(I)J"⟩
def dkwX2_fills_5 : List UInt8 := [21, 4, 4, 21, 6, 120, 128, 54, 4, 21, 6, 54, 5, 167, 255, 161, 32, 173]
abbrev dktX2_fills_5 : List UInt8 := dkwX2_fills_5 ++ []
def dkwX2_fills_4 : List UInt8 := [21, 6, 184, 1, 48, 47, 9, 148, 157, 0, 9, 132, 6, 1, 167, 255, 206, 42, 21, 6, 182, 1, 33]
abbrev dktX2_fills_4 : List UInt8 := dkwX2_fills_4 ++ dktX2_fills_5
def dkwX2_fills_3 : List UInt8 := [21, 4, 21, 5, 21, 6, 182, 1, 51, 153, 0, 25, 42, 180, 0, 92, 21, 4, 4, 21, 6, 120, 128]
abbrev dktX2_fills_3 : List UInt8 := dkwX2_fills_3 ++ dktX2_fills_4
def dkwX2_fills_2 : List UInt8 := [180, 0, 45, 27, 46, 162, 0, 81, 3, 54, 6, 42, 27, 21, 4, 21, 6, 182, 1, 125, 153, 0, 38, 42]
abbrev dktX2_fills_2 : List UInt8 := dkwX2_fills_2 ++ dktX2_fills_3
def dkwX2_fills_1 : List UInt8 := [3, 181, 0, 113, 3, 54, 4, 2, 54, 5, 32, 9, 148, 158, 0, 95, 21, 4, 184, 0, 196, 42]
abbrev dktX2_fills_1 : List UInt8 := dkwX2_fills_1 ++ dktX2_fills_2
def dkwX2_fills_0 : List UInt8 := [42, 3, 181, 0, 110, 42, 27, 182, 1, 9, 154, 0, 7, 20, 1, 128, 173, 42, 27, 182, 1, 130, 65, 42]
abbrev dktX2_fills_0 : List UInt8 := dkwX2_fills_0 ++ dktX2_fills_1
theorem dksX2_fills_0 : cX2_fills.data.toList.drop 0 = dktX2_fills_0 := by decide +kernel
theorem dksX2_fills_1 : cX2_fills.data.toList.drop 24 = dktX2_fills_1 := dk_seg dksX2_fills_0 24 rfl rfl
theorem dksX2_fills_2 : cX2_fills.data.toList.drop 46 = dktX2_fills_2 := dk_seg dksX2_fills_1 22 rfl rfl
theorem dksX2_fills_3 : cX2_fills.data.toList.drop 70 = dktX2_fills_3 := dk_seg dksX2_fills_2 24 rfl rfl
theorem dksX2_fills_4 : cX2_fills.data.toList.drop 93 = dktX2_fills_4 := dk_seg dksX2_fills_3 23 rfl rfl
theorem dksX2_fills_5 : cX2_fills.data.toList.drop 116 = dktX2_fills_5 := dk_seg dksX2_fills_4 23 rfl rfl
theorem dX2_fills_0 : decode cX2_fills 0 = .ok (.aload_n 0, 1) := dk_42 (dk_at dksX2_fills_0 0 rfl rfl)
theorem dX2_fills_1 : decode cX2_fills 1 = .ok (.iconst 0, 1) := dk_3 (dk_at dksX2_fills_0 1 rfl rfl)
theorem dX2_fills_2 : decode cX2_fills 2 = .ok (.putfield 110, 3) := dk_181 0 110 (dk_at dksX2_fills_0 2 rfl rfl)
theorem dX2_fills_5 : decode cX2_fills 5 = .ok (.aload_n 0, 1) := dk_42 (dk_at dksX2_fills_0 5 rfl rfl)
theorem dX2_fills_6 : decode cX2_fills 6 = .ok (.iload_n 1, 1) := dk_27 (dk_at dksX2_fills_0 6 rfl rfl)
theorem dX2_fills_7 : decode cX2_fills 7 = .ok (.invokevirtual 265, 3) := dk_182 1 9 (dk_at dksX2_fills_0 7 rfl rfl)
theorem dX2_fills_10 : decode cX2_fills 10 = .ok (.ifCond .ne 7, 3) := dk_154 0 7 (dk_at dksX2_fills_0 10 rfl rfl)
theorem dX2_fills_13 : decode cX2_fills 13 = .ok (.ldc2_w 384, 3) := dk_20 1 128 (dk_at dksX2_fills_0 13 rfl rfl)
theorem dX2_fills_16 : decode cX2_fills 16 = .ok (.lreturn, 1) := dk_173 (dk_at dksX2_fills_0 16 rfl rfl)
theorem dX2_fills_17 : decode cX2_fills 17 = .ok (.aload_n 0, 1) := dk_42 (dk_at dksX2_fills_0 17 rfl rfl)
theorem dX2_fills_18 : decode cX2_fills 18 = .ok (.iload_n 1, 1) := dk_27 (dk_at dksX2_fills_0 18 rfl rfl)
theorem dX2_fills_19 : decode cX2_fills 19 = .ok (.invokevirtual 386, 3) := dk_182 1 130 (dk_at dksX2_fills_0 19 rfl rfl)
theorem dX2_fills_22 : decode cX2_fills 22 = .ok (.lstore_n 2, 1) := dk_65 (dk_at dksX2_fills_0 22 rfl rfl)
theorem dX2_fills_23 : decode cX2_fills 23 = .ok (.aload_n 0, 1) := dk_42 (dk_at dksX2_fills_0 23 rfl rfl)
theorem dX2_fills_24 : decode cX2_fills 24 = .ok (.iconst 0, 1) := dk_3 (dk_at dksX2_fills_1 0 rfl rfl)
theorem dX2_fills_25 : decode cX2_fills 25 = .ok (.putfield 113, 3) := dk_181 0 113 (dk_at dksX2_fills_1 1 rfl rfl)
theorem dX2_fills_28 : decode cX2_fills 28 = .ok (.iconst 0, 1) := dk_3 (dk_at dksX2_fills_1 4 rfl rfl)
theorem dX2_fills_29 : decode cX2_fills 29 = .ok (.istore 4, 2) := dk_54 4 (dk_at dksX2_fills_1 5 rfl rfl)
theorem dX2_fills_31 : decode cX2_fills 31 = .ok (.iconst (-1), 1) := dk_2 (dk_at dksX2_fills_1 7 rfl rfl)
theorem dX2_fills_32 : decode cX2_fills 32 = .ok (.istore 5, 2) := dk_54 5 (dk_at dksX2_fills_1 8 rfl rfl)
theorem dX2_fills_34 : decode cX2_fills 34 = .ok (.lload_n 2, 1) := dk_32 (dk_at dksX2_fills_1 10 rfl rfl)
theorem dX2_fills_35 : decode cX2_fills 35 = .ok (.lconst 0, 1) := dk_9 (dk_at dksX2_fills_1 11 rfl rfl)
theorem dX2_fills_36 : decode cX2_fills 36 = .ok (.lcmp, 1) := dk_148 (dk_at dksX2_fills_1 12 rfl rfl)
theorem dX2_fills_37 : decode cX2_fills 37 = .ok (.ifCond .le 95, 3) := dk_158 0 95 (dk_at dksX2_fills_1 13 rfl rfl)
theorem dX2_fills_40 : decode cX2_fills 40 = .ok (.iload 4, 2) := dk_21 4 (dk_at dksX2_fills_1 16 rfl rfl)
theorem dX2_fills_42 : decode cX2_fills 42 = .ok (.invokestatic 196, 3) := dk_184 0 196 (dk_at dksX2_fills_1 18 rfl rfl)
theorem dX2_fills_45 : decode cX2_fills 45 = .ok (.aload_n 0, 1) := dk_42 (dk_at dksX2_fills_1 21 rfl rfl)
theorem dX2_fills_46 : decode cX2_fills 46 = .ok (.getfield 45, 3) := dk_180 0 45 (dk_at dksX2_fills_2 0 rfl rfl)
theorem dX2_fills_49 : decode cX2_fills 49 = .ok (.iload_n 1, 1) := dk_27 (dk_at dksX2_fills_2 3 rfl rfl)
theorem dX2_fills_50 : decode cX2_fills 50 = .ok (.iaload, 1) := dk_46 (dk_at dksX2_fills_2 4 rfl rfl)
theorem dX2_fills_51 : decode cX2_fills 51 = .ok (.if_icmp .ge 81, 3) := dk_162 0 81 (dk_at dksX2_fills_2 5 rfl rfl)
theorem dX2_fills_54 : decode cX2_fills 54 = .ok (.iconst 0, 1) := dk_3 (dk_at dksX2_fills_2 8 rfl rfl)
theorem dX2_fills_55 : decode cX2_fills 55 = .ok (.istore 6, 2) := dk_54 6 (dk_at dksX2_fills_2 9 rfl rfl)
theorem dX2_fills_57 : decode cX2_fills 57 = .ok (.aload_n 0, 1) := dk_42 (dk_at dksX2_fills_2 11 rfl rfl)
theorem dX2_fills_58 : decode cX2_fills 58 = .ok (.iload_n 1, 1) := dk_27 (dk_at dksX2_fills_2 12 rfl rfl)
theorem dX2_fills_59 : decode cX2_fills 59 = .ok (.iload 4, 2) := dk_21 4 (dk_at dksX2_fills_2 13 rfl rfl)
theorem dX2_fills_61 : decode cX2_fills 61 = .ok (.iload 6, 2) := dk_21 6 (dk_at dksX2_fills_2 15 rfl rfl)
theorem dX2_fills_63 : decode cX2_fills 63 = .ok (.invokevirtual 381, 3) := dk_182 1 125 (dk_at dksX2_fills_2 17 rfl rfl)
theorem dX2_fills_66 : decode cX2_fills 66 = .ok (.ifCond .eq 38, 3) := dk_153 0 38 (dk_at dksX2_fills_2 20 rfl rfl)
theorem dX2_fills_69 : decode cX2_fills 69 = .ok (.aload_n 0, 1) := dk_42 (dk_at dksX2_fills_2 23 rfl rfl)
theorem dX2_fills_70 : decode cX2_fills 70 = .ok (.iload 4, 2) := dk_21 4 (dk_at dksX2_fills_3 0 rfl rfl)
theorem dX2_fills_72 : decode cX2_fills 72 = .ok (.iload 5, 2) := dk_21 5 (dk_at dksX2_fills_3 2 rfl rfl)
theorem dX2_fills_74 : decode cX2_fills 74 = .ok (.iload 6, 2) := dk_21 6 (dk_at dksX2_fills_3 4 rfl rfl)
theorem dX2_fills_76 : decode cX2_fills 76 = .ok (.invokevirtual 307, 3) := dk_182 1 51 (dk_at dksX2_fills_3 6 rfl rfl)
theorem dX2_fills_79 : decode cX2_fills 79 = .ok (.ifCond .eq 25, 3) := dk_153 0 25 (dk_at dksX2_fills_3 9 rfl rfl)
theorem dX2_fills_82 : decode cX2_fills 82 = .ok (.aload_n 0, 1) := dk_42 (dk_at dksX2_fills_3 12 rfl rfl)
theorem dX2_fills_83 : decode cX2_fills 83 = .ok (.getfield 92, 3) := dk_180 0 92 (dk_at dksX2_fills_3 13 rfl rfl)
theorem dX2_fills_86 : decode cX2_fills 86 = .ok (.iload 4, 2) := dk_21 4 (dk_at dksX2_fills_3 16 rfl rfl)
theorem dX2_fills_88 : decode cX2_fills 88 = .ok (.iconst 1, 1) := dk_4 (dk_at dksX2_fills_3 18 rfl rfl)
theorem dX2_fills_89 : decode cX2_fills 89 = .ok (.iload 6, 2) := dk_21 6 (dk_at dksX2_fills_3 19 rfl rfl)
theorem dX2_fills_91 : decode cX2_fills 91 = .ok (.ishl, 1) := dk_120 (dk_at dksX2_fills_3 21 rfl rfl)
theorem dX2_fills_92 : decode cX2_fills 92 = .ok (.ior, 1) := dk_128 (dk_at dksX2_fills_3 22 rfl rfl)
theorem dX2_fills_93 : decode cX2_fills 93 = .ok (.iload 6, 2) := dk_21 6 (dk_at dksX2_fills_4 0 rfl rfl)
theorem dX2_fills_95 : decode cX2_fills 95 = .ok (.invokestatic 304, 3) := dk_184 1 48 (dk_at dksX2_fills_4 2 rfl rfl)
theorem dX2_fills_98 : decode cX2_fills 98 = .ok (.laload, 1) := dk_47 (dk_at dksX2_fills_4 5 rfl rfl)
theorem dX2_fills_99 : decode cX2_fills 99 = .ok (.lconst 0, 1) := dk_9 (dk_at dksX2_fills_4 6 rfl rfl)
theorem dX2_fills_100 : decode cX2_fills 100 = .ok (.lcmp, 1) := dk_148 (dk_at dksX2_fills_4 7 rfl rfl)
theorem dX2_fills_101 : decode cX2_fills 101 = .ok (.ifCond .gt 9, 3) := dk_157 0 9 (dk_at dksX2_fills_4 8 rfl rfl)
theorem dX2_fills_104 : decode cX2_fills 104 = .ok (.iinc 6 1, 3) := dk_132 6 1 (dk_at dksX2_fills_4 11 rfl rfl)
theorem dX2_fills_107 : decode cX2_fills 107 = .ok (.goto (-50), 3) := dk_167 255 206 (dk_at dksX2_fills_4 14 rfl rfl)
theorem dX2_fills_110 : decode cX2_fills 110 = .ok (.aload_n 0, 1) := dk_42 (dk_at dksX2_fills_4 17 rfl rfl)
theorem dX2_fills_111 : decode cX2_fills 111 = .ok (.iload 6, 2) := dk_21 6 (dk_at dksX2_fills_4 18 rfl rfl)
theorem dX2_fills_113 : decode cX2_fills 113 = .ok (.invokevirtual 289, 3) := dk_182 1 33 (dk_at dksX2_fills_4 20 rfl rfl)
theorem dX2_fills_116 : decode cX2_fills 116 = .ok (.iload 4, 2) := dk_21 4 (dk_at dksX2_fills_5 0 rfl rfl)
theorem dX2_fills_118 : decode cX2_fills 118 = .ok (.iconst 1, 1) := dk_4 (dk_at dksX2_fills_5 2 rfl rfl)
theorem dX2_fills_119 : decode cX2_fills 119 = .ok (.iload 6, 2) := dk_21 6 (dk_at dksX2_fills_5 3 rfl rfl)
theorem dX2_fills_121 : decode cX2_fills 121 = .ok (.ishl, 1) := dk_120 (dk_at dksX2_fills_5 5 rfl rfl)
theorem dX2_fills_122 : decode cX2_fills 122 = .ok (.ior, 1) := dk_128 (dk_at dksX2_fills_5 6 rfl rfl)
theorem dX2_fills_123 : decode cX2_fills 123 = .ok (.istore 4, 2) := dk_54 4 (dk_at dksX2_fills_5 7 rfl rfl)
theorem dX2_fills_125 : decode cX2_fills 125 = .ok (.iload 6, 2) := dk_21 6 (dk_at dksX2_fills_5 9 rfl rfl)
theorem dX2_fills_127 : decode cX2_fills 127 = .ok (.istore 5, 2) := dk_54 5 (dk_at dksX2_fills_5 11 rfl rfl)
theorem dX2_fills_129 : decode cX2_fills 129 = .ok (.goto (-95), 3) := dk_167 255 161 (dk_at dksX2_fills_5 13 rfl rfl)
theorem dX2_fills_132 : decode cX2_fills 132 = .ok (.lload_n 2, 1) := dk_32 (dk_at dksX2_fills_5 16 rfl rfl)
theorem dX2_fills_133 : decode cX2_fills 133 = .ok (.lreturn, 1) := dk_173 (dk_at dksX2_fills_5 17 rfl rfl)
abbrev cX2_findFills : ByteArray := prog_8_method_97_code
def yX2_findFills : MethodName := ⟨RX2, "findFills", "(I)J"⟩
def dkwX2_findFills_7 : List UInt8 := [3, 2, 184, 1, 48, 47, 173]
abbrev dktX2_findFills_7 : List UInt8 := dkwX2_findFills_7 ++ []
def dkwX2_findFills_6 : List UInt8 := [21, 4, 184, 1, 48, 22, 5, 80, 132, 4, 1, 167, 255, 134, 132, 3, 255, 167, 255, 110, 42, 180, 0, 92]
abbrev dktX2_findFills_6 : List UInt8 := dkwX2_findFills_6 ++ dktX2_findFills_7
def dkwX2_findFills_5 : List UInt8 := [21, 7, 120, 128, 21, 7, 184, 1, 48, 47, 97, 55, 5, 132, 7, 1, 167, 255, 192, 42, 180, 0, 92, 29]
abbrev dktX2_findFills_5 : List UInt8 := dkwX2_findFills_5 ++ dktX2_findFills_6
def dkwX2_findFills_4 : List UInt8 := [153, 0, 36, 42, 29, 21, 4, 21, 7, 182, 1, 51, 153, 0, 24, 22, 5, 42, 180, 0, 92, 29, 4]
abbrev dktX2_findFills_4 : List UInt8 := dkwX2_findFills_4 ++ dktX2_findFills_5
def dkwX2_findFills_3 : List UInt8 := [180, 0, 116, 162, 0, 61, 29, 184, 0, 196, 28, 162, 0, 53, 42, 27, 29, 21, 7, 182, 1, 125]
abbrev dktX2_findFills_3 : List UInt8 := dkwX2_findFills_3 ++ dktX2_findFills_4
def dkwX2_findFills_2 : List UInt8 := [167, 0, 101, 29, 184, 0, 196, 28, 160, 0, 7, 10, 167, 0, 4, 9, 55, 5, 3, 54, 7, 21, 7, 42]
abbrev dktX2_findFills_2 : List UInt8 := dkwX2_findFills_2 ++ dktX2_findFills_3
def dkwX2_findFills_1 : List UInt8 := [167, 0, 131, 2, 54, 4, 21, 4, 42, 180, 0, 116, 162, 0, 119, 29, 21, 4, 184, 1, 45, 154, 0, 6]
abbrev dktX2_findFills_1 : List UInt8 := dkwX2_findFills_1 ++ dktX2_findFills_2
def dkwX2_findFills_0 : List UInt8 := [42, 180, 0, 45, 27, 46, 61, 42, 182, 1, 42, 62, 29, 155, 0, 148, 29, 184, 0, 196, 28, 164, 0, 6]
abbrev dktX2_findFills_0 : List UInt8 := dkwX2_findFills_0 ++ dktX2_findFills_1
theorem dksX2_findFills_0 : cX2_findFills.data.toList.drop 0 = dktX2_findFills_0 := by decide +kernel
theorem dksX2_findFills_1 : cX2_findFills.data.toList.drop 24 = dktX2_findFills_1 := dk_seg dksX2_findFills_0 24 rfl rfl
theorem dksX2_findFills_2 : cX2_findFills.data.toList.drop 48 = dktX2_findFills_2 := dk_seg dksX2_findFills_1 24 rfl rfl
theorem dksX2_findFills_3 : cX2_findFills.data.toList.drop 72 = dktX2_findFills_3 := dk_seg dksX2_findFills_2 24 rfl rfl
theorem dksX2_findFills_4 : cX2_findFills.data.toList.drop 94 = dktX2_findFills_4 := dk_seg dksX2_findFills_3 22 rfl rfl
theorem dksX2_findFills_5 : cX2_findFills.data.toList.drop 117 = dktX2_findFills_5 := dk_seg dksX2_findFills_4 23 rfl rfl
theorem dksX2_findFills_6 : cX2_findFills.data.toList.drop 141 = dktX2_findFills_6 := dk_seg dksX2_findFills_5 24 rfl rfl
theorem dksX2_findFills_7 : cX2_findFills.data.toList.drop 165 = dktX2_findFills_7 := dk_seg dksX2_findFills_6 24 rfl rfl
theorem dX2_findFills_0 : decode cX2_findFills 0 = .ok (.aload_n 0, 1) := dk_42 (dk_at dksX2_findFills_0 0 rfl rfl)
theorem dX2_findFills_1 : decode cX2_findFills 1 = .ok (.getfield 45, 3) := dk_180 0 45 (dk_at dksX2_findFills_0 1 rfl rfl)
theorem dX2_findFills_4 : decode cX2_findFills 4 = .ok (.iload_n 1, 1) := dk_27 (dk_at dksX2_findFills_0 4 rfl rfl)
theorem dX2_findFills_5 : decode cX2_findFills 5 = .ok (.iaload, 1) := dk_46 (dk_at dksX2_findFills_0 5 rfl rfl)
theorem dX2_findFills_6 : decode cX2_findFills 6 = .ok (.istore_n 2, 1) := dk_61 (dk_at dksX2_findFills_0 6 rfl rfl)
theorem dX2_findFills_7 : decode cX2_findFills 7 = .ok (.aload_n 0, 1) := dk_42 (dk_at dksX2_findFills_0 7 rfl rfl)
theorem dX2_findFills_8 : decode cX2_findFills 8 = .ok (.invokevirtual 298, 3) := dk_182 1 42 (dk_at dksX2_findFills_0 8 rfl rfl)
theorem dX2_findFills_11 : decode cX2_findFills 11 = .ok (.istore_n 3, 1) := dk_62 (dk_at dksX2_findFills_0 11 rfl rfl)
theorem dX2_findFills_12 : decode cX2_findFills 12 = .ok (.iload_n 3, 1) := dk_29 (dk_at dksX2_findFills_0 12 rfl rfl)
theorem dX2_findFills_13 : decode cX2_findFills 13 = .ok (.ifCond .lt 148, 3) := dk_155 0 148 (dk_at dksX2_findFills_0 13 rfl rfl)
theorem dX2_findFills_16 : decode cX2_findFills 16 = .ok (.iload_n 3, 1) := dk_29 (dk_at dksX2_findFills_0 16 rfl rfl)
theorem dX2_findFills_17 : decode cX2_findFills 17 = .ok (.invokestatic 196, 3) := dk_184 0 196 (dk_at dksX2_findFills_0 17 rfl rfl)
theorem dX2_findFills_20 : decode cX2_findFills 20 = .ok (.iload_n 2, 1) := dk_28 (dk_at dksX2_findFills_0 20 rfl rfl)
theorem dX2_findFills_21 : decode cX2_findFills 21 = .ok (.if_icmp .le 6, 3) := dk_164 0 6 (dk_at dksX2_findFills_0 21 rfl rfl)
theorem dX2_findFills_24 : decode cX2_findFills 24 = .ok (.goto 131, 3) := dk_167 0 131 (dk_at dksX2_findFills_1 0 rfl rfl)
theorem dX2_findFills_27 : decode cX2_findFills 27 = .ok (.iconst (-1), 1) := dk_2 (dk_at dksX2_findFills_1 3 rfl rfl)
theorem dX2_findFills_28 : decode cX2_findFills 28 = .ok (.istore 4, 2) := dk_54 4 (dk_at dksX2_findFills_1 4 rfl rfl)
theorem dX2_findFills_30 : decode cX2_findFills 30 = .ok (.iload 4, 2) := dk_21 4 (dk_at dksX2_findFills_1 6 rfl rfl)
theorem dX2_findFills_32 : decode cX2_findFills 32 = .ok (.aload_n 0, 1) := dk_42 (dk_at dksX2_findFills_1 8 rfl rfl)
theorem dX2_findFills_33 : decode cX2_findFills 33 = .ok (.getfield 116, 3) := dk_180 0 116 (dk_at dksX2_findFills_1 9 rfl rfl)
theorem dX2_findFills_36 : decode cX2_findFills 36 = .ok (.if_icmp .ge 119, 3) := dk_162 0 119 (dk_at dksX2_findFills_1 12 rfl rfl)
theorem dX2_findFills_39 : decode cX2_findFills 39 = .ok (.iload_n 3, 1) := dk_29 (dk_at dksX2_findFills_1 15 rfl rfl)
theorem dX2_findFills_40 : decode cX2_findFills 40 = .ok (.iload 4, 2) := dk_21 4 (dk_at dksX2_findFills_1 16 rfl rfl)
theorem dX2_findFills_42 : decode cX2_findFills 42 = .ok (.invokestatic 301, 3) := dk_184 1 45 (dk_at dksX2_findFills_1 18 rfl rfl)
theorem dX2_findFills_45 : decode cX2_findFills 45 = .ok (.ifCond .ne 6, 3) := dk_154 0 6 (dk_at dksX2_findFills_1 21 rfl rfl)
theorem dX2_findFills_48 : decode cX2_findFills 48 = .ok (.goto 101, 3) := dk_167 0 101 (dk_at dksX2_findFills_2 0 rfl rfl)
theorem dX2_findFills_51 : decode cX2_findFills 51 = .ok (.iload_n 3, 1) := dk_29 (dk_at dksX2_findFills_2 3 rfl rfl)
theorem dX2_findFills_52 : decode cX2_findFills 52 = .ok (.invokestatic 196, 3) := dk_184 0 196 (dk_at dksX2_findFills_2 4 rfl rfl)
theorem dX2_findFills_55 : decode cX2_findFills 55 = .ok (.iload_n 2, 1) := dk_28 (dk_at dksX2_findFills_2 7 rfl rfl)
theorem dX2_findFills_56 : decode cX2_findFills 56 = .ok (.if_icmp .ne 7, 3) := dk_160 0 7 (dk_at dksX2_findFills_2 8 rfl rfl)
theorem dX2_findFills_59 : decode cX2_findFills 59 = .ok (.lconst 1, 1) := dk_10 (dk_at dksX2_findFills_2 11 rfl rfl)
theorem dX2_findFills_60 : decode cX2_findFills 60 = .ok (.goto 4, 3) := dk_167 0 4 (dk_at dksX2_findFills_2 12 rfl rfl)
theorem dX2_findFills_63 : decode cX2_findFills 63 = .ok (.lconst 0, 1) := dk_9 (dk_at dksX2_findFills_2 15 rfl rfl)
theorem dX2_findFills_64 : decode cX2_findFills 64 = .ok (.lstore 5, 2) := dk_55 5 (dk_at dksX2_findFills_2 16 rfl rfl)
theorem dX2_findFills_66 : decode cX2_findFills 66 = .ok (.iconst 0, 1) := dk_3 (dk_at dksX2_findFills_2 18 rfl rfl)
theorem dX2_findFills_67 : decode cX2_findFills 67 = .ok (.istore 7, 2) := dk_54 7 (dk_at dksX2_findFills_2 19 rfl rfl)
theorem dX2_findFills_69 : decode cX2_findFills 69 = .ok (.iload 7, 2) := dk_21 7 (dk_at dksX2_findFills_2 21 rfl rfl)
theorem dX2_findFills_71 : decode cX2_findFills 71 = .ok (.aload_n 0, 1) := dk_42 (dk_at dksX2_findFills_2 23 rfl rfl)
theorem dX2_findFills_72 : decode cX2_findFills 72 = .ok (.getfield 116, 3) := dk_180 0 116 (dk_at dksX2_findFills_3 0 rfl rfl)
theorem dX2_findFills_75 : decode cX2_findFills 75 = .ok (.if_icmp .ge 61, 3) := dk_162 0 61 (dk_at dksX2_findFills_3 3 rfl rfl)
theorem dX2_findFills_78 : decode cX2_findFills 78 = .ok (.iload_n 3, 1) := dk_29 (dk_at dksX2_findFills_3 6 rfl rfl)
theorem dX2_findFills_79 : decode cX2_findFills 79 = .ok (.invokestatic 196, 3) := dk_184 0 196 (dk_at dksX2_findFills_3 7 rfl rfl)
theorem dX2_findFills_82 : decode cX2_findFills 82 = .ok (.iload_n 2, 1) := dk_28 (dk_at dksX2_findFills_3 10 rfl rfl)
theorem dX2_findFills_83 : decode cX2_findFills 83 = .ok (.if_icmp .ge 53, 3) := dk_162 0 53 (dk_at dksX2_findFills_3 11 rfl rfl)
theorem dX2_findFills_86 : decode cX2_findFills 86 = .ok (.aload_n 0, 1) := dk_42 (dk_at dksX2_findFills_3 14 rfl rfl)
theorem dX2_findFills_87 : decode cX2_findFills 87 = .ok (.iload_n 1, 1) := dk_27 (dk_at dksX2_findFills_3 15 rfl rfl)
theorem dX2_findFills_88 : decode cX2_findFills 88 = .ok (.iload_n 3, 1) := dk_29 (dk_at dksX2_findFills_3 16 rfl rfl)
theorem dX2_findFills_89 : decode cX2_findFills 89 = .ok (.iload 7, 2) := dk_21 7 (dk_at dksX2_findFills_3 17 rfl rfl)
theorem dX2_findFills_91 : decode cX2_findFills 91 = .ok (.invokevirtual 381, 3) := dk_182 1 125 (dk_at dksX2_findFills_3 19 rfl rfl)
theorem dX2_findFills_94 : decode cX2_findFills 94 = .ok (.ifCond .eq 36, 3) := dk_153 0 36 (dk_at dksX2_findFills_4 0 rfl rfl)
theorem dX2_findFills_97 : decode cX2_findFills 97 = .ok (.aload_n 0, 1) := dk_42 (dk_at dksX2_findFills_4 3 rfl rfl)
theorem dX2_findFills_98 : decode cX2_findFills 98 = .ok (.iload_n 3, 1) := dk_29 (dk_at dksX2_findFills_4 4 rfl rfl)
theorem dX2_findFills_99 : decode cX2_findFills 99 = .ok (.iload 4, 2) := dk_21 4 (dk_at dksX2_findFills_4 5 rfl rfl)
theorem dX2_findFills_101 : decode cX2_findFills 101 = .ok (.iload 7, 2) := dk_21 7 (dk_at dksX2_findFills_4 7 rfl rfl)
theorem dX2_findFills_103 : decode cX2_findFills 103 = .ok (.invokevirtual 307, 3) := dk_182 1 51 (dk_at dksX2_findFills_4 9 rfl rfl)
theorem dX2_findFills_106 : decode cX2_findFills 106 = .ok (.ifCond .eq 24, 3) := dk_153 0 24 (dk_at dksX2_findFills_4 12 rfl rfl)
theorem dX2_findFills_109 : decode cX2_findFills 109 = .ok (.lload 5, 2) := dk_22 5 (dk_at dksX2_findFills_4 15 rfl rfl)
theorem dX2_findFills_111 : decode cX2_findFills 111 = .ok (.aload_n 0, 1) := dk_42 (dk_at dksX2_findFills_4 17 rfl rfl)
theorem dX2_findFills_112 : decode cX2_findFills 112 = .ok (.getfield 92, 3) := dk_180 0 92 (dk_at dksX2_findFills_4 18 rfl rfl)
theorem dX2_findFills_115 : decode cX2_findFills 115 = .ok (.iload_n 3, 1) := dk_29 (dk_at dksX2_findFills_4 21 rfl rfl)
theorem dX2_findFills_116 : decode cX2_findFills 116 = .ok (.iconst 1, 1) := dk_4 (dk_at dksX2_findFills_4 22 rfl rfl)
theorem dX2_findFills_117 : decode cX2_findFills 117 = .ok (.iload 7, 2) := dk_21 7 (dk_at dksX2_findFills_5 0 rfl rfl)
theorem dX2_findFills_119 : decode cX2_findFills 119 = .ok (.ishl, 1) := dk_120 (dk_at dksX2_findFills_5 2 rfl rfl)
theorem dX2_findFills_120 : decode cX2_findFills 120 = .ok (.ior, 1) := dk_128 (dk_at dksX2_findFills_5 3 rfl rfl)
theorem dX2_findFills_121 : decode cX2_findFills 121 = .ok (.iload 7, 2) := dk_21 7 (dk_at dksX2_findFills_5 4 rfl rfl)
theorem dX2_findFills_123 : decode cX2_findFills 123 = .ok (.invokestatic 304, 3) := dk_184 1 48 (dk_at dksX2_findFills_5 6 rfl rfl)
theorem dX2_findFills_126 : decode cX2_findFills 126 = .ok (.laload, 1) := dk_47 (dk_at dksX2_findFills_5 9 rfl rfl)
theorem dX2_findFills_127 : decode cX2_findFills 127 = .ok (.ladd, 1) := dk_97 (dk_at dksX2_findFills_5 10 rfl rfl)
theorem dX2_findFills_128 : decode cX2_findFills 128 = .ok (.lstore 5, 2) := dk_55 5 (dk_at dksX2_findFills_5 11 rfl rfl)
theorem dX2_findFills_130 : decode cX2_findFills 130 = .ok (.iinc 7 1, 3) := dk_132 7 1 (dk_at dksX2_findFills_5 13 rfl rfl)
theorem dX2_findFills_133 : decode cX2_findFills 133 = .ok (.goto (-64), 3) := dk_167 255 192 (dk_at dksX2_findFills_5 16 rfl rfl)
theorem dX2_findFills_136 : decode cX2_findFills 136 = .ok (.aload_n 0, 1) := dk_42 (dk_at dksX2_findFills_5 19 rfl rfl)
theorem dX2_findFills_137 : decode cX2_findFills 137 = .ok (.getfield 92, 3) := dk_180 0 92 (dk_at dksX2_findFills_5 20 rfl rfl)
theorem dX2_findFills_140 : decode cX2_findFills 140 = .ok (.iload_n 3, 1) := dk_29 (dk_at dksX2_findFills_5 23 rfl rfl)
theorem dX2_findFills_141 : decode cX2_findFills 141 = .ok (.iload 4, 2) := dk_21 4 (dk_at dksX2_findFills_6 0 rfl rfl)
theorem dX2_findFills_143 : decode cX2_findFills 143 = .ok (.invokestatic 304, 3) := dk_184 1 48 (dk_at dksX2_findFills_6 2 rfl rfl)
theorem dX2_findFills_146 : decode cX2_findFills 146 = .ok (.lload 5, 2) := dk_22 5 (dk_at dksX2_findFills_6 5 rfl rfl)
theorem dX2_findFills_148 : decode cX2_findFills 148 = .ok (.lastore, 1) := dk_80 (dk_at dksX2_findFills_6 7 rfl rfl)
theorem dX2_findFills_149 : decode cX2_findFills 149 = .ok (.iinc 4 1, 3) := dk_132 4 1 (dk_at dksX2_findFills_6 8 rfl rfl)
theorem dX2_findFills_152 : decode cX2_findFills 152 = .ok (.goto (-122), 3) := dk_167 255 134 (dk_at dksX2_findFills_6 11 rfl rfl)
theorem dX2_findFills_155 : decode cX2_findFills 155 = .ok (.iinc 3 (-1), 3) := dk_132 3 255 (dk_at dksX2_findFills_6 14 rfl rfl)
theorem dX2_findFills_158 : decode cX2_findFills 158 = .ok (.goto (-146), 3) := dk_167 255 110 (dk_at dksX2_findFills_6 17 rfl rfl)
theorem dX2_findFills_161 : decode cX2_findFills 161 = .ok (.aload_n 0, 1) := dk_42 (dk_at dksX2_findFills_6 20 rfl rfl)
theorem dX2_findFills_162 : decode cX2_findFills 162 = .ok (.getfield 92, 3) := dk_180 0 92 (dk_at dksX2_findFills_6 21 rfl rfl)
theorem dX2_findFills_165 : decode cX2_findFills 165 = .ok (.iconst 0, 1) := dk_3 (dk_at dksX2_findFills_7 0 rfl rfl)
theorem dX2_findFills_166 : decode cX2_findFills 166 = .ok (.iconst (-1), 1) := dk_2 (dk_at dksX2_findFills_7 1 rfl rfl)
theorem dX2_findFills_167 : decode cX2_findFills 167 = .ok (.invokestatic 304, 3) := dk_184 1 48 (dk_at dksX2_findFills_7 2 rfl rfl)
theorem dX2_findFills_170 : decode cX2_findFills 170 = .ok (.laload, 1) := dk_47 (dk_at dksX2_findFills_7 5 rfl rfl)
theorem dX2_findFills_171 : decode cX2_findFills 171 = .ok (.lreturn, 1) := dk_173 (dk_at dksX2_findFills_7 6 rfl rfl)
abbrev cX2_isAsked : ByteArray := prog_8_method_98_code
def yX2_isAsked : MethodName := ⟨RX2, "isAsked", "(III)Z"⟩
def dkwX2_isAsked_1 : List UInt8 := [167, 0, 4, 3, 172]
abbrev dktX2_isAsked_1 : List UInt8 := dkwX2_isAsked_1 ++ []
def dkwX2_isAsked_0 : List UInt8 := [42, 27, 28, 182, 1, 119, 54, 4, 21, 4, 16, 99, 159, 0, 9, 21, 4, 29, 160, 0, 7, 4]
abbrev dktX2_isAsked_0 : List UInt8 := dkwX2_isAsked_0 ++ dktX2_isAsked_1
theorem dksX2_isAsked_0 : cX2_isAsked.data.toList.drop 0 = dktX2_isAsked_0 := by decide +kernel
theorem dksX2_isAsked_1 : cX2_isAsked.data.toList.drop 22 = dktX2_isAsked_1 := dk_seg dksX2_isAsked_0 22 rfl rfl
theorem dX2_isAsked_0 : decode cX2_isAsked 0 = .ok (.aload_n 0, 1) := dk_42 (dk_at dksX2_isAsked_0 0 rfl rfl)
theorem dX2_isAsked_1 : decode cX2_isAsked 1 = .ok (.iload_n 1, 1) := dk_27 (dk_at dksX2_isAsked_0 1 rfl rfl)
theorem dX2_isAsked_2 : decode cX2_isAsked 2 = .ok (.iload_n 2, 1) := dk_28 (dk_at dksX2_isAsked_0 2 rfl rfl)
theorem dX2_isAsked_3 : decode cX2_isAsked 3 = .ok (.invokevirtual 375, 3) := dk_182 1 119 (dk_at dksX2_isAsked_0 3 rfl rfl)
theorem dX2_isAsked_6 : decode cX2_isAsked 6 = .ok (.istore 4, 2) := dk_54 4 (dk_at dksX2_isAsked_0 6 rfl rfl)
theorem dX2_isAsked_8 : decode cX2_isAsked 8 = .ok (.iload 4, 2) := dk_21 4 (dk_at dksX2_isAsked_0 8 rfl rfl)
theorem dX2_isAsked_10 : decode cX2_isAsked 10 = .ok (.bipush 99, 2) := dk_16 99 (dk_at dksX2_isAsked_0 10 rfl rfl)
theorem dX2_isAsked_12 : decode cX2_isAsked 12 = .ok (.if_icmp .eq 9, 3) := dk_159 0 9 (dk_at dksX2_isAsked_0 12 rfl rfl)
theorem dX2_isAsked_15 : decode cX2_isAsked 15 = .ok (.iload 4, 2) := dk_21 4 (dk_at dksX2_isAsked_0 15 rfl rfl)
theorem dX2_isAsked_17 : decode cX2_isAsked 17 = .ok (.iload_n 3, 1) := dk_29 (dk_at dksX2_isAsked_0 17 rfl rfl)
theorem dX2_isAsked_18 : decode cX2_isAsked 18 = .ok (.if_icmp .ne 7, 3) := dk_160 0 7 (dk_at dksX2_isAsked_0 18 rfl rfl)
theorem dX2_isAsked_21 : decode cX2_isAsked 21 = .ok (.iconst 1, 1) := dk_4 (dk_at dksX2_isAsked_0 21 rfl rfl)
theorem dX2_isAsked_22 : decode cX2_isAsked 22 = .ok (.goto 4, 3) := dk_167 0 4 (dk_at dksX2_isAsked_1 0 rfl rfl)
theorem dX2_isAsked_25 : decode cX2_isAsked 25 = .ok (.iconst 0, 1) := dk_3 (dk_at dksX2_isAsked_1 3 rfl rfl)
theorem dX2_isAsked_26 : decode cX2_isAsked 26 = .ok (.ireturn, 1) := dk_172 (dk_at dksX2_isAsked_1 4 rfl rfl)
abbrev cX2_sure : ByteArray := prog_8_method_100_code
def yX2_sure : MethodName := ⟨RX2, "sure", "(II)I"⟩
def dkwX2_sure_6 : List UInt8 := [21, 6, 172]
abbrev dktX2_sure_6 : List UInt8 := dkwX2_sure_6 ++ []
def dkwX2_sure_5 : List UInt8 := [120, 128, 54, 6, 132, 7, 1, 167, 255, 189, 42, 180, 0, 42, 16, 10, 27, 104, 28, 96, 21, 5, 79]
abbrev dktX2_sure_5 : List UInt8 := dkwX2_sure_5 ++ dktX2_sure_6
def dkwX2_sure_4 : List UInt8 := [16, 10, 27, 104, 28, 96, 21, 7, 79, 42, 27, 182, 1, 130, 33, 148, 154, 0, 12, 21, 6, 4, 21, 7]
abbrev dktX2_sure_4 : List UInt8 := dkwX2_sure_4 ++ dktX2_sure_5
def dkwX2_sure_3 : List UInt8 := [158, 0, 58, 21, 5, 16, 99, 159, 0, 13, 21, 5, 21, 7, 159, 0, 6, 167, 0, 35, 42, 180, 0, 42]
abbrev dktX2_sure_3 : List UInt8 := dkwX2_sure_3 ++ dktX2_sure_4
def dkwX2_sure_2 : List UInt8 := [96, 46, 54, 5, 3, 54, 6, 3, 54, 7, 21, 7, 42, 180, 0, 116, 162, 0, 64, 33, 9, 148]
abbrev dktX2_sure_2 : List UInt8 := dkwX2_sure_2 ++ dktX2_sure_3
def dkwX2_sure_1 : List UInt8 := [184, 0, 119, 154, 0, 6, 16, 253, 172, 42, 27, 182, 1, 130, 66, 42, 180, 0, 42, 16, 10, 27, 104, 28]
abbrev dktX2_sure_1 : List UInt8 := dkwX2_sure_1 ++ dktX2_sure_2
def dkwX2_sure_0 : List UInt8 := [42, 3, 181, 0, 110, 42, 27, 182, 1, 9, 153, 0, 19, 28, 3, 42, 180, 0, 45, 27, 46, 4, 100]
abbrev dktX2_sure_0 : List UInt8 := dkwX2_sure_0 ++ dktX2_sure_1
theorem dksX2_sure_0 : cX2_sure.data.toList.drop 0 = dktX2_sure_0 := by decide +kernel
theorem dksX2_sure_1 : cX2_sure.data.toList.drop 23 = dktX2_sure_1 := dk_seg dksX2_sure_0 23 rfl rfl
theorem dksX2_sure_2 : cX2_sure.data.toList.drop 47 = dktX2_sure_2 := dk_seg dksX2_sure_1 24 rfl rfl
theorem dksX2_sure_3 : cX2_sure.data.toList.drop 69 = dktX2_sure_3 := dk_seg dksX2_sure_2 22 rfl rfl
theorem dksX2_sure_4 : cX2_sure.data.toList.drop 93 = dktX2_sure_4 := dk_seg dksX2_sure_3 24 rfl rfl
theorem dksX2_sure_5 : cX2_sure.data.toList.drop 117 = dktX2_sure_5 := dk_seg dksX2_sure_4 24 rfl rfl
theorem dksX2_sure_6 : cX2_sure.data.toList.drop 140 = dktX2_sure_6 := dk_seg dksX2_sure_5 23 rfl rfl
theorem dX2_sure_0 : decode cX2_sure 0 = .ok (.aload_n 0, 1) := dk_42 (dk_at dksX2_sure_0 0 rfl rfl)
theorem dX2_sure_1 : decode cX2_sure 1 = .ok (.iconst 0, 1) := dk_3 (dk_at dksX2_sure_0 1 rfl rfl)
theorem dX2_sure_2 : decode cX2_sure 2 = .ok (.putfield 110, 3) := dk_181 0 110 (dk_at dksX2_sure_0 2 rfl rfl)
theorem dX2_sure_5 : decode cX2_sure 5 = .ok (.aload_n 0, 1) := dk_42 (dk_at dksX2_sure_0 5 rfl rfl)
theorem dX2_sure_6 : decode cX2_sure 6 = .ok (.iload_n 1, 1) := dk_27 (dk_at dksX2_sure_0 6 rfl rfl)
theorem dX2_sure_7 : decode cX2_sure 7 = .ok (.invokevirtual 265, 3) := dk_182 1 9 (dk_at dksX2_sure_0 7 rfl rfl)
theorem dX2_sure_10 : decode cX2_sure 10 = .ok (.ifCond .eq 19, 3) := dk_153 0 19 (dk_at dksX2_sure_0 10 rfl rfl)
theorem dX2_sure_13 : decode cX2_sure 13 = .ok (.iload_n 2, 1) := dk_28 (dk_at dksX2_sure_0 13 rfl rfl)
theorem dX2_sure_14 : decode cX2_sure 14 = .ok (.iconst 0, 1) := dk_3 (dk_at dksX2_sure_0 14 rfl rfl)
theorem dX2_sure_15 : decode cX2_sure 15 = .ok (.aload_n 0, 1) := dk_42 (dk_at dksX2_sure_0 15 rfl rfl)
theorem dX2_sure_16 : decode cX2_sure 16 = .ok (.getfield 45, 3) := dk_180 0 45 (dk_at dksX2_sure_0 16 rfl rfl)
theorem dX2_sure_19 : decode cX2_sure 19 = .ok (.iload_n 1, 1) := dk_27 (dk_at dksX2_sure_0 19 rfl rfl)
theorem dX2_sure_20 : decode cX2_sure 20 = .ok (.iaload, 1) := dk_46 (dk_at dksX2_sure_0 20 rfl rfl)
theorem dX2_sure_21 : decode cX2_sure 21 = .ok (.iconst 1, 1) := dk_4 (dk_at dksX2_sure_0 21 rfl rfl)
theorem dX2_sure_22 : decode cX2_sure 22 = .ok (.isub, 1) := dk_100 (dk_at dksX2_sure_0 22 rfl rfl)
theorem dX2_sure_23 : decode cX2_sure 23 = .ok (.invokestatic 119, 3) := dk_184 0 119 (dk_at dksX2_sure_1 0 rfl rfl)
theorem dX2_sure_26 : decode cX2_sure 26 = .ok (.ifCond .ne 6, 3) := dk_154 0 6 (dk_at dksX2_sure_1 3 rfl rfl)
theorem dX2_sure_29 : decode cX2_sure 29 = .ok (.bipush (-3), 2) := dk_16 253 (dk_at dksX2_sure_1 6 rfl rfl)
theorem dX2_sure_31 : decode cX2_sure 31 = .ok (.ireturn, 1) := dk_172 (dk_at dksX2_sure_1 8 rfl rfl)
theorem dX2_sure_32 : decode cX2_sure 32 = .ok (.aload_n 0, 1) := dk_42 (dk_at dksX2_sure_1 9 rfl rfl)
theorem dX2_sure_33 : decode cX2_sure 33 = .ok (.iload_n 1, 1) := dk_27 (dk_at dksX2_sure_1 10 rfl rfl)
theorem dX2_sure_34 : decode cX2_sure 34 = .ok (.invokevirtual 386, 3) := dk_182 1 130 (dk_at dksX2_sure_1 11 rfl rfl)
theorem dX2_sure_37 : decode cX2_sure 37 = .ok (.lstore_n 3, 1) := dk_66 (dk_at dksX2_sure_1 14 rfl rfl)
theorem dX2_sure_38 : decode cX2_sure 38 = .ok (.aload_n 0, 1) := dk_42 (dk_at dksX2_sure_1 15 rfl rfl)
theorem dX2_sure_39 : decode cX2_sure 39 = .ok (.getfield 42, 3) := dk_180 0 42 (dk_at dksX2_sure_1 16 rfl rfl)
theorem dX2_sure_42 : decode cX2_sure 42 = .ok (.bipush 10, 2) := dk_16 10 (dk_at dksX2_sure_1 19 rfl rfl)
theorem dX2_sure_44 : decode cX2_sure 44 = .ok (.iload_n 1, 1) := dk_27 (dk_at dksX2_sure_1 21 rfl rfl)
theorem dX2_sure_45 : decode cX2_sure 45 = .ok (.imul, 1) := dk_104 (dk_at dksX2_sure_1 22 rfl rfl)
theorem dX2_sure_46 : decode cX2_sure 46 = .ok (.iload_n 2, 1) := dk_28 (dk_at dksX2_sure_1 23 rfl rfl)
theorem dX2_sure_47 : decode cX2_sure 47 = .ok (.iadd, 1) := dk_96 (dk_at dksX2_sure_2 0 rfl rfl)
theorem dX2_sure_48 : decode cX2_sure 48 = .ok (.iaload, 1) := dk_46 (dk_at dksX2_sure_2 1 rfl rfl)
theorem dX2_sure_49 : decode cX2_sure 49 = .ok (.istore 5, 2) := dk_54 5 (dk_at dksX2_sure_2 2 rfl rfl)
theorem dX2_sure_51 : decode cX2_sure 51 = .ok (.iconst 0, 1) := dk_3 (dk_at dksX2_sure_2 4 rfl rfl)
theorem dX2_sure_52 : decode cX2_sure 52 = .ok (.istore 6, 2) := dk_54 6 (dk_at dksX2_sure_2 5 rfl rfl)
theorem dX2_sure_54 : decode cX2_sure 54 = .ok (.iconst 0, 1) := dk_3 (dk_at dksX2_sure_2 7 rfl rfl)
theorem dX2_sure_55 : decode cX2_sure 55 = .ok (.istore 7, 2) := dk_54 7 (dk_at dksX2_sure_2 8 rfl rfl)
theorem dX2_sure_57 : decode cX2_sure 57 = .ok (.iload 7, 2) := dk_21 7 (dk_at dksX2_sure_2 10 rfl rfl)
theorem dX2_sure_59 : decode cX2_sure 59 = .ok (.aload_n 0, 1) := dk_42 (dk_at dksX2_sure_2 12 rfl rfl)
theorem dX2_sure_60 : decode cX2_sure 60 = .ok (.getfield 116, 3) := dk_180 0 116 (dk_at dksX2_sure_2 13 rfl rfl)
theorem dX2_sure_63 : decode cX2_sure 63 = .ok (.if_icmp .ge 64, 3) := dk_162 0 64 (dk_at dksX2_sure_2 16 rfl rfl)
theorem dX2_sure_66 : decode cX2_sure 66 = .ok (.lload_n 3, 1) := dk_33 (dk_at dksX2_sure_2 19 rfl rfl)
theorem dX2_sure_67 : decode cX2_sure 67 = .ok (.lconst 0, 1) := dk_9 (dk_at dksX2_sure_2 20 rfl rfl)
theorem dX2_sure_68 : decode cX2_sure 68 = .ok (.lcmp, 1) := dk_148 (dk_at dksX2_sure_2 21 rfl rfl)
theorem dX2_sure_69 : decode cX2_sure 69 = .ok (.ifCond .le 58, 3) := dk_158 0 58 (dk_at dksX2_sure_3 0 rfl rfl)
theorem dX2_sure_72 : decode cX2_sure 72 = .ok (.iload 5, 2) := dk_21 5 (dk_at dksX2_sure_3 3 rfl rfl)
theorem dX2_sure_74 : decode cX2_sure 74 = .ok (.bipush 99, 2) := dk_16 99 (dk_at dksX2_sure_3 5 rfl rfl)
theorem dX2_sure_76 : decode cX2_sure 76 = .ok (.if_icmp .eq 13, 3) := dk_159 0 13 (dk_at dksX2_sure_3 7 rfl rfl)
theorem dX2_sure_79 : decode cX2_sure 79 = .ok (.iload 5, 2) := dk_21 5 (dk_at dksX2_sure_3 10 rfl rfl)
theorem dX2_sure_81 : decode cX2_sure 81 = .ok (.iload 7, 2) := dk_21 7 (dk_at dksX2_sure_3 12 rfl rfl)
theorem dX2_sure_83 : decode cX2_sure 83 = .ok (.if_icmp .eq 6, 3) := dk_159 0 6 (dk_at dksX2_sure_3 14 rfl rfl)
theorem dX2_sure_86 : decode cX2_sure 86 = .ok (.goto 35, 3) := dk_167 0 35 (dk_at dksX2_sure_3 17 rfl rfl)
theorem dX2_sure_89 : decode cX2_sure 89 = .ok (.aload_n 0, 1) := dk_42 (dk_at dksX2_sure_3 20 rfl rfl)
theorem dX2_sure_90 : decode cX2_sure 90 = .ok (.getfield 42, 3) := dk_180 0 42 (dk_at dksX2_sure_3 21 rfl rfl)
theorem dX2_sure_93 : decode cX2_sure 93 = .ok (.bipush 10, 2) := dk_16 10 (dk_at dksX2_sure_4 0 rfl rfl)
theorem dX2_sure_95 : decode cX2_sure 95 = .ok (.iload_n 1, 1) := dk_27 (dk_at dksX2_sure_4 2 rfl rfl)
theorem dX2_sure_96 : decode cX2_sure 96 = .ok (.imul, 1) := dk_104 (dk_at dksX2_sure_4 3 rfl rfl)
theorem dX2_sure_97 : decode cX2_sure 97 = .ok (.iload_n 2, 1) := dk_28 (dk_at dksX2_sure_4 4 rfl rfl)
theorem dX2_sure_98 : decode cX2_sure 98 = .ok (.iadd, 1) := dk_96 (dk_at dksX2_sure_4 5 rfl rfl)
theorem dX2_sure_99 : decode cX2_sure 99 = .ok (.iload 7, 2) := dk_21 7 (dk_at dksX2_sure_4 6 rfl rfl)
theorem dX2_sure_101 : decode cX2_sure 101 = .ok (.iastore, 1) := dk_79 (dk_at dksX2_sure_4 8 rfl rfl)
theorem dX2_sure_102 : decode cX2_sure 102 = .ok (.aload_n 0, 1) := dk_42 (dk_at dksX2_sure_4 9 rfl rfl)
theorem dX2_sure_103 : decode cX2_sure 103 = .ok (.iload_n 1, 1) := dk_27 (dk_at dksX2_sure_4 10 rfl rfl)
theorem dX2_sure_104 : decode cX2_sure 104 = .ok (.invokevirtual 386, 3) := dk_182 1 130 (dk_at dksX2_sure_4 11 rfl rfl)
theorem dX2_sure_107 : decode cX2_sure 107 = .ok (.lload_n 3, 1) := dk_33 (dk_at dksX2_sure_4 14 rfl rfl)
theorem dX2_sure_108 : decode cX2_sure 108 = .ok (.lcmp, 1) := dk_148 (dk_at dksX2_sure_4 15 rfl rfl)
theorem dX2_sure_109 : decode cX2_sure 109 = .ok (.ifCond .ne 12, 3) := dk_154 0 12 (dk_at dksX2_sure_4 16 rfl rfl)
theorem dX2_sure_112 : decode cX2_sure 112 = .ok (.iload 6, 2) := dk_21 6 (dk_at dksX2_sure_4 19 rfl rfl)
theorem dX2_sure_114 : decode cX2_sure 114 = .ok (.iconst 1, 1) := dk_4 (dk_at dksX2_sure_4 21 rfl rfl)
theorem dX2_sure_115 : decode cX2_sure 115 = .ok (.iload 7, 2) := dk_21 7 (dk_at dksX2_sure_4 22 rfl rfl)
theorem dX2_sure_117 : decode cX2_sure 117 = .ok (.ishl, 1) := dk_120 (dk_at dksX2_sure_5 0 rfl rfl)
theorem dX2_sure_118 : decode cX2_sure 118 = .ok (.ior, 1) := dk_128 (dk_at dksX2_sure_5 1 rfl rfl)
theorem dX2_sure_119 : decode cX2_sure 119 = .ok (.istore 6, 2) := dk_54 6 (dk_at dksX2_sure_5 2 rfl rfl)
theorem dX2_sure_121 : decode cX2_sure 121 = .ok (.iinc 7 1, 3) := dk_132 7 1 (dk_at dksX2_sure_5 4 rfl rfl)
theorem dX2_sure_124 : decode cX2_sure 124 = .ok (.goto (-67), 3) := dk_167 255 189 (dk_at dksX2_sure_5 7 rfl rfl)
theorem dX2_sure_127 : decode cX2_sure 127 = .ok (.aload_n 0, 1) := dk_42 (dk_at dksX2_sure_5 10 rfl rfl)
theorem dX2_sure_128 : decode cX2_sure 128 = .ok (.getfield 42, 3) := dk_180 0 42 (dk_at dksX2_sure_5 11 rfl rfl)
theorem dX2_sure_131 : decode cX2_sure 131 = .ok (.bipush 10, 2) := dk_16 10 (dk_at dksX2_sure_5 14 rfl rfl)
theorem dX2_sure_133 : decode cX2_sure 133 = .ok (.iload_n 1, 1) := dk_27 (dk_at dksX2_sure_5 16 rfl rfl)
theorem dX2_sure_134 : decode cX2_sure 134 = .ok (.imul, 1) := dk_104 (dk_at dksX2_sure_5 17 rfl rfl)
theorem dX2_sure_135 : decode cX2_sure 135 = .ok (.iload_n 2, 1) := dk_28 (dk_at dksX2_sure_5 18 rfl rfl)
theorem dX2_sure_136 : decode cX2_sure 136 = .ok (.iadd, 1) := dk_96 (dk_at dksX2_sure_5 19 rfl rfl)
theorem dX2_sure_137 : decode cX2_sure 137 = .ok (.iload 5, 2) := dk_21 5 (dk_at dksX2_sure_5 20 rfl rfl)
theorem dX2_sure_139 : decode cX2_sure 139 = .ok (.iastore, 1) := dk_79 (dk_at dksX2_sure_5 22 rfl rfl)
theorem dX2_sure_140 : decode cX2_sure 140 = .ok (.iload 6, 2) := dk_21 6 (dk_at dksX2_sure_6 0 rfl rfl)
theorem dX2_sure_142 : decode cX2_sure 142 = .ok (.ireturn, 1) := dk_172 (dk_at dksX2_sure_6 2 rfl rfl)
abbrev cX2_hearths : ByteArray := prog_8_method_101_code
def yX2_hearths : MethodName := ⟨RX2, "hearths", "(I)I"⟩
def dkwX2_hearths_6 : List UInt8 := [27, 104, 29, 96, 46, 46, 100, 182, 1, 33, 132, 3, 1, 167, 255, 218, 28, 172]
abbrev dktX2_hearths_6 : List UInt8 := dkwX2_hearths_6 ++ []
def dkwX2_hearths_5 : List UInt8 := [42, 180, 0, 45, 27, 46, 162, 0, 34, 42, 16, 10, 29, 96, 42, 180, 0, 23, 42, 180, 0, 42, 16, 10]
abbrev dktX2_hearths_5 : List UInt8 := dkwX2_hearths_5 ++ dktX2_hearths_6
def dkwX2_hearths_4 : List UInt8 := [167, 255, 196, 28, 21, 4, 184, 0, 210, 61, 132, 3, 1, 167, 255, 171, 42, 3, 181, 0, 113, 3, 62, 29]
abbrev dktX2_hearths_4 : List UInt8 := dkwX2_hearths_4 ++ dktX2_hearths_5
def dkwX2_hearths_3 : List UInt8 := [27, 104, 21, 5, 96, 46, 46, 100, 161, 0, 7, 4, 167, 0, 4, 3, 96, 54, 4, 132, 5, 1]
abbrev dktX2_hearths_3 : List UInt8 := dkwX2_hearths_3 ++ dktX2_hearths_4
def dkwX2_hearths_2 : List UInt8 := [16, 10, 21, 5, 96, 162, 0, 34, 29, 16, 10, 21, 5, 96, 42, 180, 0, 23, 42, 180, 0, 42, 16, 10]
abbrev dktX2_hearths_2 : List UInt8 := dkwX2_hearths_2 ++ dktX2_hearths_3
def dkwX2_hearths_1 : List UInt8 := [162, 0, 85, 3, 54, 4, 3, 54, 5, 21, 5, 42, 180, 0, 45, 27, 46, 162, 0, 55, 21, 4, 29]
abbrev dktX2_hearths_1 : List UInt8 := dkwX2_hearths_1 ++ dktX2_hearths_2
def dkwX2_hearths_0 : List UInt8 := [42, 3, 181, 0, 110, 42, 27, 182, 1, 36, 154, 0, 6, 16, 253, 172, 3, 61, 3, 62, 29, 16, 20]
abbrev dktX2_hearths_0 : List UInt8 := dkwX2_hearths_0 ++ dktX2_hearths_1
theorem dksX2_hearths_0 : cX2_hearths.data.toList.drop 0 = dktX2_hearths_0 := by decide +kernel
theorem dksX2_hearths_1 : cX2_hearths.data.toList.drop 23 = dktX2_hearths_1 := dk_seg dksX2_hearths_0 23 rfl rfl
theorem dksX2_hearths_2 : cX2_hearths.data.toList.drop 46 = dktX2_hearths_2 := dk_seg dksX2_hearths_1 23 rfl rfl
theorem dksX2_hearths_3 : cX2_hearths.data.toList.drop 70 = dktX2_hearths_3 := dk_seg dksX2_hearths_2 24 rfl rfl
theorem dksX2_hearths_4 : cX2_hearths.data.toList.drop 92 = dktX2_hearths_4 := dk_seg dksX2_hearths_3 22 rfl rfl
theorem dksX2_hearths_5 : cX2_hearths.data.toList.drop 116 = dktX2_hearths_5 := dk_seg dksX2_hearths_4 24 rfl rfl
theorem dksX2_hearths_6 : cX2_hearths.data.toList.drop 140 = dktX2_hearths_6 := dk_seg dksX2_hearths_5 24 rfl rfl
theorem dX2_hearths_0 : decode cX2_hearths 0 = .ok (.aload_n 0, 1) := dk_42 (dk_at dksX2_hearths_0 0 rfl rfl)
theorem dX2_hearths_1 : decode cX2_hearths 1 = .ok (.iconst 0, 1) := dk_3 (dk_at dksX2_hearths_0 1 rfl rfl)
theorem dX2_hearths_2 : decode cX2_hearths 2 = .ok (.putfield 110, 3) := dk_181 0 110 (dk_at dksX2_hearths_0 2 rfl rfl)
theorem dX2_hearths_5 : decode cX2_hearths 5 = .ok (.aload_n 0, 1) := dk_42 (dk_at dksX2_hearths_0 5 rfl rfl)
theorem dX2_hearths_6 : decode cX2_hearths 6 = .ok (.iload_n 1, 1) := dk_27 (dk_at dksX2_hearths_0 6 rfl rfl)
theorem dX2_hearths_7 : decode cX2_hearths 7 = .ok (.invokevirtual 292, 3) := dk_182 1 36 (dk_at dksX2_hearths_0 7 rfl rfl)
theorem dX2_hearths_10 : decode cX2_hearths 10 = .ok (.ifCond .ne 6, 3) := dk_154 0 6 (dk_at dksX2_hearths_0 10 rfl rfl)
theorem dX2_hearths_13 : decode cX2_hearths 13 = .ok (.bipush (-3), 2) := dk_16 253 (dk_at dksX2_hearths_0 13 rfl rfl)
theorem dX2_hearths_15 : decode cX2_hearths 15 = .ok (.ireturn, 1) := dk_172 (dk_at dksX2_hearths_0 15 rfl rfl)
theorem dX2_hearths_16 : decode cX2_hearths 16 = .ok (.iconst 0, 1) := dk_3 (dk_at dksX2_hearths_0 16 rfl rfl)
theorem dX2_hearths_17 : decode cX2_hearths 17 = .ok (.istore_n 2, 1) := dk_61 (dk_at dksX2_hearths_0 17 rfl rfl)
theorem dX2_hearths_18 : decode cX2_hearths 18 = .ok (.iconst 0, 1) := dk_3 (dk_at dksX2_hearths_0 18 rfl rfl)
theorem dX2_hearths_19 : decode cX2_hearths 19 = .ok (.istore_n 3, 1) := dk_62 (dk_at dksX2_hearths_0 19 rfl rfl)
theorem dX2_hearths_20 : decode cX2_hearths 20 = .ok (.iload_n 3, 1) := dk_29 (dk_at dksX2_hearths_0 20 rfl rfl)
theorem dX2_hearths_21 : decode cX2_hearths 21 = .ok (.bipush 20, 2) := dk_16 20 (dk_at dksX2_hearths_0 21 rfl rfl)
theorem dX2_hearths_23 : decode cX2_hearths 23 = .ok (.if_icmp .ge 85, 3) := dk_162 0 85 (dk_at dksX2_hearths_1 0 rfl rfl)
theorem dX2_hearths_26 : decode cX2_hearths 26 = .ok (.iconst 0, 1) := dk_3 (dk_at dksX2_hearths_1 3 rfl rfl)
theorem dX2_hearths_27 : decode cX2_hearths 27 = .ok (.istore 4, 2) := dk_54 4 (dk_at dksX2_hearths_1 4 rfl rfl)
theorem dX2_hearths_29 : decode cX2_hearths 29 = .ok (.iconst 0, 1) := dk_3 (dk_at dksX2_hearths_1 6 rfl rfl)
theorem dX2_hearths_30 : decode cX2_hearths 30 = .ok (.istore 5, 2) := dk_54 5 (dk_at dksX2_hearths_1 7 rfl rfl)
theorem dX2_hearths_32 : decode cX2_hearths 32 = .ok (.iload 5, 2) := dk_21 5 (dk_at dksX2_hearths_1 9 rfl rfl)
theorem dX2_hearths_34 : decode cX2_hearths 34 = .ok (.aload_n 0, 1) := dk_42 (dk_at dksX2_hearths_1 11 rfl rfl)
theorem dX2_hearths_35 : decode cX2_hearths 35 = .ok (.getfield 45, 3) := dk_180 0 45 (dk_at dksX2_hearths_1 12 rfl rfl)
theorem dX2_hearths_38 : decode cX2_hearths 38 = .ok (.iload_n 1, 1) := dk_27 (dk_at dksX2_hearths_1 15 rfl rfl)
theorem dX2_hearths_39 : decode cX2_hearths 39 = .ok (.iaload, 1) := dk_46 (dk_at dksX2_hearths_1 16 rfl rfl)
theorem dX2_hearths_40 : decode cX2_hearths 40 = .ok (.if_icmp .ge 55, 3) := dk_162 0 55 (dk_at dksX2_hearths_1 17 rfl rfl)
theorem dX2_hearths_43 : decode cX2_hearths 43 = .ok (.iload 4, 2) := dk_21 4 (dk_at dksX2_hearths_1 20 rfl rfl)
theorem dX2_hearths_45 : decode cX2_hearths 45 = .ok (.iload_n 3, 1) := dk_29 (dk_at dksX2_hearths_1 22 rfl rfl)
theorem dX2_hearths_46 : decode cX2_hearths 46 = .ok (.bipush 10, 2) := dk_16 10 (dk_at dksX2_hearths_2 0 rfl rfl)
theorem dX2_hearths_48 : decode cX2_hearths 48 = .ok (.iload 5, 2) := dk_21 5 (dk_at dksX2_hearths_2 2 rfl rfl)
theorem dX2_hearths_50 : decode cX2_hearths 50 = .ok (.iadd, 1) := dk_96 (dk_at dksX2_hearths_2 4 rfl rfl)
theorem dX2_hearths_51 : decode cX2_hearths 51 = .ok (.if_icmp .ge 34, 3) := dk_162 0 34 (dk_at dksX2_hearths_2 5 rfl rfl)
theorem dX2_hearths_54 : decode cX2_hearths 54 = .ok (.iload_n 3, 1) := dk_29 (dk_at dksX2_hearths_2 8 rfl rfl)
theorem dX2_hearths_55 : decode cX2_hearths 55 = .ok (.bipush 10, 2) := dk_16 10 (dk_at dksX2_hearths_2 9 rfl rfl)
theorem dX2_hearths_57 : decode cX2_hearths 57 = .ok (.iload 5, 2) := dk_21 5 (dk_at dksX2_hearths_2 11 rfl rfl)
theorem dX2_hearths_59 : decode cX2_hearths 59 = .ok (.iadd, 1) := dk_96 (dk_at dksX2_hearths_2 13 rfl rfl)
theorem dX2_hearths_60 : decode cX2_hearths 60 = .ok (.aload_n 0, 1) := dk_42 (dk_at dksX2_hearths_2 14 rfl rfl)
theorem dX2_hearths_61 : decode cX2_hearths 61 = .ok (.getfield 23, 3) := dk_180 0 23 (dk_at dksX2_hearths_2 15 rfl rfl)
theorem dX2_hearths_64 : decode cX2_hearths 64 = .ok (.aload_n 0, 1) := dk_42 (dk_at dksX2_hearths_2 18 rfl rfl)
theorem dX2_hearths_65 : decode cX2_hearths 65 = .ok (.getfield 42, 3) := dk_180 0 42 (dk_at dksX2_hearths_2 19 rfl rfl)
theorem dX2_hearths_68 : decode cX2_hearths 68 = .ok (.bipush 10, 2) := dk_16 10 (dk_at dksX2_hearths_2 22 rfl rfl)
theorem dX2_hearths_70 : decode cX2_hearths 70 = .ok (.iload_n 1, 1) := dk_27 (dk_at dksX2_hearths_3 0 rfl rfl)
theorem dX2_hearths_71 : decode cX2_hearths 71 = .ok (.imul, 1) := dk_104 (dk_at dksX2_hearths_3 1 rfl rfl)
theorem dX2_hearths_72 : decode cX2_hearths 72 = .ok (.iload 5, 2) := dk_21 5 (dk_at dksX2_hearths_3 2 rfl rfl)
theorem dX2_hearths_74 : decode cX2_hearths 74 = .ok (.iadd, 1) := dk_96 (dk_at dksX2_hearths_3 4 rfl rfl)
theorem dX2_hearths_75 : decode cX2_hearths 75 = .ok (.iaload, 1) := dk_46 (dk_at dksX2_hearths_3 5 rfl rfl)
theorem dX2_hearths_76 : decode cX2_hearths 76 = .ok (.iaload, 1) := dk_46 (dk_at dksX2_hearths_3 6 rfl rfl)
theorem dX2_hearths_77 : decode cX2_hearths 77 = .ok (.isub, 1) := dk_100 (dk_at dksX2_hearths_3 7 rfl rfl)
theorem dX2_hearths_78 : decode cX2_hearths 78 = .ok (.if_icmp .lt 7, 3) := dk_161 0 7 (dk_at dksX2_hearths_3 8 rfl rfl)
theorem dX2_hearths_81 : decode cX2_hearths 81 = .ok (.iconst 1, 1) := dk_4 (dk_at dksX2_hearths_3 11 rfl rfl)
theorem dX2_hearths_82 : decode cX2_hearths 82 = .ok (.goto 4, 3) := dk_167 0 4 (dk_at dksX2_hearths_3 12 rfl rfl)
theorem dX2_hearths_85 : decode cX2_hearths 85 = .ok (.iconst 0, 1) := dk_3 (dk_at dksX2_hearths_3 15 rfl rfl)
theorem dX2_hearths_86 : decode cX2_hearths 86 = .ok (.iadd, 1) := dk_96 (dk_at dksX2_hearths_3 16 rfl rfl)
theorem dX2_hearths_87 : decode cX2_hearths 87 = .ok (.istore 4, 2) := dk_54 4 (dk_at dksX2_hearths_3 17 rfl rfl)
theorem dX2_hearths_89 : decode cX2_hearths 89 = .ok (.iinc 5 1, 3) := dk_132 5 1 (dk_at dksX2_hearths_3 19 rfl rfl)
theorem dX2_hearths_92 : decode cX2_hearths 92 = .ok (.goto (-60), 3) := dk_167 255 196 (dk_at dksX2_hearths_4 0 rfl rfl)
theorem dX2_hearths_95 : decode cX2_hearths 95 = .ok (.iload_n 2, 1) := dk_28 (dk_at dksX2_hearths_4 3 rfl rfl)
theorem dX2_hearths_96 : decode cX2_hearths 96 = .ok (.iload 4, 2) := dk_21 4 (dk_at dksX2_hearths_4 4 rfl rfl)
theorem dX2_hearths_98 : decode cX2_hearths 98 = .ok (.invokestatic 210, 3) := dk_184 0 210 (dk_at dksX2_hearths_4 6 rfl rfl)
theorem dX2_hearths_101 : decode cX2_hearths 101 = .ok (.istore_n 2, 1) := dk_61 (dk_at dksX2_hearths_4 9 rfl rfl)
theorem dX2_hearths_102 : decode cX2_hearths 102 = .ok (.iinc 3 1, 3) := dk_132 3 1 (dk_at dksX2_hearths_4 10 rfl rfl)
theorem dX2_hearths_105 : decode cX2_hearths 105 = .ok (.goto (-85), 3) := dk_167 255 171 (dk_at dksX2_hearths_4 13 rfl rfl)
theorem dX2_hearths_108 : decode cX2_hearths 108 = .ok (.aload_n 0, 1) := dk_42 (dk_at dksX2_hearths_4 16 rfl rfl)
theorem dX2_hearths_109 : decode cX2_hearths 109 = .ok (.iconst 0, 1) := dk_3 (dk_at dksX2_hearths_4 17 rfl rfl)
theorem dX2_hearths_110 : decode cX2_hearths 110 = .ok (.putfield 113, 3) := dk_181 0 113 (dk_at dksX2_hearths_4 18 rfl rfl)
theorem dX2_hearths_113 : decode cX2_hearths 113 = .ok (.iconst 0, 1) := dk_3 (dk_at dksX2_hearths_4 21 rfl rfl)
theorem dX2_hearths_114 : decode cX2_hearths 114 = .ok (.istore_n 3, 1) := dk_62 (dk_at dksX2_hearths_4 22 rfl rfl)
theorem dX2_hearths_115 : decode cX2_hearths 115 = .ok (.iload_n 3, 1) := dk_29 (dk_at dksX2_hearths_4 23 rfl rfl)
theorem dX2_hearths_116 : decode cX2_hearths 116 = .ok (.aload_n 0, 1) := dk_42 (dk_at dksX2_hearths_5 0 rfl rfl)
theorem dX2_hearths_117 : decode cX2_hearths 117 = .ok (.getfield 45, 3) := dk_180 0 45 (dk_at dksX2_hearths_5 1 rfl rfl)
theorem dX2_hearths_120 : decode cX2_hearths 120 = .ok (.iload_n 1, 1) := dk_27 (dk_at dksX2_hearths_5 4 rfl rfl)
theorem dX2_hearths_121 : decode cX2_hearths 121 = .ok (.iaload, 1) := dk_46 (dk_at dksX2_hearths_5 5 rfl rfl)
theorem dX2_hearths_122 : decode cX2_hearths 122 = .ok (.if_icmp .ge 34, 3) := dk_162 0 34 (dk_at dksX2_hearths_5 6 rfl rfl)
theorem dX2_hearths_125 : decode cX2_hearths 125 = .ok (.aload_n 0, 1) := dk_42 (dk_at dksX2_hearths_5 9 rfl rfl)
theorem dX2_hearths_126 : decode cX2_hearths 126 = .ok (.bipush 10, 2) := dk_16 10 (dk_at dksX2_hearths_5 10 rfl rfl)
theorem dX2_hearths_128 : decode cX2_hearths 128 = .ok (.iload_n 3, 1) := dk_29 (dk_at dksX2_hearths_5 12 rfl rfl)
theorem dX2_hearths_129 : decode cX2_hearths 129 = .ok (.iadd, 1) := dk_96 (dk_at dksX2_hearths_5 13 rfl rfl)
theorem dX2_hearths_130 : decode cX2_hearths 130 = .ok (.aload_n 0, 1) := dk_42 (dk_at dksX2_hearths_5 14 rfl rfl)
theorem dX2_hearths_131 : decode cX2_hearths 131 = .ok (.getfield 23, 3) := dk_180 0 23 (dk_at dksX2_hearths_5 15 rfl rfl)
theorem dX2_hearths_134 : decode cX2_hearths 134 = .ok (.aload_n 0, 1) := dk_42 (dk_at dksX2_hearths_5 18 rfl rfl)
theorem dX2_hearths_135 : decode cX2_hearths 135 = .ok (.getfield 42, 3) := dk_180 0 42 (dk_at dksX2_hearths_5 19 rfl rfl)
theorem dX2_hearths_138 : decode cX2_hearths 138 = .ok (.bipush 10, 2) := dk_16 10 (dk_at dksX2_hearths_5 22 rfl rfl)
theorem dX2_hearths_140 : decode cX2_hearths 140 = .ok (.iload_n 1, 1) := dk_27 (dk_at dksX2_hearths_6 0 rfl rfl)
theorem dX2_hearths_141 : decode cX2_hearths 141 = .ok (.imul, 1) := dk_104 (dk_at dksX2_hearths_6 1 rfl rfl)
theorem dX2_hearths_142 : decode cX2_hearths 142 = .ok (.iload_n 3, 1) := dk_29 (dk_at dksX2_hearths_6 2 rfl rfl)
theorem dX2_hearths_143 : decode cX2_hearths 143 = .ok (.iadd, 1) := dk_96 (dk_at dksX2_hearths_6 3 rfl rfl)
theorem dX2_hearths_144 : decode cX2_hearths 144 = .ok (.iaload, 1) := dk_46 (dk_at dksX2_hearths_6 4 rfl rfl)
theorem dX2_hearths_145 : decode cX2_hearths 145 = .ok (.iaload, 1) := dk_46 (dk_at dksX2_hearths_6 5 rfl rfl)
theorem dX2_hearths_146 : decode cX2_hearths 146 = .ok (.isub, 1) := dk_100 (dk_at dksX2_hearths_6 6 rfl rfl)
theorem dX2_hearths_147 : decode cX2_hearths 147 = .ok (.invokevirtual 289, 3) := dk_182 1 33 (dk_at dksX2_hearths_6 7 rfl rfl)
theorem dX2_hearths_150 : decode cX2_hearths 150 = .ok (.iinc 3 1, 3) := dk_132 3 1 (dk_at dksX2_hearths_6 10 rfl rfl)
theorem dX2_hearths_153 : decode cX2_hearths 153 = .ok (.goto (-38), 3) := dk_167 255 218 (dk_at dksX2_hearths_6 13 rfl rfl)
theorem dX2_hearths_156 : decode cX2_hearths 156 = .ok (.iload_n 2, 1) := dk_28 (dk_at dksX2_hearths_6 16 rfl rfl)
theorem dX2_hearths_157 : decode cX2_hearths 157 = .ok (.ireturn, 1) := dk_172 (dk_at dksX2_hearths_6 17 rfl rfl)
abbrev cX2_late : ByteArray := prog_8_method_102_code
def yX2_late : MethodName := ⟨RX2, "late", "(II)I"⟩
def dkwX2_late_7 : List UInt8 := [132, 4, 1, 167, 255, 147, 29, 172]
abbrev dktX2_late_7 : List UInt8 := dkwX2_late_7 ++ []
def dkwX2_late_6 : List UInt8 := [21, 5, 46, 182, 1, 33, 29, 42, 180, 0, 95, 21, 5, 46, 16, 10, 100, 21, 4, 100, 184, 0, 210, 62]
abbrev dktX2_late_6 : List UInt8 := dkwX2_late_6 ++ dktX2_late_7
def dkwX2_late_5 : List UInt8 := [42, 180, 0, 23, 42, 180, 0, 42, 16, 10, 27, 104, 21, 4, 96, 46, 46, 96, 79, 42, 42, 180, 0, 95]
abbrev dktX2_late_5 : List UInt8 := dkwX2_late_5 ++ dktX2_late_6
def dkwX2_late_4 : List UInt8 := [21, 5, 46, 162, 0, 7, 21, 6, 54, 5, 132, 6, 1, 167, 255, 226, 42, 180, 0, 95, 21, 5, 92, 46]
abbrev dktX2_late_4 : List UInt8 := dkwX2_late_4 ++ dktX2_late_5
def dkwX2_late_3 : List UInt8 := [3, 54, 5, 4, 54, 6, 21, 6, 28, 162, 0, 30, 42, 180, 0, 95, 21, 6, 46, 42, 180, 0, 95]
abbrev dktX2_late_3 : List UInt8 := dkwX2_late_3 ++ dktX2_late_4
def dkwX2_late_2 : List UInt8 := [167, 255, 241, 3, 62, 42, 3, 181, 0, 113, 3, 54, 4, 21, 4, 42, 180, 0, 45, 27, 46, 162, 0, 104]
abbrev dktX2_late_2 : List UInt8 := dkwX2_late_2 ++ dktX2_late_3
def dkwX2_late_1 : List UInt8 := [154, 0, 6, 16, 253, 172, 3, 62, 29, 28, 162, 0, 16, 42, 180, 0, 95, 29, 3, 79, 132, 3, 1]
abbrev dktX2_late_1 : List UInt8 := dkwX2_late_1 ++ dktX2_late_2
def dkwX2_late_0 : List UInt8 := [42, 3, 181, 0, 110, 28, 4, 16, 9, 184, 0, 119, 154, 0, 5, 2, 172, 42, 27, 182, 1, 36]
abbrev dktX2_late_0 : List UInt8 := dkwX2_late_0 ++ dktX2_late_1
theorem dksX2_late_0 : cX2_late.data.toList.drop 0 = dktX2_late_0 := by decide +kernel
theorem dksX2_late_1 : cX2_late.data.toList.drop 22 = dktX2_late_1 := dk_seg dksX2_late_0 22 rfl rfl
theorem dksX2_late_2 : cX2_late.data.toList.drop 45 = dktX2_late_2 := dk_seg dksX2_late_1 23 rfl rfl
theorem dksX2_late_3 : cX2_late.data.toList.drop 69 = dktX2_late_3 := dk_seg dksX2_late_2 24 rfl rfl
theorem dksX2_late_4 : cX2_late.data.toList.drop 92 = dktX2_late_4 := dk_seg dksX2_late_3 23 rfl rfl
theorem dksX2_late_5 : cX2_late.data.toList.drop 116 = dktX2_late_5 := dk_seg dksX2_late_4 24 rfl rfl
theorem dksX2_late_6 : cX2_late.data.toList.drop 140 = dktX2_late_6 := dk_seg dksX2_late_5 24 rfl rfl
theorem dksX2_late_7 : cX2_late.data.toList.drop 164 = dktX2_late_7 := dk_seg dksX2_late_6 24 rfl rfl
theorem dX2_late_0 : decode cX2_late 0 = .ok (.aload_n 0, 1) := dk_42 (dk_at dksX2_late_0 0 rfl rfl)
theorem dX2_late_1 : decode cX2_late 1 = .ok (.iconst 0, 1) := dk_3 (dk_at dksX2_late_0 1 rfl rfl)
theorem dX2_late_2 : decode cX2_late 2 = .ok (.putfield 110, 3) := dk_181 0 110 (dk_at dksX2_late_0 2 rfl rfl)
theorem dX2_late_5 : decode cX2_late 5 = .ok (.iload_n 2, 1) := dk_28 (dk_at dksX2_late_0 5 rfl rfl)
theorem dX2_late_6 : decode cX2_late 6 = .ok (.iconst 1, 1) := dk_4 (dk_at dksX2_late_0 6 rfl rfl)
theorem dX2_late_7 : decode cX2_late 7 = .ok (.bipush 9, 2) := dk_16 9 (dk_at dksX2_late_0 7 rfl rfl)
theorem dX2_late_9 : decode cX2_late 9 = .ok (.invokestatic 119, 3) := dk_184 0 119 (dk_at dksX2_late_0 9 rfl rfl)
theorem dX2_late_12 : decode cX2_late 12 = .ok (.ifCond .ne 5, 3) := dk_154 0 5 (dk_at dksX2_late_0 12 rfl rfl)
theorem dX2_late_15 : decode cX2_late 15 = .ok (.iconst (-1), 1) := dk_2 (dk_at dksX2_late_0 15 rfl rfl)
theorem dX2_late_16 : decode cX2_late 16 = .ok (.ireturn, 1) := dk_172 (dk_at dksX2_late_0 16 rfl rfl)
theorem dX2_late_17 : decode cX2_late 17 = .ok (.aload_n 0, 1) := dk_42 (dk_at dksX2_late_0 17 rfl rfl)
theorem dX2_late_18 : decode cX2_late 18 = .ok (.iload_n 1, 1) := dk_27 (dk_at dksX2_late_0 18 rfl rfl)
theorem dX2_late_19 : decode cX2_late 19 = .ok (.invokevirtual 292, 3) := dk_182 1 36 (dk_at dksX2_late_0 19 rfl rfl)
theorem dX2_late_22 : decode cX2_late 22 = .ok (.ifCond .ne 6, 3) := dk_154 0 6 (dk_at dksX2_late_1 0 rfl rfl)
theorem dX2_late_25 : decode cX2_late 25 = .ok (.bipush (-3), 2) := dk_16 253 (dk_at dksX2_late_1 3 rfl rfl)
theorem dX2_late_27 : decode cX2_late 27 = .ok (.ireturn, 1) := dk_172 (dk_at dksX2_late_1 5 rfl rfl)
theorem dX2_late_28 : decode cX2_late 28 = .ok (.iconst 0, 1) := dk_3 (dk_at dksX2_late_1 6 rfl rfl)
theorem dX2_late_29 : decode cX2_late 29 = .ok (.istore_n 3, 1) := dk_62 (dk_at dksX2_late_1 7 rfl rfl)
theorem dX2_late_30 : decode cX2_late 30 = .ok (.iload_n 3, 1) := dk_29 (dk_at dksX2_late_1 8 rfl rfl)
theorem dX2_late_31 : decode cX2_late 31 = .ok (.iload_n 2, 1) := dk_28 (dk_at dksX2_late_1 9 rfl rfl)
theorem dX2_late_32 : decode cX2_late 32 = .ok (.if_icmp .ge 16, 3) := dk_162 0 16 (dk_at dksX2_late_1 10 rfl rfl)
theorem dX2_late_35 : decode cX2_late 35 = .ok (.aload_n 0, 1) := dk_42 (dk_at dksX2_late_1 13 rfl rfl)
theorem dX2_late_36 : decode cX2_late 36 = .ok (.getfield 95, 3) := dk_180 0 95 (dk_at dksX2_late_1 14 rfl rfl)
theorem dX2_late_39 : decode cX2_late 39 = .ok (.iload_n 3, 1) := dk_29 (dk_at dksX2_late_1 17 rfl rfl)
theorem dX2_late_40 : decode cX2_late 40 = .ok (.iconst 0, 1) := dk_3 (dk_at dksX2_late_1 18 rfl rfl)
theorem dX2_late_41 : decode cX2_late 41 = .ok (.iastore, 1) := dk_79 (dk_at dksX2_late_1 19 rfl rfl)
theorem dX2_late_42 : decode cX2_late 42 = .ok (.iinc 3 1, 3) := dk_132 3 1 (dk_at dksX2_late_1 20 rfl rfl)
theorem dX2_late_45 : decode cX2_late 45 = .ok (.goto (-15), 3) := dk_167 255 241 (dk_at dksX2_late_2 0 rfl rfl)
theorem dX2_late_48 : decode cX2_late 48 = .ok (.iconst 0, 1) := dk_3 (dk_at dksX2_late_2 3 rfl rfl)
theorem dX2_late_49 : decode cX2_late 49 = .ok (.istore_n 3, 1) := dk_62 (dk_at dksX2_late_2 4 rfl rfl)
theorem dX2_late_50 : decode cX2_late 50 = .ok (.aload_n 0, 1) := dk_42 (dk_at dksX2_late_2 5 rfl rfl)
theorem dX2_late_51 : decode cX2_late 51 = .ok (.iconst 0, 1) := dk_3 (dk_at dksX2_late_2 6 rfl rfl)
theorem dX2_late_52 : decode cX2_late 52 = .ok (.putfield 113, 3) := dk_181 0 113 (dk_at dksX2_late_2 7 rfl rfl)
theorem dX2_late_55 : decode cX2_late 55 = .ok (.iconst 0, 1) := dk_3 (dk_at dksX2_late_2 10 rfl rfl)
theorem dX2_late_56 : decode cX2_late 56 = .ok (.istore 4, 2) := dk_54 4 (dk_at dksX2_late_2 11 rfl rfl)
theorem dX2_late_58 : decode cX2_late 58 = .ok (.iload 4, 2) := dk_21 4 (dk_at dksX2_late_2 13 rfl rfl)
theorem dX2_late_60 : decode cX2_late 60 = .ok (.aload_n 0, 1) := dk_42 (dk_at dksX2_late_2 15 rfl rfl)
theorem dX2_late_61 : decode cX2_late 61 = .ok (.getfield 45, 3) := dk_180 0 45 (dk_at dksX2_late_2 16 rfl rfl)
theorem dX2_late_64 : decode cX2_late 64 = .ok (.iload_n 1, 1) := dk_27 (dk_at dksX2_late_2 19 rfl rfl)
theorem dX2_late_65 : decode cX2_late 65 = .ok (.iaload, 1) := dk_46 (dk_at dksX2_late_2 20 rfl rfl)
theorem dX2_late_66 : decode cX2_late 66 = .ok (.if_icmp .ge 104, 3) := dk_162 0 104 (dk_at dksX2_late_2 21 rfl rfl)
theorem dX2_late_69 : decode cX2_late 69 = .ok (.iconst 0, 1) := dk_3 (dk_at dksX2_late_3 0 rfl rfl)
theorem dX2_late_70 : decode cX2_late 70 = .ok (.istore 5, 2) := dk_54 5 (dk_at dksX2_late_3 1 rfl rfl)
theorem dX2_late_72 : decode cX2_late 72 = .ok (.iconst 1, 1) := dk_4 (dk_at dksX2_late_3 3 rfl rfl)
theorem dX2_late_73 : decode cX2_late 73 = .ok (.istore 6, 2) := dk_54 6 (dk_at dksX2_late_3 4 rfl rfl)
theorem dX2_late_75 : decode cX2_late 75 = .ok (.iload 6, 2) := dk_21 6 (dk_at dksX2_late_3 6 rfl rfl)
theorem dX2_late_77 : decode cX2_late 77 = .ok (.iload_n 2, 1) := dk_28 (dk_at dksX2_late_3 8 rfl rfl)
theorem dX2_late_78 : decode cX2_late 78 = .ok (.if_icmp .ge 30, 3) := dk_162 0 30 (dk_at dksX2_late_3 9 rfl rfl)
theorem dX2_late_81 : decode cX2_late 81 = .ok (.aload_n 0, 1) := dk_42 (dk_at dksX2_late_3 12 rfl rfl)
theorem dX2_late_82 : decode cX2_late 82 = .ok (.getfield 95, 3) := dk_180 0 95 (dk_at dksX2_late_3 13 rfl rfl)
theorem dX2_late_85 : decode cX2_late 85 = .ok (.iload 6, 2) := dk_21 6 (dk_at dksX2_late_3 16 rfl rfl)
theorem dX2_late_87 : decode cX2_late 87 = .ok (.iaload, 1) := dk_46 (dk_at dksX2_late_3 18 rfl rfl)
theorem dX2_late_88 : decode cX2_late 88 = .ok (.aload_n 0, 1) := dk_42 (dk_at dksX2_late_3 19 rfl rfl)
theorem dX2_late_89 : decode cX2_late 89 = .ok (.getfield 95, 3) := dk_180 0 95 (dk_at dksX2_late_3 20 rfl rfl)
theorem dX2_late_92 : decode cX2_late 92 = .ok (.iload 5, 2) := dk_21 5 (dk_at dksX2_late_4 0 rfl rfl)
theorem dX2_late_94 : decode cX2_late 94 = .ok (.iaload, 1) := dk_46 (dk_at dksX2_late_4 2 rfl rfl)
theorem dX2_late_95 : decode cX2_late 95 = .ok (.if_icmp .ge 7, 3) := dk_162 0 7 (dk_at dksX2_late_4 3 rfl rfl)
theorem dX2_late_98 : decode cX2_late 98 = .ok (.iload 6, 2) := dk_21 6 (dk_at dksX2_late_4 6 rfl rfl)
theorem dX2_late_100 : decode cX2_late 100 = .ok (.istore 5, 2) := dk_54 5 (dk_at dksX2_late_4 8 rfl rfl)
theorem dX2_late_102 : decode cX2_late 102 = .ok (.iinc 6 1, 3) := dk_132 6 1 (dk_at dksX2_late_4 10 rfl rfl)
theorem dX2_late_105 : decode cX2_late 105 = .ok (.goto (-30), 3) := dk_167 255 226 (dk_at dksX2_late_4 13 rfl rfl)
theorem dX2_late_108 : decode cX2_late 108 = .ok (.aload_n 0, 1) := dk_42 (dk_at dksX2_late_4 16 rfl rfl)
theorem dX2_late_109 : decode cX2_late 109 = .ok (.getfield 95, 3) := dk_180 0 95 (dk_at dksX2_late_4 17 rfl rfl)
theorem dX2_late_112 : decode cX2_late 112 = .ok (.iload 5, 2) := dk_21 5 (dk_at dksX2_late_4 20 rfl rfl)
theorem dX2_late_114 : decode cX2_late 114 = .ok (.dup2, 1) := dk_92 (dk_at dksX2_late_4 22 rfl rfl)
theorem dX2_late_115 : decode cX2_late 115 = .ok (.iaload, 1) := dk_46 (dk_at dksX2_late_4 23 rfl rfl)
theorem dX2_late_116 : decode cX2_late 116 = .ok (.aload_n 0, 1) := dk_42 (dk_at dksX2_late_5 0 rfl rfl)
theorem dX2_late_117 : decode cX2_late 117 = .ok (.getfield 23, 3) := dk_180 0 23 (dk_at dksX2_late_5 1 rfl rfl)
theorem dX2_late_120 : decode cX2_late 120 = .ok (.aload_n 0, 1) := dk_42 (dk_at dksX2_late_5 4 rfl rfl)
theorem dX2_late_121 : decode cX2_late 121 = .ok (.getfield 42, 3) := dk_180 0 42 (dk_at dksX2_late_5 5 rfl rfl)
theorem dX2_late_124 : decode cX2_late 124 = .ok (.bipush 10, 2) := dk_16 10 (dk_at dksX2_late_5 8 rfl rfl)
theorem dX2_late_126 : decode cX2_late 126 = .ok (.iload_n 1, 1) := dk_27 (dk_at dksX2_late_5 10 rfl rfl)
theorem dX2_late_127 : decode cX2_late 127 = .ok (.imul, 1) := dk_104 (dk_at dksX2_late_5 11 rfl rfl)
theorem dX2_late_128 : decode cX2_late 128 = .ok (.iload 4, 2) := dk_21 4 (dk_at dksX2_late_5 12 rfl rfl)
theorem dX2_late_130 : decode cX2_late 130 = .ok (.iadd, 1) := dk_96 (dk_at dksX2_late_5 14 rfl rfl)
theorem dX2_late_131 : decode cX2_late 131 = .ok (.iaload, 1) := dk_46 (dk_at dksX2_late_5 15 rfl rfl)
theorem dX2_late_132 : decode cX2_late 132 = .ok (.iaload, 1) := dk_46 (dk_at dksX2_late_5 16 rfl rfl)
theorem dX2_late_133 : decode cX2_late 133 = .ok (.iadd, 1) := dk_96 (dk_at dksX2_late_5 17 rfl rfl)
theorem dX2_late_134 : decode cX2_late 134 = .ok (.iastore, 1) := dk_79 (dk_at dksX2_late_5 18 rfl rfl)
theorem dX2_late_135 : decode cX2_late 135 = .ok (.aload_n 0, 1) := dk_42 (dk_at dksX2_late_5 19 rfl rfl)
theorem dX2_late_136 : decode cX2_late 136 = .ok (.aload_n 0, 1) := dk_42 (dk_at dksX2_late_5 20 rfl rfl)
theorem dX2_late_137 : decode cX2_late 137 = .ok (.getfield 95, 3) := dk_180 0 95 (dk_at dksX2_late_5 21 rfl rfl)
theorem dX2_late_140 : decode cX2_late 140 = .ok (.iload 5, 2) := dk_21 5 (dk_at dksX2_late_6 0 rfl rfl)
theorem dX2_late_142 : decode cX2_late 142 = .ok (.iaload, 1) := dk_46 (dk_at dksX2_late_6 2 rfl rfl)
theorem dX2_late_143 : decode cX2_late 143 = .ok (.invokevirtual 289, 3) := dk_182 1 33 (dk_at dksX2_late_6 3 rfl rfl)
theorem dX2_late_146 : decode cX2_late 146 = .ok (.iload_n 3, 1) := dk_29 (dk_at dksX2_late_6 6 rfl rfl)
theorem dX2_late_147 : decode cX2_late 147 = .ok (.aload_n 0, 1) := dk_42 (dk_at dksX2_late_6 7 rfl rfl)
theorem dX2_late_148 : decode cX2_late 148 = .ok (.getfield 95, 3) := dk_180 0 95 (dk_at dksX2_late_6 8 rfl rfl)
theorem dX2_late_151 : decode cX2_late 151 = .ok (.iload 5, 2) := dk_21 5 (dk_at dksX2_late_6 11 rfl rfl)
theorem dX2_late_153 : decode cX2_late 153 = .ok (.iaload, 1) := dk_46 (dk_at dksX2_late_6 13 rfl rfl)
theorem dX2_late_154 : decode cX2_late 154 = .ok (.bipush 10, 2) := dk_16 10 (dk_at dksX2_late_6 14 rfl rfl)
theorem dX2_late_156 : decode cX2_late 156 = .ok (.isub, 1) := dk_100 (dk_at dksX2_late_6 16 rfl rfl)
theorem dX2_late_157 : decode cX2_late 157 = .ok (.iload 4, 2) := dk_21 4 (dk_at dksX2_late_6 17 rfl rfl)
theorem dX2_late_159 : decode cX2_late 159 = .ok (.isub, 1) := dk_100 (dk_at dksX2_late_6 19 rfl rfl)
theorem dX2_late_160 : decode cX2_late 160 = .ok (.invokestatic 210, 3) := dk_184 0 210 (dk_at dksX2_late_6 20 rfl rfl)
theorem dX2_late_163 : decode cX2_late 163 = .ok (.istore_n 3, 1) := dk_62 (dk_at dksX2_late_6 23 rfl rfl)
theorem dX2_late_164 : decode cX2_late 164 = .ok (.iinc 4 1, 3) := dk_132 4 1 (dk_at dksX2_late_7 0 rfl rfl)
theorem dX2_late_167 : decode cX2_late 167 = .ok (.goto (-109), 3) := dk_167 255 147 (dk_at dksX2_late_7 3 rfl rfl)
theorem dX2_late_170 : decode cX2_late 170 = .ok (.iload_n 3, 1) := dk_29 (dk_at dksX2_late_7 6 rfl rfl)
theorem dX2_late_171 : decode cX2_late 171 = .ok (.ireturn, 1) := dk_172 (dk_at dksX2_late_7 7 rfl rfl)
abbrev cX2_poison : ByteArray := prog_8_method_104_code
def yX2_poison : MethodName := ⟨RX2, "poison", "(II)I"⟩
def dkwX2_poison_3 : List UInt8 := [27, 21, 4, 182, 1, 134, 2, 130, 126, 62, 132, 4, 1, 167, 255, 213, 29, 172]
abbrev dktX2_poison_3 : List UInt8 := dkwX2_poison_3 ++ []
def dkwX2_poison_2 : List UInt8 := [162, 0, 40, 29, 28, 21, 4, 184, 0, 239, 153, 0, 13, 42, 27, 21, 4, 182, 1, 134, 167, 0, 12, 42]
abbrev dktX2_poison_2 : List UInt8 := dkwX2_poison_2 ++ dktX2_poison_3
def dkwX2_poison_1 : List UInt8 := [27, 182, 1, 36, 154, 0, 6, 16, 253, 172, 17, 0, 255, 62, 3, 54, 4, 21, 4, 42, 180, 0, 123]
abbrev dktX2_poison_1 : List UInt8 := dkwX2_poison_1 ++ dktX2_poison_2
def dkwX2_poison_0 : List UInt8 := [42, 3, 181, 0, 110, 28, 3, 4, 42, 180, 0, 123, 120, 4, 100, 184, 0, 119, 154, 0, 5, 2, 172, 42]
abbrev dktX2_poison_0 : List UInt8 := dkwX2_poison_0 ++ dktX2_poison_1
theorem dksX2_poison_0 : cX2_poison.data.toList.drop 0 = dktX2_poison_0 := by decide +kernel
theorem dksX2_poison_1 : cX2_poison.data.toList.drop 24 = dktX2_poison_1 := dk_seg dksX2_poison_0 24 rfl rfl
theorem dksX2_poison_2 : cX2_poison.data.toList.drop 47 = dktX2_poison_2 := dk_seg dksX2_poison_1 23 rfl rfl
theorem dksX2_poison_3 : cX2_poison.data.toList.drop 71 = dktX2_poison_3 := dk_seg dksX2_poison_2 24 rfl rfl
theorem dX2_poison_0 : decode cX2_poison 0 = .ok (.aload_n 0, 1) := dk_42 (dk_at dksX2_poison_0 0 rfl rfl)
theorem dX2_poison_1 : decode cX2_poison 1 = .ok (.iconst 0, 1) := dk_3 (dk_at dksX2_poison_0 1 rfl rfl)
theorem dX2_poison_2 : decode cX2_poison 2 = .ok (.putfield 110, 3) := dk_181 0 110 (dk_at dksX2_poison_0 2 rfl rfl)
theorem dX2_poison_5 : decode cX2_poison 5 = .ok (.iload_n 2, 1) := dk_28 (dk_at dksX2_poison_0 5 rfl rfl)
theorem dX2_poison_6 : decode cX2_poison 6 = .ok (.iconst 0, 1) := dk_3 (dk_at dksX2_poison_0 6 rfl rfl)
theorem dX2_poison_7 : decode cX2_poison 7 = .ok (.iconst 1, 1) := dk_4 (dk_at dksX2_poison_0 7 rfl rfl)
theorem dX2_poison_8 : decode cX2_poison 8 = .ok (.aload_n 0, 1) := dk_42 (dk_at dksX2_poison_0 8 rfl rfl)
theorem dX2_poison_9 : decode cX2_poison 9 = .ok (.getfield 123, 3) := dk_180 0 123 (dk_at dksX2_poison_0 9 rfl rfl)
theorem dX2_poison_12 : decode cX2_poison 12 = .ok (.ishl, 1) := dk_120 (dk_at dksX2_poison_0 12 rfl rfl)
theorem dX2_poison_13 : decode cX2_poison 13 = .ok (.iconst 1, 1) := dk_4 (dk_at dksX2_poison_0 13 rfl rfl)
theorem dX2_poison_14 : decode cX2_poison 14 = .ok (.isub, 1) := dk_100 (dk_at dksX2_poison_0 14 rfl rfl)
theorem dX2_poison_15 : decode cX2_poison 15 = .ok (.invokestatic 119, 3) := dk_184 0 119 (dk_at dksX2_poison_0 15 rfl rfl)
theorem dX2_poison_18 : decode cX2_poison 18 = .ok (.ifCond .ne 5, 3) := dk_154 0 5 (dk_at dksX2_poison_0 18 rfl rfl)
theorem dX2_poison_21 : decode cX2_poison 21 = .ok (.iconst (-1), 1) := dk_2 (dk_at dksX2_poison_0 21 rfl rfl)
theorem dX2_poison_22 : decode cX2_poison 22 = .ok (.ireturn, 1) := dk_172 (dk_at dksX2_poison_0 22 rfl rfl)
theorem dX2_poison_23 : decode cX2_poison 23 = .ok (.aload_n 0, 1) := dk_42 (dk_at dksX2_poison_0 23 rfl rfl)
theorem dX2_poison_24 : decode cX2_poison 24 = .ok (.iload_n 1, 1) := dk_27 (dk_at dksX2_poison_1 0 rfl rfl)
theorem dX2_poison_25 : decode cX2_poison 25 = .ok (.invokevirtual 292, 3) := dk_182 1 36 (dk_at dksX2_poison_1 1 rfl rfl)
theorem dX2_poison_28 : decode cX2_poison 28 = .ok (.ifCond .ne 6, 3) := dk_154 0 6 (dk_at dksX2_poison_1 4 rfl rfl)
theorem dX2_poison_31 : decode cX2_poison 31 = .ok (.bipush (-3), 2) := dk_16 253 (dk_at dksX2_poison_1 7 rfl rfl)
theorem dX2_poison_33 : decode cX2_poison 33 = .ok (.ireturn, 1) := dk_172 (dk_at dksX2_poison_1 9 rfl rfl)
theorem dX2_poison_34 : decode cX2_poison 34 = .ok (.sipush 255, 3) := dk_17 0 255 (dk_at dksX2_poison_1 10 rfl rfl)
theorem dX2_poison_37 : decode cX2_poison 37 = .ok (.istore_n 3, 1) := dk_62 (dk_at dksX2_poison_1 13 rfl rfl)
theorem dX2_poison_38 : decode cX2_poison 38 = .ok (.iconst 0, 1) := dk_3 (dk_at dksX2_poison_1 14 rfl rfl)
theorem dX2_poison_39 : decode cX2_poison 39 = .ok (.istore 4, 2) := dk_54 4 (dk_at dksX2_poison_1 15 rfl rfl)
theorem dX2_poison_41 : decode cX2_poison 41 = .ok (.iload 4, 2) := dk_21 4 (dk_at dksX2_poison_1 17 rfl rfl)
theorem dX2_poison_43 : decode cX2_poison 43 = .ok (.aload_n 0, 1) := dk_42 (dk_at dksX2_poison_1 19 rfl rfl)
theorem dX2_poison_44 : decode cX2_poison 44 = .ok (.getfield 123, 3) := dk_180 0 123 (dk_at dksX2_poison_1 20 rfl rfl)
theorem dX2_poison_47 : decode cX2_poison 47 = .ok (.if_icmp .ge 40, 3) := dk_162 0 40 (dk_at dksX2_poison_2 0 rfl rfl)
theorem dX2_poison_50 : decode cX2_poison 50 = .ok (.iload_n 3, 1) := dk_29 (dk_at dksX2_poison_2 3 rfl rfl)
theorem dX2_poison_51 : decode cX2_poison 51 = .ok (.iload_n 2, 1) := dk_28 (dk_at dksX2_poison_2 4 rfl rfl)
theorem dX2_poison_52 : decode cX2_poison 52 = .ok (.iload 4, 2) := dk_21 4 (dk_at dksX2_poison_2 5 rfl rfl)
theorem dX2_poison_54 : decode cX2_poison 54 = .ok (.invokestatic 239, 3) := dk_184 0 239 (dk_at dksX2_poison_2 7 rfl rfl)
theorem dX2_poison_57 : decode cX2_poison 57 = .ok (.ifCond .eq 13, 3) := dk_153 0 13 (dk_at dksX2_poison_2 10 rfl rfl)
theorem dX2_poison_60 : decode cX2_poison 60 = .ok (.aload_n 0, 1) := dk_42 (dk_at dksX2_poison_2 13 rfl rfl)
theorem dX2_poison_61 : decode cX2_poison 61 = .ok (.iload_n 1, 1) := dk_27 (dk_at dksX2_poison_2 14 rfl rfl)
theorem dX2_poison_62 : decode cX2_poison 62 = .ok (.iload 4, 2) := dk_21 4 (dk_at dksX2_poison_2 15 rfl rfl)
theorem dX2_poison_64 : decode cX2_poison 64 = .ok (.invokevirtual 390, 3) := dk_182 1 134 (dk_at dksX2_poison_2 17 rfl rfl)
theorem dX2_poison_67 : decode cX2_poison 67 = .ok (.goto 12, 3) := dk_167 0 12 (dk_at dksX2_poison_2 20 rfl rfl)
theorem dX2_poison_70 : decode cX2_poison 70 = .ok (.aload_n 0, 1) := dk_42 (dk_at dksX2_poison_2 23 rfl rfl)
theorem dX2_poison_71 : decode cX2_poison 71 = .ok (.iload_n 1, 1) := dk_27 (dk_at dksX2_poison_3 0 rfl rfl)
theorem dX2_poison_72 : decode cX2_poison 72 = .ok (.iload 4, 2) := dk_21 4 (dk_at dksX2_poison_3 1 rfl rfl)
theorem dX2_poison_74 : decode cX2_poison 74 = .ok (.invokevirtual 390, 3) := dk_182 1 134 (dk_at dksX2_poison_3 3 rfl rfl)
theorem dX2_poison_77 : decode cX2_poison 77 = .ok (.iconst (-1), 1) := dk_2 (dk_at dksX2_poison_3 6 rfl rfl)
theorem dX2_poison_78 : decode cX2_poison 78 = .ok (.ixor, 1) := dk_130 (dk_at dksX2_poison_3 7 rfl rfl)
theorem dX2_poison_79 : decode cX2_poison 79 = .ok (.iand, 1) := dk_126 (dk_at dksX2_poison_3 8 rfl rfl)
theorem dX2_poison_80 : decode cX2_poison 80 = .ok (.istore_n 3, 1) := dk_62 (dk_at dksX2_poison_3 9 rfl rfl)
theorem dX2_poison_81 : decode cX2_poison 81 = .ok (.iinc 4 1, 3) := dk_132 4 1 (dk_at dksX2_poison_3 10 rfl rfl)
theorem dX2_poison_84 : decode cX2_poison 84 = .ok (.goto (-43), 3) := dk_167 255 213 (dk_at dksX2_poison_3 13 rfl rfl)
theorem dX2_poison_87 : decode cX2_poison 87 = .ok (.iload_n 3, 1) := dk_29 (dk_at dksX2_poison_3 16 rfl rfl)
theorem dX2_poison_88 : decode cX2_poison 88 = .ok (.ireturn, 1) := dk_172 (dk_at dksX2_poison_3 17 rfl rfl)
abbrev cX2_ateOf : ByteArray := prog_8_method_103_code
def yX2_ateOf : MethodName := ⟨RX2, "ateOf", "(II)I"⟩
def dkwX2_ateOf_2 : List UInt8 := [180, 0, 42, 16, 10, 27, 104, 21, 4, 96, 46, 46, 128, 62, 132, 4, 1, 167, 255, 198, 29, 172]
abbrev dktX2_ateOf_2 : List UInt8 := dkwX2_ateOf_2 ++ []
def dkwX2_ateOf_1 : List UInt8 := [16, 10, 27, 104, 21, 4, 96, 46, 182, 0, 223, 153, 0, 7, 3, 167, 0, 20, 42, 180, 0, 13, 42]
abbrev dktX2_ateOf_1 : List UInt8 := dkwX2_ateOf_1 ++ dktX2_ateOf_2
def dkwX2_ateOf_0 : List UInt8 := [3, 62, 3, 54, 4, 21, 4, 42, 180, 0, 45, 27, 46, 162, 0, 53, 29, 42, 28, 42, 180, 0, 42]
abbrev dktX2_ateOf_0 : List UInt8 := dkwX2_ateOf_0 ++ dktX2_ateOf_1
theorem dksX2_ateOf_0 : cX2_ateOf.data.toList.drop 0 = dktX2_ateOf_0 := by decide +kernel
theorem dksX2_ateOf_1 : cX2_ateOf.data.toList.drop 23 = dktX2_ateOf_1 := dk_seg dksX2_ateOf_0 23 rfl rfl
theorem dksX2_ateOf_2 : cX2_ateOf.data.toList.drop 46 = dktX2_ateOf_2 := dk_seg dksX2_ateOf_1 23 rfl rfl
theorem dX2_ateOf_0 : decode cX2_ateOf 0 = .ok (.iconst 0, 1) := dk_3 (dk_at dksX2_ateOf_0 0 rfl rfl)
theorem dX2_ateOf_1 : decode cX2_ateOf 1 = .ok (.istore_n 3, 1) := dk_62 (dk_at dksX2_ateOf_0 1 rfl rfl)
theorem dX2_ateOf_2 : decode cX2_ateOf 2 = .ok (.iconst 0, 1) := dk_3 (dk_at dksX2_ateOf_0 2 rfl rfl)
theorem dX2_ateOf_3 : decode cX2_ateOf 3 = .ok (.istore 4, 2) := dk_54 4 (dk_at dksX2_ateOf_0 3 rfl rfl)
theorem dX2_ateOf_5 : decode cX2_ateOf 5 = .ok (.iload 4, 2) := dk_21 4 (dk_at dksX2_ateOf_0 5 rfl rfl)
theorem dX2_ateOf_7 : decode cX2_ateOf 7 = .ok (.aload_n 0, 1) := dk_42 (dk_at dksX2_ateOf_0 7 rfl rfl)
theorem dX2_ateOf_8 : decode cX2_ateOf 8 = .ok (.getfield 45, 3) := dk_180 0 45 (dk_at dksX2_ateOf_0 8 rfl rfl)
theorem dX2_ateOf_11 : decode cX2_ateOf 11 = .ok (.iload_n 1, 1) := dk_27 (dk_at dksX2_ateOf_0 11 rfl rfl)
theorem dX2_ateOf_12 : decode cX2_ateOf 12 = .ok (.iaload, 1) := dk_46 (dk_at dksX2_ateOf_0 12 rfl rfl)
theorem dX2_ateOf_13 : decode cX2_ateOf 13 = .ok (.if_icmp .ge 53, 3) := dk_162 0 53 (dk_at dksX2_ateOf_0 13 rfl rfl)
theorem dX2_ateOf_16 : decode cX2_ateOf 16 = .ok (.iload_n 3, 1) := dk_29 (dk_at dksX2_ateOf_0 16 rfl rfl)
theorem dX2_ateOf_17 : decode cX2_ateOf 17 = .ok (.aload_n 0, 1) := dk_42 (dk_at dksX2_ateOf_0 17 rfl rfl)
theorem dX2_ateOf_18 : decode cX2_ateOf 18 = .ok (.iload_n 2, 1) := dk_28 (dk_at dksX2_ateOf_0 18 rfl rfl)
theorem dX2_ateOf_19 : decode cX2_ateOf 19 = .ok (.aload_n 0, 1) := dk_42 (dk_at dksX2_ateOf_0 19 rfl rfl)
theorem dX2_ateOf_20 : decode cX2_ateOf 20 = .ok (.getfield 42, 3) := dk_180 0 42 (dk_at dksX2_ateOf_0 20 rfl rfl)
theorem dX2_ateOf_23 : decode cX2_ateOf 23 = .ok (.bipush 10, 2) := dk_16 10 (dk_at dksX2_ateOf_1 0 rfl rfl)
theorem dX2_ateOf_25 : decode cX2_ateOf 25 = .ok (.iload_n 1, 1) := dk_27 (dk_at dksX2_ateOf_1 2 rfl rfl)
theorem dX2_ateOf_26 : decode cX2_ateOf 26 = .ok (.imul, 1) := dk_104 (dk_at dksX2_ateOf_1 3 rfl rfl)
theorem dX2_ateOf_27 : decode cX2_ateOf 27 = .ok (.iload 4, 2) := dk_21 4 (dk_at dksX2_ateOf_1 4 rfl rfl)
theorem dX2_ateOf_29 : decode cX2_ateOf 29 = .ok (.iadd, 1) := dk_96 (dk_at dksX2_ateOf_1 6 rfl rfl)
theorem dX2_ateOf_30 : decode cX2_ateOf 30 = .ok (.iaload, 1) := dk_46 (dk_at dksX2_ateOf_1 7 rfl rfl)
theorem dX2_ateOf_31 : decode cX2_ateOf 31 = .ok (.invokevirtual 223, 3) := dk_182 0 223 (dk_at dksX2_ateOf_1 8 rfl rfl)
theorem dX2_ateOf_34 : decode cX2_ateOf 34 = .ok (.ifCond .eq 7, 3) := dk_153 0 7 (dk_at dksX2_ateOf_1 11 rfl rfl)
theorem dX2_ateOf_37 : decode cX2_ateOf 37 = .ok (.iconst 0, 1) := dk_3 (dk_at dksX2_ateOf_1 14 rfl rfl)
theorem dX2_ateOf_38 : decode cX2_ateOf 38 = .ok (.goto 20, 3) := dk_167 0 20 (dk_at dksX2_ateOf_1 15 rfl rfl)
theorem dX2_ateOf_41 : decode cX2_ateOf 41 = .ok (.aload_n 0, 1) := dk_42 (dk_at dksX2_ateOf_1 18 rfl rfl)
theorem dX2_ateOf_42 : decode cX2_ateOf 42 = .ok (.getfield 13, 3) := dk_180 0 13 (dk_at dksX2_ateOf_1 19 rfl rfl)
theorem dX2_ateOf_45 : decode cX2_ateOf 45 = .ok (.aload_n 0, 1) := dk_42 (dk_at dksX2_ateOf_1 22 rfl rfl)
theorem dX2_ateOf_46 : decode cX2_ateOf 46 = .ok (.getfield 42, 3) := dk_180 0 42 (dk_at dksX2_ateOf_2 0 rfl rfl)
theorem dX2_ateOf_49 : decode cX2_ateOf 49 = .ok (.bipush 10, 2) := dk_16 10 (dk_at dksX2_ateOf_2 3 rfl rfl)
theorem dX2_ateOf_51 : decode cX2_ateOf 51 = .ok (.iload_n 1, 1) := dk_27 (dk_at dksX2_ateOf_2 5 rfl rfl)
theorem dX2_ateOf_52 : decode cX2_ateOf 52 = .ok (.imul, 1) := dk_104 (dk_at dksX2_ateOf_2 6 rfl rfl)
theorem dX2_ateOf_53 : decode cX2_ateOf 53 = .ok (.iload 4, 2) := dk_21 4 (dk_at dksX2_ateOf_2 7 rfl rfl)
theorem dX2_ateOf_55 : decode cX2_ateOf 55 = .ok (.iadd, 1) := dk_96 (dk_at dksX2_ateOf_2 9 rfl rfl)
theorem dX2_ateOf_56 : decode cX2_ateOf 56 = .ok (.iaload, 1) := dk_46 (dk_at dksX2_ateOf_2 10 rfl rfl)
theorem dX2_ateOf_57 : decode cX2_ateOf 57 = .ok (.iaload, 1) := dk_46 (dk_at dksX2_ateOf_2 11 rfl rfl)
theorem dX2_ateOf_58 : decode cX2_ateOf 58 = .ok (.ior, 1) := dk_128 (dk_at dksX2_ateOf_2 12 rfl rfl)
theorem dX2_ateOf_59 : decode cX2_ateOf 59 = .ok (.istore_n 3, 1) := dk_62 (dk_at dksX2_ateOf_2 13 rfl rfl)
theorem dX2_ateOf_60 : decode cX2_ateOf 60 = .ok (.iinc 4 1, 3) := dk_132 4 1 (dk_at dksX2_ateOf_2 14 rfl rfl)
theorem dX2_ateOf_63 : decode cX2_ateOf 63 = .ok (.goto (-58), 3) := dk_167 255 198 (dk_at dksX2_ateOf_2 17 rfl rfl)
theorem dX2_ateOf_66 : decode cX2_ateOf 66 = .ok (.iload_n 3, 1) := dk_29 (dk_at dksX2_ateOf_2 20 rfl rfl)
theorem dX2_ateOf_67 : decode cX2_ateOf 67 = .ok (.ireturn, 1) := dk_172 (dk_at dksX2_ateOf_2 21 rfl rfl)
abbrev cX2_eats : ByteArray := prog_8_method_105_code
def yX2_eats : MethodName := ⟨RX2, "eats", "(II)I"⟩
def dkwX2_eats_5 : List UInt8 := [42, 27, 28, 182, 1, 134, 182, 1, 33, 42, 21, 5, 182, 1, 33, 29, 172]
abbrev dktX2_eats_5 : List UInt8 := dkwX2_eats_5 ++ []
def dkwX2_eats_4 : List UInt8 := [182, 0, 213, 96, 54, 5, 132, 6, 1, 167, 255, 191, 42, 3, 181, 0, 113, 42, 21, 4, 182, 1, 33, 42]
abbrev dktX2_eats_4 : List UInt8 := dkwX2_eats_4 ++ dktX2_eats_5
def dkwX2_eats_3 : List UInt8 := [153, 0, 6, 167, 0, 27, 132, 3, 1, 21, 4, 4, 21, 6, 120, 128, 54, 4, 21, 5, 42, 28, 21, 7]
abbrev dktX2_eats_3 : List UInt8 := dkwX2_eats_3 ++ dktX2_eats_4
def dkwX2_eats_2 : List UInt8 := [162, 0, 60, 42, 180, 0, 42, 16, 10, 27, 104, 21, 6, 96, 46, 54, 7, 42, 28, 21, 7, 182, 0, 223]
abbrev dktX2_eats_2 : List UInt8 := dkwX2_eats_2 ++ dktX2_eats_3
def dkwX2_eats_1 : List UInt8 := [16, 253, 172, 3, 62, 3, 54, 4, 3, 54, 5, 3, 54, 6, 21, 6, 42, 180, 0, 45, 27, 46]
abbrev dktX2_eats_1 : List UInt8 := dkwX2_eats_1 ++ dktX2_eats_2
def dkwX2_eats_0 : List UInt8 := [42, 3, 181, 0, 110, 42, 28, 182, 0, 230, 154, 0, 5, 2, 172, 42, 27, 182, 1, 36, 154, 0, 6]
abbrev dktX2_eats_0 : List UInt8 := dkwX2_eats_0 ++ dktX2_eats_1
theorem dksX2_eats_0 : cX2_eats.data.toList.drop 0 = dktX2_eats_0 := by decide +kernel
theorem dksX2_eats_1 : cX2_eats.data.toList.drop 23 = dktX2_eats_1 := dk_seg dksX2_eats_0 23 rfl rfl
theorem dksX2_eats_2 : cX2_eats.data.toList.drop 45 = dktX2_eats_2 := dk_seg dksX2_eats_1 22 rfl rfl
theorem dksX2_eats_3 : cX2_eats.data.toList.drop 69 = dktX2_eats_3 := dk_seg dksX2_eats_2 24 rfl rfl
theorem dksX2_eats_4 : cX2_eats.data.toList.drop 93 = dktX2_eats_4 := dk_seg dksX2_eats_3 24 rfl rfl
theorem dksX2_eats_5 : cX2_eats.data.toList.drop 117 = dktX2_eats_5 := dk_seg dksX2_eats_4 24 rfl rfl
theorem dX2_eats_0 : decode cX2_eats 0 = .ok (.aload_n 0, 1) := dk_42 (dk_at dksX2_eats_0 0 rfl rfl)
theorem dX2_eats_1 : decode cX2_eats 1 = .ok (.iconst 0, 1) := dk_3 (dk_at dksX2_eats_0 1 rfl rfl)
theorem dX2_eats_2 : decode cX2_eats 2 = .ok (.putfield 110, 3) := dk_181 0 110 (dk_at dksX2_eats_0 2 rfl rfl)
theorem dX2_eats_5 : decode cX2_eats 5 = .ok (.aload_n 0, 1) := dk_42 (dk_at dksX2_eats_0 5 rfl rfl)
theorem dX2_eats_6 : decode cX2_eats 6 = .ok (.iload_n 2, 1) := dk_28 (dk_at dksX2_eats_0 6 rfl rfl)
theorem dX2_eats_7 : decode cX2_eats 7 = .ok (.invokevirtual 230, 3) := dk_182 0 230 (dk_at dksX2_eats_0 7 rfl rfl)
theorem dX2_eats_10 : decode cX2_eats 10 = .ok (.ifCond .ne 5, 3) := dk_154 0 5 (dk_at dksX2_eats_0 10 rfl rfl)
theorem dX2_eats_13 : decode cX2_eats 13 = .ok (.iconst (-1), 1) := dk_2 (dk_at dksX2_eats_0 13 rfl rfl)
theorem dX2_eats_14 : decode cX2_eats 14 = .ok (.ireturn, 1) := dk_172 (dk_at dksX2_eats_0 14 rfl rfl)
theorem dX2_eats_15 : decode cX2_eats 15 = .ok (.aload_n 0, 1) := dk_42 (dk_at dksX2_eats_0 15 rfl rfl)
theorem dX2_eats_16 : decode cX2_eats 16 = .ok (.iload_n 1, 1) := dk_27 (dk_at dksX2_eats_0 16 rfl rfl)
theorem dX2_eats_17 : decode cX2_eats 17 = .ok (.invokevirtual 292, 3) := dk_182 1 36 (dk_at dksX2_eats_0 17 rfl rfl)
theorem dX2_eats_20 : decode cX2_eats 20 = .ok (.ifCond .ne 6, 3) := dk_154 0 6 (dk_at dksX2_eats_0 20 rfl rfl)
theorem dX2_eats_23 : decode cX2_eats 23 = .ok (.bipush (-3), 2) := dk_16 253 (dk_at dksX2_eats_1 0 rfl rfl)
theorem dX2_eats_25 : decode cX2_eats 25 = .ok (.ireturn, 1) := dk_172 (dk_at dksX2_eats_1 2 rfl rfl)
theorem dX2_eats_26 : decode cX2_eats 26 = .ok (.iconst 0, 1) := dk_3 (dk_at dksX2_eats_1 3 rfl rfl)
theorem dX2_eats_27 : decode cX2_eats 27 = .ok (.istore_n 3, 1) := dk_62 (dk_at dksX2_eats_1 4 rfl rfl)
theorem dX2_eats_28 : decode cX2_eats 28 = .ok (.iconst 0, 1) := dk_3 (dk_at dksX2_eats_1 5 rfl rfl)
theorem dX2_eats_29 : decode cX2_eats 29 = .ok (.istore 4, 2) := dk_54 4 (dk_at dksX2_eats_1 6 rfl rfl)
theorem dX2_eats_31 : decode cX2_eats 31 = .ok (.iconst 0, 1) := dk_3 (dk_at dksX2_eats_1 8 rfl rfl)
theorem dX2_eats_32 : decode cX2_eats 32 = .ok (.istore 5, 2) := dk_54 5 (dk_at dksX2_eats_1 9 rfl rfl)
theorem dX2_eats_34 : decode cX2_eats 34 = .ok (.iconst 0, 1) := dk_3 (dk_at dksX2_eats_1 11 rfl rfl)
theorem dX2_eats_35 : decode cX2_eats 35 = .ok (.istore 6, 2) := dk_54 6 (dk_at dksX2_eats_1 12 rfl rfl)
theorem dX2_eats_37 : decode cX2_eats 37 = .ok (.iload 6, 2) := dk_21 6 (dk_at dksX2_eats_1 14 rfl rfl)
theorem dX2_eats_39 : decode cX2_eats 39 = .ok (.aload_n 0, 1) := dk_42 (dk_at dksX2_eats_1 16 rfl rfl)
theorem dX2_eats_40 : decode cX2_eats 40 = .ok (.getfield 45, 3) := dk_180 0 45 (dk_at dksX2_eats_1 17 rfl rfl)
theorem dX2_eats_43 : decode cX2_eats 43 = .ok (.iload_n 1, 1) := dk_27 (dk_at dksX2_eats_1 20 rfl rfl)
theorem dX2_eats_44 : decode cX2_eats 44 = .ok (.iaload, 1) := dk_46 (dk_at dksX2_eats_1 21 rfl rfl)
theorem dX2_eats_45 : decode cX2_eats 45 = .ok (.if_icmp .ge 60, 3) := dk_162 0 60 (dk_at dksX2_eats_2 0 rfl rfl)
theorem dX2_eats_48 : decode cX2_eats 48 = .ok (.aload_n 0, 1) := dk_42 (dk_at dksX2_eats_2 3 rfl rfl)
theorem dX2_eats_49 : decode cX2_eats 49 = .ok (.getfield 42, 3) := dk_180 0 42 (dk_at dksX2_eats_2 4 rfl rfl)
theorem dX2_eats_52 : decode cX2_eats 52 = .ok (.bipush 10, 2) := dk_16 10 (dk_at dksX2_eats_2 7 rfl rfl)
theorem dX2_eats_54 : decode cX2_eats 54 = .ok (.iload_n 1, 1) := dk_27 (dk_at dksX2_eats_2 9 rfl rfl)
theorem dX2_eats_55 : decode cX2_eats 55 = .ok (.imul, 1) := dk_104 (dk_at dksX2_eats_2 10 rfl rfl)
theorem dX2_eats_56 : decode cX2_eats 56 = .ok (.iload 6, 2) := dk_21 6 (dk_at dksX2_eats_2 11 rfl rfl)
theorem dX2_eats_58 : decode cX2_eats 58 = .ok (.iadd, 1) := dk_96 (dk_at dksX2_eats_2 13 rfl rfl)
theorem dX2_eats_59 : decode cX2_eats 59 = .ok (.iaload, 1) := dk_46 (dk_at dksX2_eats_2 14 rfl rfl)
theorem dX2_eats_60 : decode cX2_eats 60 = .ok (.istore 7, 2) := dk_54 7 (dk_at dksX2_eats_2 15 rfl rfl)
theorem dX2_eats_62 : decode cX2_eats 62 = .ok (.aload_n 0, 1) := dk_42 (dk_at dksX2_eats_2 17 rfl rfl)
theorem dX2_eats_63 : decode cX2_eats 63 = .ok (.iload_n 2, 1) := dk_28 (dk_at dksX2_eats_2 18 rfl rfl)
theorem dX2_eats_64 : decode cX2_eats 64 = .ok (.iload 7, 2) := dk_21 7 (dk_at dksX2_eats_2 19 rfl rfl)
theorem dX2_eats_66 : decode cX2_eats 66 = .ok (.invokevirtual 223, 3) := dk_182 0 223 (dk_at dksX2_eats_2 21 rfl rfl)
theorem dX2_eats_69 : decode cX2_eats 69 = .ok (.ifCond .eq 6, 3) := dk_153 0 6 (dk_at dksX2_eats_3 0 rfl rfl)
theorem dX2_eats_72 : decode cX2_eats 72 = .ok (.goto 27, 3) := dk_167 0 27 (dk_at dksX2_eats_3 3 rfl rfl)
theorem dX2_eats_75 : decode cX2_eats 75 = .ok (.iinc 3 1, 3) := dk_132 3 1 (dk_at dksX2_eats_3 6 rfl rfl)
theorem dX2_eats_78 : decode cX2_eats 78 = .ok (.iload 4, 2) := dk_21 4 (dk_at dksX2_eats_3 9 rfl rfl)
theorem dX2_eats_80 : decode cX2_eats 80 = .ok (.iconst 1, 1) := dk_4 (dk_at dksX2_eats_3 11 rfl rfl)
theorem dX2_eats_81 : decode cX2_eats 81 = .ok (.iload 6, 2) := dk_21 6 (dk_at dksX2_eats_3 12 rfl rfl)
theorem dX2_eats_83 : decode cX2_eats 83 = .ok (.ishl, 1) := dk_120 (dk_at dksX2_eats_3 14 rfl rfl)
theorem dX2_eats_84 : decode cX2_eats 84 = .ok (.ior, 1) := dk_128 (dk_at dksX2_eats_3 15 rfl rfl)
theorem dX2_eats_85 : decode cX2_eats 85 = .ok (.istore 4, 2) := dk_54 4 (dk_at dksX2_eats_3 16 rfl rfl)
theorem dX2_eats_87 : decode cX2_eats 87 = .ok (.iload 5, 2) := dk_21 5 (dk_at dksX2_eats_3 18 rfl rfl)
theorem dX2_eats_89 : decode cX2_eats 89 = .ok (.aload_n 0, 1) := dk_42 (dk_at dksX2_eats_3 20 rfl rfl)
theorem dX2_eats_90 : decode cX2_eats 90 = .ok (.iload_n 2, 1) := dk_28 (dk_at dksX2_eats_3 21 rfl rfl)
theorem dX2_eats_91 : decode cX2_eats 91 = .ok (.iload 7, 2) := dk_21 7 (dk_at dksX2_eats_3 22 rfl rfl)
theorem dX2_eats_93 : decode cX2_eats 93 = .ok (.invokevirtual 213, 3) := dk_182 0 213 (dk_at dksX2_eats_4 0 rfl rfl)
theorem dX2_eats_96 : decode cX2_eats 96 = .ok (.iadd, 1) := dk_96 (dk_at dksX2_eats_4 3 rfl rfl)
theorem dX2_eats_97 : decode cX2_eats 97 = .ok (.istore 5, 2) := dk_54 5 (dk_at dksX2_eats_4 4 rfl rfl)
theorem dX2_eats_99 : decode cX2_eats 99 = .ok (.iinc 6 1, 3) := dk_132 6 1 (dk_at dksX2_eats_4 6 rfl rfl)
theorem dX2_eats_102 : decode cX2_eats 102 = .ok (.goto (-65), 3) := dk_167 255 191 (dk_at dksX2_eats_4 9 rfl rfl)
theorem dX2_eats_105 : decode cX2_eats 105 = .ok (.aload_n 0, 1) := dk_42 (dk_at dksX2_eats_4 12 rfl rfl)
theorem dX2_eats_106 : decode cX2_eats 106 = .ok (.iconst 0, 1) := dk_3 (dk_at dksX2_eats_4 13 rfl rfl)
theorem dX2_eats_107 : decode cX2_eats 107 = .ok (.putfield 113, 3) := dk_181 0 113 (dk_at dksX2_eats_4 14 rfl rfl)
theorem dX2_eats_110 : decode cX2_eats 110 = .ok (.aload_n 0, 1) := dk_42 (dk_at dksX2_eats_4 17 rfl rfl)
theorem dX2_eats_111 : decode cX2_eats 111 = .ok (.iload 4, 2) := dk_21 4 (dk_at dksX2_eats_4 18 rfl rfl)
theorem dX2_eats_113 : decode cX2_eats 113 = .ok (.invokevirtual 289, 3) := dk_182 1 33 (dk_at dksX2_eats_4 20 rfl rfl)
theorem dX2_eats_116 : decode cX2_eats 116 = .ok (.aload_n 0, 1) := dk_42 (dk_at dksX2_eats_4 23 rfl rfl)
theorem dX2_eats_117 : decode cX2_eats 117 = .ok (.aload_n 0, 1) := dk_42 (dk_at dksX2_eats_5 0 rfl rfl)
theorem dX2_eats_118 : decode cX2_eats 118 = .ok (.iload_n 1, 1) := dk_27 (dk_at dksX2_eats_5 1 rfl rfl)
theorem dX2_eats_119 : decode cX2_eats 119 = .ok (.iload_n 2, 1) := dk_28 (dk_at dksX2_eats_5 2 rfl rfl)
theorem dX2_eats_120 : decode cX2_eats 120 = .ok (.invokevirtual 390, 3) := dk_182 1 134 (dk_at dksX2_eats_5 3 rfl rfl)
theorem dX2_eats_123 : decode cX2_eats 123 = .ok (.invokevirtual 289, 3) := dk_182 1 33 (dk_at dksX2_eats_5 6 rfl rfl)
theorem dX2_eats_126 : decode cX2_eats 126 = .ok (.aload_n 0, 1) := dk_42 (dk_at dksX2_eats_5 9 rfl rfl)
theorem dX2_eats_127 : decode cX2_eats 127 = .ok (.iload 5, 2) := dk_21 5 (dk_at dksX2_eats_5 10 rfl rfl)
theorem dX2_eats_129 : decode cX2_eats 129 = .ok (.invokevirtual 289, 3) := dk_182 1 33 (dk_at dksX2_eats_5 12 rfl rfl)
theorem dX2_eats_132 : decode cX2_eats 132 = .ok (.iload_n 3, 1) := dk_29 (dk_at dksX2_eats_5 15 rfl rfl)
theorem dX2_eats_133 : decode cX2_eats 133 = .ok (.ireturn, 1) := dk_172 (dk_at dksX2_eats_5 16 rfl rfl)
abbrev cX2_made : ByteArray := prog_8_method_107_code
def yX2_made : MethodName := ⟨RX2, "made", "()I"⟩
def dkwX2_made_5 : List UInt8 := [42, 3, 181, 0, 113, 42, 27, 182, 1, 33, 27, 184, 0, 196, 172]
abbrev dktX2_made_5 : List UInt8 := dkwX2_made_5 ++ []
def dkwX2_made_4 : List UInt8 := [4, 96, 182, 1, 137, 153, 0, 5, 28, 60, 132, 2, 1, 167, 255, 202, 27, 2, 160, 0, 6, 16, 254, 172]
abbrev dktX2_made_4 : List UInt8 := dkwX2_made_4 ++ dktX2_made_5
def dkwX2_made_3 : List UInt8 := [184, 0, 196, 161, 0, 6, 167, 0, 28, 42, 180, 0, 13, 42, 180, 0, 116, 28, 79, 42, 42, 180, 0, 116]
abbrev dktX2_made_3 : List UInt8 := dkwX2_made_3 ++ dktX2_made_4
def dkwX2_made_2 : List UInt8 := [79, 2, 60, 4, 61, 28, 17, 1, 0, 162, 0, 53, 27, 2, 159, 0, 17, 28, 184, 0, 196, 27]
abbrev dktX2_made_2 : List UInt8 := dkwX2_made_2 ++ dktX2_made_3
def dkwX2_made_1 : List UInt8 := [182, 1, 33, 3, 172, 42, 180, 0, 19, 42, 180, 0, 116, 3, 84, 42, 180, 0, 16, 42, 180, 0, 116, 3]
abbrev dktX2_made_1 : List UInt8 := dkwX2_made_1 ++ dktX2_made_2
def dkwX2_made_0 : List UInt8 := [42, 3, 181, 0, 110, 42, 42, 180, 0, 116, 182, 1, 137, 153, 0, 15, 42, 3, 181, 0, 113, 42, 3]
abbrev dktX2_made_0 : List UInt8 := dkwX2_made_0 ++ dktX2_made_1
theorem dksX2_made_0 : cX2_made.data.toList.drop 0 = dktX2_made_0 := by decide +kernel
theorem dksX2_made_1 : cX2_made.data.toList.drop 23 = dktX2_made_1 := dk_seg dksX2_made_0 23 rfl rfl
theorem dksX2_made_2 : cX2_made.data.toList.drop 47 = dktX2_made_2 := dk_seg dksX2_made_1 24 rfl rfl
theorem dksX2_made_3 : cX2_made.data.toList.drop 69 = dktX2_made_3 := dk_seg dksX2_made_2 22 rfl rfl
theorem dksX2_made_4 : cX2_made.data.toList.drop 93 = dktX2_made_4 := dk_seg dksX2_made_3 24 rfl rfl
theorem dksX2_made_5 : cX2_made.data.toList.drop 117 = dktX2_made_5 := dk_seg dksX2_made_4 24 rfl rfl
theorem dX2_made_0 : decode cX2_made 0 = .ok (.aload_n 0, 1) := dk_42 (dk_at dksX2_made_0 0 rfl rfl)
theorem dX2_made_1 : decode cX2_made 1 = .ok (.iconst 0, 1) := dk_3 (dk_at dksX2_made_0 1 rfl rfl)
theorem dX2_made_2 : decode cX2_made 2 = .ok (.putfield 110, 3) := dk_181 0 110 (dk_at dksX2_made_0 2 rfl rfl)
theorem dX2_made_5 : decode cX2_made 5 = .ok (.aload_n 0, 1) := dk_42 (dk_at dksX2_made_0 5 rfl rfl)
theorem dX2_made_6 : decode cX2_made 6 = .ok (.aload_n 0, 1) := dk_42 (dk_at dksX2_made_0 6 rfl rfl)
theorem dX2_made_7 : decode cX2_made 7 = .ok (.getfield 116, 3) := dk_180 0 116 (dk_at dksX2_made_0 7 rfl rfl)
theorem dX2_made_10 : decode cX2_made 10 = .ok (.invokevirtual 393, 3) := dk_182 1 137 (dk_at dksX2_made_0 10 rfl rfl)
theorem dX2_made_13 : decode cX2_made 13 = .ok (.ifCond .eq 15, 3) := dk_153 0 15 (dk_at dksX2_made_0 13 rfl rfl)
theorem dX2_made_16 : decode cX2_made 16 = .ok (.aload_n 0, 1) := dk_42 (dk_at dksX2_made_0 16 rfl rfl)
theorem dX2_made_17 : decode cX2_made 17 = .ok (.iconst 0, 1) := dk_3 (dk_at dksX2_made_0 17 rfl rfl)
theorem dX2_made_18 : decode cX2_made 18 = .ok (.putfield 113, 3) := dk_181 0 113 (dk_at dksX2_made_0 18 rfl rfl)
theorem dX2_made_21 : decode cX2_made 21 = .ok (.aload_n 0, 1) := dk_42 (dk_at dksX2_made_0 21 rfl rfl)
theorem dX2_made_22 : decode cX2_made 22 = .ok (.iconst 0, 1) := dk_3 (dk_at dksX2_made_0 22 rfl rfl)
theorem dX2_made_23 : decode cX2_made 23 = .ok (.invokevirtual 289, 3) := dk_182 1 33 (dk_at dksX2_made_1 0 rfl rfl)
theorem dX2_made_26 : decode cX2_made 26 = .ok (.iconst 0, 1) := dk_3 (dk_at dksX2_made_1 3 rfl rfl)
theorem dX2_made_27 : decode cX2_made 27 = .ok (.ireturn, 1) := dk_172 (dk_at dksX2_made_1 4 rfl rfl)
theorem dX2_made_28 : decode cX2_made 28 = .ok (.aload_n 0, 1) := dk_42 (dk_at dksX2_made_1 5 rfl rfl)
theorem dX2_made_29 : decode cX2_made 29 = .ok (.getfield 19, 3) := dk_180 0 19 (dk_at dksX2_made_1 6 rfl rfl)
theorem dX2_made_32 : decode cX2_made 32 = .ok (.aload_n 0, 1) := dk_42 (dk_at dksX2_made_1 9 rfl rfl)
theorem dX2_made_33 : decode cX2_made 33 = .ok (.getfield 116, 3) := dk_180 0 116 (dk_at dksX2_made_1 10 rfl rfl)
theorem dX2_made_36 : decode cX2_made 36 = .ok (.iconst 0, 1) := dk_3 (dk_at dksX2_made_1 13 rfl rfl)
theorem dX2_made_37 : decode cX2_made 37 = .ok (.bastore, 1) := dk_84 (dk_at dksX2_made_1 14 rfl rfl)
theorem dX2_made_38 : decode cX2_made 38 = .ok (.aload_n 0, 1) := dk_42 (dk_at dksX2_made_1 15 rfl rfl)
theorem dX2_made_39 : decode cX2_made 39 = .ok (.getfield 16, 3) := dk_180 0 16 (dk_at dksX2_made_1 16 rfl rfl)
theorem dX2_made_42 : decode cX2_made 42 = .ok (.aload_n 0, 1) := dk_42 (dk_at dksX2_made_1 19 rfl rfl)
theorem dX2_made_43 : decode cX2_made 43 = .ok (.getfield 116, 3) := dk_180 0 116 (dk_at dksX2_made_1 20 rfl rfl)
theorem dX2_made_46 : decode cX2_made 46 = .ok (.iconst 0, 1) := dk_3 (dk_at dksX2_made_1 23 rfl rfl)
theorem dX2_made_47 : decode cX2_made 47 = .ok (.iastore, 1) := dk_79 (dk_at dksX2_made_2 0 rfl rfl)
theorem dX2_made_48 : decode cX2_made 48 = .ok (.iconst (-1), 1) := dk_2 (dk_at dksX2_made_2 1 rfl rfl)
theorem dX2_made_49 : decode cX2_made 49 = .ok (.istore_n 1, 1) := dk_60 (dk_at dksX2_made_2 2 rfl rfl)
theorem dX2_made_50 : decode cX2_made 50 = .ok (.iconst 1, 1) := dk_4 (dk_at dksX2_made_2 3 rfl rfl)
theorem dX2_made_51 : decode cX2_made 51 = .ok (.istore_n 2, 1) := dk_61 (dk_at dksX2_made_2 4 rfl rfl)
theorem dX2_made_52 : decode cX2_made 52 = .ok (.iload_n 2, 1) := dk_28 (dk_at dksX2_made_2 5 rfl rfl)
theorem dX2_made_53 : decode cX2_made 53 = .ok (.sipush 256, 3) := dk_17 1 0 (dk_at dksX2_made_2 6 rfl rfl)
theorem dX2_made_56 : decode cX2_made 56 = .ok (.if_icmp .ge 53, 3) := dk_162 0 53 (dk_at dksX2_made_2 9 rfl rfl)
theorem dX2_made_59 : decode cX2_made 59 = .ok (.iload_n 1, 1) := dk_27 (dk_at dksX2_made_2 12 rfl rfl)
theorem dX2_made_60 : decode cX2_made 60 = .ok (.iconst (-1), 1) := dk_2 (dk_at dksX2_made_2 13 rfl rfl)
theorem dX2_made_61 : decode cX2_made 61 = .ok (.if_icmp .eq 17, 3) := dk_159 0 17 (dk_at dksX2_made_2 14 rfl rfl)
theorem dX2_made_64 : decode cX2_made 64 = .ok (.iload_n 2, 1) := dk_28 (dk_at dksX2_made_2 17 rfl rfl)
theorem dX2_made_65 : decode cX2_made 65 = .ok (.invokestatic 196, 3) := dk_184 0 196 (dk_at dksX2_made_2 18 rfl rfl)
theorem dX2_made_68 : decode cX2_made 68 = .ok (.iload_n 1, 1) := dk_27 (dk_at dksX2_made_2 21 rfl rfl)
theorem dX2_made_69 : decode cX2_made 69 = .ok (.invokestatic 196, 3) := dk_184 0 196 (dk_at dksX2_made_3 0 rfl rfl)
theorem dX2_made_72 : decode cX2_made 72 = .ok (.if_icmp .lt 6, 3) := dk_161 0 6 (dk_at dksX2_made_3 3 rfl rfl)
theorem dX2_made_75 : decode cX2_made 75 = .ok (.goto 28, 3) := dk_167 0 28 (dk_at dksX2_made_3 6 rfl rfl)
theorem dX2_made_78 : decode cX2_made 78 = .ok (.aload_n 0, 1) := dk_42 (dk_at dksX2_made_3 9 rfl rfl)
theorem dX2_made_79 : decode cX2_made 79 = .ok (.getfield 13, 3) := dk_180 0 13 (dk_at dksX2_made_3 10 rfl rfl)
theorem dX2_made_82 : decode cX2_made 82 = .ok (.aload_n 0, 1) := dk_42 (dk_at dksX2_made_3 13 rfl rfl)
theorem dX2_made_83 : decode cX2_made 83 = .ok (.getfield 116, 3) := dk_180 0 116 (dk_at dksX2_made_3 14 rfl rfl)
theorem dX2_made_86 : decode cX2_made 86 = .ok (.iload_n 2, 1) := dk_28 (dk_at dksX2_made_3 17 rfl rfl)
theorem dX2_made_87 : decode cX2_made 87 = .ok (.iastore, 1) := dk_79 (dk_at dksX2_made_3 18 rfl rfl)
theorem dX2_made_88 : decode cX2_made 88 = .ok (.aload_n 0, 1) := dk_42 (dk_at dksX2_made_3 19 rfl rfl)
theorem dX2_made_89 : decode cX2_made 89 = .ok (.aload_n 0, 1) := dk_42 (dk_at dksX2_made_3 20 rfl rfl)
theorem dX2_made_90 : decode cX2_made 90 = .ok (.getfield 116, 3) := dk_180 0 116 (dk_at dksX2_made_3 21 rfl rfl)
theorem dX2_made_93 : decode cX2_made 93 = .ok (.iconst 1, 1) := dk_4 (dk_at dksX2_made_4 0 rfl rfl)
theorem dX2_made_94 : decode cX2_made 94 = .ok (.iadd, 1) := dk_96 (dk_at dksX2_made_4 1 rfl rfl)
theorem dX2_made_95 : decode cX2_made 95 = .ok (.invokevirtual 393, 3) := dk_182 1 137 (dk_at dksX2_made_4 2 rfl rfl)
theorem dX2_made_98 : decode cX2_made 98 = .ok (.ifCond .eq 5, 3) := dk_153 0 5 (dk_at dksX2_made_4 5 rfl rfl)
theorem dX2_made_101 : decode cX2_made 101 = .ok (.iload_n 2, 1) := dk_28 (dk_at dksX2_made_4 8 rfl rfl)
theorem dX2_made_102 : decode cX2_made 102 = .ok (.istore_n 1, 1) := dk_60 (dk_at dksX2_made_4 9 rfl rfl)
theorem dX2_made_103 : decode cX2_made 103 = .ok (.iinc 2 1, 3) := dk_132 2 1 (dk_at dksX2_made_4 10 rfl rfl)
theorem dX2_made_106 : decode cX2_made 106 = .ok (.goto (-54), 3) := dk_167 255 202 (dk_at dksX2_made_4 13 rfl rfl)
theorem dX2_made_109 : decode cX2_made 109 = .ok (.iload_n 1, 1) := dk_27 (dk_at dksX2_made_4 16 rfl rfl)
theorem dX2_made_110 : decode cX2_made 110 = .ok (.iconst (-1), 1) := dk_2 (dk_at dksX2_made_4 17 rfl rfl)
theorem dX2_made_111 : decode cX2_made 111 = .ok (.if_icmp .ne 6, 3) := dk_160 0 6 (dk_at dksX2_made_4 18 rfl rfl)
theorem dX2_made_114 : decode cX2_made 114 = .ok (.bipush (-2), 2) := dk_16 254 (dk_at dksX2_made_4 21 rfl rfl)
theorem dX2_made_116 : decode cX2_made 116 = .ok (.ireturn, 1) := dk_172 (dk_at dksX2_made_4 23 rfl rfl)
theorem dX2_made_117 : decode cX2_made 117 = .ok (.aload_n 0, 1) := dk_42 (dk_at dksX2_made_5 0 rfl rfl)
theorem dX2_made_118 : decode cX2_made 118 = .ok (.iconst 0, 1) := dk_3 (dk_at dksX2_made_5 1 rfl rfl)
theorem dX2_made_119 : decode cX2_made 119 = .ok (.putfield 113, 3) := dk_181 0 113 (dk_at dksX2_made_5 2 rfl rfl)
theorem dX2_made_122 : decode cX2_made 122 = .ok (.aload_n 0, 1) := dk_42 (dk_at dksX2_made_5 5 rfl rfl)
theorem dX2_made_123 : decode cX2_made 123 = .ok (.iload_n 1, 1) := dk_27 (dk_at dksX2_made_5 6 rfl rfl)
theorem dX2_made_124 : decode cX2_made 124 = .ok (.invokevirtual 289, 3) := dk_182 1 33 (dk_at dksX2_made_5 7 rfl rfl)
theorem dX2_made_127 : decode cX2_made 127 = .ok (.iload_n 1, 1) := dk_27 (dk_at dksX2_made_5 10 rfl rfl)
theorem dX2_made_128 : decode cX2_made 128 = .ok (.invokestatic 196, 3) := dk_184 0 196 (dk_at dksX2_made_5 11 rfl rfl)
theorem dX2_made_131 : decode cX2_made 131 = .ok (.ireturn, 1) := dk_172 (dk_at dksX2_made_5 14 rfl rfl)
abbrev cX2_canAll : ByteArray := prog_8_method_106_code
def yX2_canAll : MethodName := ⟨RX2, "canAll", "(I)Z"⟩
def dkwX2_canAll_15 : List UInt8 := [153, 0, 7, 4, 167, 0, 4, 3, 172]
abbrev dktX2_canAll_15 : List UInt8 := dkwX2_canAll_15 ++ []
def dkwX2_canAll_14 : List UInt8 := [132, 5, 1, 167, 255, 91, 132, 4, 1, 167, 255, 76, 27, 153, 0, 12, 42, 180, 0, 98, 28, 46]
abbrev dktX2_canAll_14 : List UInt8 := dkwX2_canAll_14 ++ dktX2_canAll_15
def dkwX2_canAll_13 : List UInt8 := [153, 0, 22, 42, 180, 0, 98, 21, 4, 4, 21, 5, 120, 128, 92, 46, 4, 21, 5, 120, 128, 79]
abbrev dktX2_canAll_13 : List UInt8 := dkwX2_canAll_13 ++ dktX2_canAll_14
def dkwX2_canAll_12 : List UInt8 := [180, 0, 19, 21, 5, 51, 159, 0, 7, 4, 167, 0, 4, 3, 54, 6, 132, 7, 1, 167, 255, 180, 21, 6]
abbrev dktX2_canAll_12 : List UInt8 := dkwX2_canAll_12 ++ dktX2_canAll_13
def dkwX2_canAll_11 : List UInt8 := [180, 0, 32, 161, 0, 32, 42, 180, 0, 236, 5, 160, 0, 20, 42, 180, 0, 19, 21, 7, 51, 42]
abbrev dktX2_canAll_11 : List UInt8 := dkwX2_canAll_11 ++ dktX2_canAll_12
def dkwX2_canAll_10 : List UInt8 := [180, 0, 98, 21, 4, 46, 21, 7, 184, 0, 239, 153, 0, 47, 42, 21, 7, 21, 5, 182, 0, 242, 42]
abbrev dktX2_canAll_10 : List UInt8 := dkwX2_canAll_10 ++ dktX2_canAll_11
def dkwX2_canAll_9 : List UInt8 := [4, 167, 0, 4, 3, 54, 6, 3, 54, 7, 21, 7, 27, 162, 0, 76, 21, 6, 154, 0, 71, 42]
abbrev dktX2_canAll_9 : List UInt8 := dkwX2_canAll_9 ++ dktX2_canAll_10
def dkwX2_canAll_8 : List UInt8 := [180, 0, 19, 21, 5, 51, 154, 0, 13, 21, 4, 29, 126, 153, 0, 6, 167, 0, 121, 21, 4, 154, 0, 7]
abbrev dktX2_canAll_8 : List UInt8 := dkwX2_canAll_8 ++ dktX2_canAll_9
def dkwX2_canAll_7 : List UInt8 := [27, 162, 0, 165, 21, 4, 21, 5, 184, 0, 239, 154, 0, 149, 42, 180, 0, 236, 4, 160, 0, 23, 42]
abbrev dktX2_canAll_7 : List UInt8 := dkwX2_canAll_7 ++ dktX2_canAll_8
def dkwX2_canAll_6 : List UInt8 := [21, 4, 3, 79, 132, 4, 1, 167, 255, 239, 3, 54, 4, 21, 4, 28, 162, 0, 180, 3, 54, 5, 21, 5]
abbrev dktX2_canAll_6 : List UInt8 := dkwX2_canAll_6 ++ dktX2_canAll_7
def dkwX2_canAll_5 : List UInt8 := [164, 0, 5, 3, 172, 132, 4, 1, 167, 255, 180, 3, 54, 4, 21, 4, 28, 163, 0, 17, 42, 180, 0, 98]
abbrev dktX2_canAll_5 : List UInt8 := dkwX2_canAll_5 ++ dktX2_canAll_6
def dkwX2_canAll_4 : List UInt8 := [132, 6, 1, 167, 255, 222, 21, 5, 42, 180, 0, 36, 163, 0, 15, 21, 5, 42, 180, 0, 9, 21, 4, 46]
abbrev dktX2_canAll_4 : List UInt8 := dkwX2_canAll_4 ++ dktX2_canAll_5
def dkwX2_canAll_3 : List UInt8 := [180, 0, 13, 21, 6, 46, 21, 4, 184, 0, 239, 153, 0, 7, 4, 167, 0, 4, 3, 96, 54, 5]
abbrev dktX2_canAll_3 : List UInt8 := dkwX2_canAll_3 ++ dktX2_canAll_4
def dkwX2_canAll_2 : List UInt8 := [21, 4, 16, 8, 162, 0, 75, 3, 54, 5, 3, 54, 6, 21, 6, 27, 162, 0, 34, 21, 5, 42]
abbrev dktX2_canAll_2 : List UInt8 := dkwX2_canAll_2 ++ dktX2_canAll_3
def dkwX2_canAll_1 : List UInt8 := [51, 153, 0, 10, 4, 21, 4, 120, 167, 0, 4, 3, 128, 62, 132, 4, 1, 167, 255, 226, 3, 54, 4]
abbrev dktX2_canAll_1 : List UInt8 := dkwX2_canAll_1 ++ dktX2_canAll_2
def dkwX2_canAll_0 : List UInt8 := [4, 27, 120, 4, 100, 61, 3, 62, 3, 54, 4, 21, 4, 27, 162, 0, 30, 29, 42, 180, 0, 19, 21, 4]
abbrev dktX2_canAll_0 : List UInt8 := dkwX2_canAll_0 ++ dktX2_canAll_1
theorem dksX2_canAll_0 : cX2_canAll.data.toList.drop 0 = dktX2_canAll_0 := by decide +kernel
theorem dksX2_canAll_1 : cX2_canAll.data.toList.drop 24 = dktX2_canAll_1 := dk_seg dksX2_canAll_0 24 rfl rfl
theorem dksX2_canAll_2 : cX2_canAll.data.toList.drop 47 = dktX2_canAll_2 := dk_seg dksX2_canAll_1 23 rfl rfl
theorem dksX2_canAll_3 : cX2_canAll.data.toList.drop 69 = dktX2_canAll_3 := dk_seg dksX2_canAll_2 22 rfl rfl
theorem dksX2_canAll_4 : cX2_canAll.data.toList.drop 91 = dktX2_canAll_4 := dk_seg dksX2_canAll_3 22 rfl rfl
theorem dksX2_canAll_5 : cX2_canAll.data.toList.drop 115 = dktX2_canAll_5 := dk_seg dksX2_canAll_4 24 rfl rfl
theorem dksX2_canAll_6 : cX2_canAll.data.toList.drop 139 = dktX2_canAll_6 := dk_seg dksX2_canAll_5 24 rfl rfl
theorem dksX2_canAll_7 : cX2_canAll.data.toList.drop 163 = dktX2_canAll_7 := dk_seg dksX2_canAll_6 24 rfl rfl
theorem dksX2_canAll_8 : cX2_canAll.data.toList.drop 186 = dktX2_canAll_8 := dk_seg dksX2_canAll_7 23 rfl rfl
theorem dksX2_canAll_9 : cX2_canAll.data.toList.drop 210 = dktX2_canAll_9 := dk_seg dksX2_canAll_8 24 rfl rfl
theorem dksX2_canAll_10 : cX2_canAll.data.toList.drop 232 = dktX2_canAll_10 := dk_seg dksX2_canAll_9 22 rfl rfl
theorem dksX2_canAll_11 : cX2_canAll.data.toList.drop 255 = dktX2_canAll_11 := dk_seg dksX2_canAll_10 23 rfl rfl
theorem dksX2_canAll_12 : cX2_canAll.data.toList.drop 277 = dktX2_canAll_12 := dk_seg dksX2_canAll_11 22 rfl rfl
theorem dksX2_canAll_13 : cX2_canAll.data.toList.drop 301 = dktX2_canAll_13 := dk_seg dksX2_canAll_12 24 rfl rfl
theorem dksX2_canAll_14 : cX2_canAll.data.toList.drop 323 = dktX2_canAll_14 := dk_seg dksX2_canAll_13 22 rfl rfl
theorem dksX2_canAll_15 : cX2_canAll.data.toList.drop 345 = dktX2_canAll_15 := dk_seg dksX2_canAll_14 22 rfl rfl
theorem dX2_canAll_0 : decode cX2_canAll 0 = .ok (.iconst 1, 1) := dk_4 (dk_at dksX2_canAll_0 0 rfl rfl)
theorem dX2_canAll_1 : decode cX2_canAll 1 = .ok (.iload_n 1, 1) := dk_27 (dk_at dksX2_canAll_0 1 rfl rfl)
theorem dX2_canAll_2 : decode cX2_canAll 2 = .ok (.ishl, 1) := dk_120 (dk_at dksX2_canAll_0 2 rfl rfl)
theorem dX2_canAll_3 : decode cX2_canAll 3 = .ok (.iconst 1, 1) := dk_4 (dk_at dksX2_canAll_0 3 rfl rfl)
theorem dX2_canAll_4 : decode cX2_canAll 4 = .ok (.isub, 1) := dk_100 (dk_at dksX2_canAll_0 4 rfl rfl)
theorem dX2_canAll_5 : decode cX2_canAll 5 = .ok (.istore_n 2, 1) := dk_61 (dk_at dksX2_canAll_0 5 rfl rfl)
theorem dX2_canAll_6 : decode cX2_canAll 6 = .ok (.iconst 0, 1) := dk_3 (dk_at dksX2_canAll_0 6 rfl rfl)
theorem dX2_canAll_7 : decode cX2_canAll 7 = .ok (.istore_n 3, 1) := dk_62 (dk_at dksX2_canAll_0 7 rfl rfl)
theorem dX2_canAll_8 : decode cX2_canAll 8 = .ok (.iconst 0, 1) := dk_3 (dk_at dksX2_canAll_0 8 rfl rfl)
theorem dX2_canAll_9 : decode cX2_canAll 9 = .ok (.istore 4, 2) := dk_54 4 (dk_at dksX2_canAll_0 9 rfl rfl)
theorem dX2_canAll_11 : decode cX2_canAll 11 = .ok (.iload 4, 2) := dk_21 4 (dk_at dksX2_canAll_0 11 rfl rfl)
theorem dX2_canAll_13 : decode cX2_canAll 13 = .ok (.iload_n 1, 1) := dk_27 (dk_at dksX2_canAll_0 13 rfl rfl)
theorem dX2_canAll_14 : decode cX2_canAll 14 = .ok (.if_icmp .ge 30, 3) := dk_162 0 30 (dk_at dksX2_canAll_0 14 rfl rfl)
theorem dX2_canAll_17 : decode cX2_canAll 17 = .ok (.iload_n 3, 1) := dk_29 (dk_at dksX2_canAll_0 17 rfl rfl)
theorem dX2_canAll_18 : decode cX2_canAll 18 = .ok (.aload_n 0, 1) := dk_42 (dk_at dksX2_canAll_0 18 rfl rfl)
theorem dX2_canAll_19 : decode cX2_canAll 19 = .ok (.getfield 19, 3) := dk_180 0 19 (dk_at dksX2_canAll_0 19 rfl rfl)
theorem dX2_canAll_22 : decode cX2_canAll 22 = .ok (.iload 4, 2) := dk_21 4 (dk_at dksX2_canAll_0 22 rfl rfl)
theorem dX2_canAll_24 : decode cX2_canAll 24 = .ok (.baload, 1) := dk_51 (dk_at dksX2_canAll_1 0 rfl rfl)
theorem dX2_canAll_25 : decode cX2_canAll 25 = .ok (.ifCond .eq 10, 3) := dk_153 0 10 (dk_at dksX2_canAll_1 1 rfl rfl)
theorem dX2_canAll_28 : decode cX2_canAll 28 = .ok (.iconst 1, 1) := dk_4 (dk_at dksX2_canAll_1 4 rfl rfl)
theorem dX2_canAll_29 : decode cX2_canAll 29 = .ok (.iload 4, 2) := dk_21 4 (dk_at dksX2_canAll_1 5 rfl rfl)
theorem dX2_canAll_31 : decode cX2_canAll 31 = .ok (.ishl, 1) := dk_120 (dk_at dksX2_canAll_1 7 rfl rfl)
theorem dX2_canAll_32 : decode cX2_canAll 32 = .ok (.goto 4, 3) := dk_167 0 4 (dk_at dksX2_canAll_1 8 rfl rfl)
theorem dX2_canAll_35 : decode cX2_canAll 35 = .ok (.iconst 0, 1) := dk_3 (dk_at dksX2_canAll_1 11 rfl rfl)
theorem dX2_canAll_36 : decode cX2_canAll 36 = .ok (.ior, 1) := dk_128 (dk_at dksX2_canAll_1 12 rfl rfl)
theorem dX2_canAll_37 : decode cX2_canAll 37 = .ok (.istore_n 3, 1) := dk_62 (dk_at dksX2_canAll_1 13 rfl rfl)
theorem dX2_canAll_38 : decode cX2_canAll 38 = .ok (.iinc 4 1, 3) := dk_132 4 1 (dk_at dksX2_canAll_1 14 rfl rfl)
theorem dX2_canAll_41 : decode cX2_canAll 41 = .ok (.goto (-30), 3) := dk_167 255 226 (dk_at dksX2_canAll_1 17 rfl rfl)
theorem dX2_canAll_44 : decode cX2_canAll 44 = .ok (.iconst 0, 1) := dk_3 (dk_at dksX2_canAll_1 20 rfl rfl)
theorem dX2_canAll_45 : decode cX2_canAll 45 = .ok (.istore 4, 2) := dk_54 4 (dk_at dksX2_canAll_1 21 rfl rfl)
theorem dX2_canAll_47 : decode cX2_canAll 47 = .ok (.iload 4, 2) := dk_21 4 (dk_at dksX2_canAll_2 0 rfl rfl)
theorem dX2_canAll_49 : decode cX2_canAll 49 = .ok (.bipush 8, 2) := dk_16 8 (dk_at dksX2_canAll_2 2 rfl rfl)
theorem dX2_canAll_51 : decode cX2_canAll 51 = .ok (.if_icmp .ge 75, 3) := dk_162 0 75 (dk_at dksX2_canAll_2 4 rfl rfl)
theorem dX2_canAll_54 : decode cX2_canAll 54 = .ok (.iconst 0, 1) := dk_3 (dk_at dksX2_canAll_2 7 rfl rfl)
theorem dX2_canAll_55 : decode cX2_canAll 55 = .ok (.istore 5, 2) := dk_54 5 (dk_at dksX2_canAll_2 8 rfl rfl)
theorem dX2_canAll_57 : decode cX2_canAll 57 = .ok (.iconst 0, 1) := dk_3 (dk_at dksX2_canAll_2 10 rfl rfl)
theorem dX2_canAll_58 : decode cX2_canAll 58 = .ok (.istore 6, 2) := dk_54 6 (dk_at dksX2_canAll_2 11 rfl rfl)
theorem dX2_canAll_60 : decode cX2_canAll 60 = .ok (.iload 6, 2) := dk_21 6 (dk_at dksX2_canAll_2 13 rfl rfl)
theorem dX2_canAll_62 : decode cX2_canAll 62 = .ok (.iload_n 1, 1) := dk_27 (dk_at dksX2_canAll_2 15 rfl rfl)
theorem dX2_canAll_63 : decode cX2_canAll 63 = .ok (.if_icmp .ge 34, 3) := dk_162 0 34 (dk_at dksX2_canAll_2 16 rfl rfl)
theorem dX2_canAll_66 : decode cX2_canAll 66 = .ok (.iload 5, 2) := dk_21 5 (dk_at dksX2_canAll_2 19 rfl rfl)
theorem dX2_canAll_68 : decode cX2_canAll 68 = .ok (.aload_n 0, 1) := dk_42 (dk_at dksX2_canAll_2 21 rfl rfl)
theorem dX2_canAll_69 : decode cX2_canAll 69 = .ok (.getfield 13, 3) := dk_180 0 13 (dk_at dksX2_canAll_3 0 rfl rfl)
theorem dX2_canAll_72 : decode cX2_canAll 72 = .ok (.iload 6, 2) := dk_21 6 (dk_at dksX2_canAll_3 3 rfl rfl)
theorem dX2_canAll_74 : decode cX2_canAll 74 = .ok (.iaload, 1) := dk_46 (dk_at dksX2_canAll_3 5 rfl rfl)
theorem dX2_canAll_75 : decode cX2_canAll 75 = .ok (.iload 4, 2) := dk_21 4 (dk_at dksX2_canAll_3 6 rfl rfl)
theorem dX2_canAll_77 : decode cX2_canAll 77 = .ok (.invokestatic 239, 3) := dk_184 0 239 (dk_at dksX2_canAll_3 8 rfl rfl)
theorem dX2_canAll_80 : decode cX2_canAll 80 = .ok (.ifCond .eq 7, 3) := dk_153 0 7 (dk_at dksX2_canAll_3 11 rfl rfl)
theorem dX2_canAll_83 : decode cX2_canAll 83 = .ok (.iconst 1, 1) := dk_4 (dk_at dksX2_canAll_3 14 rfl rfl)
theorem dX2_canAll_84 : decode cX2_canAll 84 = .ok (.goto 4, 3) := dk_167 0 4 (dk_at dksX2_canAll_3 15 rfl rfl)
theorem dX2_canAll_87 : decode cX2_canAll 87 = .ok (.iconst 0, 1) := dk_3 (dk_at dksX2_canAll_3 18 rfl rfl)
theorem dX2_canAll_88 : decode cX2_canAll 88 = .ok (.iadd, 1) := dk_96 (dk_at dksX2_canAll_3 19 rfl rfl)
theorem dX2_canAll_89 : decode cX2_canAll 89 = .ok (.istore 5, 2) := dk_54 5 (dk_at dksX2_canAll_3 20 rfl rfl)
theorem dX2_canAll_91 : decode cX2_canAll 91 = .ok (.iinc 6 1, 3) := dk_132 6 1 (dk_at dksX2_canAll_4 0 rfl rfl)
theorem dX2_canAll_94 : decode cX2_canAll 94 = .ok (.goto (-34), 3) := dk_167 255 222 (dk_at dksX2_canAll_4 3 rfl rfl)
theorem dX2_canAll_97 : decode cX2_canAll 97 = .ok (.iload 5, 2) := dk_21 5 (dk_at dksX2_canAll_4 6 rfl rfl)
theorem dX2_canAll_99 : decode cX2_canAll 99 = .ok (.aload_n 0, 1) := dk_42 (dk_at dksX2_canAll_4 8 rfl rfl)
theorem dX2_canAll_100 : decode cX2_canAll 100 = .ok (.getfield 36, 3) := dk_180 0 36 (dk_at dksX2_canAll_4 9 rfl rfl)
theorem dX2_canAll_103 : decode cX2_canAll 103 = .ok (.if_icmp .gt 15, 3) := dk_163 0 15 (dk_at dksX2_canAll_4 12 rfl rfl)
theorem dX2_canAll_106 : decode cX2_canAll 106 = .ok (.iload 5, 2) := dk_21 5 (dk_at dksX2_canAll_4 15 rfl rfl)
theorem dX2_canAll_108 : decode cX2_canAll 108 = .ok (.aload_n 0, 1) := dk_42 (dk_at dksX2_canAll_4 17 rfl rfl)
theorem dX2_canAll_109 : decode cX2_canAll 109 = .ok (.getfield 9, 3) := dk_180 0 9 (dk_at dksX2_canAll_4 18 rfl rfl)
theorem dX2_canAll_112 : decode cX2_canAll 112 = .ok (.iload 4, 2) := dk_21 4 (dk_at dksX2_canAll_4 21 rfl rfl)
theorem dX2_canAll_114 : decode cX2_canAll 114 = .ok (.iaload, 1) := dk_46 (dk_at dksX2_canAll_4 23 rfl rfl)
theorem dX2_canAll_115 : decode cX2_canAll 115 = .ok (.if_icmp .le 5, 3) := dk_164 0 5 (dk_at dksX2_canAll_5 0 rfl rfl)
theorem dX2_canAll_118 : decode cX2_canAll 118 = .ok (.iconst 0, 1) := dk_3 (dk_at dksX2_canAll_5 3 rfl rfl)
theorem dX2_canAll_119 : decode cX2_canAll 119 = .ok (.ireturn, 1) := dk_172 (dk_at dksX2_canAll_5 4 rfl rfl)
theorem dX2_canAll_120 : decode cX2_canAll 120 = .ok (.iinc 4 1, 3) := dk_132 4 1 (dk_at dksX2_canAll_5 5 rfl rfl)
theorem dX2_canAll_123 : decode cX2_canAll 123 = .ok (.goto (-76), 3) := dk_167 255 180 (dk_at dksX2_canAll_5 8 rfl rfl)
theorem dX2_canAll_126 : decode cX2_canAll 126 = .ok (.iconst 0, 1) := dk_3 (dk_at dksX2_canAll_5 11 rfl rfl)
theorem dX2_canAll_127 : decode cX2_canAll 127 = .ok (.istore 4, 2) := dk_54 4 (dk_at dksX2_canAll_5 12 rfl rfl)
theorem dX2_canAll_129 : decode cX2_canAll 129 = .ok (.iload 4, 2) := dk_21 4 (dk_at dksX2_canAll_5 14 rfl rfl)
theorem dX2_canAll_131 : decode cX2_canAll 131 = .ok (.iload_n 2, 1) := dk_28 (dk_at dksX2_canAll_5 16 rfl rfl)
theorem dX2_canAll_132 : decode cX2_canAll 132 = .ok (.if_icmp .gt 17, 3) := dk_163 0 17 (dk_at dksX2_canAll_5 17 rfl rfl)
theorem dX2_canAll_135 : decode cX2_canAll 135 = .ok (.aload_n 0, 1) := dk_42 (dk_at dksX2_canAll_5 20 rfl rfl)
theorem dX2_canAll_136 : decode cX2_canAll 136 = .ok (.getfield 98, 3) := dk_180 0 98 (dk_at dksX2_canAll_5 21 rfl rfl)
theorem dX2_canAll_139 : decode cX2_canAll 139 = .ok (.iload 4, 2) := dk_21 4 (dk_at dksX2_canAll_6 0 rfl rfl)
theorem dX2_canAll_141 : decode cX2_canAll 141 = .ok (.iconst 0, 1) := dk_3 (dk_at dksX2_canAll_6 2 rfl rfl)
theorem dX2_canAll_142 : decode cX2_canAll 142 = .ok (.iastore, 1) := dk_79 (dk_at dksX2_canAll_6 3 rfl rfl)
theorem dX2_canAll_143 : decode cX2_canAll 143 = .ok (.iinc 4 1, 3) := dk_132 4 1 (dk_at dksX2_canAll_6 4 rfl rfl)
theorem dX2_canAll_146 : decode cX2_canAll 146 = .ok (.goto (-17), 3) := dk_167 255 239 (dk_at dksX2_canAll_6 7 rfl rfl)
theorem dX2_canAll_149 : decode cX2_canAll 149 = .ok (.iconst 0, 1) := dk_3 (dk_at dksX2_canAll_6 10 rfl rfl)
theorem dX2_canAll_150 : decode cX2_canAll 150 = .ok (.istore 4, 2) := dk_54 4 (dk_at dksX2_canAll_6 11 rfl rfl)
theorem dX2_canAll_152 : decode cX2_canAll 152 = .ok (.iload 4, 2) := dk_21 4 (dk_at dksX2_canAll_6 13 rfl rfl)
theorem dX2_canAll_154 : decode cX2_canAll 154 = .ok (.iload_n 2, 1) := dk_28 (dk_at dksX2_canAll_6 15 rfl rfl)
theorem dX2_canAll_155 : decode cX2_canAll 155 = .ok (.if_icmp .ge 180, 3) := dk_162 0 180 (dk_at dksX2_canAll_6 16 rfl rfl)
theorem dX2_canAll_158 : decode cX2_canAll 158 = .ok (.iconst 0, 1) := dk_3 (dk_at dksX2_canAll_6 19 rfl rfl)
theorem dX2_canAll_159 : decode cX2_canAll 159 = .ok (.istore 5, 2) := dk_54 5 (dk_at dksX2_canAll_6 20 rfl rfl)
theorem dX2_canAll_161 : decode cX2_canAll 161 = .ok (.iload 5, 2) := dk_21 5 (dk_at dksX2_canAll_6 22 rfl rfl)
theorem dX2_canAll_163 : decode cX2_canAll 163 = .ok (.iload_n 1, 1) := dk_27 (dk_at dksX2_canAll_7 0 rfl rfl)
theorem dX2_canAll_164 : decode cX2_canAll 164 = .ok (.if_icmp .ge 165, 3) := dk_162 0 165 (dk_at dksX2_canAll_7 1 rfl rfl)
theorem dX2_canAll_167 : decode cX2_canAll 167 = .ok (.iload 4, 2) := dk_21 4 (dk_at dksX2_canAll_7 4 rfl rfl)
theorem dX2_canAll_169 : decode cX2_canAll 169 = .ok (.iload 5, 2) := dk_21 5 (dk_at dksX2_canAll_7 6 rfl rfl)
theorem dX2_canAll_171 : decode cX2_canAll 171 = .ok (.invokestatic 239, 3) := dk_184 0 239 (dk_at dksX2_canAll_7 8 rfl rfl)
theorem dX2_canAll_174 : decode cX2_canAll 174 = .ok (.ifCond .ne 149, 3) := dk_154 0 149 (dk_at dksX2_canAll_7 11 rfl rfl)
theorem dX2_canAll_177 : decode cX2_canAll 177 = .ok (.aload_n 0, 1) := dk_42 (dk_at dksX2_canAll_7 14 rfl rfl)
theorem dX2_canAll_178 : decode cX2_canAll 178 = .ok (.getfield 236, 3) := dk_180 0 236 (dk_at dksX2_canAll_7 15 rfl rfl)
theorem dX2_canAll_181 : decode cX2_canAll 181 = .ok (.iconst 1, 1) := dk_4 (dk_at dksX2_canAll_7 18 rfl rfl)
theorem dX2_canAll_182 : decode cX2_canAll 182 = .ok (.if_icmp .ne 23, 3) := dk_160 0 23 (dk_at dksX2_canAll_7 19 rfl rfl)
theorem dX2_canAll_185 : decode cX2_canAll 185 = .ok (.aload_n 0, 1) := dk_42 (dk_at dksX2_canAll_7 22 rfl rfl)
theorem dX2_canAll_186 : decode cX2_canAll 186 = .ok (.getfield 19, 3) := dk_180 0 19 (dk_at dksX2_canAll_8 0 rfl rfl)
theorem dX2_canAll_189 : decode cX2_canAll 189 = .ok (.iload 5, 2) := dk_21 5 (dk_at dksX2_canAll_8 3 rfl rfl)
theorem dX2_canAll_191 : decode cX2_canAll 191 = .ok (.baload, 1) := dk_51 (dk_at dksX2_canAll_8 5 rfl rfl)
theorem dX2_canAll_192 : decode cX2_canAll 192 = .ok (.ifCond .ne 13, 3) := dk_154 0 13 (dk_at dksX2_canAll_8 6 rfl rfl)
theorem dX2_canAll_195 : decode cX2_canAll 195 = .ok (.iload 4, 2) := dk_21 4 (dk_at dksX2_canAll_8 9 rfl rfl)
theorem dX2_canAll_197 : decode cX2_canAll 197 = .ok (.iload_n 3, 1) := dk_29 (dk_at dksX2_canAll_8 11 rfl rfl)
theorem dX2_canAll_198 : decode cX2_canAll 198 = .ok (.iand, 1) := dk_126 (dk_at dksX2_canAll_8 12 rfl rfl)
theorem dX2_canAll_199 : decode cX2_canAll 199 = .ok (.ifCond .eq 6, 3) := dk_153 0 6 (dk_at dksX2_canAll_8 13 rfl rfl)
theorem dX2_canAll_202 : decode cX2_canAll 202 = .ok (.goto 121, 3) := dk_167 0 121 (dk_at dksX2_canAll_8 16 rfl rfl)
theorem dX2_canAll_205 : decode cX2_canAll 205 = .ok (.iload 4, 2) := dk_21 4 (dk_at dksX2_canAll_8 19 rfl rfl)
theorem dX2_canAll_207 : decode cX2_canAll 207 = .ok (.ifCond .ne 7, 3) := dk_154 0 7 (dk_at dksX2_canAll_8 21 rfl rfl)
theorem dX2_canAll_210 : decode cX2_canAll 210 = .ok (.iconst 1, 1) := dk_4 (dk_at dksX2_canAll_9 0 rfl rfl)
theorem dX2_canAll_211 : decode cX2_canAll 211 = .ok (.goto 4, 3) := dk_167 0 4 (dk_at dksX2_canAll_9 1 rfl rfl)
theorem dX2_canAll_214 : decode cX2_canAll 214 = .ok (.iconst 0, 1) := dk_3 (dk_at dksX2_canAll_9 4 rfl rfl)
theorem dX2_canAll_215 : decode cX2_canAll 215 = .ok (.istore 6, 2) := dk_54 6 (dk_at dksX2_canAll_9 5 rfl rfl)
theorem dX2_canAll_217 : decode cX2_canAll 217 = .ok (.iconst 0, 1) := dk_3 (dk_at dksX2_canAll_9 7 rfl rfl)
theorem dX2_canAll_218 : decode cX2_canAll 218 = .ok (.istore 7, 2) := dk_54 7 (dk_at dksX2_canAll_9 8 rfl rfl)
theorem dX2_canAll_220 : decode cX2_canAll 220 = .ok (.iload 7, 2) := dk_21 7 (dk_at dksX2_canAll_9 10 rfl rfl)
theorem dX2_canAll_222 : decode cX2_canAll 222 = .ok (.iload_n 1, 1) := dk_27 (dk_at dksX2_canAll_9 12 rfl rfl)
theorem dX2_canAll_223 : decode cX2_canAll 223 = .ok (.if_icmp .ge 76, 3) := dk_162 0 76 (dk_at dksX2_canAll_9 13 rfl rfl)
theorem dX2_canAll_226 : decode cX2_canAll 226 = .ok (.iload 6, 2) := dk_21 6 (dk_at dksX2_canAll_9 16 rfl rfl)
theorem dX2_canAll_228 : decode cX2_canAll 228 = .ok (.ifCond .ne 71, 3) := dk_154 0 71 (dk_at dksX2_canAll_9 18 rfl rfl)
theorem dX2_canAll_231 : decode cX2_canAll 231 = .ok (.aload_n 0, 1) := dk_42 (dk_at dksX2_canAll_9 21 rfl rfl)
theorem dX2_canAll_232 : decode cX2_canAll 232 = .ok (.getfield 98, 3) := dk_180 0 98 (dk_at dksX2_canAll_10 0 rfl rfl)
theorem dX2_canAll_235 : decode cX2_canAll 235 = .ok (.iload 4, 2) := dk_21 4 (dk_at dksX2_canAll_10 3 rfl rfl)
theorem dX2_canAll_237 : decode cX2_canAll 237 = .ok (.iaload, 1) := dk_46 (dk_at dksX2_canAll_10 5 rfl rfl)
theorem dX2_canAll_238 : decode cX2_canAll 238 = .ok (.iload 7, 2) := dk_21 7 (dk_at dksX2_canAll_10 6 rfl rfl)
theorem dX2_canAll_240 : decode cX2_canAll 240 = .ok (.invokestatic 239, 3) := dk_184 0 239 (dk_at dksX2_canAll_10 8 rfl rfl)
theorem dX2_canAll_243 : decode cX2_canAll 243 = .ok (.ifCond .eq 47, 3) := dk_153 0 47 (dk_at dksX2_canAll_10 11 rfl rfl)
theorem dX2_canAll_246 : decode cX2_canAll 246 = .ok (.aload_n 0, 1) := dk_42 (dk_at dksX2_canAll_10 14 rfl rfl)
theorem dX2_canAll_247 : decode cX2_canAll 247 = .ok (.iload 7, 2) := dk_21 7 (dk_at dksX2_canAll_10 15 rfl rfl)
theorem dX2_canAll_249 : decode cX2_canAll 249 = .ok (.iload 5, 2) := dk_21 5 (dk_at dksX2_canAll_10 17 rfl rfl)
theorem dX2_canAll_251 : decode cX2_canAll 251 = .ok (.invokevirtual 242, 3) := dk_182 0 242 (dk_at dksX2_canAll_10 19 rfl rfl)
theorem dX2_canAll_254 : decode cX2_canAll 254 = .ok (.aload_n 0, 1) := dk_42 (dk_at dksX2_canAll_10 22 rfl rfl)
theorem dX2_canAll_255 : decode cX2_canAll 255 = .ok (.getfield 32, 3) := dk_180 0 32 (dk_at dksX2_canAll_11 0 rfl rfl)
theorem dX2_canAll_258 : decode cX2_canAll 258 = .ok (.if_icmp .lt 32, 3) := dk_161 0 32 (dk_at dksX2_canAll_11 3 rfl rfl)
theorem dX2_canAll_261 : decode cX2_canAll 261 = .ok (.aload_n 0, 1) := dk_42 (dk_at dksX2_canAll_11 6 rfl rfl)
theorem dX2_canAll_262 : decode cX2_canAll 262 = .ok (.getfield 236, 3) := dk_180 0 236 (dk_at dksX2_canAll_11 7 rfl rfl)
theorem dX2_canAll_265 : decode cX2_canAll 265 = .ok (.iconst 2, 1) := dk_5 (dk_at dksX2_canAll_11 10 rfl rfl)
theorem dX2_canAll_266 : decode cX2_canAll 266 = .ok (.if_icmp .ne 20, 3) := dk_160 0 20 (dk_at dksX2_canAll_11 11 rfl rfl)
theorem dX2_canAll_269 : decode cX2_canAll 269 = .ok (.aload_n 0, 1) := dk_42 (dk_at dksX2_canAll_11 14 rfl rfl)
theorem dX2_canAll_270 : decode cX2_canAll 270 = .ok (.getfield 19, 3) := dk_180 0 19 (dk_at dksX2_canAll_11 15 rfl rfl)
theorem dX2_canAll_273 : decode cX2_canAll 273 = .ok (.iload 7, 2) := dk_21 7 (dk_at dksX2_canAll_11 18 rfl rfl)
theorem dX2_canAll_275 : decode cX2_canAll 275 = .ok (.baload, 1) := dk_51 (dk_at dksX2_canAll_11 20 rfl rfl)
theorem dX2_canAll_276 : decode cX2_canAll 276 = .ok (.aload_n 0, 1) := dk_42 (dk_at dksX2_canAll_11 21 rfl rfl)
theorem dX2_canAll_277 : decode cX2_canAll 277 = .ok (.getfield 19, 3) := dk_180 0 19 (dk_at dksX2_canAll_12 0 rfl rfl)
theorem dX2_canAll_280 : decode cX2_canAll 280 = .ok (.iload 5, 2) := dk_21 5 (dk_at dksX2_canAll_12 3 rfl rfl)
theorem dX2_canAll_282 : decode cX2_canAll 282 = .ok (.baload, 1) := dk_51 (dk_at dksX2_canAll_12 5 rfl rfl)
theorem dX2_canAll_283 : decode cX2_canAll 283 = .ok (.if_icmp .eq 7, 3) := dk_159 0 7 (dk_at dksX2_canAll_12 6 rfl rfl)
theorem dX2_canAll_286 : decode cX2_canAll 286 = .ok (.iconst 1, 1) := dk_4 (dk_at dksX2_canAll_12 9 rfl rfl)
theorem dX2_canAll_287 : decode cX2_canAll 287 = .ok (.goto 4, 3) := dk_167 0 4 (dk_at dksX2_canAll_12 10 rfl rfl)
theorem dX2_canAll_290 : decode cX2_canAll 290 = .ok (.iconst 0, 1) := dk_3 (dk_at dksX2_canAll_12 13 rfl rfl)
theorem dX2_canAll_291 : decode cX2_canAll 291 = .ok (.istore 6, 2) := dk_54 6 (dk_at dksX2_canAll_12 14 rfl rfl)
theorem dX2_canAll_293 : decode cX2_canAll 293 = .ok (.iinc 7 1, 3) := dk_132 7 1 (dk_at dksX2_canAll_12 16 rfl rfl)
theorem dX2_canAll_296 : decode cX2_canAll 296 = .ok (.goto (-76), 3) := dk_167 255 180 (dk_at dksX2_canAll_12 19 rfl rfl)
theorem dX2_canAll_299 : decode cX2_canAll 299 = .ok (.iload 6, 2) := dk_21 6 (dk_at dksX2_canAll_12 22 rfl rfl)
theorem dX2_canAll_301 : decode cX2_canAll 301 = .ok (.ifCond .eq 22, 3) := dk_153 0 22 (dk_at dksX2_canAll_13 0 rfl rfl)
theorem dX2_canAll_304 : decode cX2_canAll 304 = .ok (.aload_n 0, 1) := dk_42 (dk_at dksX2_canAll_13 3 rfl rfl)
theorem dX2_canAll_305 : decode cX2_canAll 305 = .ok (.getfield 98, 3) := dk_180 0 98 (dk_at dksX2_canAll_13 4 rfl rfl)
theorem dX2_canAll_308 : decode cX2_canAll 308 = .ok (.iload 4, 2) := dk_21 4 (dk_at dksX2_canAll_13 7 rfl rfl)
theorem dX2_canAll_310 : decode cX2_canAll 310 = .ok (.iconst 1, 1) := dk_4 (dk_at dksX2_canAll_13 9 rfl rfl)
theorem dX2_canAll_311 : decode cX2_canAll 311 = .ok (.iload 5, 2) := dk_21 5 (dk_at dksX2_canAll_13 10 rfl rfl)
theorem dX2_canAll_313 : decode cX2_canAll 313 = .ok (.ishl, 1) := dk_120 (dk_at dksX2_canAll_13 12 rfl rfl)
theorem dX2_canAll_314 : decode cX2_canAll 314 = .ok (.ior, 1) := dk_128 (dk_at dksX2_canAll_13 13 rfl rfl)
theorem dX2_canAll_315 : decode cX2_canAll 315 = .ok (.dup2, 1) := dk_92 (dk_at dksX2_canAll_13 14 rfl rfl)
theorem dX2_canAll_316 : decode cX2_canAll 316 = .ok (.iaload, 1) := dk_46 (dk_at dksX2_canAll_13 15 rfl rfl)
theorem dX2_canAll_317 : decode cX2_canAll 317 = .ok (.iconst 1, 1) := dk_4 (dk_at dksX2_canAll_13 16 rfl rfl)
theorem dX2_canAll_318 : decode cX2_canAll 318 = .ok (.iload 5, 2) := dk_21 5 (dk_at dksX2_canAll_13 17 rfl rfl)
theorem dX2_canAll_320 : decode cX2_canAll 320 = .ok (.ishl, 1) := dk_120 (dk_at dksX2_canAll_13 19 rfl rfl)
theorem dX2_canAll_321 : decode cX2_canAll 321 = .ok (.ior, 1) := dk_128 (dk_at dksX2_canAll_13 20 rfl rfl)
theorem dX2_canAll_322 : decode cX2_canAll 322 = .ok (.iastore, 1) := dk_79 (dk_at dksX2_canAll_13 21 rfl rfl)
theorem dX2_canAll_323 : decode cX2_canAll 323 = .ok (.iinc 5 1, 3) := dk_132 5 1 (dk_at dksX2_canAll_14 0 rfl rfl)
theorem dX2_canAll_326 : decode cX2_canAll 326 = .ok (.goto (-165), 3) := dk_167 255 91 (dk_at dksX2_canAll_14 3 rfl rfl)
theorem dX2_canAll_329 : decode cX2_canAll 329 = .ok (.iinc 4 1, 3) := dk_132 4 1 (dk_at dksX2_canAll_14 6 rfl rfl)
theorem dX2_canAll_332 : decode cX2_canAll 332 = .ok (.goto (-180), 3) := dk_167 255 76 (dk_at dksX2_canAll_14 9 rfl rfl)
theorem dX2_canAll_335 : decode cX2_canAll 335 = .ok (.iload_n 1, 1) := dk_27 (dk_at dksX2_canAll_14 12 rfl rfl)
theorem dX2_canAll_336 : decode cX2_canAll 336 = .ok (.ifCond .eq 12, 3) := dk_153 0 12 (dk_at dksX2_canAll_14 13 rfl rfl)
theorem dX2_canAll_339 : decode cX2_canAll 339 = .ok (.aload_n 0, 1) := dk_42 (dk_at dksX2_canAll_14 16 rfl rfl)
theorem dX2_canAll_340 : decode cX2_canAll 340 = .ok (.getfield 98, 3) := dk_180 0 98 (dk_at dksX2_canAll_14 17 rfl rfl)
theorem dX2_canAll_343 : decode cX2_canAll 343 = .ok (.iload_n 2, 1) := dk_28 (dk_at dksX2_canAll_14 20 rfl rfl)
theorem dX2_canAll_344 : decode cX2_canAll 344 = .ok (.iaload, 1) := dk_46 (dk_at dksX2_canAll_14 21 rfl rfl)
theorem dX2_canAll_345 : decode cX2_canAll 345 = .ok (.ifCond .eq 7, 3) := dk_153 0 7 (dk_at dksX2_canAll_15 0 rfl rfl)
theorem dX2_canAll_348 : decode cX2_canAll 348 = .ok (.iconst 1, 1) := dk_4 (dk_at dksX2_canAll_15 3 rfl rfl)
theorem dX2_canAll_349 : decode cX2_canAll 349 = .ok (.goto 4, 3) := dk_167 0 4 (dk_at dksX2_canAll_15 4 rfl rfl)
theorem dX2_canAll_352 : decode cX2_canAll 352 = .ok (.iconst 0, 1) := dk_3 (dk_at dksX2_canAll_15 7 rfl rfl)
theorem dX2_canAll_353 : decode cX2_canAll 353 = .ok (.ireturn, 1) := dk_172 (dk_at dksX2_canAll_15 8 rfl rfl)
abbrev cX2_keep : ByteArray := prog_8_method_108_code
def yX2_keep : MethodName := ⟨RX2, "keep", "(I)Z"⟩
def dkwX2_keep_6 : List UInt8 := [96, 42, 180, 0, 236, 79, 4, 172]
abbrev dktX2_keep_6 : List UInt8 := dkwX2_keep_6 ++ []
def dkwX2_keep_5 : List UInt8 := [28, 42, 180, 0, 32, 79, 42, 180, 0, 101, 28, 4, 96, 42, 180, 0, 36, 79, 42, 180, 0, 101, 28, 5]
abbrev dktX2_keep_5 : List UInt8 := dkwX2_keep_5 ++ dktX2_keep_6
def dkwX2_keep_4 : List UInt8 := [4, 96, 29, 96, 42, 180, 0, 9, 29, 46, 79, 132, 3, 1, 167, 255, 228, 132, 2, 19, 42, 180, 0, 101]
abbrev dktX2_keep_4 : List UInt8 := dkwX2_keep_4 ++ dktX2_keep_5
def dkwX2_keep_3 : List UInt8 := [16, 10, 96, 42, 180, 0, 252, 79, 3, 62, 29, 16, 8, 162, 0, 28, 42, 180, 0, 101, 28, 16, 10, 96]
abbrev dktX2_keep_3 : List UInt8 := dkwX2_keep_3 ++ dktX2_keep_4
def dkwX2_keep_2 : List UInt8 := [180, 0, 101, 28, 29, 96, 42, 180, 0, 39, 29, 46, 79, 132, 3, 1, 167, 255, 233, 42, 180, 0, 101, 28]
abbrev dktX2_keep_2 : List UInt8 := dkwX2_keep_2 ++ dktX2_keep_3
def dkwX2_keep_1 : List UInt8 := [180, 0, 107, 27, 42, 180, 0, 175, 79, 16, 22, 27, 104, 61, 3, 62, 29, 16, 10, 162, 0, 23, 42]
abbrev dktX2_keep_1 : List UInt8 := dkwX2_keep_1 ++ dktX2_keep_2
def dkwX2_keep_0 : List UInt8 := [42, 3, 181, 0, 110, 27, 3, 4, 184, 0, 119, 154, 0, 5, 3, 172, 42, 180, 0, 104, 27, 4, 84, 42]
abbrev dktX2_keep_0 : List UInt8 := dkwX2_keep_0 ++ dktX2_keep_1
theorem dksX2_keep_0 : cX2_keep.data.toList.drop 0 = dktX2_keep_0 := by decide +kernel
theorem dksX2_keep_1 : cX2_keep.data.toList.drop 24 = dktX2_keep_1 := dk_seg dksX2_keep_0 24 rfl rfl
theorem dksX2_keep_2 : cX2_keep.data.toList.drop 47 = dktX2_keep_2 := dk_seg dksX2_keep_1 23 rfl rfl
theorem dksX2_keep_3 : cX2_keep.data.toList.drop 71 = dktX2_keep_3 := dk_seg dksX2_keep_2 24 rfl rfl
theorem dksX2_keep_4 : cX2_keep.data.toList.drop 95 = dktX2_keep_4 := dk_seg dksX2_keep_3 24 rfl rfl
theorem dksX2_keep_5 : cX2_keep.data.toList.drop 119 = dktX2_keep_5 := dk_seg dksX2_keep_4 24 rfl rfl
theorem dksX2_keep_6 : cX2_keep.data.toList.drop 143 = dktX2_keep_6 := dk_seg dksX2_keep_5 24 rfl rfl
theorem dX2_keep_0 : decode cX2_keep 0 = .ok (.aload_n 0, 1) := dk_42 (dk_at dksX2_keep_0 0 rfl rfl)
theorem dX2_keep_1 : decode cX2_keep 1 = .ok (.iconst 0, 1) := dk_3 (dk_at dksX2_keep_0 1 rfl rfl)
theorem dX2_keep_2 : decode cX2_keep 2 = .ok (.putfield 110, 3) := dk_181 0 110 (dk_at dksX2_keep_0 2 rfl rfl)
theorem dX2_keep_5 : decode cX2_keep 5 = .ok (.iload_n 1, 1) := dk_27 (dk_at dksX2_keep_0 5 rfl rfl)
theorem dX2_keep_6 : decode cX2_keep 6 = .ok (.iconst 0, 1) := dk_3 (dk_at dksX2_keep_0 6 rfl rfl)
theorem dX2_keep_7 : decode cX2_keep 7 = .ok (.iconst 1, 1) := dk_4 (dk_at dksX2_keep_0 7 rfl rfl)
theorem dX2_keep_8 : decode cX2_keep 8 = .ok (.invokestatic 119, 3) := dk_184 0 119 (dk_at dksX2_keep_0 8 rfl rfl)
theorem dX2_keep_11 : decode cX2_keep 11 = .ok (.ifCond .ne 5, 3) := dk_154 0 5 (dk_at dksX2_keep_0 11 rfl rfl)
theorem dX2_keep_14 : decode cX2_keep 14 = .ok (.iconst 0, 1) := dk_3 (dk_at dksX2_keep_0 14 rfl rfl)
theorem dX2_keep_15 : decode cX2_keep 15 = .ok (.ireturn, 1) := dk_172 (dk_at dksX2_keep_0 15 rfl rfl)
theorem dX2_keep_16 : decode cX2_keep 16 = .ok (.aload_n 0, 1) := dk_42 (dk_at dksX2_keep_0 16 rfl rfl)
theorem dX2_keep_17 : decode cX2_keep 17 = .ok (.getfield 104, 3) := dk_180 0 104 (dk_at dksX2_keep_0 17 rfl rfl)
theorem dX2_keep_20 : decode cX2_keep 20 = .ok (.iload_n 1, 1) := dk_27 (dk_at dksX2_keep_0 20 rfl rfl)
theorem dX2_keep_21 : decode cX2_keep 21 = .ok (.iconst 1, 1) := dk_4 (dk_at dksX2_keep_0 21 rfl rfl)
theorem dX2_keep_22 : decode cX2_keep 22 = .ok (.bastore, 1) := dk_84 (dk_at dksX2_keep_0 22 rfl rfl)
theorem dX2_keep_23 : decode cX2_keep 23 = .ok (.aload_n 0, 1) := dk_42 (dk_at dksX2_keep_0 23 rfl rfl)
theorem dX2_keep_24 : decode cX2_keep 24 = .ok (.getfield 107, 3) := dk_180 0 107 (dk_at dksX2_keep_1 0 rfl rfl)
theorem dX2_keep_27 : decode cX2_keep 27 = .ok (.iload_n 1, 1) := dk_27 (dk_at dksX2_keep_1 3 rfl rfl)
theorem dX2_keep_28 : decode cX2_keep 28 = .ok (.aload_n 0, 1) := dk_42 (dk_at dksX2_keep_1 4 rfl rfl)
theorem dX2_keep_29 : decode cX2_keep 29 = .ok (.getfield 175, 3) := dk_180 0 175 (dk_at dksX2_keep_1 5 rfl rfl)
theorem dX2_keep_32 : decode cX2_keep 32 = .ok (.iastore, 1) := dk_79 (dk_at dksX2_keep_1 8 rfl rfl)
theorem dX2_keep_33 : decode cX2_keep 33 = .ok (.bipush 22, 2) := dk_16 22 (dk_at dksX2_keep_1 9 rfl rfl)
theorem dX2_keep_35 : decode cX2_keep 35 = .ok (.iload_n 1, 1) := dk_27 (dk_at dksX2_keep_1 11 rfl rfl)
theorem dX2_keep_36 : decode cX2_keep 36 = .ok (.imul, 1) := dk_104 (dk_at dksX2_keep_1 12 rfl rfl)
theorem dX2_keep_37 : decode cX2_keep 37 = .ok (.istore_n 2, 1) := dk_61 (dk_at dksX2_keep_1 13 rfl rfl)
theorem dX2_keep_38 : decode cX2_keep 38 = .ok (.iconst 0, 1) := dk_3 (dk_at dksX2_keep_1 14 rfl rfl)
theorem dX2_keep_39 : decode cX2_keep 39 = .ok (.istore_n 3, 1) := dk_62 (dk_at dksX2_keep_1 15 rfl rfl)
theorem dX2_keep_40 : decode cX2_keep 40 = .ok (.iload_n 3, 1) := dk_29 (dk_at dksX2_keep_1 16 rfl rfl)
theorem dX2_keep_41 : decode cX2_keep 41 = .ok (.bipush 10, 2) := dk_16 10 (dk_at dksX2_keep_1 17 rfl rfl)
theorem dX2_keep_43 : decode cX2_keep 43 = .ok (.if_icmp .ge 23, 3) := dk_162 0 23 (dk_at dksX2_keep_1 19 rfl rfl)
theorem dX2_keep_46 : decode cX2_keep 46 = .ok (.aload_n 0, 1) := dk_42 (dk_at dksX2_keep_1 22 rfl rfl)
theorem dX2_keep_47 : decode cX2_keep 47 = .ok (.getfield 101, 3) := dk_180 0 101 (dk_at dksX2_keep_2 0 rfl rfl)
theorem dX2_keep_50 : decode cX2_keep 50 = .ok (.iload_n 2, 1) := dk_28 (dk_at dksX2_keep_2 3 rfl rfl)
theorem dX2_keep_51 : decode cX2_keep 51 = .ok (.iload_n 3, 1) := dk_29 (dk_at dksX2_keep_2 4 rfl rfl)
theorem dX2_keep_52 : decode cX2_keep 52 = .ok (.iadd, 1) := dk_96 (dk_at dksX2_keep_2 5 rfl rfl)
theorem dX2_keep_53 : decode cX2_keep 53 = .ok (.aload_n 0, 1) := dk_42 (dk_at dksX2_keep_2 6 rfl rfl)
theorem dX2_keep_54 : decode cX2_keep 54 = .ok (.getfield 39, 3) := dk_180 0 39 (dk_at dksX2_keep_2 7 rfl rfl)
theorem dX2_keep_57 : decode cX2_keep 57 = .ok (.iload_n 3, 1) := dk_29 (dk_at dksX2_keep_2 10 rfl rfl)
theorem dX2_keep_58 : decode cX2_keep 58 = .ok (.iaload, 1) := dk_46 (dk_at dksX2_keep_2 11 rfl rfl)
theorem dX2_keep_59 : decode cX2_keep 59 = .ok (.iastore, 1) := dk_79 (dk_at dksX2_keep_2 12 rfl rfl)
theorem dX2_keep_60 : decode cX2_keep 60 = .ok (.iinc 3 1, 3) := dk_132 3 1 (dk_at dksX2_keep_2 13 rfl rfl)
theorem dX2_keep_63 : decode cX2_keep 63 = .ok (.goto (-23), 3) := dk_167 255 233 (dk_at dksX2_keep_2 16 rfl rfl)
theorem dX2_keep_66 : decode cX2_keep 66 = .ok (.aload_n 0, 1) := dk_42 (dk_at dksX2_keep_2 19 rfl rfl)
theorem dX2_keep_67 : decode cX2_keep 67 = .ok (.getfield 101, 3) := dk_180 0 101 (dk_at dksX2_keep_2 20 rfl rfl)
theorem dX2_keep_70 : decode cX2_keep 70 = .ok (.iload_n 2, 1) := dk_28 (dk_at dksX2_keep_2 23 rfl rfl)
theorem dX2_keep_71 : decode cX2_keep 71 = .ok (.bipush 10, 2) := dk_16 10 (dk_at dksX2_keep_3 0 rfl rfl)
theorem dX2_keep_73 : decode cX2_keep 73 = .ok (.iadd, 1) := dk_96 (dk_at dksX2_keep_3 2 rfl rfl)
theorem dX2_keep_74 : decode cX2_keep 74 = .ok (.aload_n 0, 1) := dk_42 (dk_at dksX2_keep_3 3 rfl rfl)
theorem dX2_keep_75 : decode cX2_keep 75 = .ok (.getfield 252, 3) := dk_180 0 252 (dk_at dksX2_keep_3 4 rfl rfl)
theorem dX2_keep_78 : decode cX2_keep 78 = .ok (.iastore, 1) := dk_79 (dk_at dksX2_keep_3 7 rfl rfl)
theorem dX2_keep_79 : decode cX2_keep 79 = .ok (.iconst 0, 1) := dk_3 (dk_at dksX2_keep_3 8 rfl rfl)
theorem dX2_keep_80 : decode cX2_keep 80 = .ok (.istore_n 3, 1) := dk_62 (dk_at dksX2_keep_3 9 rfl rfl)
theorem dX2_keep_81 : decode cX2_keep 81 = .ok (.iload_n 3, 1) := dk_29 (dk_at dksX2_keep_3 10 rfl rfl)
theorem dX2_keep_82 : decode cX2_keep 82 = .ok (.bipush 8, 2) := dk_16 8 (dk_at dksX2_keep_3 11 rfl rfl)
theorem dX2_keep_84 : decode cX2_keep 84 = .ok (.if_icmp .ge 28, 3) := dk_162 0 28 (dk_at dksX2_keep_3 13 rfl rfl)
theorem dX2_keep_87 : decode cX2_keep 87 = .ok (.aload_n 0, 1) := dk_42 (dk_at dksX2_keep_3 16 rfl rfl)
theorem dX2_keep_88 : decode cX2_keep 88 = .ok (.getfield 101, 3) := dk_180 0 101 (dk_at dksX2_keep_3 17 rfl rfl)
theorem dX2_keep_91 : decode cX2_keep 91 = .ok (.iload_n 2, 1) := dk_28 (dk_at dksX2_keep_3 20 rfl rfl)
theorem dX2_keep_92 : decode cX2_keep 92 = .ok (.bipush 10, 2) := dk_16 10 (dk_at dksX2_keep_3 21 rfl rfl)
theorem dX2_keep_94 : decode cX2_keep 94 = .ok (.iadd, 1) := dk_96 (dk_at dksX2_keep_3 23 rfl rfl)
theorem dX2_keep_95 : decode cX2_keep 95 = .ok (.iconst 1, 1) := dk_4 (dk_at dksX2_keep_4 0 rfl rfl)
theorem dX2_keep_96 : decode cX2_keep 96 = .ok (.iadd, 1) := dk_96 (dk_at dksX2_keep_4 1 rfl rfl)
theorem dX2_keep_97 : decode cX2_keep 97 = .ok (.iload_n 3, 1) := dk_29 (dk_at dksX2_keep_4 2 rfl rfl)
theorem dX2_keep_98 : decode cX2_keep 98 = .ok (.iadd, 1) := dk_96 (dk_at dksX2_keep_4 3 rfl rfl)
theorem dX2_keep_99 : decode cX2_keep 99 = .ok (.aload_n 0, 1) := dk_42 (dk_at dksX2_keep_4 4 rfl rfl)
theorem dX2_keep_100 : decode cX2_keep 100 = .ok (.getfield 9, 3) := dk_180 0 9 (dk_at dksX2_keep_4 5 rfl rfl)
theorem dX2_keep_103 : decode cX2_keep 103 = .ok (.iload_n 3, 1) := dk_29 (dk_at dksX2_keep_4 8 rfl rfl)
theorem dX2_keep_104 : decode cX2_keep 104 = .ok (.iaload, 1) := dk_46 (dk_at dksX2_keep_4 9 rfl rfl)
theorem dX2_keep_105 : decode cX2_keep 105 = .ok (.iastore, 1) := dk_79 (dk_at dksX2_keep_4 10 rfl rfl)
theorem dX2_keep_106 : decode cX2_keep 106 = .ok (.iinc 3 1, 3) := dk_132 3 1 (dk_at dksX2_keep_4 11 rfl rfl)
theorem dX2_keep_109 : decode cX2_keep 109 = .ok (.goto (-28), 3) := dk_167 255 228 (dk_at dksX2_keep_4 14 rfl rfl)
theorem dX2_keep_112 : decode cX2_keep 112 = .ok (.iinc 2 19, 3) := dk_132 2 19 (dk_at dksX2_keep_4 17 rfl rfl)
theorem dX2_keep_115 : decode cX2_keep 115 = .ok (.aload_n 0, 1) := dk_42 (dk_at dksX2_keep_4 20 rfl rfl)
theorem dX2_keep_116 : decode cX2_keep 116 = .ok (.getfield 101, 3) := dk_180 0 101 (dk_at dksX2_keep_4 21 rfl rfl)
theorem dX2_keep_119 : decode cX2_keep 119 = .ok (.iload_n 2, 1) := dk_28 (dk_at dksX2_keep_5 0 rfl rfl)
theorem dX2_keep_120 : decode cX2_keep 120 = .ok (.aload_n 0, 1) := dk_42 (dk_at dksX2_keep_5 1 rfl rfl)
theorem dX2_keep_121 : decode cX2_keep 121 = .ok (.getfield 32, 3) := dk_180 0 32 (dk_at dksX2_keep_5 2 rfl rfl)
theorem dX2_keep_124 : decode cX2_keep 124 = .ok (.iastore, 1) := dk_79 (dk_at dksX2_keep_5 5 rfl rfl)
theorem dX2_keep_125 : decode cX2_keep 125 = .ok (.aload_n 0, 1) := dk_42 (dk_at dksX2_keep_5 6 rfl rfl)
theorem dX2_keep_126 : decode cX2_keep 126 = .ok (.getfield 101, 3) := dk_180 0 101 (dk_at dksX2_keep_5 7 rfl rfl)
theorem dX2_keep_129 : decode cX2_keep 129 = .ok (.iload_n 2, 1) := dk_28 (dk_at dksX2_keep_5 10 rfl rfl)
theorem dX2_keep_130 : decode cX2_keep 130 = .ok (.iconst 1, 1) := dk_4 (dk_at dksX2_keep_5 11 rfl rfl)
theorem dX2_keep_131 : decode cX2_keep 131 = .ok (.iadd, 1) := dk_96 (dk_at dksX2_keep_5 12 rfl rfl)
theorem dX2_keep_132 : decode cX2_keep 132 = .ok (.aload_n 0, 1) := dk_42 (dk_at dksX2_keep_5 13 rfl rfl)
theorem dX2_keep_133 : decode cX2_keep 133 = .ok (.getfield 36, 3) := dk_180 0 36 (dk_at dksX2_keep_5 14 rfl rfl)
theorem dX2_keep_136 : decode cX2_keep 136 = .ok (.iastore, 1) := dk_79 (dk_at dksX2_keep_5 17 rfl rfl)
theorem dX2_keep_137 : decode cX2_keep 137 = .ok (.aload_n 0, 1) := dk_42 (dk_at dksX2_keep_5 18 rfl rfl)
theorem dX2_keep_138 : decode cX2_keep 138 = .ok (.getfield 101, 3) := dk_180 0 101 (dk_at dksX2_keep_5 19 rfl rfl)
theorem dX2_keep_141 : decode cX2_keep 141 = .ok (.iload_n 2, 1) := dk_28 (dk_at dksX2_keep_5 22 rfl rfl)
theorem dX2_keep_142 : decode cX2_keep 142 = .ok (.iconst 2, 1) := dk_5 (dk_at dksX2_keep_5 23 rfl rfl)
theorem dX2_keep_143 : decode cX2_keep 143 = .ok (.iadd, 1) := dk_96 (dk_at dksX2_keep_6 0 rfl rfl)
theorem dX2_keep_144 : decode cX2_keep 144 = .ok (.aload_n 0, 1) := dk_42 (dk_at dksX2_keep_6 1 rfl rfl)
theorem dX2_keep_145 : decode cX2_keep 145 = .ok (.getfield 236, 3) := dk_180 0 236 (dk_at dksX2_keep_6 2 rfl rfl)
theorem dX2_keep_148 : decode cX2_keep 148 = .ok (.iastore, 1) := dk_79 (dk_at dksX2_keep_6 5 rfl rfl)
theorem dX2_keep_149 : decode cX2_keep 149 = .ok (.iconst 1, 1) := dk_4 (dk_at dksX2_keep_6 6 rfl rfl)
theorem dX2_keep_150 : decode cX2_keep 150 = .ok (.ireturn, 1) := dk_172 (dk_at dksX2_keep_6 7 rfl rfl)
abbrev cX2_again : ByteArray := prog_8_method_109_code
def yX2_again : MethodName := ⟨RX2, "again", "(I)Z"⟩
def dkwX2_again_6 : List UInt8 := [180, 0, 101, 28, 5, 96, 46, 181, 0, 236, 4, 172]
abbrev dktX2_again_6 : List UInt8 := dkwX2_again_6 ++ []
def dkwX2_again_5 : List UInt8 := [42, 42, 180, 0, 101, 28, 46, 181, 0, 32, 42, 42, 180, 0, 101, 28, 4, 96, 46, 181, 0, 36, 42, 42]
abbrev dktX2_again_5 : List UInt8 := dkwX2_again_5 ++ dktX2_again_6
def dkwX2_again_4 : List UInt8 := [29, 42, 180, 0, 101, 28, 16, 10, 96, 4, 96, 29, 96, 46, 79, 132, 3, 1, 167, 255, 228, 132, 2, 19]
abbrev dktX2_again_4 : List UInt8 := dkwX2_again_4 ++ dktX2_again_5
def dkwX2_again_3 : List UInt8 := [42, 180, 0, 101, 28, 16, 10, 96, 46, 181, 0, 252, 3, 62, 29, 16, 8, 162, 0, 28, 42, 180, 0, 9]
abbrev dktX2_again_3 : List UInt8 := dkwX2_again_3 ++ dktX2_again_4
def dkwX2_again_2 : List UInt8 := [162, 0, 23, 42, 180, 0, 39, 29, 42, 180, 0, 101, 28, 29, 96, 46, 79, 132, 3, 1, 167, 255, 233, 42]
abbrev dktX2_again_2 : List UInt8 := dkwX2_again_2 ++ dktX2_again_3
def dkwX2_again_1 : List UInt8 := [180, 0, 107, 27, 46, 42, 180, 0, 175, 159, 0, 5, 3, 172, 16, 22, 27, 104, 61, 3, 62, 29, 16, 10]
abbrev dktX2_again_1 : List UInt8 := dkwX2_again_1 ++ dktX2_again_2
def dkwX2_again_0 : List UInt8 := [42, 3, 181, 0, 110, 27, 3, 4, 184, 0, 119, 153, 0, 25, 42, 180, 0, 104, 27, 51, 153, 0, 16, 42]
abbrev dktX2_again_0 : List UInt8 := dkwX2_again_0 ++ dktX2_again_1
theorem dksX2_again_0 : cX2_again.data.toList.drop 0 = dktX2_again_0 := by decide +kernel
theorem dksX2_again_1 : cX2_again.data.toList.drop 24 = dktX2_again_1 := dk_seg dksX2_again_0 24 rfl rfl
theorem dksX2_again_2 : cX2_again.data.toList.drop 48 = dktX2_again_2 := dk_seg dksX2_again_1 24 rfl rfl
theorem dksX2_again_3 : cX2_again.data.toList.drop 72 = dktX2_again_3 := dk_seg dksX2_again_2 24 rfl rfl
theorem dksX2_again_4 : cX2_again.data.toList.drop 96 = dktX2_again_4 := dk_seg dksX2_again_3 24 rfl rfl
theorem dksX2_again_5 : cX2_again.data.toList.drop 120 = dktX2_again_5 := dk_seg dksX2_again_4 24 rfl rfl
theorem dksX2_again_6 : cX2_again.data.toList.drop 144 = dktX2_again_6 := dk_seg dksX2_again_5 24 rfl rfl
theorem dX2_again_0 : decode cX2_again 0 = .ok (.aload_n 0, 1) := dk_42 (dk_at dksX2_again_0 0 rfl rfl)
theorem dX2_again_1 : decode cX2_again 1 = .ok (.iconst 0, 1) := dk_3 (dk_at dksX2_again_0 1 rfl rfl)
theorem dX2_again_2 : decode cX2_again 2 = .ok (.putfield 110, 3) := dk_181 0 110 (dk_at dksX2_again_0 2 rfl rfl)
theorem dX2_again_5 : decode cX2_again 5 = .ok (.iload_n 1, 1) := dk_27 (dk_at dksX2_again_0 5 rfl rfl)
theorem dX2_again_6 : decode cX2_again 6 = .ok (.iconst 0, 1) := dk_3 (dk_at dksX2_again_0 6 rfl rfl)
theorem dX2_again_7 : decode cX2_again 7 = .ok (.iconst 1, 1) := dk_4 (dk_at dksX2_again_0 7 rfl rfl)
theorem dX2_again_8 : decode cX2_again 8 = .ok (.invokestatic 119, 3) := dk_184 0 119 (dk_at dksX2_again_0 8 rfl rfl)
theorem dX2_again_11 : decode cX2_again 11 = .ok (.ifCond .eq 25, 3) := dk_153 0 25 (dk_at dksX2_again_0 11 rfl rfl)
theorem dX2_again_14 : decode cX2_again 14 = .ok (.aload_n 0, 1) := dk_42 (dk_at dksX2_again_0 14 rfl rfl)
theorem dX2_again_15 : decode cX2_again 15 = .ok (.getfield 104, 3) := dk_180 0 104 (dk_at dksX2_again_0 15 rfl rfl)
theorem dX2_again_18 : decode cX2_again 18 = .ok (.iload_n 1, 1) := dk_27 (dk_at dksX2_again_0 18 rfl rfl)
theorem dX2_again_19 : decode cX2_again 19 = .ok (.baload, 1) := dk_51 (dk_at dksX2_again_0 19 rfl rfl)
theorem dX2_again_20 : decode cX2_again 20 = .ok (.ifCond .eq 16, 3) := dk_153 0 16 (dk_at dksX2_again_0 20 rfl rfl)
theorem dX2_again_23 : decode cX2_again 23 = .ok (.aload_n 0, 1) := dk_42 (dk_at dksX2_again_0 23 rfl rfl)
theorem dX2_again_24 : decode cX2_again 24 = .ok (.getfield 107, 3) := dk_180 0 107 (dk_at dksX2_again_1 0 rfl rfl)
theorem dX2_again_27 : decode cX2_again 27 = .ok (.iload_n 1, 1) := dk_27 (dk_at dksX2_again_1 3 rfl rfl)
theorem dX2_again_28 : decode cX2_again 28 = .ok (.iaload, 1) := dk_46 (dk_at dksX2_again_1 4 rfl rfl)
theorem dX2_again_29 : decode cX2_again 29 = .ok (.aload_n 0, 1) := dk_42 (dk_at dksX2_again_1 5 rfl rfl)
theorem dX2_again_30 : decode cX2_again 30 = .ok (.getfield 175, 3) := dk_180 0 175 (dk_at dksX2_again_1 6 rfl rfl)
theorem dX2_again_33 : decode cX2_again 33 = .ok (.if_icmp .eq 5, 3) := dk_159 0 5 (dk_at dksX2_again_1 9 rfl rfl)
theorem dX2_again_36 : decode cX2_again 36 = .ok (.iconst 0, 1) := dk_3 (dk_at dksX2_again_1 12 rfl rfl)
theorem dX2_again_37 : decode cX2_again 37 = .ok (.ireturn, 1) := dk_172 (dk_at dksX2_again_1 13 rfl rfl)
theorem dX2_again_38 : decode cX2_again 38 = .ok (.bipush 22, 2) := dk_16 22 (dk_at dksX2_again_1 14 rfl rfl)
theorem dX2_again_40 : decode cX2_again 40 = .ok (.iload_n 1, 1) := dk_27 (dk_at dksX2_again_1 16 rfl rfl)
theorem dX2_again_41 : decode cX2_again 41 = .ok (.imul, 1) := dk_104 (dk_at dksX2_again_1 17 rfl rfl)
theorem dX2_again_42 : decode cX2_again 42 = .ok (.istore_n 2, 1) := dk_61 (dk_at dksX2_again_1 18 rfl rfl)
theorem dX2_again_43 : decode cX2_again 43 = .ok (.iconst 0, 1) := dk_3 (dk_at dksX2_again_1 19 rfl rfl)
theorem dX2_again_44 : decode cX2_again 44 = .ok (.istore_n 3, 1) := dk_62 (dk_at dksX2_again_1 20 rfl rfl)
theorem dX2_again_45 : decode cX2_again 45 = .ok (.iload_n 3, 1) := dk_29 (dk_at dksX2_again_1 21 rfl rfl)
theorem dX2_again_46 : decode cX2_again 46 = .ok (.bipush 10, 2) := dk_16 10 (dk_at dksX2_again_1 22 rfl rfl)
theorem dX2_again_48 : decode cX2_again 48 = .ok (.if_icmp .ge 23, 3) := dk_162 0 23 (dk_at dksX2_again_2 0 rfl rfl)
theorem dX2_again_51 : decode cX2_again 51 = .ok (.aload_n 0, 1) := dk_42 (dk_at dksX2_again_2 3 rfl rfl)
theorem dX2_again_52 : decode cX2_again 52 = .ok (.getfield 39, 3) := dk_180 0 39 (dk_at dksX2_again_2 4 rfl rfl)
theorem dX2_again_55 : decode cX2_again 55 = .ok (.iload_n 3, 1) := dk_29 (dk_at dksX2_again_2 7 rfl rfl)
theorem dX2_again_56 : decode cX2_again 56 = .ok (.aload_n 0, 1) := dk_42 (dk_at dksX2_again_2 8 rfl rfl)
theorem dX2_again_57 : decode cX2_again 57 = .ok (.getfield 101, 3) := dk_180 0 101 (dk_at dksX2_again_2 9 rfl rfl)
theorem dX2_again_60 : decode cX2_again 60 = .ok (.iload_n 2, 1) := dk_28 (dk_at dksX2_again_2 12 rfl rfl)
theorem dX2_again_61 : decode cX2_again 61 = .ok (.iload_n 3, 1) := dk_29 (dk_at dksX2_again_2 13 rfl rfl)
theorem dX2_again_62 : decode cX2_again 62 = .ok (.iadd, 1) := dk_96 (dk_at dksX2_again_2 14 rfl rfl)
theorem dX2_again_63 : decode cX2_again 63 = .ok (.iaload, 1) := dk_46 (dk_at dksX2_again_2 15 rfl rfl)
theorem dX2_again_64 : decode cX2_again 64 = .ok (.iastore, 1) := dk_79 (dk_at dksX2_again_2 16 rfl rfl)
theorem dX2_again_65 : decode cX2_again 65 = .ok (.iinc 3 1, 3) := dk_132 3 1 (dk_at dksX2_again_2 17 rfl rfl)
theorem dX2_again_68 : decode cX2_again 68 = .ok (.goto (-23), 3) := dk_167 255 233 (dk_at dksX2_again_2 20 rfl rfl)
theorem dX2_again_71 : decode cX2_again 71 = .ok (.aload_n 0, 1) := dk_42 (dk_at dksX2_again_2 23 rfl rfl)
theorem dX2_again_72 : decode cX2_again 72 = .ok (.aload_n 0, 1) := dk_42 (dk_at dksX2_again_3 0 rfl rfl)
theorem dX2_again_73 : decode cX2_again 73 = .ok (.getfield 101, 3) := dk_180 0 101 (dk_at dksX2_again_3 1 rfl rfl)
theorem dX2_again_76 : decode cX2_again 76 = .ok (.iload_n 2, 1) := dk_28 (dk_at dksX2_again_3 4 rfl rfl)
theorem dX2_again_77 : decode cX2_again 77 = .ok (.bipush 10, 2) := dk_16 10 (dk_at dksX2_again_3 5 rfl rfl)
theorem dX2_again_79 : decode cX2_again 79 = .ok (.iadd, 1) := dk_96 (dk_at dksX2_again_3 7 rfl rfl)
theorem dX2_again_80 : decode cX2_again 80 = .ok (.iaload, 1) := dk_46 (dk_at dksX2_again_3 8 rfl rfl)
theorem dX2_again_81 : decode cX2_again 81 = .ok (.putfield 252, 3) := dk_181 0 252 (dk_at dksX2_again_3 9 rfl rfl)
theorem dX2_again_84 : decode cX2_again 84 = .ok (.iconst 0, 1) := dk_3 (dk_at dksX2_again_3 12 rfl rfl)
theorem dX2_again_85 : decode cX2_again 85 = .ok (.istore_n 3, 1) := dk_62 (dk_at dksX2_again_3 13 rfl rfl)
theorem dX2_again_86 : decode cX2_again 86 = .ok (.iload_n 3, 1) := dk_29 (dk_at dksX2_again_3 14 rfl rfl)
theorem dX2_again_87 : decode cX2_again 87 = .ok (.bipush 8, 2) := dk_16 8 (dk_at dksX2_again_3 15 rfl rfl)
theorem dX2_again_89 : decode cX2_again 89 = .ok (.if_icmp .ge 28, 3) := dk_162 0 28 (dk_at dksX2_again_3 17 rfl rfl)
theorem dX2_again_92 : decode cX2_again 92 = .ok (.aload_n 0, 1) := dk_42 (dk_at dksX2_again_3 20 rfl rfl)
theorem dX2_again_93 : decode cX2_again 93 = .ok (.getfield 9, 3) := dk_180 0 9 (dk_at dksX2_again_3 21 rfl rfl)
theorem dX2_again_96 : decode cX2_again 96 = .ok (.iload_n 3, 1) := dk_29 (dk_at dksX2_again_4 0 rfl rfl)
theorem dX2_again_97 : decode cX2_again 97 = .ok (.aload_n 0, 1) := dk_42 (dk_at dksX2_again_4 1 rfl rfl)
theorem dX2_again_98 : decode cX2_again 98 = .ok (.getfield 101, 3) := dk_180 0 101 (dk_at dksX2_again_4 2 rfl rfl)
theorem dX2_again_101 : decode cX2_again 101 = .ok (.iload_n 2, 1) := dk_28 (dk_at dksX2_again_4 5 rfl rfl)
theorem dX2_again_102 : decode cX2_again 102 = .ok (.bipush 10, 2) := dk_16 10 (dk_at dksX2_again_4 6 rfl rfl)
theorem dX2_again_104 : decode cX2_again 104 = .ok (.iadd, 1) := dk_96 (dk_at dksX2_again_4 8 rfl rfl)
theorem dX2_again_105 : decode cX2_again 105 = .ok (.iconst 1, 1) := dk_4 (dk_at dksX2_again_4 9 rfl rfl)
theorem dX2_again_106 : decode cX2_again 106 = .ok (.iadd, 1) := dk_96 (dk_at dksX2_again_4 10 rfl rfl)
theorem dX2_again_107 : decode cX2_again 107 = .ok (.iload_n 3, 1) := dk_29 (dk_at dksX2_again_4 11 rfl rfl)
theorem dX2_again_108 : decode cX2_again 108 = .ok (.iadd, 1) := dk_96 (dk_at dksX2_again_4 12 rfl rfl)
theorem dX2_again_109 : decode cX2_again 109 = .ok (.iaload, 1) := dk_46 (dk_at dksX2_again_4 13 rfl rfl)
theorem dX2_again_110 : decode cX2_again 110 = .ok (.iastore, 1) := dk_79 (dk_at dksX2_again_4 14 rfl rfl)
theorem dX2_again_111 : decode cX2_again 111 = .ok (.iinc 3 1, 3) := dk_132 3 1 (dk_at dksX2_again_4 15 rfl rfl)
theorem dX2_again_114 : decode cX2_again 114 = .ok (.goto (-28), 3) := dk_167 255 228 (dk_at dksX2_again_4 18 rfl rfl)
theorem dX2_again_117 : decode cX2_again 117 = .ok (.iinc 2 19, 3) := dk_132 2 19 (dk_at dksX2_again_4 21 rfl rfl)
theorem dX2_again_120 : decode cX2_again 120 = .ok (.aload_n 0, 1) := dk_42 (dk_at dksX2_again_5 0 rfl rfl)
theorem dX2_again_121 : decode cX2_again 121 = .ok (.aload_n 0, 1) := dk_42 (dk_at dksX2_again_5 1 rfl rfl)
theorem dX2_again_122 : decode cX2_again 122 = .ok (.getfield 101, 3) := dk_180 0 101 (dk_at dksX2_again_5 2 rfl rfl)
theorem dX2_again_125 : decode cX2_again 125 = .ok (.iload_n 2, 1) := dk_28 (dk_at dksX2_again_5 5 rfl rfl)
theorem dX2_again_126 : decode cX2_again 126 = .ok (.iaload, 1) := dk_46 (dk_at dksX2_again_5 6 rfl rfl)
theorem dX2_again_127 : decode cX2_again 127 = .ok (.putfield 32, 3) := dk_181 0 32 (dk_at dksX2_again_5 7 rfl rfl)
theorem dX2_again_130 : decode cX2_again 130 = .ok (.aload_n 0, 1) := dk_42 (dk_at dksX2_again_5 10 rfl rfl)
theorem dX2_again_131 : decode cX2_again 131 = .ok (.aload_n 0, 1) := dk_42 (dk_at dksX2_again_5 11 rfl rfl)
theorem dX2_again_132 : decode cX2_again 132 = .ok (.getfield 101, 3) := dk_180 0 101 (dk_at dksX2_again_5 12 rfl rfl)
theorem dX2_again_135 : decode cX2_again 135 = .ok (.iload_n 2, 1) := dk_28 (dk_at dksX2_again_5 15 rfl rfl)
theorem dX2_again_136 : decode cX2_again 136 = .ok (.iconst 1, 1) := dk_4 (dk_at dksX2_again_5 16 rfl rfl)
theorem dX2_again_137 : decode cX2_again 137 = .ok (.iadd, 1) := dk_96 (dk_at dksX2_again_5 17 rfl rfl)
theorem dX2_again_138 : decode cX2_again 138 = .ok (.iaload, 1) := dk_46 (dk_at dksX2_again_5 18 rfl rfl)
theorem dX2_again_139 : decode cX2_again 139 = .ok (.putfield 36, 3) := dk_181 0 36 (dk_at dksX2_again_5 19 rfl rfl)
theorem dX2_again_142 : decode cX2_again 142 = .ok (.aload_n 0, 1) := dk_42 (dk_at dksX2_again_5 22 rfl rfl)
theorem dX2_again_143 : decode cX2_again 143 = .ok (.aload_n 0, 1) := dk_42 (dk_at dksX2_again_5 23 rfl rfl)
theorem dX2_again_144 : decode cX2_again 144 = .ok (.getfield 101, 3) := dk_180 0 101 (dk_at dksX2_again_6 0 rfl rfl)
theorem dX2_again_147 : decode cX2_again 147 = .ok (.iload_n 2, 1) := dk_28 (dk_at dksX2_again_6 3 rfl rfl)
theorem dX2_again_148 : decode cX2_again 148 = .ok (.iconst 2, 1) := dk_5 (dk_at dksX2_again_6 4 rfl rfl)
theorem dX2_again_149 : decode cX2_again 149 = .ok (.iadd, 1) := dk_96 (dk_at dksX2_again_6 5 rfl rfl)
theorem dX2_again_150 : decode cX2_again 150 = .ok (.iaload, 1) := dk_46 (dk_at dksX2_again_6 6 rfl rfl)
theorem dX2_again_151 : decode cX2_again 151 = .ok (.putfield 236, 3) := dk_181 0 236 (dk_at dksX2_again_6 7 rfl rfl)
theorem dX2_again_154 : decode cX2_again 154 = .ok (.iconst 1, 1) := dk_4 (dk_at dksX2_again_6 10 rfl rfl)
theorem dX2_again_155 : decode cX2_again 155 = .ok (.ireturn, 1) := dk_172 (dk_at dksX2_again_6 11 rfl rfl)
abbrev cX2_count : ByteArray := prog_8_method_110_code
def yX2_count : MethodName := ⟨RX2, "count", "(I)I"⟩
def dkwX2_count_6 : List UInt8 := [172, 2, 172]
abbrev dktX2_count_6 : List UInt8 := dkwX2_count_6 ++ []
def dkwX2_count_5 : List UInt8 := [180, 0, 45, 29, 46, 158, 0, 9, 4, 29, 120, 167, 0, 4, 3, 128, 61, 132, 3, 1, 167, 255, 229, 28]
abbrev dktX2_count_5 : List UInt8 := dkwX2_count_5 ++ dktX2_count_6
def dkwX2_count_4 : List UInt8 := [167, 255, 231, 28, 172, 42, 180, 0, 113, 172, 42, 180, 0, 126, 172, 3, 62, 29, 6, 162, 0, 28, 28, 42]
abbrev dktX2_count_4 : List UInt8 := dkwX2_count_4 ++ dktX2_count_5
def dkwX2_count_3 : List UInt8 := [180, 0, 252, 162, 0, 23, 28, 42, 180, 0, 16, 42, 180, 0, 39, 29, 46, 46, 96, 61, 132, 3, 1]
abbrev dktX2_count_3 : List UInt8 := dkwX2_count_3 ++ dktX2_count_4
def dkwX2_count_2 : List UInt8 := [42, 180, 0, 116, 172, 42, 180, 0, 123, 172, 42, 180, 0, 252, 172, 42, 182, 1, 2, 172, 3, 62, 29, 42]
abbrev dktX2_count_2 : List UInt8 := dkwX2_count_2 ++ dktX2_count_3
def dkwX2_count_1 : List UInt8 := [170, 0, 0, 0, 0, 0, 0, 144, 0, 0, 0, 0, 0, 0, 0, 7, 0, 0, 0, 48, 0, 0, 0, 53, 0, 0, 0, 58, 0, 0, 0, 63, 0, 0, 0, 68, 0, 0, 0, 100, 0, 0, 0, 105, 0, 0, 0, 110]
abbrev dktX2_count_1 : List UInt8 := dkwX2_count_1 ++ dktX2_count_2
def dkwX2_count_0 : List UInt8 := [42, 3, 181, 0, 110, 3, 61, 27]
abbrev dktX2_count_0 : List UInt8 := dkwX2_count_0 ++ dktX2_count_1
theorem dksX2_count_0 : cX2_count.data.toList.drop 0 = dktX2_count_0 := by decide +kernel
theorem dksX2_count_1 : cX2_count.data.toList.drop 8 = dktX2_count_1 := dk_seg dksX2_count_0 8 rfl rfl
theorem dksX2_count_2 : cX2_count.data.toList.drop 56 = dktX2_count_2 := dk_seg dksX2_count_1 48 rfl rfl
theorem dksX2_count_3 : cX2_count.data.toList.drop 80 = dktX2_count_3 := dk_seg dksX2_count_2 24 rfl rfl
theorem dksX2_count_4 : cX2_count.data.toList.drop 103 = dktX2_count_4 := dk_seg dksX2_count_3 23 rfl rfl
theorem dksX2_count_5 : cX2_count.data.toList.drop 127 = dktX2_count_5 := dk_seg dksX2_count_4 24 rfl rfl
theorem dksX2_count_6 : cX2_count.data.toList.drop 151 = dktX2_count_6 := dk_seg dksX2_count_5 24 rfl rfl
theorem dX2_count_0 : decode cX2_count 0 = .ok (.aload_n 0, 1) := dk_42 (dk_at dksX2_count_0 0 rfl rfl)
theorem dX2_count_1 : decode cX2_count 1 = .ok (.iconst 0, 1) := dk_3 (dk_at dksX2_count_0 1 rfl rfl)
theorem dX2_count_2 : decode cX2_count 2 = .ok (.putfield 110, 3) := dk_181 0 110 (dk_at dksX2_count_0 2 rfl rfl)
theorem dX2_count_5 : decode cX2_count 5 = .ok (.iconst 0, 1) := dk_3 (dk_at dksX2_count_0 5 rfl rfl)
theorem dX2_count_6 : decode cX2_count 6 = .ok (.istore_n 2, 1) := dk_61 (dk_at dksX2_count_0 6 rfl rfl)
theorem dX2_count_7 : decode cX2_count 7 = .ok (.iload_n 1, 1) := dk_27 (dk_at dksX2_count_0 7 rfl rfl)
theorem dX2_count_8 : decode cX2_count 8 = .ok (.tableswitch 144 0 7 #[48, 53, 58, 63, 68, 100, 105, 110], 48) := by decide +kernel
theorem dX2_count_56 : decode cX2_count 56 = .ok (.aload_n 0, 1) := dk_42 (dk_at dksX2_count_2 0 rfl rfl)
theorem dX2_count_57 : decode cX2_count 57 = .ok (.getfield 116, 3) := dk_180 0 116 (dk_at dksX2_count_2 1 rfl rfl)
theorem dX2_count_60 : decode cX2_count 60 = .ok (.ireturn, 1) := dk_172 (dk_at dksX2_count_2 4 rfl rfl)
theorem dX2_count_61 : decode cX2_count 61 = .ok (.aload_n 0, 1) := dk_42 (dk_at dksX2_count_2 5 rfl rfl)
theorem dX2_count_62 : decode cX2_count 62 = .ok (.getfield 123, 3) := dk_180 0 123 (dk_at dksX2_count_2 6 rfl rfl)
theorem dX2_count_65 : decode cX2_count 65 = .ok (.ireturn, 1) := dk_172 (dk_at dksX2_count_2 9 rfl rfl)
theorem dX2_count_66 : decode cX2_count 66 = .ok (.aload_n 0, 1) := dk_42 (dk_at dksX2_count_2 10 rfl rfl)
theorem dX2_count_67 : decode cX2_count 67 = .ok (.getfield 252, 3) := dk_180 0 252 (dk_at dksX2_count_2 11 rfl rfl)
theorem dX2_count_70 : decode cX2_count 70 = .ok (.ireturn, 1) := dk_172 (dk_at dksX2_count_2 14 rfl rfl)
theorem dX2_count_71 : decode cX2_count 71 = .ok (.aload_n 0, 1) := dk_42 (dk_at dksX2_count_2 15 rfl rfl)
theorem dX2_count_72 : decode cX2_count 72 = .ok (.invokevirtual 258, 3) := dk_182 1 2 (dk_at dksX2_count_2 16 rfl rfl)
theorem dX2_count_75 : decode cX2_count 75 = .ok (.ireturn, 1) := dk_172 (dk_at dksX2_count_2 19 rfl rfl)
theorem dX2_count_76 : decode cX2_count 76 = .ok (.iconst 0, 1) := dk_3 (dk_at dksX2_count_2 20 rfl rfl)
theorem dX2_count_77 : decode cX2_count 77 = .ok (.istore_n 3, 1) := dk_62 (dk_at dksX2_count_2 21 rfl rfl)
theorem dX2_count_78 : decode cX2_count 78 = .ok (.iload_n 3, 1) := dk_29 (dk_at dksX2_count_2 22 rfl rfl)
theorem dX2_count_79 : decode cX2_count 79 = .ok (.aload_n 0, 1) := dk_42 (dk_at dksX2_count_2 23 rfl rfl)
theorem dX2_count_80 : decode cX2_count 80 = .ok (.getfield 252, 3) := dk_180 0 252 (dk_at dksX2_count_3 0 rfl rfl)
theorem dX2_count_83 : decode cX2_count 83 = .ok (.if_icmp .ge 23, 3) := dk_162 0 23 (dk_at dksX2_count_3 3 rfl rfl)
theorem dX2_count_86 : decode cX2_count 86 = .ok (.iload_n 2, 1) := dk_28 (dk_at dksX2_count_3 6 rfl rfl)
theorem dX2_count_87 : decode cX2_count 87 = .ok (.aload_n 0, 1) := dk_42 (dk_at dksX2_count_3 7 rfl rfl)
theorem dX2_count_88 : decode cX2_count 88 = .ok (.getfield 16, 3) := dk_180 0 16 (dk_at dksX2_count_3 8 rfl rfl)
theorem dX2_count_91 : decode cX2_count 91 = .ok (.aload_n 0, 1) := dk_42 (dk_at dksX2_count_3 11 rfl rfl)
theorem dX2_count_92 : decode cX2_count 92 = .ok (.getfield 39, 3) := dk_180 0 39 (dk_at dksX2_count_3 12 rfl rfl)
theorem dX2_count_95 : decode cX2_count 95 = .ok (.iload_n 3, 1) := dk_29 (dk_at dksX2_count_3 15 rfl rfl)
theorem dX2_count_96 : decode cX2_count 96 = .ok (.iaload, 1) := dk_46 (dk_at dksX2_count_3 16 rfl rfl)
theorem dX2_count_97 : decode cX2_count 97 = .ok (.iaload, 1) := dk_46 (dk_at dksX2_count_3 17 rfl rfl)
theorem dX2_count_98 : decode cX2_count 98 = .ok (.iadd, 1) := dk_96 (dk_at dksX2_count_3 18 rfl rfl)
theorem dX2_count_99 : decode cX2_count 99 = .ok (.istore_n 2, 1) := dk_61 (dk_at dksX2_count_3 19 rfl rfl)
theorem dX2_count_100 : decode cX2_count 100 = .ok (.iinc 3 1, 3) := dk_132 3 1 (dk_at dksX2_count_3 20 rfl rfl)
theorem dX2_count_103 : decode cX2_count 103 = .ok (.goto (-25), 3) := dk_167 255 231 (dk_at dksX2_count_4 0 rfl rfl)
theorem dX2_count_106 : decode cX2_count 106 = .ok (.iload_n 2, 1) := dk_28 (dk_at dksX2_count_4 3 rfl rfl)
theorem dX2_count_107 : decode cX2_count 107 = .ok (.ireturn, 1) := dk_172 (dk_at dksX2_count_4 4 rfl rfl)
theorem dX2_count_108 : decode cX2_count 108 = .ok (.aload_n 0, 1) := dk_42 (dk_at dksX2_count_4 5 rfl rfl)
theorem dX2_count_109 : decode cX2_count 109 = .ok (.getfield 113, 3) := dk_180 0 113 (dk_at dksX2_count_4 6 rfl rfl)
theorem dX2_count_112 : decode cX2_count 112 = .ok (.ireturn, 1) := dk_172 (dk_at dksX2_count_4 9 rfl rfl)
theorem dX2_count_113 : decode cX2_count 113 = .ok (.aload_n 0, 1) := dk_42 (dk_at dksX2_count_4 10 rfl rfl)
theorem dX2_count_114 : decode cX2_count 114 = .ok (.getfield 126, 3) := dk_180 0 126 (dk_at dksX2_count_4 11 rfl rfl)
theorem dX2_count_117 : decode cX2_count 117 = .ok (.ireturn, 1) := dk_172 (dk_at dksX2_count_4 14 rfl rfl)
theorem dX2_count_118 : decode cX2_count 118 = .ok (.iconst 0, 1) := dk_3 (dk_at dksX2_count_4 15 rfl rfl)
theorem dX2_count_119 : decode cX2_count 119 = .ok (.istore_n 3, 1) := dk_62 (dk_at dksX2_count_4 16 rfl rfl)
theorem dX2_count_120 : decode cX2_count 120 = .ok (.iload_n 3, 1) := dk_29 (dk_at dksX2_count_4 17 rfl rfl)
theorem dX2_count_121 : decode cX2_count 121 = .ok (.iconst 3, 1) := dk_6 (dk_at dksX2_count_4 18 rfl rfl)
theorem dX2_count_122 : decode cX2_count 122 = .ok (.if_icmp .ge 28, 3) := dk_162 0 28 (dk_at dksX2_count_4 19 rfl rfl)
theorem dX2_count_125 : decode cX2_count 125 = .ok (.iload_n 2, 1) := dk_28 (dk_at dksX2_count_4 22 rfl rfl)
theorem dX2_count_126 : decode cX2_count 126 = .ok (.aload_n 0, 1) := dk_42 (dk_at dksX2_count_4 23 rfl rfl)
theorem dX2_count_127 : decode cX2_count 127 = .ok (.getfield 45, 3) := dk_180 0 45 (dk_at dksX2_count_5 0 rfl rfl)
theorem dX2_count_130 : decode cX2_count 130 = .ok (.iload_n 3, 1) := dk_29 (dk_at dksX2_count_5 3 rfl rfl)
theorem dX2_count_131 : decode cX2_count 131 = .ok (.iaload, 1) := dk_46 (dk_at dksX2_count_5 4 rfl rfl)
theorem dX2_count_132 : decode cX2_count 132 = .ok (.ifCond .le 9, 3) := dk_158 0 9 (dk_at dksX2_count_5 5 rfl rfl)
theorem dX2_count_135 : decode cX2_count 135 = .ok (.iconst 1, 1) := dk_4 (dk_at dksX2_count_5 8 rfl rfl)
theorem dX2_count_136 : decode cX2_count 136 = .ok (.iload_n 3, 1) := dk_29 (dk_at dksX2_count_5 9 rfl rfl)
theorem dX2_count_137 : decode cX2_count 137 = .ok (.ishl, 1) := dk_120 (dk_at dksX2_count_5 10 rfl rfl)
theorem dX2_count_138 : decode cX2_count 138 = .ok (.goto 4, 3) := dk_167 0 4 (dk_at dksX2_count_5 11 rfl rfl)
theorem dX2_count_141 : decode cX2_count 141 = .ok (.iconst 0, 1) := dk_3 (dk_at dksX2_count_5 14 rfl rfl)
theorem dX2_count_142 : decode cX2_count 142 = .ok (.ior, 1) := dk_128 (dk_at dksX2_count_5 15 rfl rfl)
theorem dX2_count_143 : decode cX2_count 143 = .ok (.istore_n 2, 1) := dk_61 (dk_at dksX2_count_5 16 rfl rfl)
theorem dX2_count_144 : decode cX2_count 144 = .ok (.iinc 3 1, 3) := dk_132 3 1 (dk_at dksX2_count_5 17 rfl rfl)
theorem dX2_count_147 : decode cX2_count 147 = .ok (.goto (-27), 3) := dk_167 255 229 (dk_at dksX2_count_5 20 rfl rfl)
theorem dX2_count_150 : decode cX2_count 150 = .ok (.iload_n 2, 1) := dk_28 (dk_at dksX2_count_5 23 rfl rfl)
theorem dX2_count_151 : decode cX2_count 151 = .ok (.ireturn, 1) := dk_172 (dk_at dksX2_count_6 0 rfl rfl)
theorem dX2_count_152 : decode cX2_count 152 = .ok (.iconst (-1), 1) := dk_2 (dk_at dksX2_count_6 1 rfl rfl)
theorem dX2_count_153 : decode cX2_count 153 = .ok (.ireturn, 1) := dk_172 (dk_at dksX2_count_6 2 rfl rfl)
abbrev cX2_row : ByteArray := prog_8_method_111_code
def yX2_row : MethodName := ⟨RX2, "row", "(I)I"⟩
def dkwX2_row_1 : List UInt8 := [46, 167, 0, 7, 42, 182, 0, 220, 172]
abbrev dktX2_row_1 : List UInt8 := dkwX2_row_1 ++ []
def dkwX2_row_0 : List UInt8 := [42, 3, 181, 0, 110, 27, 3, 42, 180, 0, 113, 4, 100, 184, 0, 119, 153, 0, 12, 42, 180, 0, 52, 27]
abbrev dktX2_row_0 : List UInt8 := dkwX2_row_0 ++ dktX2_row_1
theorem dksX2_row_0 : cX2_row.data.toList.drop 0 = dktX2_row_0 := by decide +kernel
theorem dksX2_row_1 : cX2_row.data.toList.drop 24 = dktX2_row_1 := dk_seg dksX2_row_0 24 rfl rfl
theorem dX2_row_0 : decode cX2_row 0 = .ok (.aload_n 0, 1) := dk_42 (dk_at dksX2_row_0 0 rfl rfl)
theorem dX2_row_1 : decode cX2_row 1 = .ok (.iconst 0, 1) := dk_3 (dk_at dksX2_row_0 1 rfl rfl)
theorem dX2_row_2 : decode cX2_row 2 = .ok (.putfield 110, 3) := dk_181 0 110 (dk_at dksX2_row_0 2 rfl rfl)
theorem dX2_row_5 : decode cX2_row 5 = .ok (.iload_n 1, 1) := dk_27 (dk_at dksX2_row_0 5 rfl rfl)
theorem dX2_row_6 : decode cX2_row 6 = .ok (.iconst 0, 1) := dk_3 (dk_at dksX2_row_0 6 rfl rfl)
theorem dX2_row_7 : decode cX2_row 7 = .ok (.aload_n 0, 1) := dk_42 (dk_at dksX2_row_0 7 rfl rfl)
theorem dX2_row_8 : decode cX2_row 8 = .ok (.getfield 113, 3) := dk_180 0 113 (dk_at dksX2_row_0 8 rfl rfl)
theorem dX2_row_11 : decode cX2_row 11 = .ok (.iconst 1, 1) := dk_4 (dk_at dksX2_row_0 11 rfl rfl)
theorem dX2_row_12 : decode cX2_row 12 = .ok (.isub, 1) := dk_100 (dk_at dksX2_row_0 12 rfl rfl)
theorem dX2_row_13 : decode cX2_row 13 = .ok (.invokestatic 119, 3) := dk_184 0 119 (dk_at dksX2_row_0 13 rfl rfl)
theorem dX2_row_16 : decode cX2_row 16 = .ok (.ifCond .eq 12, 3) := dk_153 0 12 (dk_at dksX2_row_0 16 rfl rfl)
theorem dX2_row_19 : decode cX2_row 19 = .ok (.aload_n 0, 1) := dk_42 (dk_at dksX2_row_0 19 rfl rfl)
theorem dX2_row_20 : decode cX2_row 20 = .ok (.getfield 52, 3) := dk_180 0 52 (dk_at dksX2_row_0 20 rfl rfl)
theorem dX2_row_23 : decode cX2_row 23 = .ok (.iload_n 1, 1) := dk_27 (dk_at dksX2_row_0 23 rfl rfl)
theorem dX2_row_24 : decode cX2_row 24 = .ok (.iaload, 1) := dk_46 (dk_at dksX2_row_1 0 rfl rfl)
theorem dX2_row_25 : decode cX2_row 25 = .ok (.goto 7, 3) := dk_167 0 7 (dk_at dksX2_row_1 1 rfl rfl)
theorem dX2_row_28 : decode cX2_row 28 = .ok (.aload_n 0, 1) := dk_42 (dk_at dksX2_row_1 4 rfl rfl)
theorem dX2_row_29 : decode cX2_row 29 = .ok (.invokevirtual 220, 3) := dk_182 0 220 (dk_at dksX2_row_1 5 rfl rfl)
theorem dX2_row_32 : decode cX2_row 32 = .ok (.ireturn, 1) := dk_172 (dk_at dksX2_row_1 8 rfl rfl)
theorem q118 : (Jvm.Cond.initialized "NextMustShareModel") ∈ lw_all := lw_g (lw_at lw_m1 2 rfl) rfl
theorem q1014 : (Jvm.Cond.instantiable "NextMustShareModel" (53 : Nat)) ∈ lw_all := lw_g (lw_at lw_m4 178 rfl) rfl
theorem q1016 : (Jvm.Cond.instanceMethod ({ cls := "NextMustShareModel", name := "<init>", desc := "()V" } : Jvm.MethodName)) ∈ lw_all := lw_g (lw_at lw_m4 180 rfl) rfl
theorem q1017 : (Jvm.Cond.code ({ cls := "NextMustShareModel", name := "<init>", desc := "()V" } : Jvm.MethodName) prog_8_method_1_code (1 : Nat) (Option.none : Option Jvm.ClassFile.FieldType)) ∈ lw_all := lw_g (lw_at lw_m4 181 rfl) rfl
theorem q1018 : (Jvm.Cond.methodLink "NextMustShareModel" (3 : Nat) ({ cls := "java/lang/Object", name := "<init>", desc := "()V" } : Jvm.MethodName)) ∈ lw_all := lw_g (lw_at lw_m4 182 rfl) rfl
theorem q1019 : (Jvm.Cond.fieldLink "NextMustShareModel" (9 : Nat) "NextMustShareModel" "store" "[I") ∈ lw_all := lw_g (lw_at lw_m4 183 rfl) rfl
theorem q1020 : (Jvm.Cond.fieldLink "NextMustShareModel" (116 : Nat) "NextMustShareModel" "dishes" "I") ∈ lw_all := lw_g (lw_at lw_m4 184 rfl) rfl
theorem q1021 : (Jvm.Cond.fieldLink "NextMustShareModel" (13 : Nat) "NextMustShareModel" "stuffs" "[I") ∈ lw_all := lw_g (lw_at lw_m4 185 rfl) rfl
theorem q1022 : (Jvm.Cond.fieldLink "NextMustShareModel" (16 : Nat) "NextMustShareModel" "cost" "[I") ∈ lw_all := lw_g (lw_at lw_m4 186 rfl) rfl
theorem q1023 : (Jvm.Cond.fieldLink "NextMustShareModel" (19 : Nat) "NextMustShareModel" "isHot" "[Z") ∈ lw_all := lw_g (lw_at lw_m4 187 rfl) rfl
theorem q1024 : (Jvm.Cond.fieldLink "NextMustShareModel" (23 : Nat) "NextMustShareModel" "hours" "[I") ∈ lw_all := lw_g (lw_at lw_m4 188 rfl) rfl
theorem q1025 : (Jvm.Cond.fieldLink "NextMustShareModel" (123 : Nat) "NextMustShareModel" "guests" "I") ∈ lw_all := lw_g (lw_at lw_m4 189 rfl) rfl
theorem q1026 : (Jvm.Cond.fieldLink "NextMustShareModel" (26 : Nat) "NextMustShareModel" "loves" "[I") ∈ lw_all := lw_g (lw_at lw_m4 190 rfl) rfl
theorem q1027 : (Jvm.Cond.fieldLink "NextMustShareModel" (29 : Nat) "NextMustShareModel" "bars" "[I") ∈ lw_all := lw_g (lw_at lw_m4 191 rfl) rfl
theorem q1028 : (Jvm.Cond.fieldLink "NextMustShareModel" (32 : Nat) "NextMustShareModel" "share" "I") ∈ lw_all := lw_g (lw_at lw_m4 192 rfl) rfl
theorem q1029 : (Jvm.Cond.fieldLink "NextMustShareModel" (36 : Nat) "NextMustShareModel" "times" "I") ∈ lw_all := lw_g (lw_at lw_m4 193 rfl) rfl
theorem q1030 : (Jvm.Cond.fieldLink "NextMustShareModel" (236 : Nat) "NextMustShareModel" "heat" "I") ∈ lw_all := lw_g (lw_at lw_m4 194 rfl) rfl
theorem q1031 : (Jvm.Cond.fieldLink "NextMustShareModel" (39 : Nat) "NextMustShareModel" "served" "[I") ∈ lw_all := lw_g (lw_at lw_m4 195 rfl) rfl
theorem q1032 : (Jvm.Cond.fieldLink "NextMustShareModel" (252 : Nat) "NextMustShareModel" "servedMany" "I") ∈ lw_all := lw_g (lw_at lw_m4 196 rfl) rfl
theorem q1033 : (Jvm.Cond.fieldLink "NextMustShareModel" (42 : Nat) "NextMustShareModel" "menus" "[I") ∈ lw_all := lw_g (lw_at lw_m4 197 rfl) rfl
theorem q1034 : (Jvm.Cond.fieldLink "NextMustShareModel" (45 : Nat) "NextMustShareModel" "menuLong" "[I") ∈ lw_all := lw_g (lw_at lw_m4 198 rfl) rfl
theorem q1035 : (Jvm.Cond.fieldLink "NextMustShareModel" (48 : Nat) "NextMustShareModel" "text" "[B") ∈ lw_all := lw_g (lw_at lw_m4 199 rfl) rfl
theorem q1036 : (Jvm.Cond.fieldLink "NextMustShareModel" (126 : Nat) "NextMustShareModel" "typed" "I") ∈ lw_all := lw_g (lw_at lw_m4 200 rfl) rfl
theorem q1037 : (Jvm.Cond.fieldLink "NextMustShareModel" (52 : Nat) "NextMustShareModel" "row" "[I") ∈ lw_all := lw_g (lw_at lw_m4 201 rfl) rfl
theorem q1038 : (Jvm.Cond.fieldLink "NextMustShareModel" (113 : Nat) "NextMustShareModel" "rowMany" "I") ∈ lw_all := lw_g (lw_at lw_m4 202 rfl) rfl
theorem q1039 : (Jvm.Cond.fieldLink "NextMustShareModel" (110 : Nat) "NextMustShareModel" "thrown" "I") ∈ lw_all := lw_g (lw_at lw_m4 203 rfl) rfl
theorem q1040 : (Jvm.Cond.fieldLink "NextMustShareModel" (129 : Nat) "NextMustShareModel" "read" "[B") ∈ lw_all := lw_g (lw_at lw_m4 204 rfl) rfl
theorem q1041 : (Jvm.Cond.fieldLink "NextMustShareModel" (132 : Nat) "NextMustShareModel" "size" "I") ∈ lw_all := lw_g (lw_at lw_m4 205 rfl) rfl
theorem q1042 : (Jvm.Cond.fieldLink "NextMustShareModel" (135 : Nat) "NextMustShareModel" "top" "I") ∈ lw_all := lw_g (lw_at lw_m4 206 rfl) rfl
theorem q1043 : (Jvm.Cond.fieldLink "NextMustShareModel" (138 : Nat) "NextMustShareModel" "at" "I") ∈ lw_all := lw_g (lw_at lw_m4 207 rfl) rfl
theorem q1044 : (Jvm.Cond.fieldLink "NextMustShareModel" (141 : Nat) "NextMustShareModel" "wrong" "I") ∈ lw_all := lw_g (lw_at lw_m4 208 rfl) rfl
theorem q1045 : (Jvm.Cond.fieldLink "NextMustShareModel" (55 : Nat) "NextMustShareModel" "rule" "[B") ∈ lw_all := lw_g (lw_at lw_m4 209 rfl) rfl
theorem q1046 : (Jvm.Cond.fieldLink "NextMustShareModel" (201 : Nat) "NextMustShareModel" "ruleSize" "I") ∈ lw_all := lw_g (lw_at lw_m4 210 rfl) rfl
theorem q1047 : (Jvm.Cond.fieldLink "NextMustShareModel" (58 : Nat) "NextMustShareModel" "askedGuest" "I") ∈ lw_all := lw_g (lw_at lw_m4 211 rfl) rfl
theorem q1048 : (Jvm.Cond.fieldLink "NextMustShareModel" (193 : Nat) "NextMustShareModel" "askedDish" "I") ∈ lw_all := lw_g (lw_at lw_m4 212 rfl) rfl
theorem q1049 : (Jvm.Cond.fieldLink "NextMustShareModel" (274 : Nat) "NextMustShareModel" "whyNot" "I") ∈ lw_all := lw_g (lw_at lw_m4 213 rfl) rfl
theorem q1050 : (Jvm.Cond.fieldLink "NextMustShareModel" (277 : Nat) "NextMustShareModel" "costTill" "I") ∈ lw_all := lw_g (lw_at lw_m4 214 rfl) rfl
theorem q1051 : (Jvm.Cond.fieldLink "NextMustShareModel" (280 : Nat) "NextMustShareModel" "hungryTill" "I") ∈ lw_all := lw_g (lw_at lw_m4 215 rfl) rfl
theorem q1052 : (Jvm.Cond.fieldLink "NextMustShareModel" (268 : Nat) "NextMustShareModel" "setTill" "I") ∈ lw_all := lw_g (lw_at lw_m4 216 rfl) rfl
theorem q1053 : (Jvm.Cond.fieldLink "NextMustShareModel" (271 : Nat) "NextMustShareModel" "lastTill" "I") ∈ lw_all := lw_g (lw_at lw_m4 217 rfl) rfl
theorem q1054 : (Jvm.Cond.fieldLink "NextMustShareModel" (61 : Nat) "NextMustShareModel" "isEnd" "[Z") ∈ lw_all := lw_g (lw_at lw_m4 218 rfl) rfl
theorem q1055 : (Jvm.Cond.fieldLink "NextMustShareModel" (64 : Nat) "NextMustShareModel" "canEnd" "[Z") ∈ lw_all := lw_g (lw_at lw_m4 219 rfl) rfl
theorem q1056 : (Jvm.Cond.fieldLink "NextMustShareModel" (67 : Nat) "NextMustShareModel" "rows" "[J") ∈ lw_all := lw_g (lw_at lw_m4 220 rfl) rfl
theorem q1057 : (Jvm.Cond.fieldLink "NextMustShareModel" (71 : Nat) "NextMustShareModel" "scores" "[I") ∈ lw_all := lw_g (lw_at lw_m4 221 rfl) rfl
theorem q1058 : (Jvm.Cond.fieldLink "NextMustShareModel" (349 : Nat) "NextMustShareModel" "bestScore" "I") ∈ lw_all := lw_g (lw_at lw_m4 222 rfl) rfl
theorem q1059 : (Jvm.Cond.fieldLink "NextMustShareModel" (74 : Nat) "NextMustShareModel" "shames" "[Z") ∈ lw_all := lw_g (lw_at lw_m4 223 rfl) rfl
theorem q1060 : (Jvm.Cond.fieldLink "NextMustShareModel" (77 : Nat) "NextMustShareModel" "moreThen" "[I") ∈ lw_all := lw_g (lw_at lw_m4 224 rfl) rfl
theorem q1061 : (Jvm.Cond.fieldLink "NextMustShareModel" (80 : Nat) "NextMustShareModel" "firstThen" "[I") ∈ lw_all := lw_g (lw_at lw_m4 225 rfl) rfl
theorem q1062 : (Jvm.Cond.fieldLink "NextMustShareModel" (83 : Nat) "NextMustShareModel" "isShamed" "[Z") ∈ lw_all := lw_g (lw_at lw_m4 226 rfl) rfl
theorem q1063 : (Jvm.Cond.fieldLink "NextMustShareModel" (86 : Nat) "NextMustShareModel" "moreOf" "[I") ∈ lw_all := lw_g (lw_at lw_m4 227 rfl) rfl
theorem q1064 : (Jvm.Cond.fieldLink "NextMustShareModel" (89 : Nat) "NextMustShareModel" "changesFrom" "[I") ∈ lw_all := lw_g (lw_at lw_m4 228 rfl) rfl
theorem q1065 : (Jvm.Cond.fieldLink "NextMustShareModel" (92 : Nat) "NextMustShareModel" "fillsFrom" "[J") ∈ lw_all := lw_g (lw_at lw_m4 229 rfl) rfl
theorem q1066 : (Jvm.Cond.fieldLink "NextMustShareModel" (95 : Nat) "NextMustShareModel" "freeAt" "[I") ∈ lw_all := lw_g (lw_at lw_m4 230 rfl) rfl
theorem q1067 : (Jvm.Cond.fieldLink "NextMustShareModel" (98 : Nat) "NextMustShareModel" "lastsOf" "[I") ∈ lw_all := lw_g (lw_at lw_m4 231 rfl) rfl
theorem q1068 : (Jvm.Cond.fieldLink "NextMustShareModel" (175 : Nat) "NextMustShareModel" "came" "I") ∈ lw_all := lw_g (lw_at lw_m4 232 rfl) rfl
theorem q1069 : (Jvm.Cond.fieldLink "NextMustShareModel" (101 : Nat) "NextMustShareModel" "kept" "[I") ∈ lw_all := lw_g (lw_at lw_m4 233 rfl) rfl
theorem q1070 : (Jvm.Cond.fieldLink "NextMustShareModel" (104 : Nat) "NextMustShareModel" "isKept" "[Z") ∈ lw_all := lw_g (lw_at lw_m4 234 rfl) rfl
theorem q1071 : (Jvm.Cond.fieldLink "NextMustShareModel" (107 : Nat) "NextMustShareModel" "keptCame" "[I") ∈ lw_all := lw_g (lw_at lw_m4 235 rfl) rfl
theorem q1072 : (Jvm.Cond.laysFinal "NextMustShareModel" "NextMustShareModel" "store" "[I") ∈ lw_all := lw_g (lw_at lw_m4 236 rfl) rfl
theorem q1073 : (Jvm.Cond.soleField "NextMustShareModel" "store") ∈ lw_all := lw_g (lw_at lw_m4 237 rfl) rfl
theorem q1074 : (Jvm.Cond.lays "NextMustShareModel" "NextMustShareModel" "dishes" "I") ∈ lw_all := lw_g (lw_at lw_m4 238 rfl) rfl
theorem q1075 : (Jvm.Cond.soleField "NextMustShareModel" "dishes") ∈ lw_all := lw_g (lw_at lw_m4 239 rfl) rfl
theorem q1076 : (Jvm.Cond.laysFinal "NextMustShareModel" "NextMustShareModel" "stuffs" "[I") ∈ lw_all := lw_g (lw_at lw_m5 0 rfl) rfl
theorem q1077 : (Jvm.Cond.soleField "NextMustShareModel" "stuffs") ∈ lw_all := lw_g (lw_at lw_m5 1 rfl) rfl
theorem q1078 : (Jvm.Cond.laysFinal "NextMustShareModel" "NextMustShareModel" "cost" "[I") ∈ lw_all := lw_g (lw_at lw_m5 2 rfl) rfl
theorem q1079 : (Jvm.Cond.soleField "NextMustShareModel" "cost") ∈ lw_all := lw_g (lw_at lw_m5 3 rfl) rfl
theorem q1080 : (Jvm.Cond.laysFinal "NextMustShareModel" "NextMustShareModel" "isHot" "[Z") ∈ lw_all := lw_g (lw_at lw_m5 4 rfl) rfl
theorem q1081 : (Jvm.Cond.soleField "NextMustShareModel" "isHot") ∈ lw_all := lw_g (lw_at lw_m5 5 rfl) rfl
theorem q1082 : (Jvm.Cond.laysFinal "NextMustShareModel" "NextMustShareModel" "hours" "[I") ∈ lw_all := lw_g (lw_at lw_m5 6 rfl) rfl
theorem q1083 : (Jvm.Cond.soleField "NextMustShareModel" "hours") ∈ lw_all := lw_g (lw_at lw_m5 7 rfl) rfl
theorem q1084 : (Jvm.Cond.lays "NextMustShareModel" "NextMustShareModel" "guests" "I") ∈ lw_all := lw_g (lw_at lw_m5 8 rfl) rfl
theorem q1085 : (Jvm.Cond.soleField "NextMustShareModel" "guests") ∈ lw_all := lw_g (lw_at lw_m5 9 rfl) rfl
theorem q1086 : (Jvm.Cond.laysFinal "NextMustShareModel" "NextMustShareModel" "loves" "[I") ∈ lw_all := lw_g (lw_at lw_m5 10 rfl) rfl
theorem q1087 : (Jvm.Cond.soleField "NextMustShareModel" "loves") ∈ lw_all := lw_g (lw_at lw_m5 11 rfl) rfl
theorem q1088 : (Jvm.Cond.laysFinal "NextMustShareModel" "NextMustShareModel" "bars" "[I") ∈ lw_all := lw_g (lw_at lw_m5 12 rfl) rfl
theorem q1089 : (Jvm.Cond.soleField "NextMustShareModel" "bars") ∈ lw_all := lw_g (lw_at lw_m5 13 rfl) rfl
theorem q1090 : (Jvm.Cond.lays "NextMustShareModel" "NextMustShareModel" "share" "I") ∈ lw_all := lw_g (lw_at lw_m5 14 rfl) rfl
theorem q1091 : (Jvm.Cond.soleField "NextMustShareModel" "share") ∈ lw_all := lw_g (lw_at lw_m5 15 rfl) rfl
theorem q1092 : (Jvm.Cond.lays "NextMustShareModel" "NextMustShareModel" "times" "I") ∈ lw_all := lw_g (lw_at lw_m5 16 rfl) rfl
theorem q1093 : (Jvm.Cond.soleField "NextMustShareModel" "times") ∈ lw_all := lw_g (lw_at lw_m5 17 rfl) rfl
theorem q1094 : (Jvm.Cond.lays "NextMustShareModel" "NextMustShareModel" "heat" "I") ∈ lw_all := lw_g (lw_at lw_m5 18 rfl) rfl
theorem q1095 : (Jvm.Cond.soleField "NextMustShareModel" "heat") ∈ lw_all := lw_g (lw_at lw_m5 19 rfl) rfl
theorem q1096 : (Jvm.Cond.laysFinal "NextMustShareModel" "NextMustShareModel" "served" "[I") ∈ lw_all := lw_g (lw_at lw_m5 20 rfl) rfl
theorem q1097 : (Jvm.Cond.soleField "NextMustShareModel" "served") ∈ lw_all := lw_g (lw_at lw_m5 21 rfl) rfl
theorem q1098 : (Jvm.Cond.lays "NextMustShareModel" "NextMustShareModel" "servedMany" "I") ∈ lw_all := lw_g (lw_at lw_m5 22 rfl) rfl
theorem q1099 : (Jvm.Cond.soleField "NextMustShareModel" "servedMany") ∈ lw_all := lw_g (lw_at lw_m5 23 rfl) rfl
theorem q1100 : (Jvm.Cond.laysFinal "NextMustShareModel" "NextMustShareModel" "menus" "[I") ∈ lw_all := lw_g (lw_at lw_m5 24 rfl) rfl
theorem q1101 : (Jvm.Cond.soleField "NextMustShareModel" "menus") ∈ lw_all := lw_g (lw_at lw_m5 25 rfl) rfl
theorem q1102 : (Jvm.Cond.laysFinal "NextMustShareModel" "NextMustShareModel" "menuLong" "[I") ∈ lw_all := lw_g (lw_at lw_m5 26 rfl) rfl
theorem q1103 : (Jvm.Cond.soleField "NextMustShareModel" "menuLong") ∈ lw_all := lw_g (lw_at lw_m5 27 rfl) rfl
theorem q1104 : (Jvm.Cond.laysFinal "NextMustShareModel" "NextMustShareModel" "text" "[B") ∈ lw_all := lw_g (lw_at lw_m5 28 rfl) rfl
theorem q1105 : (Jvm.Cond.soleField "NextMustShareModel" "text") ∈ lw_all := lw_g (lw_at lw_m5 29 rfl) rfl
theorem q1106 : (Jvm.Cond.lays "NextMustShareModel" "NextMustShareModel" "typed" "I") ∈ lw_all := lw_g (lw_at lw_m5 30 rfl) rfl
theorem q1107 : (Jvm.Cond.soleField "NextMustShareModel" "typed") ∈ lw_all := lw_g (lw_at lw_m5 31 rfl) rfl
theorem q1108 : (Jvm.Cond.laysFinal "NextMustShareModel" "NextMustShareModel" "row" "[I") ∈ lw_all := lw_g (lw_at lw_m5 32 rfl) rfl
theorem q1109 : (Jvm.Cond.soleField "NextMustShareModel" "row") ∈ lw_all := lw_g (lw_at lw_m5 33 rfl) rfl
theorem q1110 : (Jvm.Cond.lays "NextMustShareModel" "NextMustShareModel" "rowMany" "I") ∈ lw_all := lw_g (lw_at lw_m5 34 rfl) rfl
theorem q1111 : (Jvm.Cond.soleField "NextMustShareModel" "rowMany") ∈ lw_all := lw_g (lw_at lw_m5 35 rfl) rfl
theorem q1112 : (Jvm.Cond.lays "NextMustShareModel" "NextMustShareModel" "thrown" "I") ∈ lw_all := lw_g (lw_at lw_m5 36 rfl) rfl
theorem q1113 : (Jvm.Cond.soleField "NextMustShareModel" "thrown") ∈ lw_all := lw_g (lw_at lw_m5 37 rfl) rfl
theorem q1114 : (Jvm.Cond.lays "NextMustShareModel" "NextMustShareModel" "read" "[B") ∈ lw_all := lw_g (lw_at lw_m5 38 rfl) rfl
theorem q1115 : (Jvm.Cond.soleField "NextMustShareModel" "read") ∈ lw_all := lw_g (lw_at lw_m5 39 rfl) rfl
theorem q1116 : (Jvm.Cond.lays "NextMustShareModel" "NextMustShareModel" "size" "I") ∈ lw_all := lw_g (lw_at lw_m5 40 rfl) rfl
theorem q1117 : (Jvm.Cond.soleField "NextMustShareModel" "size") ∈ lw_all := lw_g (lw_at lw_m5 41 rfl) rfl
theorem q1118 : (Jvm.Cond.lays "NextMustShareModel" "NextMustShareModel" "top" "I") ∈ lw_all := lw_g (lw_at lw_m5 42 rfl) rfl
theorem q1119 : (Jvm.Cond.soleField "NextMustShareModel" "top") ∈ lw_all := lw_g (lw_at lw_m5 43 rfl) rfl
theorem q1120 : (Jvm.Cond.lays "NextMustShareModel" "NextMustShareModel" "at" "I") ∈ lw_all := lw_g (lw_at lw_m5 44 rfl) rfl
theorem q1121 : (Jvm.Cond.soleField "NextMustShareModel" "at") ∈ lw_all := lw_g (lw_at lw_m5 45 rfl) rfl
theorem q1122 : (Jvm.Cond.lays "NextMustShareModel" "NextMustShareModel" "wrong" "I") ∈ lw_all := lw_g (lw_at lw_m5 46 rfl) rfl
theorem q1123 : (Jvm.Cond.soleField "NextMustShareModel" "wrong") ∈ lw_all := lw_g (lw_at lw_m5 47 rfl) rfl
theorem q1124 : (Jvm.Cond.laysFinal "NextMustShareModel" "NextMustShareModel" "rule" "[B") ∈ lw_all := lw_g (lw_at lw_m5 48 rfl) rfl
theorem q1125 : (Jvm.Cond.soleField "NextMustShareModel" "rule") ∈ lw_all := lw_g (lw_at lw_m5 49 rfl) rfl
theorem q1126 : (Jvm.Cond.lays "NextMustShareModel" "NextMustShareModel" "ruleSize" "I") ∈ lw_all := lw_g (lw_at lw_m5 50 rfl) rfl
theorem q1127 : (Jvm.Cond.soleField "NextMustShareModel" "ruleSize") ∈ lw_all := lw_g (lw_at lw_m5 51 rfl) rfl
theorem q1128 : (Jvm.Cond.lays "NextMustShareModel" "NextMustShareModel" "askedGuest" "I") ∈ lw_all := lw_g (lw_at lw_m5 52 rfl) rfl
theorem q1129 : (Jvm.Cond.soleField "NextMustShareModel" "askedGuest") ∈ lw_all := lw_g (lw_at lw_m5 53 rfl) rfl
theorem q1130 : (Jvm.Cond.lays "NextMustShareModel" "NextMustShareModel" "askedDish" "I") ∈ lw_all := lw_g (lw_at lw_m5 54 rfl) rfl
theorem q1131 : (Jvm.Cond.soleField "NextMustShareModel" "askedDish") ∈ lw_all := lw_g (lw_at lw_m5 55 rfl) rfl
theorem q1132 : (Jvm.Cond.lays "NextMustShareModel" "NextMustShareModel" "whyNot" "I") ∈ lw_all := lw_g (lw_at lw_m5 56 rfl) rfl
theorem q1133 : (Jvm.Cond.soleField "NextMustShareModel" "whyNot") ∈ lw_all := lw_g (lw_at lw_m5 57 rfl) rfl
theorem q1134 : (Jvm.Cond.lays "NextMustShareModel" "NextMustShareModel" "costTill" "I") ∈ lw_all := lw_g (lw_at lw_m5 58 rfl) rfl
theorem q1135 : (Jvm.Cond.soleField "NextMustShareModel" "costTill") ∈ lw_all := lw_g (lw_at lw_m5 59 rfl) rfl
theorem q1136 : (Jvm.Cond.lays "NextMustShareModel" "NextMustShareModel" "hungryTill" "I") ∈ lw_all := lw_g (lw_at lw_m5 60 rfl) rfl
theorem q1137 : (Jvm.Cond.soleField "NextMustShareModel" "hungryTill") ∈ lw_all := lw_g (lw_at lw_m5 61 rfl) rfl
theorem q1138 : (Jvm.Cond.lays "NextMustShareModel" "NextMustShareModel" "setTill" "I") ∈ lw_all := lw_g (lw_at lw_m5 62 rfl) rfl
theorem q1139 : (Jvm.Cond.soleField "NextMustShareModel" "setTill") ∈ lw_all := lw_g (lw_at lw_m5 63 rfl) rfl
theorem q1140 : (Jvm.Cond.lays "NextMustShareModel" "NextMustShareModel" "lastTill" "I") ∈ lw_all := lw_g (lw_at lw_m5 64 rfl) rfl
theorem q1141 : (Jvm.Cond.soleField "NextMustShareModel" "lastTill") ∈ lw_all := lw_g (lw_at lw_m5 65 rfl) rfl
theorem q1142 : (Jvm.Cond.laysFinal "NextMustShareModel" "NextMustShareModel" "isEnd" "[Z") ∈ lw_all := lw_g (lw_at lw_m5 66 rfl) rfl
theorem q1143 : (Jvm.Cond.soleField "NextMustShareModel" "isEnd") ∈ lw_all := lw_g (lw_at lw_m5 67 rfl) rfl
theorem q1144 : (Jvm.Cond.laysFinal "NextMustShareModel" "NextMustShareModel" "canEnd" "[Z") ∈ lw_all := lw_g (lw_at lw_m5 68 rfl) rfl
theorem q1145 : (Jvm.Cond.soleField "NextMustShareModel" "canEnd") ∈ lw_all := lw_g (lw_at lw_m5 69 rfl) rfl
theorem q1146 : (Jvm.Cond.laysFinal "NextMustShareModel" "NextMustShareModel" "rows" "[J") ∈ lw_all := lw_g (lw_at lw_m5 70 rfl) rfl
theorem q1147 : (Jvm.Cond.soleField "NextMustShareModel" "rows") ∈ lw_all := lw_g (lw_at lw_m5 71 rfl) rfl
theorem q1148 : (Jvm.Cond.laysFinal "NextMustShareModel" "NextMustShareModel" "scores" "[I") ∈ lw_all := lw_g (lw_at lw_m5 72 rfl) rfl
theorem q1149 : (Jvm.Cond.soleField "NextMustShareModel" "scores") ∈ lw_all := lw_g (lw_at lw_m5 73 rfl) rfl
theorem q1150 : (Jvm.Cond.lays "NextMustShareModel" "NextMustShareModel" "bestScore" "I") ∈ lw_all := lw_g (lw_at lw_m5 74 rfl) rfl
theorem q1151 : (Jvm.Cond.soleField "NextMustShareModel" "bestScore") ∈ lw_all := lw_g (lw_at lw_m5 75 rfl) rfl
theorem q1152 : (Jvm.Cond.laysFinal "NextMustShareModel" "NextMustShareModel" "shames" "[Z") ∈ lw_all := lw_g (lw_at lw_m5 76 rfl) rfl
theorem q1153 : (Jvm.Cond.soleField "NextMustShareModel" "shames") ∈ lw_all := lw_g (lw_at lw_m5 77 rfl) rfl
theorem q1154 : (Jvm.Cond.laysFinal "NextMustShareModel" "NextMustShareModel" "moreThen" "[I") ∈ lw_all := lw_g (lw_at lw_m5 78 rfl) rfl
theorem q1155 : (Jvm.Cond.soleField "NextMustShareModel" "moreThen") ∈ lw_all := lw_g (lw_at lw_m5 79 rfl) rfl
theorem q1156 : (Jvm.Cond.laysFinal "NextMustShareModel" "NextMustShareModel" "firstThen" "[I") ∈ lw_all := lw_g (lw_at lw_m5 80 rfl) rfl
theorem q1157 : (Jvm.Cond.soleField "NextMustShareModel" "firstThen") ∈ lw_all := lw_g (lw_at lw_m5 81 rfl) rfl
theorem q1158 : (Jvm.Cond.laysFinal "NextMustShareModel" "NextMustShareModel" "isShamed" "[Z") ∈ lw_all := lw_g (lw_at lw_m5 82 rfl) rfl
theorem q1159 : (Jvm.Cond.soleField "NextMustShareModel" "isShamed") ∈ lw_all := lw_g (lw_at lw_m5 83 rfl) rfl
theorem q1160 : (Jvm.Cond.laysFinal "NextMustShareModel" "NextMustShareModel" "moreOf" "[I") ∈ lw_all := lw_g (lw_at lw_m5 84 rfl) rfl
theorem q1161 : (Jvm.Cond.soleField "NextMustShareModel" "moreOf") ∈ lw_all := lw_g (lw_at lw_m5 85 rfl) rfl
theorem q1162 : (Jvm.Cond.laysFinal "NextMustShareModel" "NextMustShareModel" "changesFrom" "[I") ∈ lw_all := lw_g (lw_at lw_m5 86 rfl) rfl
theorem q1163 : (Jvm.Cond.soleField "NextMustShareModel" "changesFrom") ∈ lw_all := lw_g (lw_at lw_m5 87 rfl) rfl
theorem q1164 : (Jvm.Cond.laysFinal "NextMustShareModel" "NextMustShareModel" "fillsFrom" "[J") ∈ lw_all := lw_g (lw_at lw_m5 88 rfl) rfl
theorem q1165 : (Jvm.Cond.soleField "NextMustShareModel" "fillsFrom") ∈ lw_all := lw_g (lw_at lw_m5 89 rfl) rfl
theorem q1166 : (Jvm.Cond.laysFinal "NextMustShareModel" "NextMustShareModel" "freeAt" "[I") ∈ lw_all := lw_g (lw_at lw_m5 90 rfl) rfl
theorem q1167 : (Jvm.Cond.soleField "NextMustShareModel" "freeAt") ∈ lw_all := lw_g (lw_at lw_m5 91 rfl) rfl
theorem q1168 : (Jvm.Cond.laysFinal "NextMustShareModel" "NextMustShareModel" "lastsOf" "[I") ∈ lw_all := lw_g (lw_at lw_m5 92 rfl) rfl
theorem q1169 : (Jvm.Cond.soleField "NextMustShareModel" "lastsOf") ∈ lw_all := lw_g (lw_at lw_m5 93 rfl) rfl
theorem q1170 : (Jvm.Cond.lays "NextMustShareModel" "NextMustShareModel" "came" "I") ∈ lw_all := lw_g (lw_at lw_m5 94 rfl) rfl
theorem q1171 : (Jvm.Cond.soleField "NextMustShareModel" "came") ∈ lw_all := lw_g (lw_at lw_m5 95 rfl) rfl
theorem q1172 : (Jvm.Cond.laysFinal "NextMustShareModel" "NextMustShareModel" "kept" "[I") ∈ lw_all := lw_g (lw_at lw_m5 96 rfl) rfl
theorem q1173 : (Jvm.Cond.soleField "NextMustShareModel" "kept") ∈ lw_all := lw_g (lw_at lw_m5 97 rfl) rfl
theorem q1174 : (Jvm.Cond.laysFinal "NextMustShareModel" "NextMustShareModel" "isKept" "[Z") ∈ lw_all := lw_g (lw_at lw_m5 98 rfl) rfl
theorem q1175 : (Jvm.Cond.soleField "NextMustShareModel" "isKept") ∈ lw_all := lw_g (lw_at lw_m5 99 rfl) rfl
theorem q1176 : (Jvm.Cond.laysFinal "NextMustShareModel" "NextMustShareModel" "keptCame" "[I") ∈ lw_all := lw_g (lw_at lw_m5 100 rfl) rfl
theorem q1177 : (Jvm.Cond.soleField "NextMustShareModel" "keptCame") ∈ lw_all := lw_g (lw_at lw_m5 101 rfl) rfl
theorem q1178 : (Jvm.Cond.superclass "NextMustShareModel" "java/lang/Object") ∈ lw_all := lw_g (lw_at lw_m5 102 rfl) rfl
theorem q1180 : (Jvm.Cond.instanceMethod ({ cls := "NextMustShareModel", name := "thrown", desc := "()I" } : Jvm.MethodName)) ∈ lw_all := lw_g (lw_at lw_m5 104 rfl) rfl
theorem q1181 : (Jvm.Cond.selects "NextMustShareModel" ({ cls := "NextMustShareModel", name := "thrown", desc := "()I" } : Jvm.MethodName) ({ cls := "NextMustShareModel", name := "thrown", desc := "()I" } : Jvm.MethodName)) ∈ lw_all := lw_g (lw_at lw_m5 105 rfl) rfl
theorem q1182 : (Jvm.Cond.code ({ cls := "NextMustShareModel", name := "thrown", desc := "()I" } : Jvm.MethodName) prog_8_method_2_code (1 : Nat) (Option.some Jvm.ClassFile.FieldType.int)) ∈ lw_all := lw_g (lw_at lw_m5 106 rfl) rfl
theorem q1184 : (Jvm.Cond.instanceMethod ({ cls := "NextMustShareModel", name := "sign", desc := "(I)I" } : Jvm.MethodName)) ∈ lw_all := lw_g (lw_at lw_m5 108 rfl) rfl
theorem q1185 : (Jvm.Cond.selects "NextMustShareModel" ({ cls := "NextMustShareModel", name := "sign", desc := "(I)I" } : Jvm.MethodName) ({ cls := "NextMustShareModel", name := "sign", desc := "(I)I" } : Jvm.MethodName)) ∈ lw_all := lw_g (lw_at lw_m5 109 rfl) rfl
theorem q1186 : (Jvm.Cond.code ({ cls := "NextMustShareModel", name := "sign", desc := "(I)I" } : Jvm.MethodName) prog_8_method_9_code (3 : Nat) (Option.some Jvm.ClassFile.FieldType.int)) ∈ lw_all := lw_g (lw_at lw_m5 110 rfl) rfl
theorem q1188 : (Jvm.Cond.instanceMethod ({ cls := "NextMustShareModel", name := "end", desc := "(I)Z" } : Jvm.MethodName)) ∈ lw_all := lw_g (lw_at lw_m5 112 rfl) rfl
theorem q1189 : (Jvm.Cond.selects "NextMustShareModel" ({ cls := "NextMustShareModel", name := "end", desc := "(I)Z" } : Jvm.MethodName) ({ cls := "NextMustShareModel", name := "end", desc := "(I)Z" } : Jvm.MethodName)) ∈ lw_all := lw_g (lw_at lw_m5 113 rfl) rfl
theorem q1190 : (Jvm.Cond.code ({ cls := "NextMustShareModel", name := "end", desc := "(I)Z" } : Jvm.MethodName) prog_8_method_10_code (2 : Nat) (Option.some Jvm.ClassFile.FieldType.boolean)) ∈ lw_all := lw_g (lw_at lw_m5 114 rfl) rfl
theorem q1191 : (Jvm.Cond.methodLink "NextMustShareModel" (119 : Nat) ({ cls := "NextMustShareModel", name := "in", desc := "(III)Z" } : Jvm.MethodName)) ∈ lw_all := lw_g (lw_at lw_m5 115 rfl) rfl
theorem q1192 : (Jvm.Cond.static ({ cls := "NextMustShareModel", name := "in", desc := "(III)Z" } : Jvm.MethodName)) ∈ lw_all := lw_g (lw_at lw_m5 116 rfl) rfl
theorem q1193 : (Jvm.Cond.code ({ cls := "NextMustShareModel", name := "in", desc := "(III)Z" } : Jvm.MethodName) prog_8_method_3_code (3 : Nat) (Option.some Jvm.ClassFile.FieldType.boolean)) ∈ lw_all := lw_g (lw_at lw_m5 117 rfl) rfl
theorem q1195 : (Jvm.Cond.instanceMethod ({ cls := "NextMustShareModel", name := "kitchen", desc := "()I" } : Jvm.MethodName)) ∈ lw_all := lw_g (lw_at lw_m5 119 rfl) rfl
theorem q1196 : (Jvm.Cond.selects "NextMustShareModel" ({ cls := "NextMustShareModel", name := "kitchen", desc := "()I" } : Jvm.MethodName) ({ cls := "NextMustShareModel", name := "kitchen", desc := "()I" } : Jvm.MethodName)) ∈ lw_all := lw_g (lw_at lw_m5 120 rfl) rfl
theorem q1197 : (Jvm.Cond.code ({ cls := "NextMustShareModel", name := "kitchen", desc := "()I" } : Jvm.MethodName) prog_8_method_18_code (5 : Nat) (Option.some Jvm.ClassFile.FieldType.int)) ∈ lw_all := lw_g (lw_at lw_m5 121 rfl) rfl
theorem q1198 : (Jvm.Cond.methodLink "NextMustShareModel" (156 : Nat) ({ cls := "NextMustShareModel", name := "begin", desc := "([BII)V" } : Jvm.MethodName)) ∈ lw_all := lw_g (lw_at lw_m5 122 rfl) rfl
theorem q1199 : (Jvm.Cond.privateMethod ({ cls := "NextMustShareModel", name := "begin", desc := "([BII)V" } : Jvm.MethodName)) ∈ lw_tbl := lw_at lw_m5 123 rfl
theorem q1200 : (Jvm.Cond.instanceMethod ({ cls := "NextMustShareModel", name := "begin", desc := "([BII)V" } : Jvm.MethodName)) ∈ lw_all := lw_g (lw_at lw_m5 124 rfl) rfl
theorem q1201 : (Jvm.Cond.code ({ cls := "NextMustShareModel", name := "begin", desc := "([BII)V" } : Jvm.MethodName) prog_8_method_11_code (4 : Nat) (Option.none : Option Jvm.ClassFile.FieldType)) ∈ lw_all := lw_g (lw_at lw_m5 125 rfl) rfl
theorem q1202 : (Jvm.Cond.methodLink "NextMustShareModel" (144 : Nat) ({ cls := "NextMustShareModel", name := "fine", desc := "()Z" } : Jvm.MethodName)) ∈ lw_all := lw_g (lw_at lw_m5 126 rfl) rfl
theorem q1203 : (Jvm.Cond.privateMethod ({ cls := "NextMustShareModel", name := "fine", desc := "()Z" } : Jvm.MethodName)) ∈ lw_tbl := lw_at lw_m5 127 rfl
theorem q1204 : (Jvm.Cond.instanceMethod ({ cls := "NextMustShareModel", name := "fine", desc := "()Z" } : Jvm.MethodName)) ∈ lw_all := lw_g (lw_at lw_m5 128 rfl) rfl
theorem q1205 : (Jvm.Cond.code ({ cls := "NextMustShareModel", name := "fine", desc := "()Z" } : Jvm.MethodName) prog_8_method_13_code (1 : Nat) (Option.some Jvm.ClassFile.FieldType.boolean)) ∈ lw_all := lw_g (lw_at lw_m5 129 rfl) rfl
theorem q1206 : (Jvm.Cond.methodLink "NextMustShareModel" (148 : Nat) ({ cls := "NextMustShareModel", name := "here", desc := "()I" } : Jvm.MethodName)) ∈ lw_all := lw_g (lw_at lw_m5 130 rfl) rfl
theorem q1207 : (Jvm.Cond.privateMethod ({ cls := "NextMustShareModel", name := "here", desc := "()I" } : Jvm.MethodName)) ∈ lw_tbl := lw_at lw_m5 131 rfl
theorem q1208 : (Jvm.Cond.instanceMethod ({ cls := "NextMustShareModel", name := "here", desc := "()I" } : Jvm.MethodName)) ∈ lw_all := lw_g (lw_at lw_m5 132 rfl) rfl
theorem q1209 : (Jvm.Cond.code ({ cls := "NextMustShareModel", name := "here", desc := "()I" } : Jvm.MethodName) prog_8_method_12_code (1 : Nat) (Option.some Jvm.ClassFile.FieldType.int)) ∈ lw_all := lw_g (lw_at lw_m5 133 rfl) rfl
theorem q1210 : (Jvm.Cond.methodLink "NextMustShareModel" (152 : Nat) ({ cls := "NextMustShareModel", name := "fault", desc := "(I)V" } : Jvm.MethodName)) ∈ lw_all := lw_g (lw_at lw_m5 134 rfl) rfl
theorem q1211 : (Jvm.Cond.privateMethod ({ cls := "NextMustShareModel", name := "fault", desc := "(I)V" } : Jvm.MethodName)) ∈ lw_tbl := lw_at lw_m5 135 rfl
theorem q1212 : (Jvm.Cond.instanceMethod ({ cls := "NextMustShareModel", name := "fault", desc := "(I)V" } : Jvm.MethodName)) ∈ lw_all := lw_g (lw_at lw_m5 136 rfl) rfl
theorem q1213 : (Jvm.Cond.code ({ cls := "NextMustShareModel", name := "fault", desc := "(I)V" } : Jvm.MethodName) prog_8_method_14_code (2 : Nat) (Option.none : Option Jvm.ClassFile.FieldType)) ∈ lw_all := lw_g (lw_at lw_m5 137 rfl) rfl
theorem q1214 : (Jvm.Cond.methodLink "NextMustShareModel" (160 : Nat) ({ cls := "NextMustShareModel", name := "readGuest", desc := "(I)V" } : Jvm.MethodName)) ∈ lw_all := lw_g (lw_at lw_m5 138 rfl) rfl
theorem q1215 : (Jvm.Cond.privateMethod ({ cls := "NextMustShareModel", name := "readGuest", desc := "(I)V" } : Jvm.MethodName)) ∈ lw_tbl := lw_at lw_m5 139 rfl
theorem q1216 : (Jvm.Cond.instanceMethod ({ cls := "NextMustShareModel", name := "readGuest", desc := "(I)V" } : Jvm.MethodName)) ∈ lw_all := lw_g (lw_at lw_m5 140 rfl) rfl
theorem q1217 : (Jvm.Cond.code ({ cls := "NextMustShareModel", name := "readGuest", desc := "(I)V" } : Jvm.MethodName) prog_8_method_19_code (2 : Nat) (Option.none : Option Jvm.ClassFile.FieldType)) ∈ lw_all := lw_g (lw_at lw_m5 141 rfl) rfl
theorem q1218 : (Jvm.Cond.methodLink "NextMustShareModel" (163 : Nat) ({ cls := "NextMustShareModel", name := "letters", desc := "(Z)I" } : Jvm.MethodName)) ∈ lw_all := lw_g (lw_at lw_m5 142 rfl) rfl
theorem q1219 : (Jvm.Cond.privateMethod ({ cls := "NextMustShareModel", name := "letters", desc := "(Z)I" } : Jvm.MethodName)) ∈ lw_tbl := lw_at lw_m5 143 rfl
theorem q1220 : (Jvm.Cond.instanceMethod ({ cls := "NextMustShareModel", name := "letters", desc := "(Z)I" } : Jvm.MethodName)) ∈ lw_all := lw_g (lw_at lw_m5 144 rfl) rfl
theorem q1221 : (Jvm.Cond.code ({ cls := "NextMustShareModel", name := "letters", desc := "(Z)I" } : Jvm.MethodName) prog_8_method_17_code (5 : Nat) (Option.some Jvm.ClassFile.FieldType.int)) ∈ lw_all := lw_g (lw_at lw_m5 145 rfl) rfl
theorem q1222 : (Jvm.Cond.methodLink "NextMustShareModel" (171 : Nat) ({ cls := "NextMustShareModel", name := "passes", desc := "(C)Z" } : Jvm.MethodName)) ∈ lw_all := lw_g (lw_at lw_m5 146 rfl) rfl
theorem q1223 : (Jvm.Cond.privateMethod ({ cls := "NextMustShareModel", name := "passes", desc := "(C)Z" } : Jvm.MethodName)) ∈ lw_tbl := lw_at lw_m5 147 rfl
theorem q1224 : (Jvm.Cond.instanceMethod ({ cls := "NextMustShareModel", name := "passes", desc := "(C)Z" } : Jvm.MethodName)) ∈ lw_all := lw_g (lw_at lw_m5 148 rfl) rfl
theorem q1225 : (Jvm.Cond.code ({ cls := "NextMustShareModel", name := "passes", desc := "(C)Z" } : Jvm.MethodName) prog_8_method_15_code (2 : Nat) (Option.some Jvm.ClassFile.FieldType.boolean)) ∈ lw_all := lw_g (lw_at lw_m5 149 rfl) rfl
theorem q1226 : (Jvm.Cond.methodLink "NextMustShareModel" (167 : Nat) ({ cls := "NextMustShareModel", name := "number", desc := "(I)I" } : Jvm.MethodName)) ∈ lw_all := lw_g (lw_at lw_m5 150 rfl) rfl
theorem q1227 : (Jvm.Cond.privateMethod ({ cls := "NextMustShareModel", name := "number", desc := "(I)I" } : Jvm.MethodName)) ∈ lw_tbl := lw_at lw_m5 151 rfl
theorem q1228 : (Jvm.Cond.instanceMethod ({ cls := "NextMustShareModel", name := "number", desc := "(I)I" } : Jvm.MethodName)) ∈ lw_all := lw_g (lw_at lw_m5 152 rfl) rfl
theorem q1229 : (Jvm.Cond.code ({ cls := "NextMustShareModel", name := "number", desc := "(I)I" } : Jvm.MethodName) prog_8_method_16_code (4 : Nat) (Option.some Jvm.ClassFile.FieldType.int)) ∈ lw_all := lw_g (lw_at lw_m5 153 rfl) rfl
theorem q1231 : (Jvm.Cond.instanceMethod ({ cls := "NextMustShareModel", name := "rule", desc := "()I" } : Jvm.MethodName)) ∈ lw_all := lw_g (lw_at lw_m5 155 rfl) rfl
theorem q1232 : (Jvm.Cond.selects "NextMustShareModel" ({ cls := "NextMustShareModel", name := "rule", desc := "()I" } : Jvm.MethodName) ({ cls := "NextMustShareModel", name := "rule", desc := "()I" } : Jvm.MethodName)) ∈ lw_all := lw_g (lw_at lw_m5 156 rfl) rfl
theorem q1233 : (Jvm.Cond.code ({ cls := "NextMustShareModel", name := "rule", desc := "()I" } : Jvm.MethodName) prog_8_method_25_code (3 : Nat) (Option.some Jvm.ClassFile.FieldType.int)) ∈ lw_all := lw_g (lw_at lw_m5 157 rfl) rfl
theorem q1234 : (Jvm.Cond.methodLink "NextMustShareModel" (187 : Nat) ({ cls := "NextMustShareModel", name := "held", desc := "(I)I" } : Jvm.MethodName)) ∈ lw_all := lw_g (lw_at lw_m5 158 rfl) rfl
theorem q1235 : (Jvm.Cond.privateMethod ({ cls := "NextMustShareModel", name := "held", desc := "(I)I" } : Jvm.MethodName)) ∈ lw_tbl := lw_at lw_m5 159 rfl
theorem q1236 : (Jvm.Cond.instanceMethod ({ cls := "NextMustShareModel", name := "held", desc := "(I)I" } : Jvm.MethodName)) ∈ lw_all := lw_g (lw_at lw_m5 160 rfl) rfl
theorem q1237 : (Jvm.Cond.code ({ cls := "NextMustShareModel", name := "held", desc := "(I)I" } : Jvm.MethodName) prog_8_method_20_code (3 : Nat) (Option.some Jvm.ClassFile.FieldType.int)) ∈ lw_all := lw_g (lw_at lw_m5 161 rfl) rfl
theorem q1238 : (Jvm.Cond.methodLink "NextMustShareModel" (178 : Nat) ({ cls := "NextMustShareModel", name := "sum", desc := "(I)I" } : Jvm.MethodName)) ∈ lw_all := lw_g (lw_at lw_m5 162 rfl) rfl
theorem q1239 : (Jvm.Cond.privateMethod ({ cls := "NextMustShareModel", name := "sum", desc := "(I)I" } : Jvm.MethodName)) ∈ lw_tbl := lw_at lw_m5 163 rfl
theorem q1240 : (Jvm.Cond.instanceMethod ({ cls := "NextMustShareModel", name := "sum", desc := "(I)I" } : Jvm.MethodName)) ∈ lw_all := lw_g (lw_at lw_m5 164 rfl) rfl
theorem q1241 : (Jvm.Cond.code ({ cls := "NextMustShareModel", name := "sum", desc := "(I)I" } : Jvm.MethodName) prog_8_method_21_code (5 : Nat) (Option.some Jvm.ClassFile.FieldType.int)) ∈ lw_all := lw_g (lw_at lw_m5 165 rfl) rfl
theorem q1242 : (Jvm.Cond.methodLink "NextMustShareModel" (181 : Nat) ({ cls := "NextMustShareModel", name := "product", desc := "(I)I" } : Jvm.MethodName)) ∈ lw_all := lw_g (lw_at lw_m5 166 rfl) rfl
theorem q1243 : (Jvm.Cond.privateMethod ({ cls := "NextMustShareModel", name := "product", desc := "(I)I" } : Jvm.MethodName)) ∈ lw_tbl := lw_at lw_m5 167 rfl
theorem q1244 : (Jvm.Cond.instanceMethod ({ cls := "NextMustShareModel", name := "product", desc := "(I)I" } : Jvm.MethodName)) ∈ lw_all := lw_g (lw_at lw_m5 168 rfl) rfl
theorem q1245 : (Jvm.Cond.code ({ cls := "NextMustShareModel", name := "product", desc := "(I)I" } : Jvm.MethodName) prog_8_method_22_code (5 : Nat) (Option.some Jvm.ClassFile.FieldType.int)) ∈ lw_all := lw_g (lw_at lw_m5 169 rfl) rfl
theorem q1246 : (Jvm.Cond.methodLink "NextMustShareModel" (184 : Nat) ({ cls := "NextMustShareModel", name := "thing", desc := "(I)I" } : Jvm.MethodName)) ∈ lw_all := lw_g (lw_at lw_m5 170 rfl) rfl
theorem q1247 : (Jvm.Cond.privateMethod ({ cls := "NextMustShareModel", name := "thing", desc := "(I)I" } : Jvm.MethodName)) ∈ lw_tbl := lw_at lw_m5 171 rfl
theorem q1248 : (Jvm.Cond.instanceMethod ({ cls := "NextMustShareModel", name := "thing", desc := "(I)I" } : Jvm.MethodName)) ∈ lw_all := lw_g (lw_at lw_m5 172 rfl) rfl
theorem q1249 : (Jvm.Cond.code ({ cls := "NextMustShareModel", name := "thing", desc := "(I)I" } : Jvm.MethodName) prog_8_method_23_code (4 : Nat) (Option.some Jvm.ClassFile.FieldType.int)) ∈ lw_all := lw_g (lw_at lw_m5 173 rfl) rfl
theorem q1250 : (Jvm.Cond.methodLink "NextMustShareModel" (190 : Nat) ({ cls := "NextMustShareModel", name := "letter", desc := "(I)I" } : Jvm.MethodName)) ∈ lw_all := lw_g (lw_at lw_m5 174 rfl) rfl
theorem q1251 : (Jvm.Cond.privateMethod ({ cls := "NextMustShareModel", name := "letter", desc := "(I)I" } : Jvm.MethodName)) ∈ lw_tbl := lw_at lw_m5 175 rfl
theorem q1252 : (Jvm.Cond.instanceMethod ({ cls := "NextMustShareModel", name := "letter", desc := "(I)I" } : Jvm.MethodName)) ∈ lw_all := lw_g (lw_at lw_m5 176 rfl) rfl
theorem q1253 : (Jvm.Cond.code ({ cls := "NextMustShareModel", name := "letter", desc := "(I)I" } : Jvm.MethodName) prog_8_method_24_code (3 : Nat) (Option.some Jvm.ClassFile.FieldType.int)) ∈ lw_all := lw_g (lw_at lw_m5 177 rfl) rfl
theorem q1254 : (Jvm.Cond.methodLink "NextMustShareModel" (196 : Nat) ({ cls := "java/lang/Integer", name := "bitCount", desc := "(I)I" } : Jvm.MethodName)) ∈ lw_all := lw_g (lw_at lw_m5 178 rfl) rfl
theorem q1256 : (Jvm.Cond.instanceMethod ({ cls := "NextMustShareModel", name := "dish", desc := "(II)I" } : Jvm.MethodName)) ∈ lw_all := lw_g (lw_at lw_m5 180 rfl) rfl
theorem q1257 : (Jvm.Cond.selects "NextMustShareModel" ({ cls := "NextMustShareModel", name := "dish", desc := "(II)I" } : Jvm.MethodName) ({ cls := "NextMustShareModel", name := "dish", desc := "(II)I" } : Jvm.MethodName)) ∈ lw_all := lw_g (lw_at lw_m5 181 rfl) rfl
theorem q1258 : (Jvm.Cond.code ({ cls := "NextMustShareModel", name := "dish", desc := "(II)I" } : Jvm.MethodName) prog_8_method_29_code (5 : Nat) (Option.some Jvm.ClassFile.FieldType.int)) ∈ lw_all := lw_g (lw_at lw_m5 182 rfl) rfl
theorem q1259 : (Jvm.Cond.methodLink "NextMustShareModel" (216 : Nat) ({ cls := "NextMustShareModel", name := "isDish", desc := "(I)Z" } : Jvm.MethodName)) ∈ lw_all := lw_g (lw_at lw_m5 183 rfl) rfl
theorem q1260 : (Jvm.Cond.privateMethod ({ cls := "NextMustShareModel", name := "isDish", desc := "(I)Z" } : Jvm.MethodName)) ∈ lw_tbl := lw_at lw_m5 184 rfl
theorem q1261 : (Jvm.Cond.instanceMethod ({ cls := "NextMustShareModel", name := "isDish", desc := "(I)Z" } : Jvm.MethodName)) ∈ lw_all := lw_g (lw_at lw_m5 185 rfl) rfl
theorem q1262 : (Jvm.Cond.code ({ cls := "NextMustShareModel", name := "isDish", desc := "(I)Z" } : Jvm.MethodName) prog_8_method_7_code (2 : Nat) (Option.some Jvm.ClassFile.FieldType.boolean)) ∈ lw_all := lw_g (lw_at lw_m5 186 rfl) rfl
theorem q1263 : (Jvm.Cond.methodLink "NextMustShareModel" (220 : Nat) ({ cls := "NextMustShareModel", name := "lost", desc := "()I" } : Jvm.MethodName)) ∈ lw_all := lw_g (lw_at lw_m5 187 rfl) rfl
theorem q1264 : (Jvm.Cond.privateMethod ({ cls := "NextMustShareModel", name := "lost", desc := "()I" } : Jvm.MethodName)) ∈ lw_tbl := lw_at lw_m5 188 rfl
theorem q1265 : (Jvm.Cond.instanceMethod ({ cls := "NextMustShareModel", name := "lost", desc := "()I" } : Jvm.MethodName)) ∈ lw_all := lw_g (lw_at lw_m5 189 rfl) rfl
theorem q1266 : (Jvm.Cond.code ({ cls := "NextMustShareModel", name := "lost", desc := "()I" } : Jvm.MethodName) prog_8_method_5_code (1 : Nat) (Option.some Jvm.ClassFile.FieldType.int)) ∈ lw_all := lw_g (lw_at lw_m5 190 rfl) rfl
theorem q1267 : (Jvm.Cond.methodLink "NextMustShareModel" (223 : Nat) ({ cls := "NextMustShareModel", name := "isHungry", desc := "(II)Z" } : Jvm.MethodName)) ∈ lw_all := lw_g (lw_at lw_m5 191 rfl) rfl
theorem q1268 : (Jvm.Cond.privateMethod ({ cls := "NextMustShareModel", name := "isHungry", desc := "(II)Z" } : Jvm.MethodName)) ∈ lw_tbl := lw_at lw_m5 192 rfl
theorem q1269 : (Jvm.Cond.instanceMethod ({ cls := "NextMustShareModel", name := "isHungry", desc := "(II)Z" } : Jvm.MethodName)) ∈ lw_all := lw_g (lw_at lw_m5 193 rfl) rfl
theorem q1270 : (Jvm.Cond.code ({ cls := "NextMustShareModel", name := "isHungry", desc := "(II)Z" } : Jvm.MethodName) prog_8_method_28_code (3 : Nat) (Option.some Jvm.ClassFile.FieldType.boolean)) ∈ lw_all := lw_g (lw_at lw_m5 194 rfl) rfl
theorem q1271 : (Jvm.Cond.methodLink "NextMustShareModel" (227 : Nat) ({ cls := "NextMustShareModel", name := "joyOfAll", desc := "(I)I" } : Jvm.MethodName)) ∈ lw_all := lw_g (lw_at lw_m5 195 rfl) rfl
theorem q1272 : (Jvm.Cond.privateMethod ({ cls := "NextMustShareModel", name := "joyOfAll", desc := "(I)I" } : Jvm.MethodName)) ∈ lw_tbl := lw_at lw_m5 196 rfl
theorem q1273 : (Jvm.Cond.instanceMethod ({ cls := "NextMustShareModel", name := "joyOfAll", desc := "(I)I" } : Jvm.MethodName)) ∈ lw_all := lw_g (lw_at lw_m5 197 rfl) rfl
theorem q1274 : (Jvm.Cond.code ({ cls := "NextMustShareModel", name := "joyOfAll", desc := "(I)I" } : Jvm.MethodName) prog_8_method_27_code (4 : Nat) (Option.some Jvm.ClassFile.FieldType.int)) ∈ lw_all := lw_g (lw_at lw_m5 198 rfl) rfl
theorem q1275 : (Jvm.Cond.methodLink "NextMustShareModel" (213 : Nat) ({ cls := "NextMustShareModel", name := "joyOf", desc := "(II)I" } : Jvm.MethodName)) ∈ lw_all := lw_g (lw_at lw_m5 199 rfl) rfl
theorem q1276 : (Jvm.Cond.privateMethod ({ cls := "NextMustShareModel", name := "joyOf", desc := "(II)I" } : Jvm.MethodName)) ∈ lw_tbl := lw_at lw_m5 200 rfl
theorem q1277 : (Jvm.Cond.instanceMethod ({ cls := "NextMustShareModel", name := "joyOf", desc := "(II)I" } : Jvm.MethodName)) ∈ lw_all := lw_g (lw_at lw_m5 201 rfl) rfl
theorem q1278 : (Jvm.Cond.code ({ cls := "NextMustShareModel", name := "joyOf", desc := "(II)I" } : Jvm.MethodName) prog_8_method_26_code (3 : Nat) (Option.some Jvm.ClassFile.FieldType.int)) ∈ lw_all := lw_g (lw_at lw_m5 202 rfl) rfl
theorem q1279 : (Jvm.Cond.methodLink "NextMustShareModel" (204 : Nat) ({ cls := "java/lang/Math", name := "min", desc := "(II)I" } : Jvm.MethodName)) ∈ lw_all := lw_g (lw_at lw_m5 203 rfl) rfl
theorem q1280 : (Jvm.Cond.methodLink "NextMustShareModel" (210 : Nat) ({ cls := "java/lang/Math", name := "max", desc := "(II)I" } : Jvm.MethodName)) ∈ lw_all := lw_g (lw_at lw_m5 204 rfl) rfl
theorem q1282 : (Jvm.Cond.instanceMethod ({ cls := "NextMustShareModel", name := "guest", desc := "(II)I" } : Jvm.MethodName)) ∈ lw_all := lw_g (lw_at lw_m5 206 rfl) rfl
theorem q1283 : (Jvm.Cond.selects "NextMustShareModel" ({ cls := "NextMustShareModel", name := "guest", desc := "(II)I" } : Jvm.MethodName) ({ cls := "NextMustShareModel", name := "guest", desc := "(II)I" } : Jvm.MethodName)) ∈ lw_all := lw_g (lw_at lw_m5 207 rfl) rfl
theorem q1284 : (Jvm.Cond.code ({ cls := "NextMustShareModel", name := "guest", desc := "(II)I" } : Jvm.MethodName) prog_8_method_30_code (3 : Nat) (Option.some Jvm.ClassFile.FieldType.int)) ∈ lw_all := lw_g (lw_at lw_m5 208 rfl) rfl
theorem q1285 : (Jvm.Cond.methodLink "NextMustShareModel" (230 : Nat) ({ cls := "NextMustShareModel", name := "isGuest", desc := "(I)Z" } : Jvm.MethodName)) ∈ lw_all := lw_g (lw_at lw_m5 209 rfl) rfl
theorem q1286 : (Jvm.Cond.privateMethod ({ cls := "NextMustShareModel", name := "isGuest", desc := "(I)Z" } : Jvm.MethodName)) ∈ lw_tbl := lw_at lw_m5 210 rfl
theorem q1287 : (Jvm.Cond.instanceMethod ({ cls := "NextMustShareModel", name := "isGuest", desc := "(I)Z" } : Jvm.MethodName)) ∈ lw_all := lw_g (lw_at lw_m5 211 rfl) rfl
theorem q1288 : (Jvm.Cond.code ({ cls := "NextMustShareModel", name := "isGuest", desc := "(I)Z" } : Jvm.MethodName) prog_8_method_8_code (2 : Nat) (Option.some Jvm.ClassFile.FieldType.boolean)) ∈ lw_all := lw_g (lw_at lw_m5 212 rfl) rfl
theorem q1290 : (Jvm.Cond.instanceMethod ({ cls := "NextMustShareModel", name := "joy", desc := "(II)I" } : Jvm.MethodName)) ∈ lw_all := lw_g (lw_at lw_m5 214 rfl) rfl
theorem q1291 : (Jvm.Cond.selects "NextMustShareModel" ({ cls := "NextMustShareModel", name := "joy", desc := "(II)I" } : Jvm.MethodName) ({ cls := "NextMustShareModel", name := "joy", desc := "(II)I" } : Jvm.MethodName)) ∈ lw_all := lw_g (lw_at lw_m5 215 rfl) rfl
theorem q1292 : (Jvm.Cond.code ({ cls := "NextMustShareModel", name := "joy", desc := "(II)I" } : Jvm.MethodName) prog_8_method_31_code (3 : Nat) (Option.some Jvm.ClassFile.FieldType.int)) ∈ lw_all := lw_g (lw_at lw_m5 216 rfl) rfl
theorem q1294 : (Jvm.Cond.instanceMethod ({ cls := "NextMustShareModel", name := "law", desc := "(II)I" } : Jvm.MethodName)) ∈ lw_all := lw_g (lw_at lw_m5 218 rfl) rfl
theorem q1295 : (Jvm.Cond.selects "NextMustShareModel" ({ cls := "NextMustShareModel", name := "law", desc := "(II)I" } : Jvm.MethodName) ({ cls := "NextMustShareModel", name := "law", desc := "(II)I" } : Jvm.MethodName)) ∈ lw_all := lw_g (lw_at lw_m5 219 rfl) rfl
theorem q1296 : (Jvm.Cond.code ({ cls := "NextMustShareModel", name := "law", desc := "(II)I" } : Jvm.MethodName) prog_8_method_33_code (4 : Nat) (Option.some Jvm.ClassFile.FieldType.int)) ∈ lw_all := lw_g (lw_at lw_m5 220 rfl) rfl
theorem q1297 : (Jvm.Cond.methodLink "NextMustShareModel" (233 : Nat) ({ cls := "NextMustShareModel", name := "isLaw", desc := "(II)Z" } : Jvm.MethodName)) ∈ lw_all := lw_g (lw_at lw_m5 221 rfl) rfl
theorem q1298 : (Jvm.Cond.static ({ cls := "NextMustShareModel", name := "isLaw", desc := "(II)Z" } : Jvm.MethodName)) ∈ lw_all := lw_g (lw_at lw_m5 222 rfl) rfl
theorem q1299 : (Jvm.Cond.code ({ cls := "NextMustShareModel", name := "isLaw", desc := "(II)Z" } : Jvm.MethodName) prog_8_method_32_code (2 : Nat) (Option.some Jvm.ClassFile.FieldType.boolean)) ∈ lw_all := lw_g (lw_at lw_m5 223 rfl) rfl
theorem q1301 : (Jvm.Cond.instanceMethod ({ cls := "NextMustShareModel", name := "store", desc := "(II)I" } : Jvm.MethodName)) ∈ lw_all := lw_g (lw_at lw_m5 225 rfl) rfl
theorem q1302 : (Jvm.Cond.selects "NextMustShareModel" ({ cls := "NextMustShareModel", name := "store", desc := "(II)I" } : Jvm.MethodName) ({ cls := "NextMustShareModel", name := "store", desc := "(II)I" } : Jvm.MethodName)) ∈ lw_all := lw_g (lw_at lw_m5 226 rfl) rfl
theorem q1303 : (Jvm.Cond.code ({ cls := "NextMustShareModel", name := "store", desc := "(II)I" } : Jvm.MethodName) prog_8_method_34_code (4 : Nat) (Option.some Jvm.ClassFile.FieldType.int)) ∈ lw_all := lw_g (lw_at lw_m5 227 rfl) rfl
theorem q1305 : (Jvm.Cond.instanceMethod ({ cls := "NextMustShareModel", name := "sheet", desc := "(IIII)I" } : Jvm.MethodName)) ∈ lw_all := lw_g (lw_at lw_m5 229 rfl) rfl
theorem q1306 : (Jvm.Cond.selects "NextMustShareModel" ({ cls := "NextMustShareModel", name := "sheet", desc := "(IIII)I" } : Jvm.MethodName) ({ cls := "NextMustShareModel", name := "sheet", desc := "(IIII)I" } : Jvm.MethodName)) ∈ lw_all := lw_g (lw_at lw_m5 230 rfl) rfl
theorem q1307 : (Jvm.Cond.code ({ cls := "NextMustShareModel", name := "sheet", desc := "(IIII)I" } : Jvm.MethodName) prog_8_method_35_code (9 : Nat) (Option.some Jvm.ClassFile.FieldType.int)) ∈ lw_all := lw_g (lw_at lw_m5 231 rfl) rfl
theorem q1309 : (Jvm.Cond.instanceMethod ({ cls := "NextMustShareModel", name := "serve", desc := "(I)I" } : Jvm.MethodName)) ∈ lw_all := lw_g (lw_at lw_m5 233 rfl) rfl
theorem q1310 : (Jvm.Cond.selects "NextMustShareModel" ({ cls := "NextMustShareModel", name := "serve", desc := "(I)I" } : Jvm.MethodName) ({ cls := "NextMustShareModel", name := "serve", desc := "(I)I" } : Jvm.MethodName)) ∈ lw_all := lw_g (lw_at lw_m5 234 rfl) rfl
theorem q1311 : (Jvm.Cond.code ({ cls := "NextMustShareModel", name := "serve", desc := "(I)I" } : Jvm.MethodName) prog_8_method_42_code (3 : Nat) (Option.some Jvm.ClassFile.FieldType.int)) ∈ lw_all := lw_g (lw_at lw_m5 235 rfl) rfl
theorem q1312 : (Jvm.Cond.methodLink "NextMustShareModel" (255 : Nat) ({ cls := "NextMustShareModel", name := "servedSet", desc := "()I" } : Jvm.MethodName)) ∈ lw_all := lw_g (lw_at lw_m5 236 rfl) rfl
theorem q1313 : (Jvm.Cond.privateMethod ({ cls := "NextMustShareModel", name := "servedSet", desc := "()I" } : Jvm.MethodName)) ∈ lw_tbl := lw_at lw_m5 237 rfl
theorem q1314 : (Jvm.Cond.instanceMethod ({ cls := "NextMustShareModel", name := "servedSet", desc := "()I" } : Jvm.MethodName)) ∈ lw_all := lw_g (lw_at lw_m5 238 rfl) rfl
theorem q1315 : (Jvm.Cond.code ({ cls := "NextMustShareModel", name := "servedSet", desc := "()I" } : Jvm.MethodName) prog_8_method_40_code (3 : Nat) (Option.some Jvm.ClassFile.FieldType.int)) ∈ lw_all := lw_g (lw_at lw_m5 239 rfl) rfl
theorem q1316 : (Jvm.Cond.methodLink "NextMustShareModel" (258 : Nat) ({ cls := "NextMustShareModel", name := "servedLast", desc := "()I" } : Jvm.MethodName)) ∈ lw_all := lw_g (lw_at lw_m6 0 rfl) rfl
theorem q1317 : (Jvm.Cond.privateMethod ({ cls := "NextMustShareModel", name := "servedLast", desc := "()I" } : Jvm.MethodName)) ∈ lw_tbl := lw_at lw_m6 1 rfl
theorem q1318 : (Jvm.Cond.instanceMethod ({ cls := "NextMustShareModel", name := "servedLast", desc := "()I" } : Jvm.MethodName)) ∈ lw_all := lw_g (lw_at lw_m6 2 rfl) rfl
theorem q1319 : (Jvm.Cond.code ({ cls := "NextMustShareModel", name := "servedLast", desc := "()I" } : Jvm.MethodName) prog_8_method_41_code (1 : Nat) (Option.some Jvm.ClassFile.FieldType.int)) ∈ lw_all := lw_g (lw_at lw_m6 3 rfl) rfl
theorem q1320 : (Jvm.Cond.methodLink "NextMustShareModel" (261 : Nat) ({ cls := "NextMustShareModel", name := "refusal", desc := "(III)I" } : Jvm.MethodName)) ∈ lw_all := lw_g (lw_at lw_m6 4 rfl) rfl
theorem q1321 : (Jvm.Cond.privateMethod ({ cls := "NextMustShareModel", name := "refusal", desc := "(III)I" } : Jvm.MethodName)) ∈ lw_tbl := lw_at lw_m6 5 rfl
theorem q1322 : (Jvm.Cond.instanceMethod ({ cls := "NextMustShareModel", name := "refusal", desc := "(III)I" } : Jvm.MethodName)) ∈ lw_all := lw_g (lw_at lw_m6 6 rfl) rfl
theorem q1323 : (Jvm.Cond.code ({ cls := "NextMustShareModel", name := "refusal", desc := "(III)I" } : Jvm.MethodName) prog_8_method_39_code (4 : Nat) (Option.some Jvm.ClassFile.FieldType.int)) ∈ lw_all := lw_g (lw_at lw_m6 7 rfl) rfl
theorem q1324 : (Jvm.Cond.methodLink "NextMustShareModel" (239 : Nat) ({ cls := "NextMustShareModel", name := "has", desc := "(II)Z" } : Jvm.MethodName)) ∈ lw_all := lw_g (lw_at lw_m6 8 rfl) rfl
theorem q1325 : (Jvm.Cond.static ({ cls := "NextMustShareModel", name := "has", desc := "(II)Z" } : Jvm.MethodName)) ∈ lw_all := lw_g (lw_at lw_m6 9 rfl) rfl
theorem q1326 : (Jvm.Cond.code ({ cls := "NextMustShareModel", name := "has", desc := "(II)Z" } : Jvm.MethodName) prog_8_method_4_code (2 : Nat) (Option.some Jvm.ClassFile.FieldType.boolean)) ∈ lw_all := lw_g (lw_at lw_m6 10 rfl) rfl
theorem q1327 : (Jvm.Cond.methodLink "NextMustShareModel" (242 : Nat) ({ cls := "NextMustShareModel", name := "shared", desc := "(II)I" } : Jvm.MethodName)) ∈ lw_all := lw_g (lw_at lw_m6 11 rfl) rfl
theorem q1328 : (Jvm.Cond.privateMethod ({ cls := "NextMustShareModel", name := "shared", desc := "(II)I" } : Jvm.MethodName)) ∈ lw_tbl := lw_at lw_m6 12 rfl
theorem q1329 : (Jvm.Cond.instanceMethod ({ cls := "NextMustShareModel", name := "shared", desc := "(II)I" } : Jvm.MethodName)) ∈ lw_all := lw_g (lw_at lw_m6 13 rfl) rfl
theorem q1330 : (Jvm.Cond.code ({ cls := "NextMustShareModel", name := "shared", desc := "(II)I" } : Jvm.MethodName) prog_8_method_36_code (3 : Nat) (Option.some Jvm.ClassFile.FieldType.int)) ∈ lw_all := lw_g (lw_at lw_m6 14 rfl) rfl
theorem q1331 : (Jvm.Cond.methodLink "NextMustShareModel" (245 : Nat) ({ cls := "NextMustShareModel", name := "hasHot", desc := "(I)Z" } : Jvm.MethodName)) ∈ lw_all := lw_g (lw_at lw_m6 15 rfl) rfl
theorem q1332 : (Jvm.Cond.privateMethod ({ cls := "NextMustShareModel", name := "hasHot", desc := "(I)Z" } : Jvm.MethodName)) ∈ lw_tbl := lw_at lw_m6 16 rfl
theorem q1333 : (Jvm.Cond.instanceMethod ({ cls := "NextMustShareModel", name := "hasHot", desc := "(I)Z" } : Jvm.MethodName)) ∈ lw_all := lw_g (lw_at lw_m6 17 rfl) rfl
theorem q1334 : (Jvm.Cond.code ({ cls := "NextMustShareModel", name := "hasHot", desc := "(I)Z" } : Jvm.MethodName) prog_8_method_37_code (3 : Nat) (Option.some Jvm.ClassFile.FieldType.boolean)) ∈ lw_all := lw_g (lw_at lw_m6 18 rfl) rfl
theorem q1335 : (Jvm.Cond.methodLink "NextMustShareModel" (248 : Nat) ({ cls := "NextMustShareModel", name := "fits", desc := "(IIZ)Z" } : Jvm.MethodName)) ∈ lw_all := lw_g (lw_at lw_m6 19 rfl) rfl
theorem q1336 : (Jvm.Cond.privateMethod ({ cls := "NextMustShareModel", name := "fits", desc := "(IIZ)Z" } : Jvm.MethodName)) ∈ lw_tbl := lw_at lw_m6 20 rfl
theorem q1337 : (Jvm.Cond.instanceMethod ({ cls := "NextMustShareModel", name := "fits", desc := "(IIZ)Z" } : Jvm.MethodName)) ∈ lw_all := lw_g (lw_at lw_m6 21 rfl) rfl
theorem q1338 : (Jvm.Cond.code ({ cls := "NextMustShareModel", name := "fits", desc := "(IIZ)Z" } : Jvm.MethodName) prog_8_method_38_code (7 : Nat) (Option.some Jvm.ClassFile.FieldType.boolean)) ∈ lw_all := lw_g (lw_at lw_m6 22 rfl) rfl
theorem q1340 : (Jvm.Cond.instanceMethod ({ cls := "NextMustShareModel", name := "back", desc := "()I" } : Jvm.MethodName)) ∈ lw_all := lw_g (lw_at lw_m6 24 rfl) rfl
theorem q1341 : (Jvm.Cond.selects "NextMustShareModel" ({ cls := "NextMustShareModel", name := "back", desc := "()I" } : Jvm.MethodName) ({ cls := "NextMustShareModel", name := "back", desc := "()I" } : Jvm.MethodName)) ∈ lw_all := lw_g (lw_at lw_m6 25 rfl) rfl
theorem q1342 : (Jvm.Cond.code ({ cls := "NextMustShareModel", name := "back", desc := "()I" } : Jvm.MethodName) prog_8_method_43_code (1 : Nat) (Option.some Jvm.ClassFile.FieldType.int)) ∈ lw_all := lw_g (lw_at lw_m6 26 rfl) rfl
theorem q1344 : (Jvm.Cond.instanceMethod ({ cls := "NextMustShareModel", name := "over", desc := "()I" } : Jvm.MethodName)) ∈ lw_all := lw_g (lw_at lw_m6 28 rfl) rfl
theorem q1345 : (Jvm.Cond.selects "NextMustShareModel" ({ cls := "NextMustShareModel", name := "over", desc := "()I" } : Jvm.MethodName) ({ cls := "NextMustShareModel", name := "over", desc := "()I" } : Jvm.MethodName)) ∈ lw_all := lw_g (lw_at lw_m6 29 rfl) rfl
theorem q1346 : (Jvm.Cond.code ({ cls := "NextMustShareModel", name := "over", desc := "()I" } : Jvm.MethodName) prog_8_method_44_code (3 : Nat) (Option.some Jvm.ClassFile.FieldType.int)) ∈ lw_all := lw_g (lw_at lw_m6 30 rfl) rfl
theorem q1348 : (Jvm.Cond.instanceMethod ({ cls := "NextMustShareModel", name := "can", desc := "()I" } : Jvm.MethodName)) ∈ lw_all := lw_g (lw_at lw_m6 32 rfl) rfl
theorem q1349 : (Jvm.Cond.selects "NextMustShareModel" ({ cls := "NextMustShareModel", name := "can", desc := "()I" } : Jvm.MethodName) ({ cls := "NextMustShareModel", name := "can", desc := "()I" } : Jvm.MethodName)) ∈ lw_all := lw_g (lw_at lw_m6 33 rfl) rfl
theorem q1350 : (Jvm.Cond.code ({ cls := "NextMustShareModel", name := "can", desc := "()I" } : Jvm.MethodName) prog_8_method_45_code (3 : Nat) (Option.some Jvm.ClassFile.FieldType.int)) ∈ lw_all := lw_g (lw_at lw_m6 34 rfl) rfl
theorem q1352 : (Jvm.Cond.instanceMethod ({ cls := "NextMustShareModel", name := "menu", desc := "(I)I" } : Jvm.MethodName)) ∈ lw_all := lw_g (lw_at lw_m6 36 rfl) rfl
theorem q1353 : (Jvm.Cond.selects "NextMustShareModel" ({ cls := "NextMustShareModel", name := "menu", desc := "(I)I" } : Jvm.MethodName) ({ cls := "NextMustShareModel", name := "menu", desc := "(I)I" } : Jvm.MethodName)) ∈ lw_all := lw_g (lw_at lw_m6 37 rfl) rfl
theorem q1354 : (Jvm.Cond.code ({ cls := "NextMustShareModel", name := "menu", desc := "(I)I" } : Jvm.MethodName) prog_8_method_46_code (3 : Nat) (Option.some Jvm.ClassFile.FieldType.int)) ∈ lw_all := lw_g (lw_at lw_m6 38 rfl) rfl
theorem q1356 : (Jvm.Cond.instanceMethod ({ cls := "NextMustShareModel", name := "look", desc := "(I)I" } : Jvm.MethodName)) ∈ lw_all := lw_g (lw_at lw_m6 40 rfl) rfl
theorem q1357 : (Jvm.Cond.selects "NextMustShareModel" ({ cls := "NextMustShareModel", name := "look", desc := "(I)I" } : Jvm.MethodName) ({ cls := "NextMustShareModel", name := "look", desc := "(I)I" } : Jvm.MethodName)) ∈ lw_all := lw_g (lw_at lw_m6 41 rfl) rfl
theorem q1358 : (Jvm.Cond.code ({ cls := "NextMustShareModel", name := "look", desc := "(I)I" } : Jvm.MethodName) prog_8_method_51_code (3 : Nat) (Option.some Jvm.ClassFile.FieldType.int)) ∈ lw_all := lw_g (lw_at lw_m6 42 rfl) rfl
theorem q1359 : (Jvm.Cond.methodLink "NextMustShareModel" (265 : Nat) ({ cls := "NextMustShareModel", name := "isMenu", desc := "(I)Z" } : Jvm.MethodName)) ∈ lw_all := lw_g (lw_at lw_m6 43 rfl) rfl
theorem q1360 : (Jvm.Cond.privateMethod ({ cls := "NextMustShareModel", name := "isMenu", desc := "(I)Z" } : Jvm.MethodName)) ∈ lw_tbl := lw_at lw_m6 44 rfl
theorem q1361 : (Jvm.Cond.instanceMethod ({ cls := "NextMustShareModel", name := "isMenu", desc := "(I)Z" } : Jvm.MethodName)) ∈ lw_all := lw_g (lw_at lw_m6 45 rfl) rfl
theorem q1362 : (Jvm.Cond.code ({ cls := "NextMustShareModel", name := "isMenu", desc := "(I)Z" } : Jvm.MethodName) prog_8_method_47_code (2 : Nat) (Option.some Jvm.ClassFile.FieldType.boolean)) ∈ lw_all := lw_g (lw_at lw_m6 46 rfl) rfl
theorem q1363 : (Jvm.Cond.methodLink "NextMustShareModel" (283 : Nat) ({ cls := "NextMustShareModel", name := "lookFromNothing", desc := "()V" } : Jvm.MethodName)) ∈ lw_all := lw_g (lw_at lw_m6 47 rfl) rfl
theorem q1364 : (Jvm.Cond.privateMethod ({ cls := "NextMustShareModel", name := "lookFromNothing", desc := "()V" } : Jvm.MethodName)) ∈ lw_tbl := lw_at lw_m6 48 rfl
theorem q1365 : (Jvm.Cond.instanceMethod ({ cls := "NextMustShareModel", name := "lookFromNothing", desc := "()V" } : Jvm.MethodName)) ∈ lw_all := lw_g (lw_at lw_m6 49 rfl) rfl
theorem q1366 : (Jvm.Cond.code ({ cls := "NextMustShareModel", name := "lookFromNothing", desc := "()V" } : Jvm.MethodName) prog_8_method_50_code (1 : Nat) (Option.none : Option Jvm.ClassFile.FieldType)) ∈ lw_all := lw_g (lw_at lw_m6 50 rfl) rfl
theorem q1367 : (Jvm.Cond.methodLink "NextMustShareModel" (286 : Nat) ({ cls := "NextMustShareModel", name := "lookOn", desc := "(I)I" } : Jvm.MethodName)) ∈ lw_all := lw_g (lw_at lw_m6 51 rfl) rfl
theorem q1368 : (Jvm.Cond.privateMethod ({ cls := "NextMustShareModel", name := "lookOn", desc := "(I)I" } : Jvm.MethodName)) ∈ lw_tbl := lw_at lw_m6 52 rfl
theorem q1369 : (Jvm.Cond.instanceMethod ({ cls := "NextMustShareModel", name := "lookOn", desc := "(I)I" } : Jvm.MethodName)) ∈ lw_all := lw_g (lw_at lw_m6 53 rfl) rfl
theorem q1370 : (Jvm.Cond.code ({ cls := "NextMustShareModel", name := "lookOn", desc := "(I)I" } : Jvm.MethodName) prog_8_method_49_code (5 : Nat) (Option.some Jvm.ClassFile.FieldType.int)) ∈ lw_all := lw_g (lw_at lw_m6 54 rfl) rfl
theorem q1371 : (Jvm.Cond.methodLink "NextMustShareModel" (289 : Nat) ({ cls := "NextMustShareModel", name := "tell", desc := "(I)V" } : Jvm.MethodName)) ∈ lw_all := lw_g (lw_at lw_m6 55 rfl) rfl
theorem q1372 : (Jvm.Cond.privateMethod ({ cls := "NextMustShareModel", name := "tell", desc := "(I)V" } : Jvm.MethodName)) ∈ lw_tbl := lw_at lw_m6 56 rfl
theorem q1373 : (Jvm.Cond.instanceMethod ({ cls := "NextMustShareModel", name := "tell", desc := "(I)V" } : Jvm.MethodName)) ∈ lw_all := lw_g (lw_at lw_m6 57 rfl) rfl
theorem q1374 : (Jvm.Cond.code ({ cls := "NextMustShareModel", name := "tell", desc := "(I)V" } : Jvm.MethodName) prog_8_method_6_code (2 : Nat) (Option.none : Option Jvm.ClassFile.FieldType)) ∈ lw_all := lw_g (lw_at lw_m6 58 rfl) rfl
theorem q1376 : (Jvm.Cond.instanceMethod ({ cls := "NextMustShareModel", name := "swap", desc := "(III)Z" } : Jvm.MethodName)) ∈ lw_all := lw_g (lw_at lw_m6 60 rfl) rfl
theorem q1377 : (Jvm.Cond.selects "NextMustShareModel" ({ cls := "NextMustShareModel", name := "swap", desc := "(III)Z" } : Jvm.MethodName) ({ cls := "NextMustShareModel", name := "swap", desc := "(III)Z" } : Jvm.MethodName)) ∈ lw_all := lw_g (lw_at lw_m6 61 rfl) rfl
theorem q1378 : (Jvm.Cond.code ({ cls := "NextMustShareModel", name := "swap", desc := "(III)Z" } : Jvm.MethodName) prog_8_method_52_code (5 : Nat) (Option.some Jvm.ClassFile.FieldType.boolean)) ∈ lw_all := lw_g (lw_at lw_m6 62 rfl) rfl
theorem q1380 : (Jvm.Cond.instanceMethod ({ cls := "NextMustShareModel", name := "turn", desc := "(I)Z" } : Jvm.MethodName)) ∈ lw_all := lw_g (lw_at lw_m6 64 rfl) rfl
theorem q1381 : (Jvm.Cond.selects "NextMustShareModel" ({ cls := "NextMustShareModel", name := "turn", desc := "(I)Z" } : Jvm.MethodName) ({ cls := "NextMustShareModel", name := "turn", desc := "(I)Z" } : Jvm.MethodName)) ∈ lw_all := lw_g (lw_at lw_m6 65 rfl) rfl
theorem q1382 : (Jvm.Cond.code ({ cls := "NextMustShareModel", name := "turn", desc := "(I)Z" } : Jvm.MethodName) prog_8_method_53_code (5 : Nat) (Option.some Jvm.ClassFile.FieldType.boolean)) ∈ lw_all := lw_g (lw_at lw_m6 66 rfl) rfl
theorem q1384 : (Jvm.Cond.instanceMethod ({ cls := "NextMustShareModel", name := "joined", desc := "(II)I" } : Jvm.MethodName)) ∈ lw_all := lw_g (lw_at lw_m6 68 rfl) rfl
theorem q1385 : (Jvm.Cond.selects "NextMustShareModel" ({ cls := "NextMustShareModel", name := "joined", desc := "(II)I" } : Jvm.MethodName) ({ cls := "NextMustShareModel", name := "joined", desc := "(II)I" } : Jvm.MethodName)) ∈ lw_all := lw_g (lw_at lw_m6 69 rfl) rfl
theorem q1386 : (Jvm.Cond.code ({ cls := "NextMustShareModel", name := "joined", desc := "(II)I" } : Jvm.MethodName) prog_8_method_54_code (4 : Nat) (Option.some Jvm.ClassFile.FieldType.int)) ∈ lw_all := lw_g (lw_at lw_m6 70 rfl) rfl
theorem q1387 : (Jvm.Cond.methodLink "NextMustShareModel" (292 : Nat) ({ cls := "NextMustShareModel", name := "isWhole", desc := "(I)Z" } : Jvm.MethodName)) ∈ lw_all := lw_g (lw_at lw_m6 71 rfl) rfl
theorem q1388 : (Jvm.Cond.privateMethod ({ cls := "NextMustShareModel", name := "isWhole", desc := "(I)Z" } : Jvm.MethodName)) ∈ lw_tbl := lw_at lw_m6 72 rfl
theorem q1389 : (Jvm.Cond.instanceMethod ({ cls := "NextMustShareModel", name := "isWhole", desc := "(I)Z" } : Jvm.MethodName)) ∈ lw_all := lw_g (lw_at lw_m6 73 rfl) rfl
theorem q1390 : (Jvm.Cond.code ({ cls := "NextMustShareModel", name := "isWhole", desc := "(I)Z" } : Jvm.MethodName) prog_8_method_48_code (3 : Nat) (Option.some Jvm.ClassFile.FieldType.boolean)) ∈ lw_all := lw_g (lw_at lw_m6 74 rfl) rfl
theorem q1392 : (Jvm.Cond.instanceMethod ({ cls := "NextMustShareModel", name := "falls", desc := "(III)I" } : Jvm.MethodName)) ∈ lw_all := lw_g (lw_at lw_m6 76 rfl) rfl
theorem q1393 : (Jvm.Cond.selects "NextMustShareModel" ({ cls := "NextMustShareModel", name := "falls", desc := "(III)I" } : Jvm.MethodName) ({ cls := "NextMustShareModel", name := "falls", desc := "(III)I" } : Jvm.MethodName)) ∈ lw_all := lw_g (lw_at lw_m6 77 rfl) rfl
theorem q1394 : (Jvm.Cond.code ({ cls := "NextMustShareModel", name := "falls", desc := "(III)I" } : Jvm.MethodName) prog_8_method_56_code (9 : Nat) (Option.some Jvm.ClassFile.FieldType.int)) ∈ lw_all := lw_g (lw_at lw_m6 78 rfl) rfl
theorem q1395 : (Jvm.Cond.methodLink "NextMustShareModel" (295 : Nat) ({ cls := "NextMustShareModel", name := "isLawful", desc := "(I)Z" } : Jvm.MethodName)) ∈ lw_all := lw_g (lw_at lw_m6 79 rfl) rfl
theorem q1396 : (Jvm.Cond.privateMethod ({ cls := "NextMustShareModel", name := "isLawful", desc := "(I)Z" } : Jvm.MethodName)) ∈ lw_tbl := lw_at lw_m6 80 rfl
theorem q1397 : (Jvm.Cond.instanceMethod ({ cls := "NextMustShareModel", name := "isLawful", desc := "(I)Z" } : Jvm.MethodName)) ∈ lw_all := lw_g (lw_at lw_m6 81 rfl) rfl
theorem q1398 : (Jvm.Cond.code ({ cls := "NextMustShareModel", name := "isLawful", desc := "(I)Z" } : Jvm.MethodName) prog_8_method_55_code (2 : Nat) (Option.some Jvm.ClassFile.FieldType.boolean)) ∈ lw_all := lw_g (lw_at lw_m6 82 rfl) rfl
theorem q1400 : (Jvm.Cond.instanceMethod ({ cls := "NextMustShareModel", name := "longest", desc := "()I" } : Jvm.MethodName)) ∈ lw_all := lw_g (lw_at lw_m6 84 rfl) rfl
theorem q1401 : (Jvm.Cond.selects "NextMustShareModel" ({ cls := "NextMustShareModel", name := "longest", desc := "()I" } : Jvm.MethodName) ({ cls := "NextMustShareModel", name := "longest", desc := "()I" } : Jvm.MethodName)) ∈ lw_all := lw_g (lw_at lw_m6 85 rfl) rfl
theorem q1402 : (Jvm.Cond.code ({ cls := "NextMustShareModel", name := "longest", desc := "()I" } : Jvm.MethodName) prog_8_method_66_code (1 : Nat) (Option.some Jvm.ClassFile.FieldType.int)) ∈ lw_all := lw_g (lw_at lw_m6 86 rfl) rfl
theorem q1403 : (Jvm.Cond.methodLink "NextMustShareModel" (298 : Nat) ({ cls := "NextMustShareModel", name := "all", desc := "()I" } : Jvm.MethodName)) ∈ lw_all := lw_g (lw_at lw_m6 87 rfl) rfl
theorem q1404 : (Jvm.Cond.privateMethod ({ cls := "NextMustShareModel", name := "all", desc := "()I" } : Jvm.MethodName)) ∈ lw_tbl := lw_at lw_m6 88 rfl
theorem q1405 : (Jvm.Cond.instanceMethod ({ cls := "NextMustShareModel", name := "all", desc := "()I" } : Jvm.MethodName)) ∈ lw_all := lw_g (lw_at lw_m6 89 rfl) rfl
theorem q1406 : (Jvm.Cond.code ({ cls := "NextMustShareModel", name := "all", desc := "()I" } : Jvm.MethodName) prog_8_method_58_code (1 : Nat) (Option.some Jvm.ClassFile.FieldType.int)) ∈ lw_all := lw_g (lw_at lw_m6 90 rfl) rfl
theorem q1407 : (Jvm.Cond.methodLink "NextMustShareModel" (323 : Nat) ({ cls := "NextMustShareModel", name := "longestBy", desc := "(I)I" } : Jvm.MethodName)) ∈ lw_all := lw_g (lw_at lw_m6 91 rfl) rfl
theorem q1408 : (Jvm.Cond.privateMethod ({ cls := "NextMustShareModel", name := "longestBy", desc := "(I)I" } : Jvm.MethodName)) ∈ lw_tbl := lw_at lw_m6 92 rfl
theorem q1409 : (Jvm.Cond.instanceMethod ({ cls := "NextMustShareModel", name := "longestBy", desc := "(I)I" } : Jvm.MethodName)) ∈ lw_all := lw_g (lw_at lw_m6 93 rfl) rfl
theorem q1410 : (Jvm.Cond.code ({ cls := "NextMustShareModel", name := "longestBy", desc := "(I)I" } : Jvm.MethodName) prog_8_method_65_code (7 : Nat) (Option.some Jvm.ClassFile.FieldType.int)) ∈ lw_all := lw_g (lw_at lw_m6 94 rfl) rfl
theorem q1411 : (Jvm.Cond.methodLink "NextMustShareModel" (310 : Nat) ({ cls := "NextMustShareModel", name := "findRows", desc := "(III)V" } : Jvm.MethodName)) ∈ lw_all := lw_g (lw_at lw_m6 95 rfl) rfl
theorem q1412 : (Jvm.Cond.privateMethod ({ cls := "NextMustShareModel", name := "findRows", desc := "(III)V" } : Jvm.MethodName)) ∈ lw_tbl := lw_at lw_m6 96 rfl
theorem q1413 : (Jvm.Cond.instanceMethod ({ cls := "NextMustShareModel", name := "findRows", desc := "(III)V" } : Jvm.MethodName)) ∈ lw_all := lw_g (lw_at lw_m6 97 rfl) rfl
theorem q1414 : (Jvm.Cond.code ({ cls := "NextMustShareModel", name := "findRows", desc := "(III)V" } : Jvm.MethodName) prog_8_method_64_code (9 : Nat) (Option.none : Option Jvm.ClassFile.FieldType)) ∈ lw_all := lw_g (lw_at lw_m6 98 rfl) rfl
theorem q1415 : (Jvm.Cond.methodLink "NextMustShareModel" (304 : Nat) ({ cls := "NextMustShareModel", name := "place", desc := "(II)I" } : Jvm.MethodName)) ∈ lw_all := lw_g (lw_at lw_m6 99 rfl) rfl
theorem q1416 : (Jvm.Cond.static ({ cls := "NextMustShareModel", name := "place", desc := "(II)I" } : Jvm.MethodName)) ∈ lw_all := lw_g (lw_at lw_m6 100 rfl) rfl
theorem q1417 : (Jvm.Cond.code ({ cls := "NextMustShareModel", name := "place", desc := "(II)I" } : Jvm.MethodName) prog_8_method_57_code (2 : Nat) (Option.some Jvm.ClassFile.FieldType.int)) ∈ lw_all := lw_g (lw_at lw_m6 101 rfl) rfl
theorem q1418 : (Jvm.Cond.methodLink "NextMustShareModel" (301 : Nat) ({ cls := "NextMustShareModel", name := "isState", desc := "(II)Z" } : Jvm.MethodName)) ∈ lw_all := lw_g (lw_at lw_m6 102 rfl) rfl
theorem q1419 : (Jvm.Cond.static ({ cls := "NextMustShareModel", name := "isState", desc := "(II)Z" } : Jvm.MethodName)) ∈ lw_all := lw_g (lw_at lw_m6 103 rfl) rfl
theorem q1420 : (Jvm.Cond.code ({ cls := "NextMustShareModel", name := "isState", desc := "(II)Z" } : Jvm.MethodName) prog_8_method_60_code (2 : Nat) (Option.some Jvm.ClassFile.FieldType.boolean)) ∈ lw_all := lw_g (lw_at lw_m6 104 rfl) rfl
theorem q1421 : (Jvm.Cond.methodLink "NextMustShareModel" (307 : Nat) ({ cls := "NextMustShareModel", name := "may", desc := "(III)Z" } : Jvm.MethodName)) ∈ lw_all := lw_g (lw_at lw_m6 105 rfl) rfl
theorem q1422 : (Jvm.Cond.privateMethod ({ cls := "NextMustShareModel", name := "may", desc := "(III)Z" } : Jvm.MethodName)) ∈ lw_tbl := lw_at lw_m6 106 rfl
theorem q1423 : (Jvm.Cond.instanceMethod ({ cls := "NextMustShareModel", name := "may", desc := "(III)Z" } : Jvm.MethodName)) ∈ lw_all := lw_g (lw_at lw_m6 107 rfl) rfl
theorem q1424 : (Jvm.Cond.code ({ cls := "NextMustShareModel", name := "may", desc := "(III)Z" } : Jvm.MethodName) prog_8_method_59_code (4 : Nat) (Option.some Jvm.ClassFile.FieldType.boolean)) ∈ lw_all := lw_g (lw_at lw_m6 108 rfl) rfl
theorem q1425 : (Jvm.Cond.methodLink "NextMustShareModel" (314 : Nat) ({ cls := "NextMustShareModel", name := "noEnds", desc := "()V" } : Jvm.MethodName)) ∈ lw_all := lw_g (lw_at lw_m6 109 rfl) rfl
theorem q1426 : (Jvm.Cond.privateMethod ({ cls := "NextMustShareModel", name := "noEnds", desc := "()V" } : Jvm.MethodName)) ∈ lw_tbl := lw_at lw_m6 110 rfl
theorem q1427 : (Jvm.Cond.instanceMethod ({ cls := "NextMustShareModel", name := "noEnds", desc := "()V" } : Jvm.MethodName)) ∈ lw_all := lw_g (lw_at lw_m6 111 rfl) rfl
theorem q1428 : (Jvm.Cond.code ({ cls := "NextMustShareModel", name := "noEnds", desc := "()V" } : Jvm.MethodName) prog_8_method_61_code (2 : Nat) (Option.none : Option Jvm.ClassFile.FieldType)) ∈ lw_all := lw_g (lw_at lw_m6 112 rfl) rfl
theorem q1429 : (Jvm.Cond.methodLink "NextMustShareModel" (317 : Nat) ({ cls := "NextMustShareModel", name := "findEnds", desc := "(I)V" } : Jvm.MethodName)) ∈ lw_all := lw_g (lw_at lw_m6 113 rfl) rfl
theorem q1430 : (Jvm.Cond.privateMethod ({ cls := "NextMustShareModel", name := "findEnds", desc := "(I)V" } : Jvm.MethodName)) ∈ lw_tbl := lw_at lw_m6 114 rfl
theorem q1431 : (Jvm.Cond.instanceMethod ({ cls := "NextMustShareModel", name := "findEnds", desc := "(I)V" } : Jvm.MethodName)) ∈ lw_all := lw_g (lw_at lw_m6 115 rfl) rfl
theorem q1432 : (Jvm.Cond.code ({ cls := "NextMustShareModel", name := "findEnds", desc := "(I)V" } : Jvm.MethodName) prog_8_method_62_code (6 : Nat) (Option.none : Option Jvm.ClassFile.FieldType)) ∈ lw_all := lw_g (lw_at lw_m6 116 rfl) rfl
theorem q1433 : (Jvm.Cond.methodLink "NextMustShareModel" (320 : Nat) ({ cls := "NextMustShareModel", name := "tellWay", desc := "(III)V" } : Jvm.MethodName)) ∈ lw_all := lw_g (lw_at lw_m6 117 rfl) rfl
theorem q1434 : (Jvm.Cond.privateMethod ({ cls := "NextMustShareModel", name := "tellWay", desc := "(III)V" } : Jvm.MethodName)) ∈ lw_tbl := lw_at lw_m6 118 rfl
theorem q1435 : (Jvm.Cond.instanceMethod ({ cls := "NextMustShareModel", name := "tellWay", desc := "(III)V" } : Jvm.MethodName)) ∈ lw_all := lw_g (lw_at lw_m6 119 rfl) rfl
theorem q1436 : (Jvm.Cond.code ({ cls := "NextMustShareModel", name := "tellWay", desc := "(III)V" } : Jvm.MethodName) prog_8_method_63_code (7 : Nat) (Option.none : Option Jvm.ClassFile.FieldType)) ∈ lw_all := lw_g (lw_at lw_m6 120 rfl) rfl
theorem q1438 : (Jvm.Cond.instanceMethod ({ cls := "NextMustShareModel", name := "ways", desc := "(I)J" } : Jvm.MethodName)) ∈ lw_all := lw_g (lw_at lw_m6 122 rfl) rfl
theorem q1439 : (Jvm.Cond.selects "NextMustShareModel" ({ cls := "NextMustShareModel", name := "ways", desc := "(I)J" } : Jvm.MethodName) ({ cls := "NextMustShareModel", name := "ways", desc := "(I)J" } : Jvm.MethodName)) ∈ lw_all := lw_g (lw_at lw_m6 123 rfl) rfl
theorem q1440 : (Jvm.Cond.code ({ cls := "NextMustShareModel", name := "ways", desc := "(I)J" } : Jvm.MethodName) prog_8_method_67_code (6 : Nat) (Option.some Jvm.ClassFile.FieldType.long)) ∈ lw_all := lw_g (lw_at lw_m6 124 rfl) rfl
theorem q1441 : (Jvm.Cond.constantLong "NextMustShareModel" (326 : Nat) (-1 : Int64)) ∈ lw_all := lw_g (lw_at lw_m6 125 rfl) rfl
theorem q1443 : (Jvm.Cond.instanceMethod ({ cls := "NextMustShareModel", name := "between", desc := "(II)I" } : Jvm.MethodName)) ∈ lw_all := lw_g (lw_at lw_m6 127 rfl) rfl
theorem q1444 : (Jvm.Cond.selects "NextMustShareModel" ({ cls := "NextMustShareModel", name := "between", desc := "(II)I" } : Jvm.MethodName) ({ cls := "NextMustShareModel", name := "between", desc := "(II)I" } : Jvm.MethodName)) ∈ lw_all := lw_g (lw_at lw_m6 128 rfl) rfl
theorem q1445 : (Jvm.Cond.code ({ cls := "NextMustShareModel", name := "between", desc := "(II)I" } : Jvm.MethodName) prog_8_method_70_code (3 : Nat) (Option.some Jvm.ClassFile.FieldType.int)) ∈ lw_all := lw_g (lw_at lw_m6 129 rfl) rfl
theorem q1446 : (Jvm.Cond.methodLink "NextMustShareModel" (331 : Nat) ({ cls := "NextMustShareModel", name := "betweenBy", desc := "(IIZ)I" } : Jvm.MethodName)) ∈ lw_all := lw_g (lw_at lw_m6 130 rfl) rfl
theorem q1447 : (Jvm.Cond.privateMethod ({ cls := "NextMustShareModel", name := "betweenBy", desc := "(IIZ)I" } : Jvm.MethodName)) ∈ lw_tbl := lw_at lw_m6 131 rfl
theorem q1448 : (Jvm.Cond.instanceMethod ({ cls := "NextMustShareModel", name := "betweenBy", desc := "(IIZ)I" } : Jvm.MethodName)) ∈ lw_all := lw_g (lw_at lw_m6 132 rfl) rfl
theorem q1449 : (Jvm.Cond.code ({ cls := "NextMustShareModel", name := "betweenBy", desc := "(IIZ)I" } : Jvm.MethodName) prog_8_method_69_code (7 : Nat) (Option.some Jvm.ClassFile.FieldType.int)) ∈ lw_all := lw_g (lw_at lw_m6 133 rfl) rfl
theorem q1450 : (Jvm.Cond.methodLink "NextMustShareModel" (328 : Nat) ({ cls := "NextMustShareModel", name := "tellFrom", desc := "(II)Z" } : Jvm.MethodName)) ∈ lw_all := lw_g (lw_at lw_m6 134 rfl) rfl
theorem q1451 : (Jvm.Cond.privateMethod ({ cls := "NextMustShareModel", name := "tellFrom", desc := "(II)Z" } : Jvm.MethodName)) ∈ lw_tbl := lw_at lw_m6 135 rfl
theorem q1452 : (Jvm.Cond.instanceMethod ({ cls := "NextMustShareModel", name := "tellFrom", desc := "(II)Z" } : Jvm.MethodName)) ∈ lw_all := lw_g (lw_at lw_m6 136 rfl) rfl
theorem q1453 : (Jvm.Cond.code ({ cls := "NextMustShareModel", name := "tellFrom", desc := "(II)Z" } : Jvm.MethodName) prog_8_method_68_code (3 : Nat) (Option.some Jvm.ClassFile.FieldType.boolean)) ∈ lw_all := lw_g (lw_at lw_m6 137 rfl) rfl
theorem q1455 : (Jvm.Cond.instanceMethod ({ cls := "NextMustShareModel", name := "shortest", desc := "(II)I" } : Jvm.MethodName)) ∈ lw_all := lw_g (lw_at lw_m6 139 rfl) rfl
theorem q1456 : (Jvm.Cond.selects "NextMustShareModel" ({ cls := "NextMustShareModel", name := "shortest", desc := "(II)I" } : Jvm.MethodName) ({ cls := "NextMustShareModel", name := "shortest", desc := "(II)I" } : Jvm.MethodName)) ∈ lw_all := lw_g (lw_at lw_m6 140 rfl) rfl
theorem q1457 : (Jvm.Cond.code ({ cls := "NextMustShareModel", name := "shortest", desc := "(II)I" } : Jvm.MethodName) prog_8_method_71_code (3 : Nat) (Option.some Jvm.ClassFile.FieldType.int)) ∈ lw_all := lw_g (lw_at lw_m6 141 rfl) rfl
theorem q1459 : (Jvm.Cond.instanceMethod ({ cls := "NextMustShareModel", name := "bears", desc := "(I)I" } : Jvm.MethodName)) ∈ lw_all := lw_g (lw_at lw_m6 143 rfl) rfl
theorem q1460 : (Jvm.Cond.selects "NextMustShareModel" ({ cls := "NextMustShareModel", name := "bears", desc := "(I)I" } : Jvm.MethodName) ({ cls := "NextMustShareModel", name := "bears", desc := "(I)I" } : Jvm.MethodName)) ∈ lw_all := lw_g (lw_at lw_m6 144 rfl) rfl
theorem q1461 : (Jvm.Cond.code ({ cls := "NextMustShareModel", name := "bears", desc := "(I)I" } : Jvm.MethodName) prog_8_method_72_code (4 : Nat) (Option.some Jvm.ClassFile.FieldType.int)) ∈ lw_all := lw_g (lw_at lw_m6 145 rfl) rfl
theorem q1463 : (Jvm.Cond.instanceMethod ({ cls := "NextMustShareModel", name := "beside", desc := "(I)I" } : Jvm.MethodName)) ∈ lw_all := lw_g (lw_at lw_m6 147 rfl) rfl
theorem q1464 : (Jvm.Cond.selects "NextMustShareModel" ({ cls := "NextMustShareModel", name := "beside", desc := "(I)I" } : Jvm.MethodName) ({ cls := "NextMustShareModel", name := "beside", desc := "(I)I" } : Jvm.MethodName)) ∈ lw_all := lw_g (lw_at lw_m6 148 rfl) rfl
theorem q1465 : (Jvm.Cond.code ({ cls := "NextMustShareModel", name := "beside", desc := "(I)I" } : Jvm.MethodName) prog_8_method_74_code (2 : Nat) (Option.some Jvm.ClassFile.FieldType.int)) ∈ lw_all := lw_g (lw_at lw_m6 149 rfl) rfl
theorem q1466 : (Jvm.Cond.methodLink "NextMustShareModel" (335 : Nat) ({ cls := "NextMustShareModel", name := "besides", desc := "(I)I" } : Jvm.MethodName)) ∈ lw_all := lw_g (lw_at lw_m6 150 rfl) rfl
theorem q1467 : (Jvm.Cond.privateMethod ({ cls := "NextMustShareModel", name := "besides", desc := "(I)I" } : Jvm.MethodName)) ∈ lw_tbl := lw_at lw_m6 151 rfl
theorem q1468 : (Jvm.Cond.instanceMethod ({ cls := "NextMustShareModel", name := "besides", desc := "(I)I" } : Jvm.MethodName)) ∈ lw_all := lw_g (lw_at lw_m6 152 rfl) rfl
theorem q1469 : (Jvm.Cond.code ({ cls := "NextMustShareModel", name := "besides", desc := "(I)I" } : Jvm.MethodName) prog_8_method_73_code (4 : Nat) (Option.some Jvm.ClassFile.FieldType.int)) ∈ lw_all := lw_g (lw_at lw_m6 153 rfl) rfl
theorem q1471 : (Jvm.Cond.instanceMethod ({ cls := "NextMustShareModel", name := "parts", desc := "()I" } : Jvm.MethodName)) ∈ lw_all := lw_g (lw_at lw_m6 155 rfl) rfl
theorem q1472 : (Jvm.Cond.selects "NextMustShareModel" ({ cls := "NextMustShareModel", name := "parts", desc := "()I" } : Jvm.MethodName) ({ cls := "NextMustShareModel", name := "parts", desc := "()I" } : Jvm.MethodName)) ∈ lw_all := lw_g (lw_at lw_m6 156 rfl) rfl
theorem q1473 : (Jvm.Cond.code ({ cls := "NextMustShareModel", name := "parts", desc := "()I" } : Jvm.MethodName) prog_8_method_75_code (6 : Nat) (Option.some Jvm.ClassFile.FieldType.int)) ∈ lw_all := lw_g (lw_at lw_m6 157 rfl) rfl
theorem q1475 : (Jvm.Cond.instanceMethod ({ cls := "NextMustShareModel", name := "rare", desc := "()I" } : Jvm.MethodName)) ∈ lw_all := lw_g (lw_at lw_m6 159 rfl) rfl
theorem q1476 : (Jvm.Cond.selects "NextMustShareModel" ({ cls := "NextMustShareModel", name := "rare", desc := "()I" } : Jvm.MethodName) ({ cls := "NextMustShareModel", name := "rare", desc := "()I" } : Jvm.MethodName)) ∈ lw_all := lw_g (lw_at lw_m6 160 rfl) rfl
theorem q1477 : (Jvm.Cond.code ({ cls := "NextMustShareModel", name := "rare", desc := "()I" } : Jvm.MethodName) prog_8_method_76_code (6 : Nat) (Option.some Jvm.ClassFile.FieldType.int)) ∈ lw_all := lw_g (lw_at lw_m6 161 rfl) rfl
theorem q1479 : (Jvm.Cond.instanceMethod ({ cls := "NextMustShareModel", name := "round", desc := "()I" } : Jvm.MethodName)) ∈ lw_all := lw_g (lw_at lw_m6 163 rfl) rfl
theorem q1480 : (Jvm.Cond.selects "NextMustShareModel" ({ cls := "NextMustShareModel", name := "round", desc := "()I" } : Jvm.MethodName) ({ cls := "NextMustShareModel", name := "round", desc := "()I" } : Jvm.MethodName)) ∈ lw_all := lw_g (lw_at lw_m6 164 rfl) rfl
theorem q1481 : (Jvm.Cond.code ({ cls := "NextMustShareModel", name := "round", desc := "()I" } : Jvm.MethodName) prog_8_method_77_code (5 : Nat) (Option.some Jvm.ClassFile.FieldType.int)) ∈ lw_all := lw_g (lw_at lw_m6 165 rfl) rfl
theorem q1483 : (Jvm.Cond.instanceMethod ({ cls := "NextMustShareModel", name := "shut", desc := "(I)I" } : Jvm.MethodName)) ∈ lw_all := lw_g (lw_at lw_m6 167 rfl) rfl
theorem q1484 : (Jvm.Cond.selects "NextMustShareModel" ({ cls := "NextMustShareModel", name := "shut", desc := "(I)I" } : Jvm.MethodName) ({ cls := "NextMustShareModel", name := "shut", desc := "(I)I" } : Jvm.MethodName)) ∈ lw_all := lw_g (lw_at lw_m6 168 rfl) rfl
theorem q1485 : (Jvm.Cond.code ({ cls := "NextMustShareModel", name := "shut", desc := "(I)I" } : Jvm.MethodName) prog_8_method_78_code (5 : Nat) (Option.some Jvm.ClassFile.FieldType.int)) ∈ lw_all := lw_g (lw_at lw_m6 169 rfl) rfl
theorem q1487 : (Jvm.Cond.instanceMethod ({ cls := "NextMustShareModel", name := "best", desc := "(II)I" } : Jvm.MethodName)) ∈ lw_all := lw_g (lw_at lw_m6 171 rfl) rfl
theorem q1488 : (Jvm.Cond.selects "NextMustShareModel" ({ cls := "NextMustShareModel", name := "best", desc := "(II)I" } : Jvm.MethodName) ({ cls := "NextMustShareModel", name := "best", desc := "(II)I" } : Jvm.MethodName)) ∈ lw_all := lw_g (lw_at lw_m6 172 rfl) rfl
theorem q1489 : (Jvm.Cond.code ({ cls := "NextMustShareModel", name := "best", desc := "(II)I" } : Jvm.MethodName) prog_8_method_84_code (3 : Nat) (Option.some Jvm.ClassFile.FieldType.int)) ∈ lw_all := lw_g (lw_at lw_m6 173 rfl) rfl
theorem q1490 : (Jvm.Cond.methodLink "NextMustShareModel" (356 : Nat) ({ cls := "NextMustShareModel", name := "tellBest", desc := "(III)I" } : Jvm.MethodName)) ∈ lw_all := lw_g (lw_at lw_m6 174 rfl) rfl
theorem q1491 : (Jvm.Cond.privateMethod ({ cls := "NextMustShareModel", name := "tellBest", desc := "(III)I" } : Jvm.MethodName)) ∈ lw_tbl := lw_at lw_m6 175 rfl
theorem q1492 : (Jvm.Cond.instanceMethod ({ cls := "NextMustShareModel", name := "tellBest", desc := "(III)I" } : Jvm.MethodName)) ∈ lw_all := lw_g (lw_at lw_m6 176 rfl) rfl
theorem q1493 : (Jvm.Cond.code ({ cls := "NextMustShareModel", name := "tellBest", desc := "(III)I" } : Jvm.MethodName) prog_8_method_83_code (4 : Nat) (Option.some Jvm.ClassFile.FieldType.int)) ∈ lw_all := lw_g (lw_at lw_m6 177 rfl) rfl
theorem q1494 : (Jvm.Cond.methodLink "NextMustShareModel" (352 : Nat) ({ cls := "NextMustShareModel", name := "findBest", desc := "(IIII)Z" } : Jvm.MethodName)) ∈ lw_all := lw_g (lw_at lw_m6 178 rfl) rfl
theorem q1495 : (Jvm.Cond.privateMethod ({ cls := "NextMustShareModel", name := "findBest", desc := "(IIII)Z" } : Jvm.MethodName)) ∈ lw_tbl := lw_at lw_m6 179 rfl
theorem q1496 : (Jvm.Cond.instanceMethod ({ cls := "NextMustShareModel", name := "findBest", desc := "(IIII)Z" } : Jvm.MethodName)) ∈ lw_all := lw_g (lw_at lw_m6 180 rfl) rfl
theorem q1497 : (Jvm.Cond.code ({ cls := "NextMustShareModel", name := "findBest", desc := "(IIII)Z" } : Jvm.MethodName) prog_8_method_82_code (10 : Nat) (Option.some Jvm.ClassFile.FieldType.boolean)) ∈ lw_all := lw_g (lw_at lw_m6 181 rfl) rfl
theorem q1498 : (Jvm.Cond.constant "NextMustShareModel" (345 : Nat) (-1000001 : Int32)) ∈ lw_all := lw_g (lw_at lw_m6 182 rfl) rfl
theorem q1499 : (Jvm.Cond.methodLink "NextMustShareModel" (338 : Nat) ({ cls := "NextMustShareModel", name := "costIn", desc := "(I)I" } : Jvm.MethodName)) ∈ lw_all := lw_g (lw_at lw_m6 183 rfl) rfl
theorem q1500 : (Jvm.Cond.privateMethod ({ cls := "NextMustShareModel", name := "costIn", desc := "(I)I" } : Jvm.MethodName)) ∈ lw_tbl := lw_at lw_m6 184 rfl
theorem q1501 : (Jvm.Cond.instanceMethod ({ cls := "NextMustShareModel", name := "costIn", desc := "(I)I" } : Jvm.MethodName)) ∈ lw_all := lw_g (lw_at lw_m6 185 rfl) rfl
theorem q1502 : (Jvm.Cond.code ({ cls := "NextMustShareModel", name := "costIn", desc := "(I)I" } : Jvm.MethodName) prog_8_method_80_code (4 : Nat) (Option.some Jvm.ClassFile.FieldType.int)) ∈ lw_all := lw_g (lw_at lw_m6 186 rfl) rfl
theorem q1503 : (Jvm.Cond.methodLink "NextMustShareModel" (346 : Nat) ({ cls := "NextMustShareModel", name := "scoreOf", desc := "(II)I" } : Jvm.MethodName)) ∈ lw_all := lw_g (lw_at lw_m6 187 rfl) rfl
theorem q1504 : (Jvm.Cond.privateMethod ({ cls := "NextMustShareModel", name := "scoreOf", desc := "(II)I" } : Jvm.MethodName)) ∈ lw_tbl := lw_at lw_m6 188 rfl
theorem q1505 : (Jvm.Cond.instanceMethod ({ cls := "NextMustShareModel", name := "scoreOf", desc := "(II)I" } : Jvm.MethodName)) ∈ lw_all := lw_g (lw_at lw_m6 189 rfl) rfl
theorem q1506 : (Jvm.Cond.code ({ cls := "NextMustShareModel", name := "scoreOf", desc := "(II)I" } : Jvm.MethodName) prog_8_method_81_code (7 : Nat) (Option.some Jvm.ClassFile.FieldType.int)) ∈ lw_all := lw_g (lw_at lw_m6 190 rfl) rfl
theorem q1507 : (Jvm.Cond.constant "NextMustShareModel" (341 : Nat) (1000000 : Int32)) ∈ lw_all := lw_g (lw_at lw_m6 191 rfl) rfl
theorem q1508 : (Jvm.Cond.methodLink "NextMustShareModel" (342 : Nat) ({ cls := "NextMustShareModel", name := "joyIn", desc := "(II)I" } : Jvm.MethodName)) ∈ lw_all := lw_g (lw_at lw_m6 192 rfl) rfl
theorem q1509 : (Jvm.Cond.privateMethod ({ cls := "NextMustShareModel", name := "joyIn", desc := "(II)I" } : Jvm.MethodName)) ∈ lw_tbl := lw_at lw_m6 193 rfl
theorem q1510 : (Jvm.Cond.instanceMethod ({ cls := "NextMustShareModel", name := "joyIn", desc := "(II)I" } : Jvm.MethodName)) ∈ lw_all := lw_g (lw_at lw_m6 194 rfl) rfl
theorem q1511 : (Jvm.Cond.code ({ cls := "NextMustShareModel", name := "joyIn", desc := "(II)I" } : Jvm.MethodName) prog_8_method_79_code (5 : Nat) (Option.some Jvm.ClassFile.FieldType.int)) ∈ lw_all := lw_g (lw_at lw_m6 195 rfl) rfl
theorem q1513 : (Jvm.Cond.instanceMethod ({ cls := "NextMustShareModel", name := "fair", desc := "(II)I" } : Jvm.MethodName)) ∈ lw_all := lw_g (lw_at lw_m6 197 rfl) rfl
theorem q1514 : (Jvm.Cond.selects "NextMustShareModel" ({ cls := "NextMustShareModel", name := "fair", desc := "(II)I" } : Jvm.MethodName) ({ cls := "NextMustShareModel", name := "fair", desc := "(II)I" } : Jvm.MethodName)) ∈ lw_all := lw_g (lw_at lw_m6 198 rfl) rfl
theorem q1515 : (Jvm.Cond.code ({ cls := "NextMustShareModel", name := "fair", desc := "(II)I" } : Jvm.MethodName) prog_8_method_85_code (3 : Nat) (Option.some Jvm.ClassFile.FieldType.int)) ∈ lw_all := lw_g (lw_at lw_m6 199 rfl) rfl
theorem q1517 : (Jvm.Cond.instanceMethod ({ cls := "NextMustShareModel", name := "cheap", desc := "(I)I" } : Jvm.MethodName)) ∈ lw_all := lw_g (lw_at lw_m6 201 rfl) rfl
theorem q1518 : (Jvm.Cond.selects "NextMustShareModel" ({ cls := "NextMustShareModel", name := "cheap", desc := "(I)I" } : Jvm.MethodName) ({ cls := "NextMustShareModel", name := "cheap", desc := "(I)I" } : Jvm.MethodName)) ∈ lw_all := lw_g (lw_at lw_m6 202 rfl) rfl
theorem q1519 : (Jvm.Cond.code ({ cls := "NextMustShareModel", name := "cheap", desc := "(I)I" } : Jvm.MethodName) prog_8_method_87_code (6 : Nat) (Option.some Jvm.ClassFile.FieldType.int)) ∈ lw_all := lw_g (lw_at lw_m6 203 rfl) rfl
theorem q1520 : (Jvm.Cond.methodLink "NextMustShareModel" (362 : Nat) ({ cls := "NextMustShareModel", name := "tellCost", desc := "(III)I" } : Jvm.MethodName)) ∈ lw_all := lw_g (lw_at lw_m6 204 rfl) rfl
theorem q1521 : (Jvm.Cond.privateMethod ({ cls := "NextMustShareModel", name := "tellCost", desc := "(III)I" } : Jvm.MethodName)) ∈ lw_tbl := lw_at lw_m6 205 rfl
theorem q1522 : (Jvm.Cond.instanceMethod ({ cls := "NextMustShareModel", name := "tellCost", desc := "(III)I" } : Jvm.MethodName)) ∈ lw_all := lw_g (lw_at lw_m6 206 rfl) rfl
theorem q1523 : (Jvm.Cond.code ({ cls := "NextMustShareModel", name := "tellCost", desc := "(III)I" } : Jvm.MethodName) prog_8_method_86_code (4 : Nat) (Option.some Jvm.ClassFile.FieldType.int)) ∈ lw_all := lw_g (lw_at lw_m6 207 rfl) rfl
theorem q1524 : (Jvm.Cond.methodLink "NextMustShareModel" (359 : Nat) ({ cls := "java/lang/Math", name := "abs", desc := "(I)I" } : Jvm.MethodName)) ∈ lw_all := lw_g (lw_at lw_m6 208 rfl) rfl
theorem q1528 : (Jvm.Cond.instanceMethod ({ cls := "NextMustShareModel", name := "dear", desc := "(I)I" } : Jvm.MethodName)) ∈ lw_all := lw_g (lw_at lw_m6 212 rfl) rfl
theorem q1529 : (Jvm.Cond.selects "NextMustShareModel" ({ cls := "NextMustShareModel", name := "dear", desc := "(I)I" } : Jvm.MethodName) ({ cls := "NextMustShareModel", name := "dear", desc := "(I)I" } : Jvm.MethodName)) ∈ lw_all := lw_g (lw_at lw_m6 213 rfl) rfl
theorem q1530 : (Jvm.Cond.code ({ cls := "NextMustShareModel", name := "dear", desc := "(I)I" } : Jvm.MethodName) prog_8_method_88_code (2 : Nat) (Option.some Jvm.ClassFile.FieldType.int)) ∈ lw_all := lw_g (lw_at lw_m6 214 rfl) rfl
theorem q1532 : (Jvm.Cond.instanceMethod ({ cls := "NextMustShareModel", name := "game", desc := "()I" } : Jvm.MethodName)) ∈ lw_all := lw_g (lw_at lw_m6 216 rfl) rfl
theorem q1533 : (Jvm.Cond.selects "NextMustShareModel" ({ cls := "NextMustShareModel", name := "game", desc := "()I" } : Jvm.MethodName) ({ cls := "NextMustShareModel", name := "game", desc := "()I" } : Jvm.MethodName)) ∈ lw_all := lw_g (lw_at lw_m6 217 rfl) rfl
theorem q1534 : (Jvm.Cond.code ({ cls := "NextMustShareModel", name := "game", desc := "()I" } : Jvm.MethodName) prog_8_method_91_code (2 : Nat) (Option.some Jvm.ClassFile.FieldType.int)) ∈ lw_all := lw_g (lw_at lw_m6 218 rfl) rfl
theorem q1535 : (Jvm.Cond.methodLink "NextMustShareModel" (369 : Nat) ({ cls := "NextMustShareModel", name := "findGame", desc := "()V" } : Jvm.MethodName)) ∈ lw_all := lw_g (lw_at lw_m6 219 rfl) rfl
theorem q1536 : (Jvm.Cond.privateMethod ({ cls := "NextMustShareModel", name := "findGame", desc := "()V" } : Jvm.MethodName)) ∈ lw_tbl := lw_at lw_m6 220 rfl
theorem q1537 : (Jvm.Cond.instanceMethod ({ cls := "NextMustShareModel", name := "findGame", desc := "()V" } : Jvm.MethodName)) ∈ lw_all := lw_g (lw_at lw_m6 221 rfl) rfl
theorem q1538 : (Jvm.Cond.code ({ cls := "NextMustShareModel", name := "findGame", desc := "()V" } : Jvm.MethodName) prog_8_method_89_code (3 : Nat) (Option.none : Option Jvm.ClassFile.FieldType)) ∈ lw_all := lw_g (lw_at lw_m6 222 rfl) rfl
theorem q1539 : (Jvm.Cond.methodLink "NextMustShareModel" (365 : Nat) ({ cls := "NextMustShareModel", name := "findTurn", desc := "(II)V" } : Jvm.MethodName)) ∈ lw_all := lw_g (lw_at lw_m6 223 rfl) rfl
theorem q1540 : (Jvm.Cond.privateMethod ({ cls := "NextMustShareModel", name := "findTurn", desc := "(II)V" } : Jvm.MethodName)) ∈ lw_tbl := lw_at lw_m6 224 rfl
theorem q1541 : (Jvm.Cond.instanceMethod ({ cls := "NextMustShareModel", name := "findTurn", desc := "(II)V" } : Jvm.MethodName)) ∈ lw_all := lw_g (lw_at lw_m6 225 rfl) rfl
theorem q1542 : (Jvm.Cond.code ({ cls := "NextMustShareModel", name := "findTurn", desc := "(II)V" } : Jvm.MethodName) prog_8_method_90_code (8 : Nat) (Option.none : Option Jvm.ClassFile.FieldType)) ∈ lw_all := lw_g (lw_at lw_m6 226 rfl) rfl
theorem q1544 : (Jvm.Cond.instanceMethod ({ cls := "NextMustShareModel", name := "greedy", desc := "()I" } : Jvm.MethodName)) ∈ lw_all := lw_g (lw_at lw_m6 228 rfl) rfl
theorem q1545 : (Jvm.Cond.selects "NextMustShareModel" ({ cls := "NextMustShareModel", name := "greedy", desc := "()I" } : Jvm.MethodName) ({ cls := "NextMustShareModel", name := "greedy", desc := "()I" } : Jvm.MethodName)) ∈ lw_all := lw_g (lw_at lw_m6 229 rfl) rfl
theorem q1546 : (Jvm.Cond.code ({ cls := "NextMustShareModel", name := "greedy", desc := "()I" } : Jvm.MethodName) prog_8_method_93_code (3 : Nat) (Option.some Jvm.ClassFile.FieldType.int)) ∈ lw_all := lw_g (lw_at lw_m6 230 rfl) rfl
theorem q1547 : (Jvm.Cond.methodLink "NextMustShareModel" (372 : Nat) ({ cls := "NextMustShareModel", name := "findGreedy", desc := "(II)V" } : Jvm.MethodName)) ∈ lw_all := lw_g (lw_at lw_m6 231 rfl) rfl
theorem q1548 : (Jvm.Cond.privateMethod ({ cls := "NextMustShareModel", name := "findGreedy", desc := "(II)V" } : Jvm.MethodName)) ∈ lw_tbl := lw_at lw_m6 232 rfl
theorem q1549 : (Jvm.Cond.instanceMethod ({ cls := "NextMustShareModel", name := "findGreedy", desc := "(II)V" } : Jvm.MethodName)) ∈ lw_all := lw_g (lw_at lw_m6 233 rfl) rfl
theorem q1550 : (Jvm.Cond.code ({ cls := "NextMustShareModel", name := "findGreedy", desc := "(II)V" } : Jvm.MethodName) prog_8_method_92_code (13 : Nat) (Option.none : Option Jvm.ClassFile.FieldType)) ∈ lw_all := lw_g (lw_at lw_m6 234 rfl) rfl
theorem q1552 : (Jvm.Cond.instanceMethod ({ cls := "NextMustShareModel", name := "mend", desc := "(II)I" } : Jvm.MethodName)) ∈ lw_all := lw_g (lw_at lw_m6 236 rfl) rfl
theorem q1553 : (Jvm.Cond.selects "NextMustShareModel" ({ cls := "NextMustShareModel", name := "mend", desc := "(II)I" } : Jvm.MethodName) ({ cls := "NextMustShareModel", name := "mend", desc := "(II)I" } : Jvm.MethodName)) ∈ lw_all := lw_g (lw_at lw_m6 237 rfl) rfl
theorem q1554 : (Jvm.Cond.code ({ cls := "NextMustShareModel", name := "mend", desc := "(II)I" } : Jvm.MethodName) prog_8_method_95_code (9 : Nat) (Option.some Jvm.ClassFile.FieldType.int)) ∈ lw_all := lw_g (lw_at lw_m6 238 rfl) rfl
theorem q1555 : (Jvm.Cond.methodLink "NextMustShareModel" (375 : Nat) ({ cls := "NextMustShareModel", name := "menuAt", desc := "(II)I" } : Jvm.MethodName)) ∈ lw_all := lw_g (lw_at lw_m6 239 rfl) rfl
theorem q1556 : (Jvm.Cond.privateMethod ({ cls := "NextMustShareModel", name := "menuAt", desc := "(II)I" } : Jvm.MethodName)) ∈ lw_tbl := lw_at lw_m7 0 rfl
theorem q1557 : (Jvm.Cond.instanceMethod ({ cls := "NextMustShareModel", name := "menuAt", desc := "(II)I" } : Jvm.MethodName)) ∈ lw_all := lw_g (lw_at lw_m7 1 rfl) rfl
theorem q1558 : (Jvm.Cond.code ({ cls := "NextMustShareModel", name := "menuAt", desc := "(II)I" } : Jvm.MethodName) prog_8_method_94_code (3 : Nat) (Option.some Jvm.ClassFile.FieldType.int)) ∈ lw_all := lw_g (lw_at lw_m7 2 rfl) rfl
theorem q1559 : (Jvm.Cond.methodLink "NextMustShareModel" (378 : Nat) ({ cls := "NextMustShareModel", name := "tellMended", desc := "(II)V" } : Jvm.MethodName)) ∈ lw_all := lw_g (lw_at lw_m7 3 rfl) rfl
theorem q1560 : (Jvm.Cond.privateMethod ({ cls := "NextMustShareModel", name := "tellMended", desc := "(II)V" } : Jvm.MethodName)) ∈ lw_tbl := lw_at lw_m7 4 rfl
theorem q1561 : (Jvm.Cond.instanceMethod ({ cls := "NextMustShareModel", name := "tellMended", desc := "(II)V" } : Jvm.MethodName)) ∈ lw_all := lw_g (lw_at lw_m7 5 rfl) rfl
theorem q1562 : (Jvm.Cond.code ({ cls := "NextMustShareModel", name := "tellMended", desc := "(II)V" } : Jvm.MethodName) prog_8_method_96_code (6 : Nat) (Option.none : Option Jvm.ClassFile.FieldType)) ∈ lw_all := lw_g (lw_at lw_m7 6 rfl) rfl
theorem q1564 : (Jvm.Cond.instanceMethod ({ cls := "NextMustShareModel", name := "fills", desc := "(I)J" } : Jvm.MethodName)) ∈ lw_all := lw_g (lw_at lw_m7 8 rfl) rfl
theorem q1565 : (Jvm.Cond.selects "NextMustShareModel" ({ cls := "NextMustShareModel", name := "fills", desc := "(I)J" } : Jvm.MethodName) ({ cls := "NextMustShareModel", name := "fills", desc := "(I)J" } : Jvm.MethodName)) ∈ lw_all := lw_g (lw_at lw_m7 9 rfl) rfl
theorem q1566 : (Jvm.Cond.code ({ cls := "NextMustShareModel", name := "fills", desc := "(I)J" } : Jvm.MethodName) prog_8_method_99_code (7 : Nat) (Option.some Jvm.ClassFile.FieldType.long)) ∈ lw_all := lw_g (lw_at lw_m7 10 rfl) rfl
theorem q1567 : (Jvm.Cond.constantLong "NextMustShareModel" (384 : Nat) (-3 : Int64)) ∈ lw_all := lw_g (lw_at lw_m7 11 rfl) rfl
theorem q1568 : (Jvm.Cond.methodLink "NextMustShareModel" (386 : Nat) ({ cls := "NextMustShareModel", name := "findFills", desc := "(I)J" } : Jvm.MethodName)) ∈ lw_all := lw_g (lw_at lw_m7 12 rfl) rfl
theorem q1569 : (Jvm.Cond.privateMethod ({ cls := "NextMustShareModel", name := "findFills", desc := "(I)J" } : Jvm.MethodName)) ∈ lw_tbl := lw_at lw_m7 13 rfl
theorem q1570 : (Jvm.Cond.instanceMethod ({ cls := "NextMustShareModel", name := "findFills", desc := "(I)J" } : Jvm.MethodName)) ∈ lw_all := lw_g (lw_at lw_m7 14 rfl) rfl
theorem q1571 : (Jvm.Cond.code ({ cls := "NextMustShareModel", name := "findFills", desc := "(I)J" } : Jvm.MethodName) prog_8_method_97_code (8 : Nat) (Option.some Jvm.ClassFile.FieldType.long)) ∈ lw_all := lw_g (lw_at lw_m7 15 rfl) rfl
theorem q1572 : (Jvm.Cond.methodLink "NextMustShareModel" (381 : Nat) ({ cls := "NextMustShareModel", name := "isAsked", desc := "(III)Z" } : Jvm.MethodName)) ∈ lw_all := lw_g (lw_at lw_m7 16 rfl) rfl
theorem q1573 : (Jvm.Cond.privateMethod ({ cls := "NextMustShareModel", name := "isAsked", desc := "(III)Z" } : Jvm.MethodName)) ∈ lw_tbl := lw_at lw_m7 17 rfl
theorem q1574 : (Jvm.Cond.instanceMethod ({ cls := "NextMustShareModel", name := "isAsked", desc := "(III)Z" } : Jvm.MethodName)) ∈ lw_all := lw_g (lw_at lw_m7 18 rfl) rfl
theorem q1575 : (Jvm.Cond.code ({ cls := "NextMustShareModel", name := "isAsked", desc := "(III)Z" } : Jvm.MethodName) prog_8_method_98_code (5 : Nat) (Option.some Jvm.ClassFile.FieldType.boolean)) ∈ lw_all := lw_g (lw_at lw_m7 19 rfl) rfl
theorem q1577 : (Jvm.Cond.instanceMethod ({ cls := "NextMustShareModel", name := "sure", desc := "(II)I" } : Jvm.MethodName)) ∈ lw_all := lw_g (lw_at lw_m7 21 rfl) rfl
theorem q1578 : (Jvm.Cond.selects "NextMustShareModel" ({ cls := "NextMustShareModel", name := "sure", desc := "(II)I" } : Jvm.MethodName) ({ cls := "NextMustShareModel", name := "sure", desc := "(II)I" } : Jvm.MethodName)) ∈ lw_all := lw_g (lw_at lw_m7 22 rfl) rfl
theorem q1579 : (Jvm.Cond.code ({ cls := "NextMustShareModel", name := "sure", desc := "(II)I" } : Jvm.MethodName) prog_8_method_100_code (8 : Nat) (Option.some Jvm.ClassFile.FieldType.int)) ∈ lw_all := lw_g (lw_at lw_m7 23 rfl) rfl
theorem q1581 : (Jvm.Cond.instanceMethod ({ cls := "NextMustShareModel", name := "hearths", desc := "(I)I" } : Jvm.MethodName)) ∈ lw_all := lw_g (lw_at lw_m7 25 rfl) rfl
theorem q1582 : (Jvm.Cond.selects "NextMustShareModel" ({ cls := "NextMustShareModel", name := "hearths", desc := "(I)I" } : Jvm.MethodName) ({ cls := "NextMustShareModel", name := "hearths", desc := "(I)I" } : Jvm.MethodName)) ∈ lw_all := lw_g (lw_at lw_m7 26 rfl) rfl
theorem q1583 : (Jvm.Cond.code ({ cls := "NextMustShareModel", name := "hearths", desc := "(I)I" } : Jvm.MethodName) prog_8_method_101_code (6 : Nat) (Option.some Jvm.ClassFile.FieldType.int)) ∈ lw_all := lw_g (lw_at lw_m7 27 rfl) rfl
theorem q1585 : (Jvm.Cond.instanceMethod ({ cls := "NextMustShareModel", name := "late", desc := "(II)I" } : Jvm.MethodName)) ∈ lw_all := lw_g (lw_at lw_m7 29 rfl) rfl
theorem q1586 : (Jvm.Cond.selects "NextMustShareModel" ({ cls := "NextMustShareModel", name := "late", desc := "(II)I" } : Jvm.MethodName) ({ cls := "NextMustShareModel", name := "late", desc := "(II)I" } : Jvm.MethodName)) ∈ lw_all := lw_g (lw_at lw_m7 30 rfl) rfl
theorem q1587 : (Jvm.Cond.code ({ cls := "NextMustShareModel", name := "late", desc := "(II)I" } : Jvm.MethodName) prog_8_method_102_code (7 : Nat) (Option.some Jvm.ClassFile.FieldType.int)) ∈ lw_all := lw_g (lw_at lw_m7 31 rfl) rfl
theorem q1589 : (Jvm.Cond.instanceMethod ({ cls := "NextMustShareModel", name := "poison", desc := "(II)I" } : Jvm.MethodName)) ∈ lw_all := lw_g (lw_at lw_m7 33 rfl) rfl
theorem q1590 : (Jvm.Cond.selects "NextMustShareModel" ({ cls := "NextMustShareModel", name := "poison", desc := "(II)I" } : Jvm.MethodName) ({ cls := "NextMustShareModel", name := "poison", desc := "(II)I" } : Jvm.MethodName)) ∈ lw_all := lw_g (lw_at lw_m7 34 rfl) rfl
theorem q1591 : (Jvm.Cond.code ({ cls := "NextMustShareModel", name := "poison", desc := "(II)I" } : Jvm.MethodName) prog_8_method_104_code (5 : Nat) (Option.some Jvm.ClassFile.FieldType.int)) ∈ lw_all := lw_g (lw_at lw_m7 35 rfl) rfl
theorem q1592 : (Jvm.Cond.methodLink "NextMustShareModel" (390 : Nat) ({ cls := "NextMustShareModel", name := "ateOf", desc := "(II)I" } : Jvm.MethodName)) ∈ lw_all := lw_g (lw_at lw_m7 36 rfl) rfl
theorem q1593 : (Jvm.Cond.privateMethod ({ cls := "NextMustShareModel", name := "ateOf", desc := "(II)I" } : Jvm.MethodName)) ∈ lw_tbl := lw_at lw_m7 37 rfl
theorem q1594 : (Jvm.Cond.instanceMethod ({ cls := "NextMustShareModel", name := "ateOf", desc := "(II)I" } : Jvm.MethodName)) ∈ lw_all := lw_g (lw_at lw_m7 38 rfl) rfl
theorem q1595 : (Jvm.Cond.code ({ cls := "NextMustShareModel", name := "ateOf", desc := "(II)I" } : Jvm.MethodName) prog_8_method_103_code (5 : Nat) (Option.some Jvm.ClassFile.FieldType.int)) ∈ lw_all := lw_g (lw_at lw_m7 39 rfl) rfl
theorem q1597 : (Jvm.Cond.instanceMethod ({ cls := "NextMustShareModel", name := "eats", desc := "(II)I" } : Jvm.MethodName)) ∈ lw_all := lw_g (lw_at lw_m7 41 rfl) rfl
theorem q1598 : (Jvm.Cond.selects "NextMustShareModel" ({ cls := "NextMustShareModel", name := "eats", desc := "(II)I" } : Jvm.MethodName) ({ cls := "NextMustShareModel", name := "eats", desc := "(II)I" } : Jvm.MethodName)) ∈ lw_all := lw_g (lw_at lw_m7 42 rfl) rfl
theorem q1599 : (Jvm.Cond.code ({ cls := "NextMustShareModel", name := "eats", desc := "(II)I" } : Jvm.MethodName) prog_8_method_105_code (8 : Nat) (Option.some Jvm.ClassFile.FieldType.int)) ∈ lw_all := lw_g (lw_at lw_m7 43 rfl) rfl
theorem q1601 : (Jvm.Cond.instanceMethod ({ cls := "NextMustShareModel", name := "made", desc := "()I" } : Jvm.MethodName)) ∈ lw_all := lw_g (lw_at lw_m7 45 rfl) rfl
theorem q1602 : (Jvm.Cond.selects "NextMustShareModel" ({ cls := "NextMustShareModel", name := "made", desc := "()I" } : Jvm.MethodName) ({ cls := "NextMustShareModel", name := "made", desc := "()I" } : Jvm.MethodName)) ∈ lw_all := lw_g (lw_at lw_m7 46 rfl) rfl
theorem q1603 : (Jvm.Cond.code ({ cls := "NextMustShareModel", name := "made", desc := "()I" } : Jvm.MethodName) prog_8_method_107_code (3 : Nat) (Option.some Jvm.ClassFile.FieldType.int)) ∈ lw_all := lw_g (lw_at lw_m7 47 rfl) rfl
theorem q1604 : (Jvm.Cond.methodLink "NextMustShareModel" (393 : Nat) ({ cls := "NextMustShareModel", name := "canAll", desc := "(I)Z" } : Jvm.MethodName)) ∈ lw_all := lw_g (lw_at lw_m7 48 rfl) rfl
theorem q1605 : (Jvm.Cond.privateMethod ({ cls := "NextMustShareModel", name := "canAll", desc := "(I)Z" } : Jvm.MethodName)) ∈ lw_tbl := lw_at lw_m7 49 rfl
theorem q1606 : (Jvm.Cond.instanceMethod ({ cls := "NextMustShareModel", name := "canAll", desc := "(I)Z" } : Jvm.MethodName)) ∈ lw_all := lw_g (lw_at lw_m7 50 rfl) rfl
theorem q1607 : (Jvm.Cond.code ({ cls := "NextMustShareModel", name := "canAll", desc := "(I)Z" } : Jvm.MethodName) prog_8_method_106_code (8 : Nat) (Option.some Jvm.ClassFile.FieldType.boolean)) ∈ lw_all := lw_g (lw_at lw_m7 51 rfl) rfl
theorem q1609 : (Jvm.Cond.instanceMethod ({ cls := "NextMustShareModel", name := "keep", desc := "(I)Z" } : Jvm.MethodName)) ∈ lw_all := lw_g (lw_at lw_m7 53 rfl) rfl
theorem q1610 : (Jvm.Cond.selects "NextMustShareModel" ({ cls := "NextMustShareModel", name := "keep", desc := "(I)Z" } : Jvm.MethodName) ({ cls := "NextMustShareModel", name := "keep", desc := "(I)Z" } : Jvm.MethodName)) ∈ lw_all := lw_g (lw_at lw_m7 54 rfl) rfl
theorem q1611 : (Jvm.Cond.code ({ cls := "NextMustShareModel", name := "keep", desc := "(I)Z" } : Jvm.MethodName) prog_8_method_108_code (4 : Nat) (Option.some Jvm.ClassFile.FieldType.boolean)) ∈ lw_all := lw_g (lw_at lw_m7 55 rfl) rfl
theorem q1613 : (Jvm.Cond.instanceMethod ({ cls := "NextMustShareModel", name := "again", desc := "(I)Z" } : Jvm.MethodName)) ∈ lw_all := lw_g (lw_at lw_m7 57 rfl) rfl
theorem q1614 : (Jvm.Cond.selects "NextMustShareModel" ({ cls := "NextMustShareModel", name := "again", desc := "(I)Z" } : Jvm.MethodName) ({ cls := "NextMustShareModel", name := "again", desc := "(I)Z" } : Jvm.MethodName)) ∈ lw_all := lw_g (lw_at lw_m7 58 rfl) rfl
theorem q1615 : (Jvm.Cond.code ({ cls := "NextMustShareModel", name := "again", desc := "(I)Z" } : Jvm.MethodName) prog_8_method_109_code (4 : Nat) (Option.some Jvm.ClassFile.FieldType.boolean)) ∈ lw_all := lw_g (lw_at lw_m7 59 rfl) rfl
theorem q1617 : (Jvm.Cond.instanceMethod ({ cls := "NextMustShareModel", name := "count", desc := "(I)I" } : Jvm.MethodName)) ∈ lw_all := lw_g (lw_at lw_m7 61 rfl) rfl
theorem q1618 : (Jvm.Cond.selects "NextMustShareModel" ({ cls := "NextMustShareModel", name := "count", desc := "(I)I" } : Jvm.MethodName) ({ cls := "NextMustShareModel", name := "count", desc := "(I)I" } : Jvm.MethodName)) ∈ lw_all := lw_g (lw_at lw_m7 62 rfl) rfl
theorem q1619 : (Jvm.Cond.code ({ cls := "NextMustShareModel", name := "count", desc := "(I)I" } : Jvm.MethodName) prog_8_method_110_code (4 : Nat) (Option.some Jvm.ClassFile.FieldType.int)) ∈ lw_all := lw_g (lw_at lw_m7 63 rfl) rfl
theorem q1621 : (Jvm.Cond.instanceMethod ({ cls := "NextMustShareModel", name := "row", desc := "(I)I" } : Jvm.MethodName)) ∈ lw_all := lw_g (lw_at lw_m7 65 rfl) rfl
theorem q1622 : (Jvm.Cond.selects "NextMustShareModel" ({ cls := "NextMustShareModel", name := "row", desc := "(I)I" } : Jvm.MethodName) ({ cls := "NextMustShareModel", name := "row", desc := "(I)I" } : Jvm.MethodName)) ∈ lw_all := lw_g (lw_at lw_m7 66 rfl) rfl
theorem q1623 : (Jvm.Cond.code ({ cls := "NextMustShareModel", name := "row", desc := "(I)I" } : Jvm.MethodName) prog_8_method_111_code (2 : Nat) (Option.some Jvm.ClassFile.FieldType.int)) ∈ lw_all := lw_g (lw_at lw_m7 67 rfl) rfl
theorem q1626 : (Jvm.Cond.castable "NextMustShareModel" "java/lang/Object") ∈ lw_tbl := lw_at lw_m7 70 rfl
theorem in_X2 : ∀ w ∈ wsX20, w ∈ lw_all := lw_in wsX20 [1072, 1074, 1076, 1078, 1080, 1082, 1084, 1086, 1088, 1090, 1092, 1094, 1096, 1098, 1100, 1102, 1104, 1106, 1108, 1110, 1112, 1114, 1116, 1118, 1120, 1122, 1124, 1126, 1128, 1130, 1132, 1134, 1136, 1138, 1140, 1142, 1144, 1146, 1148, 1150, 1152, 1154, 1156, 1158, 1160, 1162, 1164, 1166, 1168, 1170, 1172, 1174, 1176] (by decide +kernel) (by decide +kernel)
