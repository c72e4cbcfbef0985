/-! NextMustShare -/
set_option maxRecDepth 100000
def RX1 : String := "NextMustShare"
def TX1 : u_T := fun k => match k with
  | 0 => ("NextMustShare", "stuffs", "[I", true)
  | 1 => ("NextMustShare", "cost", "[I", true)
  | 2 => ("NextMustShare", "hours", "[I", true)
  | 3 => ("NextMustShare", "loves", "[I", true)
  | 4 => ("NextMustShare", "bars", "[I", true)
  | 5 => ("NextMustShare", "stores", "[I", true)
  | 6 => ("NextMustShare", "law", "[I", true)
  | 7 => ("NextMustShare", "served", "[I", true)
  | 8 => ("NextMustShare", "dishes", "I", false)
  | 9 => ("NextMustShare", "guests", "I", false)
  | 10 => ("NextMustShare", "hot", "I", false)
  | 11 => ("NextMustShare", "servedMany", "I", false)
  | 12 => ("NextMustShare", "text", "[I", true)
  | 13 => ("NextMustShare", "signMany", "I", false)
  | 14 => ("NextMustShare", "at", "I", false)
  | 15 => ("NextMustShare", "end", "I", false)
  | 16 => ("NextMustShare", "nest", "I", false)
  | 17 => ("NextMustShare", "readStuffs", "[I", true)
  | 18 => ("NextMustShare", "readCost", "[I", true)
  | 19 => ("NextMustShare", "readHours", "[I", true)
  | 20 => ("NextMustShare", "readLoves", "[I", true)
  | 21 => ("NextMustShare", "readBars", "[I", true)
  | 22 => ("NextMustShare", "readDishes", "I", false)
  | 23 => ("NextMustShare", "readGuests", "I", false)
  | 24 => ("NextMustShare", "readHot", "I", false)
  | 25 => ("NextMustShare", "rule", "LNextMustShare$Node;", false)
  | 26 => ("NextMustShare", "menu", "[I", true)
  | 27 => ("NextMustShare", "menuMany", "[I", true)
  | 28 => ("NextMustShare", "readMenu", "[I", true)
  | 29 => ("NextMustShare", "whyThen", "I", false)
  | 30 => ("NextMustShare", "fine", "[I", true)
  | 31 => ("NextMustShare", "lasts", "[I", true)
  | 32 => ("NextMustShare", "value", "[I", true)
  | 33 => ("NextMustShare", "length", "[I", true)
  | 34 => ("NextMustShare", "many", "[J", true)
  | 35 => ("NextMustShare", "allowed", "I", false)
  | 36 => ("NextMustShare", "worth", "[I", true)
  | 37 => ("NextMustShare", "greedyValue", "[I", true)
  | 38 => ("NextMustShare", "greedyLength", "[I", true)
  | 39 => ("NextMustShare", "freeAt", "[I", true)
  | 40 => ("NextMustShare", "wideLasts", "[I", true)
  | 41 => ("NextMustShare", "kept", "[I", true)
  | 42 => ("NextMustShare", "isKept", "[Z", true)
  | 43 => ("NextMustShare", "row", "[I", true)
  | _ => ("NextMustShare", "rowMany", "I", false)
def tyX1 : Nat → FieldType := fun k => match k with
  | 0 => .array .int
  | 1 => .array .int
  | 2 => .array .int
  | 3 => .array .int
  | 4 => .array .int
  | 5 => .array .int
  | 6 => .array .int
  | 7 => .array .int
  | 8 => .int
  | 9 => .int
  | 10 => .int
  | 11 => .int
  | 12 => .array .int
  | 13 => .int
  | 14 => .int
  | 15 => .int
  | 16 => .int
  | 17 => .array .int
  | 18 => .array .int
  | 19 => .array .int
  | 20 => .array .int
  | 21 => .array .int
  | 22 => .int
  | 23 => .int
  | 24 => .int
  | 25 => .object "NextMustShare$Node"
  | 26 => .array .int
  | 27 => .array .int
  | 28 => .array .int
  | 29 => .int
  | 30 => .array .int
  | 31 => .array .int
  | 32 => .array .int
  | 33 => .array .int
  | 34 => .array .long
  | 35 => .int
  | 36 => .array .int
  | 37 => .array .int
  | 38 => .array .int
  | 39 => .array .int
  | 40 => .array .int
  | 41 => .array .int
  | 42 => .array .boolean
  | 43 => .array .int
  | _ => .int
abbrev wsX10 : List Cond := u_ws RX1 TX1 45
set_option maxRecDepth 100000 in
theorem nmX1 : ∀ a, a < 45 → ∀ b, b < 45 → a ≠ b → (TX1 a).2.1 ≠ (TX1 b).2.1 := by decide +kernel
set_option maxRecDepth 100000 in
theorem tyX1_ok : ∀ k, k < 45 → parseFieldDescriptor (TX1 k).2.2.1 = some (tyX1 k) := by decide +kernel
abbrev cX1_init : ByteArray := prog_1_method_3_code
def yX1_init : MethodName := ⟨RX1, "<init>", "()V"⟩
def dkwX1_init_12 : List UInt8 := [167, 255, 239, 177]
abbrev dktX1_init_12 : List UInt8 := dkwX1_init_12 ++ []
def dkwX1_init_11 : List UInt8 := [188, 10, 181, 0, 99, 3, 60, 27, 16, 8, 162, 0, 17, 42, 180, 0, 25, 27, 16, 99, 79, 132, 1, 1]
abbrev dktX1_init_11 : List UInt8 := dkwX1_init_11 ++ dktX1_init_12
def dkwX1_init_10 : List UInt8 := [188, 10, 181, 0, 89, 42, 16, 46, 188, 10, 181, 0, 92, 42, 5, 188, 4, 181, 0, 95, 42, 16, 16]
abbrev dktX1_init_10 : List UInt8 := dkwX1_init_10 ++ dktX1_init_11
def dkwX1_init_9 : List UInt8 := [181, 0, 80, 42, 17, 88, 0, 188, 10, 181, 0, 83, 42, 16, 9, 188, 10, 181, 0, 86, 42, 17, 8, 0]
abbrev dktX1_init_9 : List UInt8 := dkwX1_init_9 ++ dktX1_init_10
def dkwX1_init_8 : List UInt8 := [17, 44, 0, 188, 11, 181, 0, 73, 42, 17, 4, 0, 188, 10, 181, 0, 77, 42, 17, 88, 0, 188, 10]
abbrev dktX1_init_8 : List UInt8 := dkwX1_init_8 ++ dktX1_init_9
def dkwX1_init_7 : List UInt8 := [188, 10, 181, 0, 64, 42, 17, 44, 0, 188, 10, 181, 0, 67, 42, 17, 44, 0, 188, 10, 181, 0, 70, 42]
abbrev dktX1_init_7 : List UInt8 := dkwX1_init_7 ++ dktX1_init_8
def dkwX1_init_6 : List UInt8 := [181, 0, 55, 42, 16, 10, 188, 10, 181, 0, 58, 42, 17, 4, 0, 188, 10, 181, 0, 61, 42, 17, 4, 0]
abbrev dktX1_init_6 : List UInt8 := dkwX1_init_6 ++ dktX1_init_7
def dkwX1_init_5 : List UInt8 := [181, 0, 46, 42, 16, 6, 188, 10, 181, 0, 49, 42, 16, 30, 188, 10, 181, 0, 52, 42, 6, 188, 10]
abbrev dktX1_init_5 : List UInt8 := dkwX1_init_5 ++ dktX1_init_6
def dkwX1_init_4 : List UInt8 := [181, 0, 37, 42, 16, 10, 188, 10, 181, 0, 40, 42, 16, 10, 188, 10, 181, 0, 43, 42, 16, 6, 188, 10]
abbrev dktX1_init_4 : List UInt8 := dkwX1_init_4 ++ dktX1_init_5
def dkwX1_init_3 : List UInt8 := [181, 0, 28, 42, 16, 10, 188, 10, 181, 0, 31, 42, 16, 80, 188, 10, 181, 0, 34, 42, 16, 10, 188, 10]
abbrev dktX1_init_3 : List UInt8 := dkwX1_init_3 ++ dktX1_init_4
def dkwX1_init_2 : List UInt8 := [188, 10, 181, 0, 25, 42, 6, 188, 10, 89, 3, 4, 79, 89, 4, 16, 9, 79, 89, 5, 3, 79]
abbrev dktX1_init_2 : List UInt8 := dkwX1_init_2 ++ dktX1_init_3
def dkwX1_init_1 : List UInt8 := [188, 10, 181, 0, 16, 42, 16, 6, 188, 10, 181, 0, 19, 42, 16, 6, 188, 10, 181, 0, 22, 42, 16, 8]
abbrev dktX1_init_1 : List UInt8 := dkwX1_init_1 ++ dktX1_init_2
def dkwX1_init_0 : List UInt8 := [42, 183, 0, 3, 42, 16, 10, 188, 10, 181, 0, 9, 42, 16, 10, 188, 10, 181, 0, 13, 42, 16, 10]
abbrev dktX1_init_0 : List UInt8 := dkwX1_init_0 ++ dktX1_init_1
theorem dksX1_init_0 : cX1_init.data.toList.drop 0 = dktX1_init_0 := by decide +kernel
theorem dksX1_init_1 : cX1_init.data.toList.drop 23 = dktX1_init_1 := dk_seg dksX1_init_0 23 rfl rfl
theorem dksX1_init_2 : cX1_init.data.toList.drop 47 = dktX1_init_2 := dk_seg dksX1_init_1 24 rfl rfl
theorem dksX1_init_3 : cX1_init.data.toList.drop 69 = dktX1_init_3 := dk_seg dksX1_init_2 22 rfl rfl
theorem dksX1_init_4 : cX1_init.data.toList.drop 93 = dktX1_init_4 := dk_seg dksX1_init_3 24 rfl rfl
theorem dksX1_init_5 : cX1_init.data.toList.drop 117 = dktX1_init_5 := dk_seg dksX1_init_4 24 rfl rfl
theorem dksX1_init_6 : cX1_init.data.toList.drop 140 = dktX1_init_6 := dk_seg dksX1_init_5 23 rfl rfl
theorem dksX1_init_7 : cX1_init.data.toList.drop 164 = dktX1_init_7 := dk_seg dksX1_init_6 24 rfl rfl
theorem dksX1_init_8 : cX1_init.data.toList.drop 188 = dktX1_init_8 := dk_seg dksX1_init_7 24 rfl rfl
theorem dksX1_init_9 : cX1_init.data.toList.drop 211 = dktX1_init_9 := dk_seg dksX1_init_8 23 rfl rfl
theorem dksX1_init_10 : cX1_init.data.toList.drop 235 = dktX1_init_10 := dk_seg dksX1_init_9 24 rfl rfl
theorem dksX1_init_11 : cX1_init.data.toList.drop 258 = dktX1_init_11 := dk_seg dksX1_init_10 23 rfl rfl
theorem dksX1_init_12 : cX1_init.data.toList.drop 282 = dktX1_init_12 := dk_seg dksX1_init_11 24 rfl rfl
theorem dX1_init_0 : decode cX1_init 0 = .ok (.aload_n 0, 1) := dk_42 (dk_at dksX1_init_0 0 rfl rfl)
theorem dX1_init_1 : decode cX1_init 1 = .ok (.invokespecial 3, 3) := dk_183 0 3 (dk_at dksX1_init_0 1 rfl rfl)
theorem dX1_init_4 : decode cX1_init 4 = .ok (.aload_n 0, 1) := dk_42 (dk_at dksX1_init_0 4 rfl rfl)
theorem dX1_init_5 : decode cX1_init 5 = .ok (.bipush 10, 2) := dk_16 10 (dk_at dksX1_init_0 5 rfl rfl)
theorem dX1_init_7 : decode cX1_init 7 = .ok (.newarray .int, 2) := dk_188_10 (dk_at dksX1_init_0 7 rfl rfl)
theorem dX1_init_9 : decode cX1_init 9 = .ok (.putfield 9, 3) := dk_181 0 9 (dk_at dksX1_init_0 9 rfl rfl)
theorem dX1_init_12 : decode cX1_init 12 = .ok (.aload_n 0, 1) := dk_42 (dk_at dksX1_init_0 12 rfl rfl)
theorem dX1_init_13 : decode cX1_init 13 = .ok (.bipush 10, 2) := dk_16 10 (dk_at dksX1_init_0 13 rfl rfl)
theorem dX1_init_15 : decode cX1_init 15 = .ok (.newarray .int, 2) := dk_188_10 (dk_at dksX1_init_0 15 rfl rfl)
theorem dX1_init_17 : decode cX1_init 17 = .ok (.putfield 13, 3) := dk_181 0 13 (dk_at dksX1_init_0 17 rfl rfl)
theorem dX1_init_20 : decode cX1_init 20 = .ok (.aload_n 0, 1) := dk_42 (dk_at dksX1_init_0 20 rfl rfl)
theorem dX1_init_21 : decode cX1_init 21 = .ok (.bipush 10, 2) := dk_16 10 (dk_at dksX1_init_0 21 rfl rfl)
theorem dX1_init_23 : decode cX1_init 23 = .ok (.newarray .int, 2) := dk_188_10 (dk_at dksX1_init_1 0 rfl rfl)
theorem dX1_init_25 : decode cX1_init 25 = .ok (.putfield 16, 3) := dk_181 0 16 (dk_at dksX1_init_1 2 rfl rfl)
theorem dX1_init_28 : decode cX1_init 28 = .ok (.aload_n 0, 1) := dk_42 (dk_at dksX1_init_1 5 rfl rfl)
theorem dX1_init_29 : decode cX1_init 29 = .ok (.bipush 6, 2) := dk_16 6 (dk_at dksX1_init_1 6 rfl rfl)
theorem dX1_init_31 : decode cX1_init 31 = .ok (.newarray .int, 2) := dk_188_10 (dk_at dksX1_init_1 8 rfl rfl)
theorem dX1_init_33 : decode cX1_init 33 = .ok (.putfield 19, 3) := dk_181 0 19 (dk_at dksX1_init_1 10 rfl rfl)
theorem dX1_init_36 : decode cX1_init 36 = .ok (.aload_n 0, 1) := dk_42 (dk_at dksX1_init_1 13 rfl rfl)
theorem dX1_init_37 : decode cX1_init 37 = .ok (.bipush 6, 2) := dk_16 6 (dk_at dksX1_init_1 14 rfl rfl)
theorem dX1_init_39 : decode cX1_init 39 = .ok (.newarray .int, 2) := dk_188_10 (dk_at dksX1_init_1 16 rfl rfl)
theorem dX1_init_41 : decode cX1_init 41 = .ok (.putfield 22, 3) := dk_181 0 22 (dk_at dksX1_init_1 18 rfl rfl)
theorem dX1_init_44 : decode cX1_init 44 = .ok (.aload_n 0, 1) := dk_42 (dk_at dksX1_init_1 21 rfl rfl)
theorem dX1_init_45 : decode cX1_init 45 = .ok (.bipush 8, 2) := dk_16 8 (dk_at dksX1_init_1 22 rfl rfl)
theorem dX1_init_47 : decode cX1_init 47 = .ok (.newarray .int, 2) := dk_188_10 (dk_at dksX1_init_2 0 rfl rfl)
theorem dX1_init_49 : decode cX1_init 49 = .ok (.putfield 25, 3) := dk_181 0 25 (dk_at dksX1_init_2 2 rfl rfl)
theorem dX1_init_52 : decode cX1_init 52 = .ok (.aload_n 0, 1) := dk_42 (dk_at dksX1_init_2 5 rfl rfl)
theorem dX1_init_53 : decode cX1_init 53 = .ok (.iconst 3, 1) := dk_6 (dk_at dksX1_init_2 6 rfl rfl)
theorem dX1_init_54 : decode cX1_init 54 = .ok (.newarray .int, 2) := dk_188_10 (dk_at dksX1_init_2 7 rfl rfl)
theorem dX1_init_56 : decode cX1_init 56 = .ok (.dup, 1) := dk_89 (dk_at dksX1_init_2 9 rfl rfl)
theorem dX1_init_57 : decode cX1_init 57 = .ok (.iconst 0, 1) := dk_3 (dk_at dksX1_init_2 10 rfl rfl)
theorem dX1_init_58 : decode cX1_init 58 = .ok (.iconst 1, 1) := dk_4 (dk_at dksX1_init_2 11 rfl rfl)
theorem dX1_init_59 : decode cX1_init 59 = .ok (.iastore, 1) := dk_79 (dk_at dksX1_init_2 12 rfl rfl)
theorem dX1_init_60 : decode cX1_init 60 = .ok (.dup, 1) := dk_89 (dk_at dksX1_init_2 13 rfl rfl)
theorem dX1_init_61 : decode cX1_init 61 = .ok (.iconst 1, 1) := dk_4 (dk_at dksX1_init_2 14 rfl rfl)
theorem dX1_init_62 : decode cX1_init 62 = .ok (.bipush 9, 2) := dk_16 9 (dk_at dksX1_init_2 15 rfl rfl)
theorem dX1_init_64 : decode cX1_init 64 = .ok (.iastore, 1) := dk_79 (dk_at dksX1_init_2 17 rfl rfl)
theorem dX1_init_65 : decode cX1_init 65 = .ok (.dup, 1) := dk_89 (dk_at dksX1_init_2 18 rfl rfl)
theorem dX1_init_66 : decode cX1_init 66 = .ok (.iconst 2, 1) := dk_5 (dk_at dksX1_init_2 19 rfl rfl)
theorem dX1_init_67 : decode cX1_init 67 = .ok (.iconst 0, 1) := dk_3 (dk_at dksX1_init_2 20 rfl rfl)
theorem dX1_init_68 : decode cX1_init 68 = .ok (.iastore, 1) := dk_79 (dk_at dksX1_init_2 21 rfl rfl)
theorem dX1_init_69 : decode cX1_init 69 = .ok (.putfield 28, 3) := dk_181 0 28 (dk_at dksX1_init_3 0 rfl rfl)
theorem dX1_init_72 : decode cX1_init 72 = .ok (.aload_n 0, 1) := dk_42 (dk_at dksX1_init_3 3 rfl rfl)
theorem dX1_init_73 : decode cX1_init 73 = .ok (.bipush 10, 2) := dk_16 10 (dk_at dksX1_init_3 4 rfl rfl)
theorem dX1_init_75 : decode cX1_init 75 = .ok (.newarray .int, 2) := dk_188_10 (dk_at dksX1_init_3 6 rfl rfl)
theorem dX1_init_77 : decode cX1_init 77 = .ok (.putfield 31, 3) := dk_181 0 31 (dk_at dksX1_init_3 8 rfl rfl)
theorem dX1_init_80 : decode cX1_init 80 = .ok (.aload_n 0, 1) := dk_42 (dk_at dksX1_init_3 11 rfl rfl)
theorem dX1_init_81 : decode cX1_init 81 = .ok (.bipush 80, 2) := dk_16 80 (dk_at dksX1_init_3 12 rfl rfl)
theorem dX1_init_83 : decode cX1_init 83 = .ok (.newarray .int, 2) := dk_188_10 (dk_at dksX1_init_3 14 rfl rfl)
theorem dX1_init_85 : decode cX1_init 85 = .ok (.putfield 34, 3) := dk_181 0 34 (dk_at dksX1_init_3 16 rfl rfl)
theorem dX1_init_88 : decode cX1_init 88 = .ok (.aload_n 0, 1) := dk_42 (dk_at dksX1_init_3 19 rfl rfl)
theorem dX1_init_89 : decode cX1_init 89 = .ok (.bipush 10, 2) := dk_16 10 (dk_at dksX1_init_3 20 rfl rfl)
theorem dX1_init_91 : decode cX1_init 91 = .ok (.newarray .int, 2) := dk_188_10 (dk_at dksX1_init_3 22 rfl rfl)
theorem dX1_init_93 : decode cX1_init 93 = .ok (.putfield 37, 3) := dk_181 0 37 (dk_at dksX1_init_4 0 rfl rfl)
theorem dX1_init_96 : decode cX1_init 96 = .ok (.aload_n 0, 1) := dk_42 (dk_at dksX1_init_4 3 rfl rfl)
theorem dX1_init_97 : decode cX1_init 97 = .ok (.bipush 10, 2) := dk_16 10 (dk_at dksX1_init_4 4 rfl rfl)
theorem dX1_init_99 : decode cX1_init 99 = .ok (.newarray .int, 2) := dk_188_10 (dk_at dksX1_init_4 6 rfl rfl)
theorem dX1_init_101 : decode cX1_init 101 = .ok (.putfield 40, 3) := dk_181 0 40 (dk_at dksX1_init_4 8 rfl rfl)
theorem dX1_init_104 : decode cX1_init 104 = .ok (.aload_n 0, 1) := dk_42 (dk_at dksX1_init_4 11 rfl rfl)
theorem dX1_init_105 : decode cX1_init 105 = .ok (.bipush 10, 2) := dk_16 10 (dk_at dksX1_init_4 12 rfl rfl)
theorem dX1_init_107 : decode cX1_init 107 = .ok (.newarray .int, 2) := dk_188_10 (dk_at dksX1_init_4 14 rfl rfl)
theorem dX1_init_109 : decode cX1_init 109 = .ok (.putfield 43, 3) := dk_181 0 43 (dk_at dksX1_init_4 16 rfl rfl)
theorem dX1_init_112 : decode cX1_init 112 = .ok (.aload_n 0, 1) := dk_42 (dk_at dksX1_init_4 19 rfl rfl)
theorem dX1_init_113 : decode cX1_init 113 = .ok (.bipush 6, 2) := dk_16 6 (dk_at dksX1_init_4 20 rfl rfl)
theorem dX1_init_115 : decode cX1_init 115 = .ok (.newarray .int, 2) := dk_188_10 (dk_at dksX1_init_4 22 rfl rfl)
theorem dX1_init_117 : decode cX1_init 117 = .ok (.putfield 46, 3) := dk_181 0 46 (dk_at dksX1_init_5 0 rfl rfl)
theorem dX1_init_120 : decode cX1_init 120 = .ok (.aload_n 0, 1) := dk_42 (dk_at dksX1_init_5 3 rfl rfl)
theorem dX1_init_121 : decode cX1_init 121 = .ok (.bipush 6, 2) := dk_16 6 (dk_at dksX1_init_5 4 rfl rfl)
theorem dX1_init_123 : decode cX1_init 123 = .ok (.newarray .int, 2) := dk_188_10 (dk_at dksX1_init_5 6 rfl rfl)
theorem dX1_init_125 : decode cX1_init 125 = .ok (.putfield 49, 3) := dk_181 0 49 (dk_at dksX1_init_5 8 rfl rfl)
theorem dX1_init_128 : decode cX1_init 128 = .ok (.aload_n 0, 1) := dk_42 (dk_at dksX1_init_5 11 rfl rfl)
theorem dX1_init_129 : decode cX1_init 129 = .ok (.bipush 30, 2) := dk_16 30 (dk_at dksX1_init_5 12 rfl rfl)
theorem dX1_init_131 : decode cX1_init 131 = .ok (.newarray .int, 2) := dk_188_10 (dk_at dksX1_init_5 14 rfl rfl)
theorem dX1_init_133 : decode cX1_init 133 = .ok (.putfield 52, 3) := dk_181 0 52 (dk_at dksX1_init_5 16 rfl rfl)
theorem dX1_init_136 : decode cX1_init 136 = .ok (.aload_n 0, 1) := dk_42 (dk_at dksX1_init_5 19 rfl rfl)
theorem dX1_init_137 : decode cX1_init 137 = .ok (.iconst 3, 1) := dk_6 (dk_at dksX1_init_5 20 rfl rfl)
theorem dX1_init_138 : decode cX1_init 138 = .ok (.newarray .int, 2) := dk_188_10 (dk_at dksX1_init_5 21 rfl rfl)
theorem dX1_init_140 : decode cX1_init 140 = .ok (.putfield 55, 3) := dk_181 0 55 (dk_at dksX1_init_6 0 rfl rfl)
theorem dX1_init_143 : decode cX1_init 143 = .ok (.aload_n 0, 1) := dk_42 (dk_at dksX1_init_6 3 rfl rfl)
theorem dX1_init_144 : decode cX1_init 144 = .ok (.bipush 10, 2) := dk_16 10 (dk_at dksX1_init_6 4 rfl rfl)
theorem dX1_init_146 : decode cX1_init 146 = .ok (.newarray .int, 2) := dk_188_10 (dk_at dksX1_init_6 6 rfl rfl)
theorem dX1_init_148 : decode cX1_init 148 = .ok (.putfield 58, 3) := dk_181 0 58 (dk_at dksX1_init_6 8 rfl rfl)
theorem dX1_init_151 : decode cX1_init 151 = .ok (.aload_n 0, 1) := dk_42 (dk_at dksX1_init_6 11 rfl rfl)
theorem dX1_init_152 : decode cX1_init 152 = .ok (.sipush 1024, 3) := dk_17 4 0 (dk_at dksX1_init_6 12 rfl rfl)
theorem dX1_init_155 : decode cX1_init 155 = .ok (.newarray .int, 2) := dk_188_10 (dk_at dksX1_init_6 15 rfl rfl)
theorem dX1_init_157 : decode cX1_init 157 = .ok (.putfield 61, 3) := dk_181 0 61 (dk_at dksX1_init_6 17 rfl rfl)
theorem dX1_init_160 : decode cX1_init 160 = .ok (.aload_n 0, 1) := dk_42 (dk_at dksX1_init_6 20 rfl rfl)
theorem dX1_init_161 : decode cX1_init 161 = .ok (.sipush 1024, 3) := dk_17 4 0 (dk_at dksX1_init_6 21 rfl rfl)
theorem dX1_init_164 : decode cX1_init 164 = .ok (.newarray .int, 2) := dk_188_10 (dk_at dksX1_init_7 0 rfl rfl)
theorem dX1_init_166 : decode cX1_init 166 = .ok (.putfield 64, 3) := dk_181 0 64 (dk_at dksX1_init_7 2 rfl rfl)
theorem dX1_init_169 : decode cX1_init 169 = .ok (.aload_n 0, 1) := dk_42 (dk_at dksX1_init_7 5 rfl rfl)
theorem dX1_init_170 : decode cX1_init 170 = .ok (.sipush 11264, 3) := dk_17 44 0 (dk_at dksX1_init_7 6 rfl rfl)
theorem dX1_init_173 : decode cX1_init 173 = .ok (.newarray .int, 2) := dk_188_10 (dk_at dksX1_init_7 9 rfl rfl)
theorem dX1_init_175 : decode cX1_init 175 = .ok (.putfield 67, 3) := dk_181 0 67 (dk_at dksX1_init_7 11 rfl rfl)
theorem dX1_init_178 : decode cX1_init 178 = .ok (.aload_n 0, 1) := dk_42 (dk_at dksX1_init_7 14 rfl rfl)
theorem dX1_init_179 : decode cX1_init 179 = .ok (.sipush 11264, 3) := dk_17 44 0 (dk_at dksX1_init_7 15 rfl rfl)
theorem dX1_init_182 : decode cX1_init 182 = .ok (.newarray .int, 2) := dk_188_10 (dk_at dksX1_init_7 18 rfl rfl)
theorem dX1_init_184 : decode cX1_init 184 = .ok (.putfield 70, 3) := dk_181 0 70 (dk_at dksX1_init_7 20 rfl rfl)
theorem dX1_init_187 : decode cX1_init 187 = .ok (.aload_n 0, 1) := dk_42 (dk_at dksX1_init_7 23 rfl rfl)
theorem dX1_init_188 : decode cX1_init 188 = .ok (.sipush 11264, 3) := dk_17 44 0 (dk_at dksX1_init_8 0 rfl rfl)
theorem dX1_init_191 : decode cX1_init 191 = .ok (.newarray .long, 2) := dk_188_11 (dk_at dksX1_init_8 3 rfl rfl)
theorem dX1_init_193 : decode cX1_init 193 = .ok (.putfield 73, 3) := dk_181 0 73 (dk_at dksX1_init_8 5 rfl rfl)
theorem dX1_init_196 : decode cX1_init 196 = .ok (.aload_n 0, 1) := dk_42 (dk_at dksX1_init_8 8 rfl rfl)
theorem dX1_init_197 : decode cX1_init 197 = .ok (.sipush 1024, 3) := dk_17 4 0 (dk_at dksX1_init_8 9 rfl rfl)
theorem dX1_init_200 : decode cX1_init 200 = .ok (.newarray .int, 2) := dk_188_10 (dk_at dksX1_init_8 12 rfl rfl)
theorem dX1_init_202 : decode cX1_init 202 = .ok (.putfield 77, 3) := dk_181 0 77 (dk_at dksX1_init_8 14 rfl rfl)
theorem dX1_init_205 : decode cX1_init 205 = .ok (.aload_n 0, 1) := dk_42 (dk_at dksX1_init_8 17 rfl rfl)
theorem dX1_init_206 : decode cX1_init 206 = .ok (.sipush 22528, 3) := dk_17 88 0 (dk_at dksX1_init_8 18 rfl rfl)
theorem dX1_init_209 : decode cX1_init 209 = .ok (.newarray .int, 2) := dk_188_10 (dk_at dksX1_init_8 21 rfl rfl)
theorem dX1_init_211 : decode cX1_init 211 = .ok (.putfield 80, 3) := dk_181 0 80 (dk_at dksX1_init_9 0 rfl rfl)
theorem dX1_init_214 : decode cX1_init 214 = .ok (.aload_n 0, 1) := dk_42 (dk_at dksX1_init_9 3 rfl rfl)
theorem dX1_init_215 : decode cX1_init 215 = .ok (.sipush 22528, 3) := dk_17 88 0 (dk_at dksX1_init_9 4 rfl rfl)
theorem dX1_init_218 : decode cX1_init 218 = .ok (.newarray .int, 2) := dk_188_10 (dk_at dksX1_init_9 7 rfl rfl)
theorem dX1_init_220 : decode cX1_init 220 = .ok (.putfield 83, 3) := dk_181 0 83 (dk_at dksX1_init_9 9 rfl rfl)
theorem dX1_init_223 : decode cX1_init 223 = .ok (.aload_n 0, 1) := dk_42 (dk_at dksX1_init_9 12 rfl rfl)
theorem dX1_init_224 : decode cX1_init 224 = .ok (.bipush 9, 2) := dk_16 9 (dk_at dksX1_init_9 13 rfl rfl)
theorem dX1_init_226 : decode cX1_init 226 = .ok (.newarray .int, 2) := dk_188_10 (dk_at dksX1_init_9 15 rfl rfl)
theorem dX1_init_228 : decode cX1_init 228 = .ok (.putfield 86, 3) := dk_181 0 86 (dk_at dksX1_init_9 17 rfl rfl)
theorem dX1_init_231 : decode cX1_init 231 = .ok (.aload_n 0, 1) := dk_42 (dk_at dksX1_init_9 20 rfl rfl)
theorem dX1_init_232 : decode cX1_init 232 = .ok (.sipush 2048, 3) := dk_17 8 0 (dk_at dksX1_init_9 21 rfl rfl)
theorem dX1_init_235 : decode cX1_init 235 = .ok (.newarray .int, 2) := dk_188_10 (dk_at dksX1_init_10 0 rfl rfl)
theorem dX1_init_237 : decode cX1_init 237 = .ok (.putfield 89, 3) := dk_181 0 89 (dk_at dksX1_init_10 2 rfl rfl)
theorem dX1_init_240 : decode cX1_init 240 = .ok (.aload_n 0, 1) := dk_42 (dk_at dksX1_init_10 5 rfl rfl)
theorem dX1_init_241 : decode cX1_init 241 = .ok (.bipush 46, 2) := dk_16 46 (dk_at dksX1_init_10 6 rfl rfl)
theorem dX1_init_243 : decode cX1_init 243 = .ok (.newarray .int, 2) := dk_188_10 (dk_at dksX1_init_10 8 rfl rfl)
theorem dX1_init_245 : decode cX1_init 245 = .ok (.putfield 92, 3) := dk_181 0 92 (dk_at dksX1_init_10 10 rfl rfl)
theorem dX1_init_248 : decode cX1_init 248 = .ok (.aload_n 0, 1) := dk_42 (dk_at dksX1_init_10 13 rfl rfl)
theorem dX1_init_249 : decode cX1_init 249 = .ok (.iconst 2, 1) := dk_5 (dk_at dksX1_init_10 14 rfl rfl)
theorem dX1_init_250 : decode cX1_init 250 = .ok (.newarray .boolean, 2) := dk_188_4 (dk_at dksX1_init_10 15 rfl rfl)
theorem dX1_init_252 : decode cX1_init 252 = .ok (.putfield 95, 3) := dk_181 0 95 (dk_at dksX1_init_10 17 rfl rfl)
theorem dX1_init_255 : decode cX1_init 255 = .ok (.aload_n 0, 1) := dk_42 (dk_at dksX1_init_10 20 rfl rfl)
theorem dX1_init_256 : decode cX1_init 256 = .ok (.bipush 16, 2) := dk_16 16 (dk_at dksX1_init_10 21 rfl rfl)
theorem dX1_init_258 : decode cX1_init 258 = .ok (.newarray .int, 2) := dk_188_10 (dk_at dksX1_init_11 0 rfl rfl)
theorem dX1_init_260 : decode cX1_init 260 = .ok (.putfield 99, 3) := dk_181 0 99 (dk_at dksX1_init_11 2 rfl rfl)
theorem dX1_init_263 : decode cX1_init 263 = .ok (.iconst 0, 1) := dk_3 (dk_at dksX1_init_11 5 rfl rfl)
theorem dX1_init_264 : decode cX1_init 264 = .ok (.istore_n 1, 1) := dk_60 (dk_at dksX1_init_11 6 rfl rfl)
theorem dX1_init_265 : decode cX1_init 265 = .ok (.iload_n 1, 1) := dk_27 (dk_at dksX1_init_11 7 rfl rfl)
theorem dX1_init_266 : decode cX1_init 266 = .ok (.bipush 8, 2) := dk_16 8 (dk_at dksX1_init_11 8 rfl rfl)
theorem dX1_init_268 : decode cX1_init 268 = .ok (.if_icmp .ge 17, 3) := dk_162 0 17 (dk_at dksX1_init_11 10 rfl rfl)
theorem dX1_init_271 : decode cX1_init 271 = .ok (.aload_n 0, 1) := dk_42 (dk_at dksX1_init_11 13 rfl rfl)
theorem dX1_init_272 : decode cX1_init 272 = .ok (.getfield 25, 3) := dk_180 0 25 (dk_at dksX1_init_11 14 rfl rfl)
theorem dX1_init_275 : decode cX1_init 275 = .ok (.iload_n 1, 1) := dk_27 (dk_at dksX1_init_11 17 rfl rfl)
theorem dX1_init_276 : decode cX1_init 276 = .ok (.bipush 99, 2) := dk_16 99 (dk_at dksX1_init_11 18 rfl rfl)
theorem dX1_init_278 : decode cX1_init 278 = .ok (.iastore, 1) := dk_79 (dk_at dksX1_init_11 20 rfl rfl)
theorem dX1_init_279 : decode cX1_init 279 = .ok (.iinc 1 1, 3) := dk_132 1 1 (dk_at dksX1_init_11 21 rfl rfl)
theorem dX1_init_282 : decode cX1_init 282 = .ok (.goto (-17), 3) := dk_167 255 239 (dk_at dksX1_init_12 0 rfl rfl)
theorem dX1_init_285 : decode cX1_init 285 = .ok (.return_, 1) := dk_177 (dk_at dksX1_init_12 3 rfl rfl)
abbrev cX1_sign : ByteArray := prog_1_method_6_code
def yX1_sign : MethodName := ⟨RX1, "sign", "(I)I"⟩
def dkwX1_sign_2 : List UInt8 := [167, 255, 224, 42, 89, 180, 0, 113, 7, 96, 181, 0, 113, 42, 180, 0, 113, 172]
abbrev dktX1_sign_2 : List UInt8 := dkwX1_sign_2 ++ []
def dkwX1_sign_1 : List UInt8 := [180, 0, 113, 28, 96, 27, 16, 24, 16, 8, 28, 104, 100, 122, 17, 0, 255, 126, 79, 132, 2, 1]
abbrev dktX1_sign_1 : List UInt8 := dkwX1_sign_1 ++ dktX1_sign_2
def dkwX1_sign_0 : List UInt8 := [42, 180, 0, 113, 16, 76, 164, 0, 5, 2, 172, 3, 61, 28, 7, 162, 0, 33, 42, 180, 0, 34, 42]
abbrev dktX1_sign_0 : List UInt8 := dkwX1_sign_0 ++ dktX1_sign_1
theorem dksX1_sign_0 : cX1_sign.data.toList.drop 0 = dktX1_sign_0 := by decide +kernel
theorem dksX1_sign_1 : cX1_sign.data.toList.drop 23 = dktX1_sign_1 := dk_seg dksX1_sign_0 23 rfl rfl
theorem dksX1_sign_2 : cX1_sign.data.toList.drop 45 = dktX1_sign_2 := dk_seg dksX1_sign_1 22 rfl rfl
theorem dX1_sign_0 : decode cX1_sign 0 = .ok (.aload_n 0, 1) := dk_42 (dk_at dksX1_sign_0 0 rfl rfl)
theorem dX1_sign_1 : decode cX1_sign 1 = .ok (.getfield 113, 3) := dk_180 0 113 (dk_at dksX1_sign_0 1 rfl rfl)
theorem dX1_sign_4 : decode cX1_sign 4 = .ok (.bipush 76, 2) := dk_16 76 (dk_at dksX1_sign_0 4 rfl rfl)
theorem dX1_sign_6 : decode cX1_sign 6 = .ok (.if_icmp .le 5, 3) := dk_164 0 5 (dk_at dksX1_sign_0 6 rfl rfl)
theorem dX1_sign_9 : decode cX1_sign 9 = .ok (.iconst (-1), 1) := dk_2 (dk_at dksX1_sign_0 9 rfl rfl)
theorem dX1_sign_10 : decode cX1_sign 10 = .ok (.ireturn, 1) := dk_172 (dk_at dksX1_sign_0 10 rfl rfl)
theorem dX1_sign_11 : decode cX1_sign 11 = .ok (.iconst 0, 1) := dk_3 (dk_at dksX1_sign_0 11 rfl rfl)
theorem dX1_sign_12 : decode cX1_sign 12 = .ok (.istore_n 2, 1) := dk_61 (dk_at dksX1_sign_0 12 rfl rfl)
theorem dX1_sign_13 : decode cX1_sign 13 = .ok (.iload_n 2, 1) := dk_28 (dk_at dksX1_sign_0 13 rfl rfl)
theorem dX1_sign_14 : decode cX1_sign 14 = .ok (.iconst 4, 1) := dk_7 (dk_at dksX1_sign_0 14 rfl rfl)
theorem dX1_sign_15 : decode cX1_sign 15 = .ok (.if_icmp .ge 33, 3) := dk_162 0 33 (dk_at dksX1_sign_0 15 rfl rfl)
theorem dX1_sign_18 : decode cX1_sign 18 = .ok (.aload_n 0, 1) := dk_42 (dk_at dksX1_sign_0 18 rfl rfl)
theorem dX1_sign_19 : decode cX1_sign 19 = .ok (.getfield 34, 3) := dk_180 0 34 (dk_at dksX1_sign_0 19 rfl rfl)
theorem dX1_sign_22 : decode cX1_sign 22 = .ok (.aload_n 0, 1) := dk_42 (dk_at dksX1_sign_0 22 rfl rfl)
theorem dX1_sign_23 : decode cX1_sign 23 = .ok (.getfield 113, 3) := dk_180 0 113 (dk_at dksX1_sign_1 0 rfl rfl)
theorem dX1_sign_26 : decode cX1_sign 26 = .ok (.iload_n 2, 1) := dk_28 (dk_at dksX1_sign_1 3 rfl rfl)
theorem dX1_sign_27 : decode cX1_sign 27 = .ok (.iadd, 1) := dk_96 (dk_at dksX1_sign_1 4 rfl rfl)
theorem dX1_sign_28 : decode cX1_sign 28 = .ok (.iload_n 1, 1) := dk_27 (dk_at dksX1_sign_1 5 rfl rfl)
theorem dX1_sign_29 : decode cX1_sign 29 = .ok (.bipush 24, 2) := dk_16 24 (dk_at dksX1_sign_1 6 rfl rfl)
theorem dX1_sign_31 : decode cX1_sign 31 = .ok (.bipush 8, 2) := dk_16 8 (dk_at dksX1_sign_1 8 rfl rfl)
theorem dX1_sign_33 : decode cX1_sign 33 = .ok (.iload_n 2, 1) := dk_28 (dk_at dksX1_sign_1 10 rfl rfl)
theorem dX1_sign_34 : decode cX1_sign 34 = .ok (.imul, 1) := dk_104 (dk_at dksX1_sign_1 11 rfl rfl)
theorem dX1_sign_35 : decode cX1_sign 35 = .ok (.isub, 1) := dk_100 (dk_at dksX1_sign_1 12 rfl rfl)
theorem dX1_sign_36 : decode cX1_sign 36 = .ok (.ishr, 1) := dk_122 (dk_at dksX1_sign_1 13 rfl rfl)
theorem dX1_sign_37 : decode cX1_sign 37 = .ok (.sipush 255, 3) := dk_17 0 255 (dk_at dksX1_sign_1 14 rfl rfl)
theorem dX1_sign_40 : decode cX1_sign 40 = .ok (.iand, 1) := dk_126 (dk_at dksX1_sign_1 17 rfl rfl)
theorem dX1_sign_41 : decode cX1_sign 41 = .ok (.iastore, 1) := dk_79 (dk_at dksX1_sign_1 18 rfl rfl)
theorem dX1_sign_42 : decode cX1_sign 42 = .ok (.iinc 2 1, 3) := dk_132 2 1 (dk_at dksX1_sign_1 19 rfl rfl)
theorem dX1_sign_45 : decode cX1_sign 45 = .ok (.goto (-32), 3) := dk_167 255 224 (dk_at dksX1_sign_2 0 rfl rfl)
theorem dX1_sign_48 : decode cX1_sign 48 = .ok (.aload_n 0, 1) := dk_42 (dk_at dksX1_sign_2 3 rfl rfl)
theorem dX1_sign_49 : decode cX1_sign 49 = .ok (.dup, 1) := dk_89 (dk_at dksX1_sign_2 4 rfl rfl)
theorem dX1_sign_50 : decode cX1_sign 50 = .ok (.getfield 113, 3) := dk_180 0 113 (dk_at dksX1_sign_2 5 rfl rfl)
theorem dX1_sign_53 : decode cX1_sign 53 = .ok (.iconst 4, 1) := dk_7 (dk_at dksX1_sign_2 8 rfl rfl)
theorem dX1_sign_54 : decode cX1_sign 54 = .ok (.iadd, 1) := dk_96 (dk_at dksX1_sign_2 9 rfl rfl)
theorem dX1_sign_55 : decode cX1_sign 55 = .ok (.putfield 113, 3) := dk_181 0 113 (dk_at dksX1_sign_2 10 rfl rfl)
theorem dX1_sign_58 : decode cX1_sign 58 = .ok (.aload_n 0, 1) := dk_42 (dk_at dksX1_sign_2 13 rfl rfl)
theorem dX1_sign_59 : decode cX1_sign 59 = .ok (.getfield 113, 3) := dk_180 0 113 (dk_at dksX1_sign_2 14 rfl rfl)
theorem dX1_sign_62 : decode cX1_sign 62 = .ok (.ireturn, 1) := dk_172 (dk_at dksX1_sign_2 17 rfl rfl)
abbrev cX1_end : ByteArray := prog_1_method_7_code
def yX1_end : MethodName := ⟨RX1, "end", "(I)Z"⟩
def dkwX1_end_0 : List UInt8 := [27, 133, 9, 42, 180, 0, 113, 133, 184, 0, 106, 154, 0, 5, 3, 172, 42, 27, 181, 0, 113, 4, 172]
abbrev dktX1_end_0 : List UInt8 := dkwX1_end_0 ++ []
theorem dksX1_end_0 : cX1_end.data.toList.drop 0 = dktX1_end_0 := by decide +kernel
theorem dX1_end_0 : decode cX1_end 0 = .ok (.iload_n 1, 1) := dk_27 (dk_at dksX1_end_0 0 rfl rfl)
theorem dX1_end_1 : decode cX1_end 1 = .ok (.i2l, 1) := dk_133 (dk_at dksX1_end_0 1 rfl rfl)
theorem dX1_end_2 : decode cX1_end 2 = .ok (.lconst 0, 1) := dk_9 (dk_at dksX1_end_0 2 rfl rfl)
theorem dX1_end_3 : decode cX1_end 3 = .ok (.aload_n 0, 1) := dk_42 (dk_at dksX1_end_0 3 rfl rfl)
theorem dX1_end_4 : decode cX1_end 4 = .ok (.getfield 113, 3) := dk_180 0 113 (dk_at dksX1_end_0 4 rfl rfl)
theorem dX1_end_7 : decode cX1_end 7 = .ok (.i2l, 1) := dk_133 (dk_at dksX1_end_0 7 rfl rfl)
theorem dX1_end_8 : decode cX1_end 8 = .ok (.invokestatic 106, 3) := dk_184 0 106 (dk_at dksX1_end_0 8 rfl rfl)
theorem dX1_end_11 : decode cX1_end 11 = .ok (.ifCond .ne 5, 3) := dk_154 0 5 (dk_at dksX1_end_0 11 rfl rfl)
theorem dX1_end_14 : decode cX1_end 14 = .ok (.iconst 0, 1) := dk_3 (dk_at dksX1_end_0 14 rfl rfl)
theorem dX1_end_15 : decode cX1_end 15 = .ok (.ireturn, 1) := dk_172 (dk_at dksX1_end_0 15 rfl rfl)
theorem dX1_end_16 : decode cX1_end 16 = .ok (.aload_n 0, 1) := dk_42 (dk_at dksX1_end_0 16 rfl rfl)
theorem dX1_end_17 : decode cX1_end 17 = .ok (.iload_n 1, 1) := dk_27 (dk_at dksX1_end_0 17 rfl rfl)
theorem dX1_end_18 : decode cX1_end 18 = .ok (.putfield 113, 3) := dk_181 0 113 (dk_at dksX1_end_0 18 rfl rfl)
theorem dX1_end_21 : decode cX1_end 21 = .ok (.iconst 1, 1) := dk_4 (dk_at dksX1_end_0 21 rfl rfl)
theorem dX1_end_22 : decode cX1_end 22 = .ok (.ireturn, 1) := dk_172 (dk_at dksX1_end_0 22 rfl rfl)
abbrev cX1_in : ByteArray := prog_1_method_1_code
def yX1_in : MethodName := ⟨RX1, "in", "(JJJ)Z"⟩
def dkwX1_in_0 : List UInt8 := [30, 32, 148, 155, 0, 14, 30, 22, 4, 148, 157, 0, 7, 4, 167, 0, 4, 3, 172]
abbrev dktX1_in_0 : List UInt8 := dkwX1_in_0 ++ []
theorem dksX1_in_0 : cX1_in.data.toList.drop 0 = dktX1_in_0 := by decide +kernel
theorem dX1_in_0 : decode cX1_in 0 = .ok (.lload_n 0, 1) := dk_30 (dk_at dksX1_in_0 0 rfl rfl)
theorem dX1_in_1 : decode cX1_in 1 = .ok (.lload_n 2, 1) := dk_32 (dk_at dksX1_in_0 1 rfl rfl)
theorem dX1_in_2 : decode cX1_in 2 = .ok (.lcmp, 1) := dk_148 (dk_at dksX1_in_0 2 rfl rfl)
theorem dX1_in_3 : decode cX1_in 3 = .ok (.ifCond .lt 14, 3) := dk_155 0 14 (dk_at dksX1_in_0 3 rfl rfl)
theorem dX1_in_6 : decode cX1_in 6 = .ok (.lload_n 0, 1) := dk_30 (dk_at dksX1_in_0 6 rfl rfl)
theorem dX1_in_7 : decode cX1_in 7 = .ok (.lload 4, 2) := dk_22 4 (dk_at dksX1_in_0 7 rfl rfl)
theorem dX1_in_9 : decode cX1_in 9 = .ok (.lcmp, 1) := dk_148 (dk_at dksX1_in_0 9 rfl rfl)
theorem dX1_in_10 : decode cX1_in 10 = .ok (.ifCond .gt 7, 3) := dk_157 0 7 (dk_at dksX1_in_0 10 rfl rfl)
theorem dX1_in_13 : decode cX1_in 13 = .ok (.iconst 1, 1) := dk_4 (dk_at dksX1_in_0 13 rfl rfl)
theorem dX1_in_14 : decode cX1_in 14 = .ok (.goto 4, 3) := dk_167 0 4 (dk_at dksX1_in_0 14 rfl rfl)
theorem dX1_in_17 : decode cX1_in 17 = .ok (.iconst 0, 1) := dk_3 (dk_at dksX1_in_0 17 rfl rfl)
theorem dX1_in_18 : decode cX1_in 18 = .ok (.ireturn, 1) := dk_172 (dk_at dksX1_in_0 18 rfl rfl)
abbrev cX1_kitchen : ByteArray := prog_1_method_19_code
def yX1_kitchen : MethodName := ⟨RX1, "kitchen", "()I"⟩
def dkwX1_kitchen_10 : List UInt8 := [42, 42, 180, 0, 172, 181, 0, 110, 42, 42, 180, 0, 166, 181, 0, 178, 28, 172]
abbrev dktX1_kitchen_10 : List UInt8 := dkwX1_kitchen_10 ++ []
def dkwX1_kitchen_9 : List UInt8 := [21, 6, 42, 180, 0, 49, 21, 6, 46, 79, 132, 6, 1, 167, 255, 216, 42, 42, 180, 0, 156, 181, 0, 102]
abbrev dktX1_kitchen_9 : List UInt8 := dkwX1_kitchen_9 ++ dktX1_kitchen_10
def dkwX1_kitchen_8 : List UInt8 := [180, 0, 172, 162, 0, 37, 42, 180, 0, 19, 21, 6, 42, 180, 0, 46, 21, 6, 46, 79, 42, 180, 0, 22]
abbrev dktX1_kitchen_8 : List UInt8 := dkwX1_kitchen_8 ++ dktX1_kitchen_9
def dkwX1_kitchen_7 : List UInt8 := [180, 0, 43, 21, 6, 46, 79, 132, 6, 1, 167, 255, 202, 42, 180, 0, 110, 54, 6, 21, 6, 42]
abbrev dktX1_kitchen_7 : List UInt8 := dkwX1_kitchen_7 ++ dktX1_kitchen_8
def dkwX1_kitchen_6 : List UInt8 := [79, 42, 180, 0, 13, 21, 6, 42, 180, 0, 40, 21, 6, 46, 79, 42, 180, 0, 16, 21, 6, 42]
abbrev dktX1_kitchen_6 : List UInt8 := dkwX1_kitchen_6 ++ dktX1_kitchen_7
def dkwX1_kitchen_5 : List UInt8 := [54, 6, 21, 6, 42, 180, 0, 156, 162, 0, 51, 42, 180, 0, 9, 21, 6, 42, 180, 0, 37, 21, 6, 46]
abbrev dktX1_kitchen_5 : List UInt8 := dkwX1_kitchen_5 ++ dktX1_kitchen_6
def dkwX1_kitchen_4 : List UInt8 := [167, 255, 207, 42, 27, 29, 182, 0, 187, 54, 5, 21, 5, 156, 0, 6, 21, 5, 172, 42, 180, 0, 102]
abbrev dktX1_kitchen_4 : List UInt8 := dkwX1_kitchen_4 ++ dktX1_kitchen_5
def dkwX1_kitchen_3 : List UInt8 := [132, 2, 1, 29, 153, 0, 16, 42, 16, 59, 182, 0, 169, 153, 0, 7, 4, 167, 0, 4, 3, 54, 4]
abbrev dktX1_kitchen_3 : List UInt8 := dkwX1_kitchen_3 ++ dktX1_kitchen_4
def dkwX1_kitchen_2 : List UInt8 := [153, 0, 50, 42, 16, 71, 182, 0, 131, 153, 0, 10, 42, 182, 0, 181, 167, 0, 7, 42, 182, 0, 184, 62]
abbrev dktX1_kitchen_2 : List UInt8 := dkwX1_kitchen_2 ++ dktX1_kitchen_3
def dkwX1_kitchen_1 : List UInt8 := [42, 180, 0, 178, 181, 0, 166, 3, 61, 4, 62, 27, 158, 0, 7, 4, 167, 0, 4, 3, 54, 4, 21, 4]
abbrev dktX1_kitchen_1 : List UInt8 := dkwX1_kitchen_1 ++ dktX1_kitchen_2
def dkwX1_kitchen_0 : List UInt8 := [42, 16, 76, 182, 0, 175, 60, 42, 42, 180, 0, 102, 181, 0, 156, 42, 42, 180, 0, 110, 181, 0, 172, 42]
abbrev dktX1_kitchen_0 : List UInt8 := dkwX1_kitchen_0 ++ dktX1_kitchen_1
theorem dksX1_kitchen_0 : cX1_kitchen.data.toList.drop 0 = dktX1_kitchen_0 := by decide +kernel
theorem dksX1_kitchen_1 : cX1_kitchen.data.toList.drop 24 = dktX1_kitchen_1 := dk_seg dksX1_kitchen_0 24 rfl rfl
theorem dksX1_kitchen_2 : cX1_kitchen.data.toList.drop 48 = dktX1_kitchen_2 := dk_seg dksX1_kitchen_1 24 rfl rfl
theorem dksX1_kitchen_3 : cX1_kitchen.data.toList.drop 72 = dktX1_kitchen_3 := dk_seg dksX1_kitchen_2 24 rfl rfl
theorem dksX1_kitchen_4 : cX1_kitchen.data.toList.drop 95 = dktX1_kitchen_4 := dk_seg dksX1_kitchen_3 23 rfl rfl
theorem dksX1_kitchen_5 : cX1_kitchen.data.toList.drop 118 = dktX1_kitchen_5 := dk_seg dksX1_kitchen_4 23 rfl rfl
theorem dksX1_kitchen_6 : cX1_kitchen.data.toList.drop 142 = dktX1_kitchen_6 := dk_seg dksX1_kitchen_5 24 rfl rfl
theorem dksX1_kitchen_7 : cX1_kitchen.data.toList.drop 164 = dktX1_kitchen_7 := dk_seg dksX1_kitchen_6 22 rfl rfl
theorem dksX1_kitchen_8 : cX1_kitchen.data.toList.drop 186 = dktX1_kitchen_8 := dk_seg dksX1_kitchen_7 22 rfl rfl
theorem dksX1_kitchen_9 : cX1_kitchen.data.toList.drop 210 = dktX1_kitchen_9 := dk_seg dksX1_kitchen_8 24 rfl rfl
theorem dksX1_kitchen_10 : cX1_kitchen.data.toList.drop 234 = dktX1_kitchen_10 := dk_seg dksX1_kitchen_9 24 rfl rfl
theorem dX1_kitchen_0 : decode cX1_kitchen 0 = .ok (.aload_n 0, 1) := dk_42 (dk_at dksX1_kitchen_0 0 rfl rfl)
theorem dX1_kitchen_1 : decode cX1_kitchen 1 = .ok (.bipush 76, 2) := dk_16 76 (dk_at dksX1_kitchen_0 1 rfl rfl)
theorem dX1_kitchen_3 : decode cX1_kitchen 3 = .ok (.invokevirtual 175, 3) := dk_182 0 175 (dk_at dksX1_kitchen_0 3 rfl rfl)
theorem dX1_kitchen_6 : decode cX1_kitchen 6 = .ok (.istore_n 1, 1) := dk_60 (dk_at dksX1_kitchen_0 6 rfl rfl)
theorem dX1_kitchen_7 : decode cX1_kitchen 7 = .ok (.aload_n 0, 1) := dk_42 (dk_at dksX1_kitchen_0 7 rfl rfl)
theorem dX1_kitchen_8 : decode cX1_kitchen 8 = .ok (.aload_n 0, 1) := dk_42 (dk_at dksX1_kitchen_0 8 rfl rfl)
theorem dX1_kitchen_9 : decode cX1_kitchen 9 = .ok (.getfield 102, 3) := dk_180 0 102 (dk_at dksX1_kitchen_0 9 rfl rfl)
theorem dX1_kitchen_12 : decode cX1_kitchen 12 = .ok (.putfield 156, 3) := dk_181 0 156 (dk_at dksX1_kitchen_0 12 rfl rfl)
theorem dX1_kitchen_15 : decode cX1_kitchen 15 = .ok (.aload_n 0, 1) := dk_42 (dk_at dksX1_kitchen_0 15 rfl rfl)
theorem dX1_kitchen_16 : decode cX1_kitchen 16 = .ok (.aload_n 0, 1) := dk_42 (dk_at dksX1_kitchen_0 16 rfl rfl)
theorem dX1_kitchen_17 : decode cX1_kitchen 17 = .ok (.getfield 110, 3) := dk_180 0 110 (dk_at dksX1_kitchen_0 17 rfl rfl)
theorem dX1_kitchen_20 : decode cX1_kitchen 20 = .ok (.putfield 172, 3) := dk_181 0 172 (dk_at dksX1_kitchen_0 20 rfl rfl)
theorem dX1_kitchen_23 : decode cX1_kitchen 23 = .ok (.aload_n 0, 1) := dk_42 (dk_at dksX1_kitchen_0 23 rfl rfl)
theorem dX1_kitchen_24 : decode cX1_kitchen 24 = .ok (.aload_n 0, 1) := dk_42 (dk_at dksX1_kitchen_1 0 rfl rfl)
theorem dX1_kitchen_25 : decode cX1_kitchen 25 = .ok (.getfield 178, 3) := dk_180 0 178 (dk_at dksX1_kitchen_1 1 rfl rfl)
theorem dX1_kitchen_28 : decode cX1_kitchen 28 = .ok (.putfield 166, 3) := dk_181 0 166 (dk_at dksX1_kitchen_1 4 rfl rfl)
theorem dX1_kitchen_31 : decode cX1_kitchen 31 = .ok (.iconst 0, 1) := dk_3 (dk_at dksX1_kitchen_1 7 rfl rfl)
theorem dX1_kitchen_32 : decode cX1_kitchen 32 = .ok (.istore_n 2, 1) := dk_61 (dk_at dksX1_kitchen_1 8 rfl rfl)
theorem dX1_kitchen_33 : decode cX1_kitchen 33 = .ok (.iconst 1, 1) := dk_4 (dk_at dksX1_kitchen_1 9 rfl rfl)
theorem dX1_kitchen_34 : decode cX1_kitchen 34 = .ok (.istore_n 3, 1) := dk_62 (dk_at dksX1_kitchen_1 10 rfl rfl)
theorem dX1_kitchen_35 : decode cX1_kitchen 35 = .ok (.iload_n 1, 1) := dk_27 (dk_at dksX1_kitchen_1 11 rfl rfl)
theorem dX1_kitchen_36 : decode cX1_kitchen 36 = .ok (.ifCond .le 7, 3) := dk_158 0 7 (dk_at dksX1_kitchen_1 12 rfl rfl)
theorem dX1_kitchen_39 : decode cX1_kitchen 39 = .ok (.iconst 1, 1) := dk_4 (dk_at dksX1_kitchen_1 15 rfl rfl)
theorem dX1_kitchen_40 : decode cX1_kitchen 40 = .ok (.goto 4, 3) := dk_167 0 4 (dk_at dksX1_kitchen_1 16 rfl rfl)
theorem dX1_kitchen_43 : decode cX1_kitchen 43 = .ok (.iconst 0, 1) := dk_3 (dk_at dksX1_kitchen_1 19 rfl rfl)
theorem dX1_kitchen_44 : decode cX1_kitchen 44 = .ok (.istore 4, 2) := dk_54 4 (dk_at dksX1_kitchen_1 20 rfl rfl)
theorem dX1_kitchen_46 : decode cX1_kitchen 46 = .ok (.iload 4, 2) := dk_21 4 (dk_at dksX1_kitchen_1 22 rfl rfl)
theorem dX1_kitchen_48 : decode cX1_kitchen 48 = .ok (.ifCond .eq 50, 3) := dk_153 0 50 (dk_at dksX1_kitchen_2 0 rfl rfl)
theorem dX1_kitchen_51 : decode cX1_kitchen 51 = .ok (.aload_n 0, 1) := dk_42 (dk_at dksX1_kitchen_2 3 rfl rfl)
theorem dX1_kitchen_52 : decode cX1_kitchen 52 = .ok (.bipush 71, 2) := dk_16 71 (dk_at dksX1_kitchen_2 4 rfl rfl)
theorem dX1_kitchen_54 : decode cX1_kitchen 54 = .ok (.invokevirtual 131, 3) := dk_182 0 131 (dk_at dksX1_kitchen_2 6 rfl rfl)
theorem dX1_kitchen_57 : decode cX1_kitchen 57 = .ok (.ifCond .eq 10, 3) := dk_153 0 10 (dk_at dksX1_kitchen_2 9 rfl rfl)
theorem dX1_kitchen_60 : decode cX1_kitchen 60 = .ok (.aload_n 0, 1) := dk_42 (dk_at dksX1_kitchen_2 12 rfl rfl)
theorem dX1_kitchen_61 : decode cX1_kitchen 61 = .ok (.invokevirtual 181, 3) := dk_182 0 181 (dk_at dksX1_kitchen_2 13 rfl rfl)
theorem dX1_kitchen_64 : decode cX1_kitchen 64 = .ok (.goto 7, 3) := dk_167 0 7 (dk_at dksX1_kitchen_2 16 rfl rfl)
theorem dX1_kitchen_67 : decode cX1_kitchen 67 = .ok (.aload_n 0, 1) := dk_42 (dk_at dksX1_kitchen_2 19 rfl rfl)
theorem dX1_kitchen_68 : decode cX1_kitchen 68 = .ok (.invokevirtual 184, 3) := dk_182 0 184 (dk_at dksX1_kitchen_2 20 rfl rfl)
theorem dX1_kitchen_71 : decode cX1_kitchen 71 = .ok (.istore_n 3, 1) := dk_62 (dk_at dksX1_kitchen_2 23 rfl rfl)
theorem dX1_kitchen_72 : decode cX1_kitchen 72 = .ok (.iinc 2 1, 3) := dk_132 2 1 (dk_at dksX1_kitchen_3 0 rfl rfl)
theorem dX1_kitchen_75 : decode cX1_kitchen 75 = .ok (.iload_n 3, 1) := dk_29 (dk_at dksX1_kitchen_3 3 rfl rfl)
theorem dX1_kitchen_76 : decode cX1_kitchen 76 = .ok (.ifCond .eq 16, 3) := dk_153 0 16 (dk_at dksX1_kitchen_3 4 rfl rfl)
theorem dX1_kitchen_79 : decode cX1_kitchen 79 = .ok (.aload_n 0, 1) := dk_42 (dk_at dksX1_kitchen_3 7 rfl rfl)
theorem dX1_kitchen_80 : decode cX1_kitchen 80 = .ok (.bipush 59, 2) := dk_16 59 (dk_at dksX1_kitchen_3 8 rfl rfl)
theorem dX1_kitchen_82 : decode cX1_kitchen 82 = .ok (.invokevirtual 169, 3) := dk_182 0 169 (dk_at dksX1_kitchen_3 10 rfl rfl)
theorem dX1_kitchen_85 : decode cX1_kitchen 85 = .ok (.ifCond .eq 7, 3) := dk_153 0 7 (dk_at dksX1_kitchen_3 13 rfl rfl)
theorem dX1_kitchen_88 : decode cX1_kitchen 88 = .ok (.iconst 1, 1) := dk_4 (dk_at dksX1_kitchen_3 16 rfl rfl)
theorem dX1_kitchen_89 : decode cX1_kitchen 89 = .ok (.goto 4, 3) := dk_167 0 4 (dk_at dksX1_kitchen_3 17 rfl rfl)
theorem dX1_kitchen_92 : decode cX1_kitchen 92 = .ok (.iconst 0, 1) := dk_3 (dk_at dksX1_kitchen_3 20 rfl rfl)
theorem dX1_kitchen_93 : decode cX1_kitchen 93 = .ok (.istore 4, 2) := dk_54 4 (dk_at dksX1_kitchen_3 21 rfl rfl)
theorem dX1_kitchen_95 : decode cX1_kitchen 95 = .ok (.goto (-49), 3) := dk_167 255 207 (dk_at dksX1_kitchen_4 0 rfl rfl)
theorem dX1_kitchen_98 : decode cX1_kitchen 98 = .ok (.aload_n 0, 1) := dk_42 (dk_at dksX1_kitchen_4 3 rfl rfl)
theorem dX1_kitchen_99 : decode cX1_kitchen 99 = .ok (.iload_n 1, 1) := dk_27 (dk_at dksX1_kitchen_4 4 rfl rfl)
theorem dX1_kitchen_100 : decode cX1_kitchen 100 = .ok (.iload_n 3, 1) := dk_29 (dk_at dksX1_kitchen_4 5 rfl rfl)
theorem dX1_kitchen_101 : decode cX1_kitchen 101 = .ok (.invokevirtual 187, 3) := dk_182 0 187 (dk_at dksX1_kitchen_4 6 rfl rfl)
theorem dX1_kitchen_104 : decode cX1_kitchen 104 = .ok (.istore 5, 2) := dk_54 5 (dk_at dksX1_kitchen_4 9 rfl rfl)
theorem dX1_kitchen_106 : decode cX1_kitchen 106 = .ok (.iload 5, 2) := dk_21 5 (dk_at dksX1_kitchen_4 11 rfl rfl)
theorem dX1_kitchen_108 : decode cX1_kitchen 108 = .ok (.ifCond .ge 6, 3) := dk_156 0 6 (dk_at dksX1_kitchen_4 13 rfl rfl)
theorem dX1_kitchen_111 : decode cX1_kitchen 111 = .ok (.iload 5, 2) := dk_21 5 (dk_at dksX1_kitchen_4 16 rfl rfl)
theorem dX1_kitchen_113 : decode cX1_kitchen 113 = .ok (.ireturn, 1) := dk_172 (dk_at dksX1_kitchen_4 18 rfl rfl)
theorem dX1_kitchen_114 : decode cX1_kitchen 114 = .ok (.aload_n 0, 1) := dk_42 (dk_at dksX1_kitchen_4 19 rfl rfl)
theorem dX1_kitchen_115 : decode cX1_kitchen 115 = .ok (.getfield 102, 3) := dk_180 0 102 (dk_at dksX1_kitchen_4 20 rfl rfl)
theorem dX1_kitchen_118 : decode cX1_kitchen 118 = .ok (.istore 6, 2) := dk_54 6 (dk_at dksX1_kitchen_5 0 rfl rfl)
theorem dX1_kitchen_120 : decode cX1_kitchen 120 = .ok (.iload 6, 2) := dk_21 6 (dk_at dksX1_kitchen_5 2 rfl rfl)
theorem dX1_kitchen_122 : decode cX1_kitchen 122 = .ok (.aload_n 0, 1) := dk_42 (dk_at dksX1_kitchen_5 4 rfl rfl)
theorem dX1_kitchen_123 : decode cX1_kitchen 123 = .ok (.getfield 156, 3) := dk_180 0 156 (dk_at dksX1_kitchen_5 5 rfl rfl)
theorem dX1_kitchen_126 : decode cX1_kitchen 126 = .ok (.if_icmp .ge 51, 3) := dk_162 0 51 (dk_at dksX1_kitchen_5 8 rfl rfl)
theorem dX1_kitchen_129 : decode cX1_kitchen 129 = .ok (.aload_n 0, 1) := dk_42 (dk_at dksX1_kitchen_5 11 rfl rfl)
theorem dX1_kitchen_130 : decode cX1_kitchen 130 = .ok (.getfield 9, 3) := dk_180 0 9 (dk_at dksX1_kitchen_5 12 rfl rfl)
theorem dX1_kitchen_133 : decode cX1_kitchen 133 = .ok (.iload 6, 2) := dk_21 6 (dk_at dksX1_kitchen_5 15 rfl rfl)
theorem dX1_kitchen_135 : decode cX1_kitchen 135 = .ok (.aload_n 0, 1) := dk_42 (dk_at dksX1_kitchen_5 17 rfl rfl)
theorem dX1_kitchen_136 : decode cX1_kitchen 136 = .ok (.getfield 37, 3) := dk_180 0 37 (dk_at dksX1_kitchen_5 18 rfl rfl)
theorem dX1_kitchen_139 : decode cX1_kitchen 139 = .ok (.iload 6, 2) := dk_21 6 (dk_at dksX1_kitchen_5 21 rfl rfl)
theorem dX1_kitchen_141 : decode cX1_kitchen 141 = .ok (.iaload, 1) := dk_46 (dk_at dksX1_kitchen_5 23 rfl rfl)
theorem dX1_kitchen_142 : decode cX1_kitchen 142 = .ok (.iastore, 1) := dk_79 (dk_at dksX1_kitchen_6 0 rfl rfl)
theorem dX1_kitchen_143 : decode cX1_kitchen 143 = .ok (.aload_n 0, 1) := dk_42 (dk_at dksX1_kitchen_6 1 rfl rfl)
theorem dX1_kitchen_144 : decode cX1_kitchen 144 = .ok (.getfield 13, 3) := dk_180 0 13 (dk_at dksX1_kitchen_6 2 rfl rfl)
theorem dX1_kitchen_147 : decode cX1_kitchen 147 = .ok (.iload 6, 2) := dk_21 6 (dk_at dksX1_kitchen_6 5 rfl rfl)
theorem dX1_kitchen_149 : decode cX1_kitchen 149 = .ok (.aload_n 0, 1) := dk_42 (dk_at dksX1_kitchen_6 7 rfl rfl)
theorem dX1_kitchen_150 : decode cX1_kitchen 150 = .ok (.getfield 40, 3) := dk_180 0 40 (dk_at dksX1_kitchen_6 8 rfl rfl)
theorem dX1_kitchen_153 : decode cX1_kitchen 153 = .ok (.iload 6, 2) := dk_21 6 (dk_at dksX1_kitchen_6 11 rfl rfl)
theorem dX1_kitchen_155 : decode cX1_kitchen 155 = .ok (.iaload, 1) := dk_46 (dk_at dksX1_kitchen_6 13 rfl rfl)
theorem dX1_kitchen_156 : decode cX1_kitchen 156 = .ok (.iastore, 1) := dk_79 (dk_at dksX1_kitchen_6 14 rfl rfl)
theorem dX1_kitchen_157 : decode cX1_kitchen 157 = .ok (.aload_n 0, 1) := dk_42 (dk_at dksX1_kitchen_6 15 rfl rfl)
theorem dX1_kitchen_158 : decode cX1_kitchen 158 = .ok (.getfield 16, 3) := dk_180 0 16 (dk_at dksX1_kitchen_6 16 rfl rfl)
theorem dX1_kitchen_161 : decode cX1_kitchen 161 = .ok (.iload 6, 2) := dk_21 6 (dk_at dksX1_kitchen_6 19 rfl rfl)
theorem dX1_kitchen_163 : decode cX1_kitchen 163 = .ok (.aload_n 0, 1) := dk_42 (dk_at dksX1_kitchen_6 21 rfl rfl)
theorem dX1_kitchen_164 : decode cX1_kitchen 164 = .ok (.getfield 43, 3) := dk_180 0 43 (dk_at dksX1_kitchen_7 0 rfl rfl)
theorem dX1_kitchen_167 : decode cX1_kitchen 167 = .ok (.iload 6, 2) := dk_21 6 (dk_at dksX1_kitchen_7 3 rfl rfl)
theorem dX1_kitchen_169 : decode cX1_kitchen 169 = .ok (.iaload, 1) := dk_46 (dk_at dksX1_kitchen_7 5 rfl rfl)
theorem dX1_kitchen_170 : decode cX1_kitchen 170 = .ok (.iastore, 1) := dk_79 (dk_at dksX1_kitchen_7 6 rfl rfl)
theorem dX1_kitchen_171 : decode cX1_kitchen 171 = .ok (.iinc 6 1, 3) := dk_132 6 1 (dk_at dksX1_kitchen_7 7 rfl rfl)
theorem dX1_kitchen_174 : decode cX1_kitchen 174 = .ok (.goto (-54), 3) := dk_167 255 202 (dk_at dksX1_kitchen_7 10 rfl rfl)
theorem dX1_kitchen_177 : decode cX1_kitchen 177 = .ok (.aload_n 0, 1) := dk_42 (dk_at dksX1_kitchen_7 13 rfl rfl)
theorem dX1_kitchen_178 : decode cX1_kitchen 178 = .ok (.getfield 110, 3) := dk_180 0 110 (dk_at dksX1_kitchen_7 14 rfl rfl)
theorem dX1_kitchen_181 : decode cX1_kitchen 181 = .ok (.istore 6, 2) := dk_54 6 (dk_at dksX1_kitchen_7 17 rfl rfl)
theorem dX1_kitchen_183 : decode cX1_kitchen 183 = .ok (.iload 6, 2) := dk_21 6 (dk_at dksX1_kitchen_7 19 rfl rfl)
theorem dX1_kitchen_185 : decode cX1_kitchen 185 = .ok (.aload_n 0, 1) := dk_42 (dk_at dksX1_kitchen_7 21 rfl rfl)
theorem dX1_kitchen_186 : decode cX1_kitchen 186 = .ok (.getfield 172, 3) := dk_180 0 172 (dk_at dksX1_kitchen_8 0 rfl rfl)
theorem dX1_kitchen_189 : decode cX1_kitchen 189 = .ok (.if_icmp .ge 37, 3) := dk_162 0 37 (dk_at dksX1_kitchen_8 3 rfl rfl)
theorem dX1_kitchen_192 : decode cX1_kitchen 192 = .ok (.aload_n 0, 1) := dk_42 (dk_at dksX1_kitchen_8 6 rfl rfl)
theorem dX1_kitchen_193 : decode cX1_kitchen 193 = .ok (.getfield 19, 3) := dk_180 0 19 (dk_at dksX1_kitchen_8 7 rfl rfl)
theorem dX1_kitchen_196 : decode cX1_kitchen 196 = .ok (.iload 6, 2) := dk_21 6 (dk_at dksX1_kitchen_8 10 rfl rfl)
theorem dX1_kitchen_198 : decode cX1_kitchen 198 = .ok (.aload_n 0, 1) := dk_42 (dk_at dksX1_kitchen_8 12 rfl rfl)
theorem dX1_kitchen_199 : decode cX1_kitchen 199 = .ok (.getfield 46, 3) := dk_180 0 46 (dk_at dksX1_kitchen_8 13 rfl rfl)
theorem dX1_kitchen_202 : decode cX1_kitchen 202 = .ok (.iload 6, 2) := dk_21 6 (dk_at dksX1_kitchen_8 16 rfl rfl)
theorem dX1_kitchen_204 : decode cX1_kitchen 204 = .ok (.iaload, 1) := dk_46 (dk_at dksX1_kitchen_8 18 rfl rfl)
theorem dX1_kitchen_205 : decode cX1_kitchen 205 = .ok (.iastore, 1) := dk_79 (dk_at dksX1_kitchen_8 19 rfl rfl)
theorem dX1_kitchen_206 : decode cX1_kitchen 206 = .ok (.aload_n 0, 1) := dk_42 (dk_at dksX1_kitchen_8 20 rfl rfl)
theorem dX1_kitchen_207 : decode cX1_kitchen 207 = .ok (.getfield 22, 3) := dk_180 0 22 (dk_at dksX1_kitchen_8 21 rfl rfl)
theorem dX1_kitchen_210 : decode cX1_kitchen 210 = .ok (.iload 6, 2) := dk_21 6 (dk_at dksX1_kitchen_9 0 rfl rfl)
theorem dX1_kitchen_212 : decode cX1_kitchen 212 = .ok (.aload_n 0, 1) := dk_42 (dk_at dksX1_kitchen_9 2 rfl rfl)
theorem dX1_kitchen_213 : decode cX1_kitchen 213 = .ok (.getfield 49, 3) := dk_180 0 49 (dk_at dksX1_kitchen_9 3 rfl rfl)
theorem dX1_kitchen_216 : decode cX1_kitchen 216 = .ok (.iload 6, 2) := dk_21 6 (dk_at dksX1_kitchen_9 6 rfl rfl)
theorem dX1_kitchen_218 : decode cX1_kitchen 218 = .ok (.iaload, 1) := dk_46 (dk_at dksX1_kitchen_9 8 rfl rfl)
theorem dX1_kitchen_219 : decode cX1_kitchen 219 = .ok (.iastore, 1) := dk_79 (dk_at dksX1_kitchen_9 9 rfl rfl)
theorem dX1_kitchen_220 : decode cX1_kitchen 220 = .ok (.iinc 6 1, 3) := dk_132 6 1 (dk_at dksX1_kitchen_9 10 rfl rfl)
theorem dX1_kitchen_223 : decode cX1_kitchen 223 = .ok (.goto (-40), 3) := dk_167 255 216 (dk_at dksX1_kitchen_9 13 rfl rfl)
theorem dX1_kitchen_226 : decode cX1_kitchen 226 = .ok (.aload_n 0, 1) := dk_42 (dk_at dksX1_kitchen_9 16 rfl rfl)
theorem dX1_kitchen_227 : decode cX1_kitchen 227 = .ok (.aload_n 0, 1) := dk_42 (dk_at dksX1_kitchen_9 17 rfl rfl)
theorem dX1_kitchen_228 : decode cX1_kitchen 228 = .ok (.getfield 156, 3) := dk_180 0 156 (dk_at dksX1_kitchen_9 18 rfl rfl)
theorem dX1_kitchen_231 : decode cX1_kitchen 231 = .ok (.putfield 102, 3) := dk_181 0 102 (dk_at dksX1_kitchen_9 21 rfl rfl)
theorem dX1_kitchen_234 : decode cX1_kitchen 234 = .ok (.aload_n 0, 1) := dk_42 (dk_at dksX1_kitchen_10 0 rfl rfl)
theorem dX1_kitchen_235 : decode cX1_kitchen 235 = .ok (.aload_n 0, 1) := dk_42 (dk_at dksX1_kitchen_10 1 rfl rfl)
theorem dX1_kitchen_236 : decode cX1_kitchen 236 = .ok (.getfield 172, 3) := dk_180 0 172 (dk_at dksX1_kitchen_10 2 rfl rfl)
theorem dX1_kitchen_239 : decode cX1_kitchen 239 = .ok (.putfield 110, 3) := dk_181 0 110 (dk_at dksX1_kitchen_10 5 rfl rfl)
theorem dX1_kitchen_242 : decode cX1_kitchen 242 = .ok (.aload_n 0, 1) := dk_42 (dk_at dksX1_kitchen_10 8 rfl rfl)
theorem dX1_kitchen_243 : decode cX1_kitchen 243 = .ok (.aload_n 0, 1) := dk_42 (dk_at dksX1_kitchen_10 9 rfl rfl)
theorem dX1_kitchen_244 : decode cX1_kitchen 244 = .ok (.getfield 166, 3) := dk_180 0 166 (dk_at dksX1_kitchen_10 10 rfl rfl)
theorem dX1_kitchen_247 : decode cX1_kitchen 247 = .ok (.putfield 178, 3) := dk_181 0 178 (dk_at dksX1_kitchen_10 13 rfl rfl)
theorem dX1_kitchen_250 : decode cX1_kitchen 250 = .ok (.iload_n 2, 1) := dk_28 (dk_at dksX1_kitchen_10 16 rfl rfl)
theorem dX1_kitchen_251 : decode cX1_kitchen 251 = .ok (.ireturn, 1) := dk_172 (dk_at dksX1_kitchen_10 17 rfl rfl)
abbrev cX1_begins : ByteArray := prog_1_method_8_code
def yX1_begins : MethodName := ⟨RX1, "begins", "(I)I"⟩
def dkwX1_begins_1 : List UInt8 := [184, 0, 122, 181, 0, 128, 28, 172]
abbrev dktX1_begins_1 : List UInt8 := dkwX1_begins_1 ++ []
def dkwX1_begins_0 : List UInt8 := [42, 180, 0, 113, 61, 42, 3, 181, 0, 113, 42, 3, 181, 0, 116, 42, 3, 181, 0, 119, 42, 28, 27]
abbrev dktX1_begins_0 : List UInt8 := dkwX1_begins_0 ++ dktX1_begins_1
theorem dksX1_begins_0 : cX1_begins.data.toList.drop 0 = dktX1_begins_0 := by decide +kernel
theorem dksX1_begins_1 : cX1_begins.data.toList.drop 23 = dktX1_begins_1 := dk_seg dksX1_begins_0 23 rfl rfl
theorem dX1_begins_0 : decode cX1_begins 0 = .ok (.aload_n 0, 1) := dk_42 (dk_at dksX1_begins_0 0 rfl rfl)
theorem dX1_begins_1 : decode cX1_begins 1 = .ok (.getfield 113, 3) := dk_180 0 113 (dk_at dksX1_begins_0 1 rfl rfl)
theorem dX1_begins_4 : decode cX1_begins 4 = .ok (.istore_n 2, 1) := dk_61 (dk_at dksX1_begins_0 4 rfl rfl)
theorem dX1_begins_5 : decode cX1_begins 5 = .ok (.aload_n 0, 1) := dk_42 (dk_at dksX1_begins_0 5 rfl rfl)
theorem dX1_begins_6 : decode cX1_begins 6 = .ok (.iconst 0, 1) := dk_3 (dk_at dksX1_begins_0 6 rfl rfl)
theorem dX1_begins_7 : decode cX1_begins 7 = .ok (.putfield 113, 3) := dk_181 0 113 (dk_at dksX1_begins_0 7 rfl rfl)
theorem dX1_begins_10 : decode cX1_begins 10 = .ok (.aload_n 0, 1) := dk_42 (dk_at dksX1_begins_0 10 rfl rfl)
theorem dX1_begins_11 : decode cX1_begins 11 = .ok (.iconst 0, 1) := dk_3 (dk_at dksX1_begins_0 11 rfl rfl)
theorem dX1_begins_12 : decode cX1_begins 12 = .ok (.putfield 116, 3) := dk_181 0 116 (dk_at dksX1_begins_0 12 rfl rfl)
theorem dX1_begins_15 : decode cX1_begins 15 = .ok (.aload_n 0, 1) := dk_42 (dk_at dksX1_begins_0 15 rfl rfl)
theorem dX1_begins_16 : decode cX1_begins 16 = .ok (.iconst 0, 1) := dk_3 (dk_at dksX1_begins_0 16 rfl rfl)
theorem dX1_begins_17 : decode cX1_begins 17 = .ok (.putfield 119, 3) := dk_181 0 119 (dk_at dksX1_begins_0 17 rfl rfl)
theorem dX1_begins_20 : decode cX1_begins 20 = .ok (.aload_n 0, 1) := dk_42 (dk_at dksX1_begins_0 20 rfl rfl)
theorem dX1_begins_21 : decode cX1_begins 21 = .ok (.iload_n 2, 1) := dk_28 (dk_at dksX1_begins_0 21 rfl rfl)
theorem dX1_begins_22 : decode cX1_begins 22 = .ok (.iload_n 1, 1) := dk_27 (dk_at dksX1_begins_0 22 rfl rfl)
theorem dX1_begins_23 : decode cX1_begins 23 = .ok (.invokestatic 122, 3) := dk_184 0 122 (dk_at dksX1_begins_1 0 rfl rfl)
theorem dX1_begins_26 : decode cX1_begins 26 = .ok (.putfield 128, 3) := dk_181 0 128 (dk_at dksX1_begins_1 3 rfl rfl)
theorem dX1_begins_29 : decode cX1_begins 29 = .ok (.iload_n 2, 1) := dk_28 (dk_at dksX1_begins_1 6 rfl rfl)
theorem dX1_begins_30 : decode cX1_begins 30 = .ok (.ireturn, 1) := dk_172 (dk_at dksX1_begins_1 7 rfl rfl)
abbrev cX1_isAt : ByteArray := prog_1_method_9_code
def yX1_isAt : MethodName := ⟨RX1, "isAt", "(C)Z"⟩
def dkwX1_isAt_1 : List UInt8 := [4, 167, 0, 4, 3, 172]
abbrev dktX1_isAt_1 : List UInt8 := dkwX1_isAt_1 ++ []
def dkwX1_isAt_0 : List UInt8 := [42, 180, 0, 116, 42, 180, 0, 128, 162, 0, 20, 42, 180, 0, 34, 42, 180, 0, 116, 46, 27, 160, 0, 7]
abbrev dktX1_isAt_0 : List UInt8 := dkwX1_isAt_0 ++ dktX1_isAt_1
theorem dksX1_isAt_0 : cX1_isAt.data.toList.drop 0 = dktX1_isAt_0 := by decide +kernel
theorem dksX1_isAt_1 : cX1_isAt.data.toList.drop 24 = dktX1_isAt_1 := dk_seg dksX1_isAt_0 24 rfl rfl
theorem dX1_isAt_0 : decode cX1_isAt 0 = .ok (.aload_n 0, 1) := dk_42 (dk_at dksX1_isAt_0 0 rfl rfl)
theorem dX1_isAt_1 : decode cX1_isAt 1 = .ok (.getfield 116, 3) := dk_180 0 116 (dk_at dksX1_isAt_0 1 rfl rfl)
theorem dX1_isAt_4 : decode cX1_isAt 4 = .ok (.aload_n 0, 1) := dk_42 (dk_at dksX1_isAt_0 4 rfl rfl)
theorem dX1_isAt_5 : decode cX1_isAt 5 = .ok (.getfield 128, 3) := dk_180 0 128 (dk_at dksX1_isAt_0 5 rfl rfl)
theorem dX1_isAt_8 : decode cX1_isAt 8 = .ok (.if_icmp .ge 20, 3) := dk_162 0 20 (dk_at dksX1_isAt_0 8 rfl rfl)
theorem dX1_isAt_11 : decode cX1_isAt 11 = .ok (.aload_n 0, 1) := dk_42 (dk_at dksX1_isAt_0 11 rfl rfl)
theorem dX1_isAt_12 : decode cX1_isAt 12 = .ok (.getfield 34, 3) := dk_180 0 34 (dk_at dksX1_isAt_0 12 rfl rfl)
theorem dX1_isAt_15 : decode cX1_isAt 15 = .ok (.aload_n 0, 1) := dk_42 (dk_at dksX1_isAt_0 15 rfl rfl)
theorem dX1_isAt_16 : decode cX1_isAt 16 = .ok (.getfield 116, 3) := dk_180 0 116 (dk_at dksX1_isAt_0 16 rfl rfl)
theorem dX1_isAt_19 : decode cX1_isAt 19 = .ok (.iaload, 1) := dk_46 (dk_at dksX1_isAt_0 19 rfl rfl)
theorem dX1_isAt_20 : decode cX1_isAt 20 = .ok (.iload_n 1, 1) := dk_27 (dk_at dksX1_isAt_0 20 rfl rfl)
theorem dX1_isAt_21 : decode cX1_isAt 21 = .ok (.if_icmp .ne 7, 3) := dk_160 0 7 (dk_at dksX1_isAt_0 21 rfl rfl)
theorem dX1_isAt_24 : decode cX1_isAt 24 = .ok (.iconst 1, 1) := dk_4 (dk_at dksX1_isAt_1 0 rfl rfl)
theorem dX1_isAt_25 : decode cX1_isAt 25 = .ok (.goto 4, 3) := dk_167 0 4 (dk_at dksX1_isAt_1 1 rfl rfl)
theorem dX1_isAt_28 : decode cX1_isAt 28 = .ok (.iconst 0, 1) := dk_3 (dk_at dksX1_isAt_1 4 rfl rfl)
theorem dX1_isAt_29 : decode cX1_isAt 29 = .ok (.ireturn, 1) := dk_172 (dk_at dksX1_isAt_1 5 rfl rfl)
abbrev cX1_readsGuest : ByteArray := prog_1_method_18_code
def yX1_readsGuest : MethodName := ⟨RX1, "readsGuest", "()Z"⟩
def dkwX1_readsGuest_2 : List UInt8 := [27, 42, 182, 0, 159, 79, 42, 89, 180, 0, 172, 4, 96, 181, 0, 172, 4, 172]
abbrev dktX1_readsGuest_2 : List UInt8 := dkwX1_readsGuest_2 ++ []
def dkwX1_readsGuest_1 : List UInt8 := [180, 0, 46, 27, 42, 182, 0, 159, 79, 42, 16, 45, 182, 0, 169, 154, 0, 5, 3, 172, 42, 180, 0, 49]
abbrev dktX1_readsGuest_1 : List UInt8 := dkwX1_readsGuest_1 ++ dktX1_readsGuest_2
def dkwX1_readsGuest_0 : List UInt8 := [42, 180, 0, 172, 60, 27, 16, 6, 160, 0, 5, 3, 172, 42, 89, 180, 0, 116, 4, 96, 181, 0, 116, 42]
abbrev dktX1_readsGuest_0 : List UInt8 := dkwX1_readsGuest_0 ++ dktX1_readsGuest_1
theorem dksX1_readsGuest_0 : cX1_readsGuest.data.toList.drop 0 = dktX1_readsGuest_0 := by decide +kernel
theorem dksX1_readsGuest_1 : cX1_readsGuest.data.toList.drop 24 = dktX1_readsGuest_1 := dk_seg dksX1_readsGuest_0 24 rfl rfl
theorem dksX1_readsGuest_2 : cX1_readsGuest.data.toList.drop 48 = dktX1_readsGuest_2 := dk_seg dksX1_readsGuest_1 24 rfl rfl
theorem dX1_readsGuest_0 : decode cX1_readsGuest 0 = .ok (.aload_n 0, 1) := dk_42 (dk_at dksX1_readsGuest_0 0 rfl rfl)
theorem dX1_readsGuest_1 : decode cX1_readsGuest 1 = .ok (.getfield 172, 3) := dk_180 0 172 (dk_at dksX1_readsGuest_0 1 rfl rfl)
theorem dX1_readsGuest_4 : decode cX1_readsGuest 4 = .ok (.istore_n 1, 1) := dk_60 (dk_at dksX1_readsGuest_0 4 rfl rfl)
theorem dX1_readsGuest_5 : decode cX1_readsGuest 5 = .ok (.iload_n 1, 1) := dk_27 (dk_at dksX1_readsGuest_0 5 rfl rfl)
theorem dX1_readsGuest_6 : decode cX1_readsGuest 6 = .ok (.bipush 6, 2) := dk_16 6 (dk_at dksX1_readsGuest_0 6 rfl rfl)
theorem dX1_readsGuest_8 : decode cX1_readsGuest 8 = .ok (.if_icmp .ne 5, 3) := dk_160 0 5 (dk_at dksX1_readsGuest_0 8 rfl rfl)
theorem dX1_readsGuest_11 : decode cX1_readsGuest 11 = .ok (.iconst 0, 1) := dk_3 (dk_at dksX1_readsGuest_0 11 rfl rfl)
theorem dX1_readsGuest_12 : decode cX1_readsGuest 12 = .ok (.ireturn, 1) := dk_172 (dk_at dksX1_readsGuest_0 12 rfl rfl)
theorem dX1_readsGuest_13 : decode cX1_readsGuest 13 = .ok (.aload_n 0, 1) := dk_42 (dk_at dksX1_readsGuest_0 13 rfl rfl)
theorem dX1_readsGuest_14 : decode cX1_readsGuest 14 = .ok (.dup, 1) := dk_89 (dk_at dksX1_readsGuest_0 14 rfl rfl)
theorem dX1_readsGuest_15 : decode cX1_readsGuest 15 = .ok (.getfield 116, 3) := dk_180 0 116 (dk_at dksX1_readsGuest_0 15 rfl rfl)
theorem dX1_readsGuest_18 : decode cX1_readsGuest 18 = .ok (.iconst 1, 1) := dk_4 (dk_at dksX1_readsGuest_0 18 rfl rfl)
theorem dX1_readsGuest_19 : decode cX1_readsGuest 19 = .ok (.iadd, 1) := dk_96 (dk_at dksX1_readsGuest_0 19 rfl rfl)
theorem dX1_readsGuest_20 : decode cX1_readsGuest 20 = .ok (.putfield 116, 3) := dk_181 0 116 (dk_at dksX1_readsGuest_0 20 rfl rfl)
theorem dX1_readsGuest_23 : decode cX1_readsGuest 23 = .ok (.aload_n 0, 1) := dk_42 (dk_at dksX1_readsGuest_0 23 rfl rfl)
theorem dX1_readsGuest_24 : decode cX1_readsGuest 24 = .ok (.getfield 46, 3) := dk_180 0 46 (dk_at dksX1_readsGuest_1 0 rfl rfl)
theorem dX1_readsGuest_27 : decode cX1_readsGuest 27 = .ok (.iload_n 1, 1) := dk_27 (dk_at dksX1_readsGuest_1 3 rfl rfl)
theorem dX1_readsGuest_28 : decode cX1_readsGuest 28 = .ok (.aload_n 0, 1) := dk_42 (dk_at dksX1_readsGuest_1 4 rfl rfl)
theorem dX1_readsGuest_29 : decode cX1_readsGuest 29 = .ok (.invokevirtual 159, 3) := dk_182 0 159 (dk_at dksX1_readsGuest_1 5 rfl rfl)
theorem dX1_readsGuest_32 : decode cX1_readsGuest 32 = .ok (.iastore, 1) := dk_79 (dk_at dksX1_readsGuest_1 8 rfl rfl)
theorem dX1_readsGuest_33 : decode cX1_readsGuest 33 = .ok (.aload_n 0, 1) := dk_42 (dk_at dksX1_readsGuest_1 9 rfl rfl)
theorem dX1_readsGuest_34 : decode cX1_readsGuest 34 = .ok (.bipush 45, 2) := dk_16 45 (dk_at dksX1_readsGuest_1 10 rfl rfl)
theorem dX1_readsGuest_36 : decode cX1_readsGuest 36 = .ok (.invokevirtual 169, 3) := dk_182 0 169 (dk_at dksX1_readsGuest_1 12 rfl rfl)
theorem dX1_readsGuest_39 : decode cX1_readsGuest 39 = .ok (.ifCond .ne 5, 3) := dk_154 0 5 (dk_at dksX1_readsGuest_1 15 rfl rfl)
theorem dX1_readsGuest_42 : decode cX1_readsGuest 42 = .ok (.iconst 0, 1) := dk_3 (dk_at dksX1_readsGuest_1 18 rfl rfl)
theorem dX1_readsGuest_43 : decode cX1_readsGuest 43 = .ok (.ireturn, 1) := dk_172 (dk_at dksX1_readsGuest_1 19 rfl rfl)
theorem dX1_readsGuest_44 : decode cX1_readsGuest 44 = .ok (.aload_n 0, 1) := dk_42 (dk_at dksX1_readsGuest_1 20 rfl rfl)
theorem dX1_readsGuest_45 : decode cX1_readsGuest 45 = .ok (.getfield 49, 3) := dk_180 0 49 (dk_at dksX1_readsGuest_1 21 rfl rfl)
theorem dX1_readsGuest_48 : decode cX1_readsGuest 48 = .ok (.iload_n 1, 1) := dk_27 (dk_at dksX1_readsGuest_2 0 rfl rfl)
theorem dX1_readsGuest_49 : decode cX1_readsGuest 49 = .ok (.aload_n 0, 1) := dk_42 (dk_at dksX1_readsGuest_2 1 rfl rfl)
theorem dX1_readsGuest_50 : decode cX1_readsGuest 50 = .ok (.invokevirtual 159, 3) := dk_182 0 159 (dk_at dksX1_readsGuest_2 2 rfl rfl)
theorem dX1_readsGuest_53 : decode cX1_readsGuest 53 = .ok (.iastore, 1) := dk_79 (dk_at dksX1_readsGuest_2 5 rfl rfl)
theorem dX1_readsGuest_54 : decode cX1_readsGuest 54 = .ok (.aload_n 0, 1) := dk_42 (dk_at dksX1_readsGuest_2 6 rfl rfl)
theorem dX1_readsGuest_55 : decode cX1_readsGuest 55 = .ok (.dup, 1) := dk_89 (dk_at dksX1_readsGuest_2 7 rfl rfl)
theorem dX1_readsGuest_56 : decode cX1_readsGuest 56 = .ok (.getfield 172, 3) := dk_180 0 172 (dk_at dksX1_readsGuest_2 8 rfl rfl)
theorem dX1_readsGuest_59 : decode cX1_readsGuest 59 = .ok (.iconst 1, 1) := dk_4 (dk_at dksX1_readsGuest_2 11 rfl rfl)
theorem dX1_readsGuest_60 : decode cX1_readsGuest 60 = .ok (.iadd, 1) := dk_96 (dk_at dksX1_readsGuest_2 12 rfl rfl)
theorem dX1_readsGuest_61 : decode cX1_readsGuest 61 = .ok (.putfield 172, 3) := dk_181 0 172 (dk_at dksX1_readsGuest_2 13 rfl rfl)
theorem dX1_readsGuest_64 : decode cX1_readsGuest 64 = .ok (.iconst 1, 1) := dk_4 (dk_at dksX1_readsGuest_2 16 rfl rfl)
theorem dX1_readsGuest_65 : decode cX1_readsGuest 65 = .ok (.ireturn, 1) := dk_172 (dk_at dksX1_readsGuest_2 17 rfl rfl)
abbrev cX1_letters : ByteArray := prog_1_method_16_code
def yX1_letters : MethodName := ⟨RX1, "letters", "()I"⟩
def dkwX1_letters_2 : List UInt8 := [180, 0, 116, 4, 96, 181, 0, 116, 167, 255, 204, 27, 172]
abbrev dktX1_letters_2 : List UInt8 := dkwX1_letters_2 ++ []
def dkwX1_letters_1 : List UInt8 := [164, 0, 35, 42, 180, 0, 34, 42, 180, 0, 116, 46, 16, 97, 100, 61, 27, 4, 28, 120, 128, 60, 42, 89]
abbrev dktX1_letters_1 : List UInt8 := dkwX1_letters_1 ++ dktX1_letters_2
def dkwX1_letters_0 : List UInt8 := [3, 60, 2, 61, 42, 182, 0, 153, 153, 0, 51, 42, 180, 0, 34, 42, 180, 0, 116, 46, 16, 97, 100, 28]
abbrev dktX1_letters_0 : List UInt8 := dkwX1_letters_0 ++ dktX1_letters_1
theorem dksX1_letters_0 : cX1_letters.data.toList.drop 0 = dktX1_letters_0 := by decide +kernel
theorem dksX1_letters_1 : cX1_letters.data.toList.drop 24 = dktX1_letters_1 := dk_seg dksX1_letters_0 24 rfl rfl
theorem dksX1_letters_2 : cX1_letters.data.toList.drop 48 = dktX1_letters_2 := dk_seg dksX1_letters_1 24 rfl rfl
theorem dX1_letters_0 : decode cX1_letters 0 = .ok (.iconst 0, 1) := dk_3 (dk_at dksX1_letters_0 0 rfl rfl)
theorem dX1_letters_1 : decode cX1_letters 1 = .ok (.istore_n 1, 1) := dk_60 (dk_at dksX1_letters_0 1 rfl rfl)
theorem dX1_letters_2 : decode cX1_letters 2 = .ok (.iconst (-1), 1) := dk_2 (dk_at dksX1_letters_0 2 rfl rfl)
theorem dX1_letters_3 : decode cX1_letters 3 = .ok (.istore_n 2, 1) := dk_61 (dk_at dksX1_letters_0 3 rfl rfl)
theorem dX1_letters_4 : decode cX1_letters 4 = .ok (.aload_n 0, 1) := dk_42 (dk_at dksX1_letters_0 4 rfl rfl)
theorem dX1_letters_5 : decode cX1_letters 5 = .ok (.invokevirtual 153, 3) := dk_182 0 153 (dk_at dksX1_letters_0 5 rfl rfl)
theorem dX1_letters_8 : decode cX1_letters 8 = .ok (.ifCond .eq 51, 3) := dk_153 0 51 (dk_at dksX1_letters_0 8 rfl rfl)
theorem dX1_letters_11 : decode cX1_letters 11 = .ok (.aload_n 0, 1) := dk_42 (dk_at dksX1_letters_0 11 rfl rfl)
theorem dX1_letters_12 : decode cX1_letters 12 = .ok (.getfield 34, 3) := dk_180 0 34 (dk_at dksX1_letters_0 12 rfl rfl)
theorem dX1_letters_15 : decode cX1_letters 15 = .ok (.aload_n 0, 1) := dk_42 (dk_at dksX1_letters_0 15 rfl rfl)
theorem dX1_letters_16 : decode cX1_letters 16 = .ok (.getfield 116, 3) := dk_180 0 116 (dk_at dksX1_letters_0 16 rfl rfl)
theorem dX1_letters_19 : decode cX1_letters 19 = .ok (.iaload, 1) := dk_46 (dk_at dksX1_letters_0 19 rfl rfl)
theorem dX1_letters_20 : decode cX1_letters 20 = .ok (.bipush 97, 2) := dk_16 97 (dk_at dksX1_letters_0 20 rfl rfl)
theorem dX1_letters_22 : decode cX1_letters 22 = .ok (.isub, 1) := dk_100 (dk_at dksX1_letters_0 22 rfl rfl)
theorem dX1_letters_23 : decode cX1_letters 23 = .ok (.iload_n 2, 1) := dk_28 (dk_at dksX1_letters_0 23 rfl rfl)
theorem dX1_letters_24 : decode cX1_letters 24 = .ok (.if_icmp .le 35, 3) := dk_164 0 35 (dk_at dksX1_letters_1 0 rfl rfl)
theorem dX1_letters_27 : decode cX1_letters 27 = .ok (.aload_n 0, 1) := dk_42 (dk_at dksX1_letters_1 3 rfl rfl)
theorem dX1_letters_28 : decode cX1_letters 28 = .ok (.getfield 34, 3) := dk_180 0 34 (dk_at dksX1_letters_1 4 rfl rfl)
theorem dX1_letters_31 : decode cX1_letters 31 = .ok (.aload_n 0, 1) := dk_42 (dk_at dksX1_letters_1 7 rfl rfl)
theorem dX1_letters_32 : decode cX1_letters 32 = .ok (.getfield 116, 3) := dk_180 0 116 (dk_at dksX1_letters_1 8 rfl rfl)
theorem dX1_letters_35 : decode cX1_letters 35 = .ok (.iaload, 1) := dk_46 (dk_at dksX1_letters_1 11 rfl rfl)
theorem dX1_letters_36 : decode cX1_letters 36 = .ok (.bipush 97, 2) := dk_16 97 (dk_at dksX1_letters_1 12 rfl rfl)
theorem dX1_letters_38 : decode cX1_letters 38 = .ok (.isub, 1) := dk_100 (dk_at dksX1_letters_1 14 rfl rfl)
theorem dX1_letters_39 : decode cX1_letters 39 = .ok (.istore_n 2, 1) := dk_61 (dk_at dksX1_letters_1 15 rfl rfl)
theorem dX1_letters_40 : decode cX1_letters 40 = .ok (.iload_n 1, 1) := dk_27 (dk_at dksX1_letters_1 16 rfl rfl)
theorem dX1_letters_41 : decode cX1_letters 41 = .ok (.iconst 1, 1) := dk_4 (dk_at dksX1_letters_1 17 rfl rfl)
theorem dX1_letters_42 : decode cX1_letters 42 = .ok (.iload_n 2, 1) := dk_28 (dk_at dksX1_letters_1 18 rfl rfl)
theorem dX1_letters_43 : decode cX1_letters 43 = .ok (.ishl, 1) := dk_120 (dk_at dksX1_letters_1 19 rfl rfl)
theorem dX1_letters_44 : decode cX1_letters 44 = .ok (.ior, 1) := dk_128 (dk_at dksX1_letters_1 20 rfl rfl)
theorem dX1_letters_45 : decode cX1_letters 45 = .ok (.istore_n 1, 1) := dk_60 (dk_at dksX1_letters_1 21 rfl rfl)
theorem dX1_letters_46 : decode cX1_letters 46 = .ok (.aload_n 0, 1) := dk_42 (dk_at dksX1_letters_1 22 rfl rfl)
theorem dX1_letters_47 : decode cX1_letters 47 = .ok (.dup, 1) := dk_89 (dk_at dksX1_letters_1 23 rfl rfl)
theorem dX1_letters_48 : decode cX1_letters 48 = .ok (.getfield 116, 3) := dk_180 0 116 (dk_at dksX1_letters_2 0 rfl rfl)
theorem dX1_letters_51 : decode cX1_letters 51 = .ok (.iconst 1, 1) := dk_4 (dk_at dksX1_letters_2 3 rfl rfl)
theorem dX1_letters_52 : decode cX1_letters 52 = .ok (.iadd, 1) := dk_96 (dk_at dksX1_letters_2 4 rfl rfl)
theorem dX1_letters_53 : decode cX1_letters 53 = .ok (.putfield 116, 3) := dk_181 0 116 (dk_at dksX1_letters_2 5 rfl rfl)
theorem dX1_letters_56 : decode cX1_letters 56 = .ok (.goto (-52), 3) := dk_167 255 204 (dk_at dksX1_letters_2 8 rfl rfl)
theorem dX1_letters_59 : decode cX1_letters 59 = .ok (.iload_n 1, 1) := dk_27 (dk_at dksX1_letters_2 11 rfl rfl)
theorem dX1_letters_60 : decode cX1_letters 60 = .ok (.ireturn, 1) := dk_172 (dk_at dksX1_letters_2 12 rfl rfl)
abbrev cX1_isStuff : ByteArray := prog_1_method_15_code
def yX1_isStuff : MethodName := ⟨RX1, "isStuff", "()Z"⟩
def dkwX1_isStuff_1 : List UInt8 := [20, 0, 151, 184, 0, 106, 153, 0, 7, 4, 167, 0, 4, 3, 172]
abbrev dktX1_isStuff_1 : List UInt8 := dkwX1_isStuff_1 ++ []
def dkwX1_isStuff_0 : List UInt8 := [42, 180, 0, 116, 42, 180, 0, 128, 162, 0, 29, 42, 180, 0, 34, 42, 180, 0, 116, 46, 133, 20, 0, 149]
abbrev dktX1_isStuff_0 : List UInt8 := dkwX1_isStuff_0 ++ dktX1_isStuff_1
theorem dksX1_isStuff_0 : cX1_isStuff.data.toList.drop 0 = dktX1_isStuff_0 := by decide +kernel
theorem dksX1_isStuff_1 : cX1_isStuff.data.toList.drop 24 = dktX1_isStuff_1 := dk_seg dksX1_isStuff_0 24 rfl rfl
theorem dX1_isStuff_0 : decode cX1_isStuff 0 = .ok (.aload_n 0, 1) := dk_42 (dk_at dksX1_isStuff_0 0 rfl rfl)
theorem dX1_isStuff_1 : decode cX1_isStuff 1 = .ok (.getfield 116, 3) := dk_180 0 116 (dk_at dksX1_isStuff_0 1 rfl rfl)
theorem dX1_isStuff_4 : decode cX1_isStuff 4 = .ok (.aload_n 0, 1) := dk_42 (dk_at dksX1_isStuff_0 4 rfl rfl)
theorem dX1_isStuff_5 : decode cX1_isStuff 5 = .ok (.getfield 128, 3) := dk_180 0 128 (dk_at dksX1_isStuff_0 5 rfl rfl)
theorem dX1_isStuff_8 : decode cX1_isStuff 8 = .ok (.if_icmp .ge 29, 3) := dk_162 0 29 (dk_at dksX1_isStuff_0 8 rfl rfl)
theorem dX1_isStuff_11 : decode cX1_isStuff 11 = .ok (.aload_n 0, 1) := dk_42 (dk_at dksX1_isStuff_0 11 rfl rfl)
theorem dX1_isStuff_12 : decode cX1_isStuff 12 = .ok (.getfield 34, 3) := dk_180 0 34 (dk_at dksX1_isStuff_0 12 rfl rfl)
theorem dX1_isStuff_15 : decode cX1_isStuff 15 = .ok (.aload_n 0, 1) := dk_42 (dk_at dksX1_isStuff_0 15 rfl rfl)
theorem dX1_isStuff_16 : decode cX1_isStuff 16 = .ok (.getfield 116, 3) := dk_180 0 116 (dk_at dksX1_isStuff_0 16 rfl rfl)
theorem dX1_isStuff_19 : decode cX1_isStuff 19 = .ok (.iaload, 1) := dk_46 (dk_at dksX1_isStuff_0 19 rfl rfl)
theorem dX1_isStuff_20 : decode cX1_isStuff 20 = .ok (.i2l, 1) := dk_133 (dk_at dksX1_isStuff_0 20 rfl rfl)
theorem dX1_isStuff_21 : decode cX1_isStuff 21 = .ok (.ldc2_w 149, 3) := dk_20 0 149 (dk_at dksX1_isStuff_0 21 rfl rfl)
theorem dX1_isStuff_24 : decode cX1_isStuff 24 = .ok (.ldc2_w 151, 3) := dk_20 0 151 (dk_at dksX1_isStuff_1 0 rfl rfl)
theorem dX1_isStuff_27 : decode cX1_isStuff 27 = .ok (.invokestatic 106, 3) := dk_184 0 106 (dk_at dksX1_isStuff_1 3 rfl rfl)
theorem dX1_isStuff_30 : decode cX1_isStuff 30 = .ok (.ifCond .eq 7, 3) := dk_153 0 7 (dk_at dksX1_isStuff_1 6 rfl rfl)
theorem dX1_isStuff_33 : decode cX1_isStuff 33 = .ok (.iconst 1, 1) := dk_4 (dk_at dksX1_isStuff_1 9 rfl rfl)
theorem dX1_isStuff_34 : decode cX1_isStuff 34 = .ok (.goto 4, 3) := dk_167 0 4 (dk_at dksX1_isStuff_1 10 rfl rfl)
theorem dX1_isStuff_37 : decode cX1_isStuff 37 = .ok (.iconst 0, 1) := dk_3 (dk_at dksX1_isStuff_1 13 rfl rfl)
theorem dX1_isStuff_38 : decode cX1_isStuff 38 = .ok (.ireturn, 1) := dk_172 (dk_at dksX1_isStuff_1 14 rfl rfl)
abbrev cX1_takes : ByteArray := prog_1_method_10_code
def yX1_takes : MethodName := ⟨RX1, "takes", "(C)Z"⟩
def dkwX1_takes_1 : List UInt8 := [28, 172]
abbrev dktX1_takes_1 : List UInt8 := dkwX1_takes_1 ++ []
def dkwX1_takes_0 : List UInt8 := [42, 27, 182, 0, 131, 61, 42, 89, 180, 0, 116, 28, 153, 0, 7, 4, 167, 0, 4, 3, 96, 181, 0, 116]
abbrev dktX1_takes_0 : List UInt8 := dkwX1_takes_0 ++ dktX1_takes_1
theorem dksX1_takes_0 : cX1_takes.data.toList.drop 0 = dktX1_takes_0 := by decide +kernel
theorem dksX1_takes_1 : cX1_takes.data.toList.drop 24 = dktX1_takes_1 := dk_seg dksX1_takes_0 24 rfl rfl
theorem dX1_takes_0 : decode cX1_takes 0 = .ok (.aload_n 0, 1) := dk_42 (dk_at dksX1_takes_0 0 rfl rfl)
theorem dX1_takes_1 : decode cX1_takes 1 = .ok (.iload_n 1, 1) := dk_27 (dk_at dksX1_takes_0 1 rfl rfl)
theorem dX1_takes_2 : decode cX1_takes 2 = .ok (.invokevirtual 131, 3) := dk_182 0 131 (dk_at dksX1_takes_0 2 rfl rfl)
theorem dX1_takes_5 : decode cX1_takes 5 = .ok (.istore_n 2, 1) := dk_61 (dk_at dksX1_takes_0 5 rfl rfl)
theorem dX1_takes_6 : decode cX1_takes 6 = .ok (.aload_n 0, 1) := dk_42 (dk_at dksX1_takes_0 6 rfl rfl)
theorem dX1_takes_7 : decode cX1_takes 7 = .ok (.dup, 1) := dk_89 (dk_at dksX1_takes_0 7 rfl rfl)
theorem dX1_takes_8 : decode cX1_takes 8 = .ok (.getfield 116, 3) := dk_180 0 116 (dk_at dksX1_takes_0 8 rfl rfl)
theorem dX1_takes_11 : decode cX1_takes 11 = .ok (.iload_n 2, 1) := dk_28 (dk_at dksX1_takes_0 11 rfl rfl)
theorem dX1_takes_12 : decode cX1_takes 12 = .ok (.ifCond .eq 7, 3) := dk_153 0 7 (dk_at dksX1_takes_0 12 rfl rfl)
theorem dX1_takes_15 : decode cX1_takes 15 = .ok (.iconst 1, 1) := dk_4 (dk_at dksX1_takes_0 15 rfl rfl)
theorem dX1_takes_16 : decode cX1_takes 16 = .ok (.goto 4, 3) := dk_167 0 4 (dk_at dksX1_takes_0 16 rfl rfl)
theorem dX1_takes_19 : decode cX1_takes 19 = .ok (.iconst 0, 1) := dk_3 (dk_at dksX1_takes_0 19 rfl rfl)
theorem dX1_takes_20 : decode cX1_takes 20 = .ok (.iadd, 1) := dk_96 (dk_at dksX1_takes_0 20 rfl rfl)
theorem dX1_takes_21 : decode cX1_takes 21 = .ok (.putfield 116, 3) := dk_181 0 116 (dk_at dksX1_takes_0 21 rfl rfl)
theorem dX1_takes_24 : decode cX1_takes 24 = .ok (.iload_n 2, 1) := dk_28 (dk_at dksX1_takes_1 0 rfl rfl)
theorem dX1_takes_25 : decode cX1_takes 25 = .ok (.ireturn, 1) := dk_172 (dk_at dksX1_takes_1 1 rfl rfl)
abbrev cX1_readsDish : ByteArray := prog_1_method_17_code
def yX1_readsDish : MethodName := ⟨RX1, "readsDish", "()Z"⟩
def dkwX1_readsDish_5 : List UInt8 := [155, 0, 7, 4, 167, 0, 4, 3, 172]
abbrev dktX1_readsDish_5 : List UInt8 := dkwX1_readsDish_5 ++ []
def dkwX1_readsDish_4 : List UInt8 := [182, 0, 163, 167, 0, 4, 3, 79, 42, 89, 180, 0, 156, 4, 96, 181, 0, 156, 42, 180, 0, 43, 27, 46]
abbrev dktX1_readsDish_4 : List UInt8 := dkwX1_readsDish_4 ++ dktX1_readsDish_5
def dkwX1_readsDish_3 : List UInt8 := [167, 0, 4, 3, 128, 181, 0, 166, 42, 180, 0, 43, 27, 42, 16, 43, 182, 0, 169, 153, 0, 11, 42, 4]
abbrev dktX1_readsDish_3 : List UInt8 := dkwX1_readsDish_3 ++ dktX1_readsDish_4
def dkwX1_readsDish_2 : List UInt8 := [27, 46, 156, 0, 5, 3, 172, 42, 89, 180, 0, 166, 42, 16, 72, 182, 0, 169, 153, 0, 9, 4, 27, 120]
abbrev dktX1_readsDish_2 : List UInt8 := dkwX1_readsDish_2 ++ dktX1_readsDish_3
def dkwX1_readsDish_1 : List UInt8 := [180, 0, 37, 27, 42, 182, 0, 159, 79, 42, 180, 0, 40, 27, 42, 5, 182, 0, 163, 79, 42, 180, 0, 40]
abbrev dktX1_readsDish_1 : List UInt8 := dkwX1_readsDish_1 ++ dktX1_readsDish_2
def dkwX1_readsDish_0 : List UInt8 := [42, 182, 0, 153, 153, 0, 12, 42, 180, 0, 156, 16, 10, 160, 0, 5, 3, 172, 42, 180, 0, 156, 60, 42]
abbrev dktX1_readsDish_0 : List UInt8 := dkwX1_readsDish_0 ++ dktX1_readsDish_1
theorem dksX1_readsDish_0 : cX1_readsDish.data.toList.drop 0 = dktX1_readsDish_0 := by decide +kernel
theorem dksX1_readsDish_1 : cX1_readsDish.data.toList.drop 24 = dktX1_readsDish_1 := dk_seg dksX1_readsDish_0 24 rfl rfl
theorem dksX1_readsDish_2 : cX1_readsDish.data.toList.drop 48 = dktX1_readsDish_2 := dk_seg dksX1_readsDish_1 24 rfl rfl
theorem dksX1_readsDish_3 : cX1_readsDish.data.toList.drop 72 = dktX1_readsDish_3 := dk_seg dksX1_readsDish_2 24 rfl rfl
theorem dksX1_readsDish_4 : cX1_readsDish.data.toList.drop 96 = dktX1_readsDish_4 := dk_seg dksX1_readsDish_3 24 rfl rfl
theorem dksX1_readsDish_5 : cX1_readsDish.data.toList.drop 120 = dktX1_readsDish_5 := dk_seg dksX1_readsDish_4 24 rfl rfl
theorem dX1_readsDish_0 : decode cX1_readsDish 0 = .ok (.aload_n 0, 1) := dk_42 (dk_at dksX1_readsDish_0 0 rfl rfl)
theorem dX1_readsDish_1 : decode cX1_readsDish 1 = .ok (.invokevirtual 153, 3) := dk_182 0 153 (dk_at dksX1_readsDish_0 1 rfl rfl)
theorem dX1_readsDish_4 : decode cX1_readsDish 4 = .ok (.ifCond .eq 12, 3) := dk_153 0 12 (dk_at dksX1_readsDish_0 4 rfl rfl)
theorem dX1_readsDish_7 : decode cX1_readsDish 7 = .ok (.aload_n 0, 1) := dk_42 (dk_at dksX1_readsDish_0 7 rfl rfl)
theorem dX1_readsDish_8 : decode cX1_readsDish 8 = .ok (.getfield 156, 3) := dk_180 0 156 (dk_at dksX1_readsDish_0 8 rfl rfl)
theorem dX1_readsDish_11 : decode cX1_readsDish 11 = .ok (.bipush 10, 2) := dk_16 10 (dk_at dksX1_readsDish_0 11 rfl rfl)
theorem dX1_readsDish_13 : decode cX1_readsDish 13 = .ok (.if_icmp .ne 5, 3) := dk_160 0 5 (dk_at dksX1_readsDish_0 13 rfl rfl)
theorem dX1_readsDish_16 : decode cX1_readsDish 16 = .ok (.iconst 0, 1) := dk_3 (dk_at dksX1_readsDish_0 16 rfl rfl)
theorem dX1_readsDish_17 : decode cX1_readsDish 17 = .ok (.ireturn, 1) := dk_172 (dk_at dksX1_readsDish_0 17 rfl rfl)
theorem dX1_readsDish_18 : decode cX1_readsDish 18 = .ok (.aload_n 0, 1) := dk_42 (dk_at dksX1_readsDish_0 18 rfl rfl)
theorem dX1_readsDish_19 : decode cX1_readsDish 19 = .ok (.getfield 156, 3) := dk_180 0 156 (dk_at dksX1_readsDish_0 19 rfl rfl)
theorem dX1_readsDish_22 : decode cX1_readsDish 22 = .ok (.istore_n 1, 1) := dk_60 (dk_at dksX1_readsDish_0 22 rfl rfl)
theorem dX1_readsDish_23 : decode cX1_readsDish 23 = .ok (.aload_n 0, 1) := dk_42 (dk_at dksX1_readsDish_0 23 rfl rfl)
theorem dX1_readsDish_24 : decode cX1_readsDish 24 = .ok (.getfield 37, 3) := dk_180 0 37 (dk_at dksX1_readsDish_1 0 rfl rfl)
theorem dX1_readsDish_27 : decode cX1_readsDish 27 = .ok (.iload_n 1, 1) := dk_27 (dk_at dksX1_readsDish_1 3 rfl rfl)
theorem dX1_readsDish_28 : decode cX1_readsDish 28 = .ok (.aload_n 0, 1) := dk_42 (dk_at dksX1_readsDish_1 4 rfl rfl)
theorem dX1_readsDish_29 : decode cX1_readsDish 29 = .ok (.invokevirtual 159, 3) := dk_182 0 159 (dk_at dksX1_readsDish_1 5 rfl rfl)
theorem dX1_readsDish_32 : decode cX1_readsDish 32 = .ok (.iastore, 1) := dk_79 (dk_at dksX1_readsDish_1 8 rfl rfl)
theorem dX1_readsDish_33 : decode cX1_readsDish 33 = .ok (.aload_n 0, 1) := dk_42 (dk_at dksX1_readsDish_1 9 rfl rfl)
theorem dX1_readsDish_34 : decode cX1_readsDish 34 = .ok (.getfield 40, 3) := dk_180 0 40 (dk_at dksX1_readsDish_1 10 rfl rfl)
theorem dX1_readsDish_37 : decode cX1_readsDish 37 = .ok (.iload_n 1, 1) := dk_27 (dk_at dksX1_readsDish_1 13 rfl rfl)
theorem dX1_readsDish_38 : decode cX1_readsDish 38 = .ok (.aload_n 0, 1) := dk_42 (dk_at dksX1_readsDish_1 14 rfl rfl)
theorem dX1_readsDish_39 : decode cX1_readsDish 39 = .ok (.iconst 2, 1) := dk_5 (dk_at dksX1_readsDish_1 15 rfl rfl)
theorem dX1_readsDish_40 : decode cX1_readsDish 40 = .ok (.invokevirtual 163, 3) := dk_182 0 163 (dk_at dksX1_readsDish_1 16 rfl rfl)
theorem dX1_readsDish_43 : decode cX1_readsDish 43 = .ok (.iastore, 1) := dk_79 (dk_at dksX1_readsDish_1 19 rfl rfl)
theorem dX1_readsDish_44 : decode cX1_readsDish 44 = .ok (.aload_n 0, 1) := dk_42 (dk_at dksX1_readsDish_1 20 rfl rfl)
theorem dX1_readsDish_45 : decode cX1_readsDish 45 = .ok (.getfield 40, 3) := dk_180 0 40 (dk_at dksX1_readsDish_1 21 rfl rfl)
theorem dX1_readsDish_48 : decode cX1_readsDish 48 = .ok (.iload_n 1, 1) := dk_27 (dk_at dksX1_readsDish_2 0 rfl rfl)
theorem dX1_readsDish_49 : decode cX1_readsDish 49 = .ok (.iaload, 1) := dk_46 (dk_at dksX1_readsDish_2 1 rfl rfl)
theorem dX1_readsDish_50 : decode cX1_readsDish 50 = .ok (.ifCond .ge 5, 3) := dk_156 0 5 (dk_at dksX1_readsDish_2 2 rfl rfl)
theorem dX1_readsDish_53 : decode cX1_readsDish 53 = .ok (.iconst 0, 1) := dk_3 (dk_at dksX1_readsDish_2 5 rfl rfl)
theorem dX1_readsDish_54 : decode cX1_readsDish 54 = .ok (.ireturn, 1) := dk_172 (dk_at dksX1_readsDish_2 6 rfl rfl)
theorem dX1_readsDish_55 : decode cX1_readsDish 55 = .ok (.aload_n 0, 1) := dk_42 (dk_at dksX1_readsDish_2 7 rfl rfl)
theorem dX1_readsDish_56 : decode cX1_readsDish 56 = .ok (.dup, 1) := dk_89 (dk_at dksX1_readsDish_2 8 rfl rfl)
theorem dX1_readsDish_57 : decode cX1_readsDish 57 = .ok (.getfield 166, 3) := dk_180 0 166 (dk_at dksX1_readsDish_2 9 rfl rfl)
theorem dX1_readsDish_60 : decode cX1_readsDish 60 = .ok (.aload_n 0, 1) := dk_42 (dk_at dksX1_readsDish_2 12 rfl rfl)
theorem dX1_readsDish_61 : decode cX1_readsDish 61 = .ok (.bipush 72, 2) := dk_16 72 (dk_at dksX1_readsDish_2 13 rfl rfl)
theorem dX1_readsDish_63 : decode cX1_readsDish 63 = .ok (.invokevirtual 169, 3) := dk_182 0 169 (dk_at dksX1_readsDish_2 15 rfl rfl)
theorem dX1_readsDish_66 : decode cX1_readsDish 66 = .ok (.ifCond .eq 9, 3) := dk_153 0 9 (dk_at dksX1_readsDish_2 18 rfl rfl)
theorem dX1_readsDish_69 : decode cX1_readsDish 69 = .ok (.iconst 1, 1) := dk_4 (dk_at dksX1_readsDish_2 21 rfl rfl)
theorem dX1_readsDish_70 : decode cX1_readsDish 70 = .ok (.iload_n 1, 1) := dk_27 (dk_at dksX1_readsDish_2 22 rfl rfl)
theorem dX1_readsDish_71 : decode cX1_readsDish 71 = .ok (.ishl, 1) := dk_120 (dk_at dksX1_readsDish_2 23 rfl rfl)
theorem dX1_readsDish_72 : decode cX1_readsDish 72 = .ok (.goto 4, 3) := dk_167 0 4 (dk_at dksX1_readsDish_3 0 rfl rfl)
theorem dX1_readsDish_75 : decode cX1_readsDish 75 = .ok (.iconst 0, 1) := dk_3 (dk_at dksX1_readsDish_3 3 rfl rfl)
theorem dX1_readsDish_76 : decode cX1_readsDish 76 = .ok (.ior, 1) := dk_128 (dk_at dksX1_readsDish_3 4 rfl rfl)
theorem dX1_readsDish_77 : decode cX1_readsDish 77 = .ok (.putfield 166, 3) := dk_181 0 166 (dk_at dksX1_readsDish_3 5 rfl rfl)
theorem dX1_readsDish_80 : decode cX1_readsDish 80 = .ok (.aload_n 0, 1) := dk_42 (dk_at dksX1_readsDish_3 8 rfl rfl)
theorem dX1_readsDish_81 : decode cX1_readsDish 81 = .ok (.getfield 43, 3) := dk_180 0 43 (dk_at dksX1_readsDish_3 9 rfl rfl)
theorem dX1_readsDish_84 : decode cX1_readsDish 84 = .ok (.iload_n 1, 1) := dk_27 (dk_at dksX1_readsDish_3 12 rfl rfl)
theorem dX1_readsDish_85 : decode cX1_readsDish 85 = .ok (.aload_n 0, 1) := dk_42 (dk_at dksX1_readsDish_3 13 rfl rfl)
theorem dX1_readsDish_86 : decode cX1_readsDish 86 = .ok (.bipush 43, 2) := dk_16 43 (dk_at dksX1_readsDish_3 14 rfl rfl)
theorem dX1_readsDish_88 : decode cX1_readsDish 88 = .ok (.invokevirtual 169, 3) := dk_182 0 169 (dk_at dksX1_readsDish_3 16 rfl rfl)
theorem dX1_readsDish_91 : decode cX1_readsDish 91 = .ok (.ifCond .eq 11, 3) := dk_153 0 11 (dk_at dksX1_readsDish_3 19 rfl rfl)
theorem dX1_readsDish_94 : decode cX1_readsDish 94 = .ok (.aload_n 0, 1) := dk_42 (dk_at dksX1_readsDish_3 22 rfl rfl)
theorem dX1_readsDish_95 : decode cX1_readsDish 95 = .ok (.iconst 1, 1) := dk_4 (dk_at dksX1_readsDish_3 23 rfl rfl)
theorem dX1_readsDish_96 : decode cX1_readsDish 96 = .ok (.invokevirtual 163, 3) := dk_182 0 163 (dk_at dksX1_readsDish_4 0 rfl rfl)
theorem dX1_readsDish_99 : decode cX1_readsDish 99 = .ok (.goto 4, 3) := dk_167 0 4 (dk_at dksX1_readsDish_4 3 rfl rfl)
theorem dX1_readsDish_102 : decode cX1_readsDish 102 = .ok (.iconst 0, 1) := dk_3 (dk_at dksX1_readsDish_4 6 rfl rfl)
theorem dX1_readsDish_103 : decode cX1_readsDish 103 = .ok (.iastore, 1) := dk_79 (dk_at dksX1_readsDish_4 7 rfl rfl)
theorem dX1_readsDish_104 : decode cX1_readsDish 104 = .ok (.aload_n 0, 1) := dk_42 (dk_at dksX1_readsDish_4 8 rfl rfl)
theorem dX1_readsDish_105 : decode cX1_readsDish 105 = .ok (.dup, 1) := dk_89 (dk_at dksX1_readsDish_4 9 rfl rfl)
theorem dX1_readsDish_106 : decode cX1_readsDish 106 = .ok (.getfield 156, 3) := dk_180 0 156 (dk_at dksX1_readsDish_4 10 rfl rfl)
theorem dX1_readsDish_109 : decode cX1_readsDish 109 = .ok (.iconst 1, 1) := dk_4 (dk_at dksX1_readsDish_4 13 rfl rfl)
theorem dX1_readsDish_110 : decode cX1_readsDish 110 = .ok (.iadd, 1) := dk_96 (dk_at dksX1_readsDish_4 14 rfl rfl)
theorem dX1_readsDish_111 : decode cX1_readsDish 111 = .ok (.putfield 156, 3) := dk_181 0 156 (dk_at dksX1_readsDish_4 15 rfl rfl)
theorem dX1_readsDish_114 : decode cX1_readsDish 114 = .ok (.aload_n 0, 1) := dk_42 (dk_at dksX1_readsDish_4 18 rfl rfl)
theorem dX1_readsDish_115 : decode cX1_readsDish 115 = .ok (.getfield 43, 3) := dk_180 0 43 (dk_at dksX1_readsDish_4 19 rfl rfl)
theorem dX1_readsDish_118 : decode cX1_readsDish 118 = .ok (.iload_n 1, 1) := dk_27 (dk_at dksX1_readsDish_4 22 rfl rfl)
theorem dX1_readsDish_119 : decode cX1_readsDish 119 = .ok (.iaload, 1) := dk_46 (dk_at dksX1_readsDish_4 23 rfl rfl)
theorem dX1_readsDish_120 : decode cX1_readsDish 120 = .ok (.ifCond .lt 7, 3) := dk_155 0 7 (dk_at dksX1_readsDish_5 0 rfl rfl)
theorem dX1_readsDish_123 : decode cX1_readsDish 123 = .ok (.iconst 1, 1) := dk_4 (dk_at dksX1_readsDish_5 3 rfl rfl)
theorem dX1_readsDish_124 : decode cX1_readsDish 124 = .ok (.goto 4, 3) := dk_167 0 4 (dk_at dksX1_readsDish_5 4 rfl rfl)
theorem dX1_readsDish_127 : decode cX1_readsDish 127 = .ok (.iconst 0, 1) := dk_3 (dk_at dksX1_readsDish_5 7 rfl rfl)
theorem dX1_readsDish_128 : decode cX1_readsDish 128 = .ok (.ireturn, 1) := dk_172 (dk_at dksX1_readsDish_5 8 rfl rfl)
abbrev cX1_number : ByteArray := prog_1_method_13_code
def yX1_number : MethodName := ⟨RX1, "number", "(I)I"⟩
def dkwX1_number_2 : List UInt8 := [180, 0, 116, 4, 96, 181, 0, 116, 132, 3, 1, 167, 255, 213, 28, 172]
abbrev dktX1_number_2 : List UInt8 := dkwX1_number_2 ++ []
def dkwX1_number_1 : List UInt8 := [153, 0, 37, 16, 10, 28, 104, 42, 180, 0, 34, 42, 180, 0, 116, 46, 96, 16, 48, 100, 61, 42, 89]
abbrev dktX1_number_1 : List UInt8 := dkwX1_number_1 ++ dktX1_number_2
def dkwX1_number_0 : List UInt8 := [42, 182, 0, 145, 154, 0, 5, 2, 172, 3, 61, 3, 62, 29, 27, 162, 0, 44, 42, 182, 0, 145]
abbrev dktX1_number_0 : List UInt8 := dkwX1_number_0 ++ dktX1_number_1
theorem dksX1_number_0 : cX1_number.data.toList.drop 0 = dktX1_number_0 := by decide +kernel
theorem dksX1_number_1 : cX1_number.data.toList.drop 22 = dktX1_number_1 := dk_seg dksX1_number_0 22 rfl rfl
theorem dksX1_number_2 : cX1_number.data.toList.drop 45 = dktX1_number_2 := dk_seg dksX1_number_1 23 rfl rfl
theorem dX1_number_0 : decode cX1_number 0 = .ok (.aload_n 0, 1) := dk_42 (dk_at dksX1_number_0 0 rfl rfl)
theorem dX1_number_1 : decode cX1_number 1 = .ok (.invokevirtual 145, 3) := dk_182 0 145 (dk_at dksX1_number_0 1 rfl rfl)
theorem dX1_number_4 : decode cX1_number 4 = .ok (.ifCond .ne 5, 3) := dk_154 0 5 (dk_at dksX1_number_0 4 rfl rfl)
theorem dX1_number_7 : decode cX1_number 7 = .ok (.iconst (-1), 1) := dk_2 (dk_at dksX1_number_0 7 rfl rfl)
theorem dX1_number_8 : decode cX1_number 8 = .ok (.ireturn, 1) := dk_172 (dk_at dksX1_number_0 8 rfl rfl)
theorem dX1_number_9 : decode cX1_number 9 = .ok (.iconst 0, 1) := dk_3 (dk_at dksX1_number_0 9 rfl rfl)
theorem dX1_number_10 : decode cX1_number 10 = .ok (.istore_n 2, 1) := dk_61 (dk_at dksX1_number_0 10 rfl rfl)
theorem dX1_number_11 : decode cX1_number 11 = .ok (.iconst 0, 1) := dk_3 (dk_at dksX1_number_0 11 rfl rfl)
theorem dX1_number_12 : decode cX1_number 12 = .ok (.istore_n 3, 1) := dk_62 (dk_at dksX1_number_0 12 rfl rfl)
theorem dX1_number_13 : decode cX1_number 13 = .ok (.iload_n 3, 1) := dk_29 (dk_at dksX1_number_0 13 rfl rfl)
theorem dX1_number_14 : decode cX1_number 14 = .ok (.iload_n 1, 1) := dk_27 (dk_at dksX1_number_0 14 rfl rfl)
theorem dX1_number_15 : decode cX1_number 15 = .ok (.if_icmp .ge 44, 3) := dk_162 0 44 (dk_at dksX1_number_0 15 rfl rfl)
theorem dX1_number_18 : decode cX1_number 18 = .ok (.aload_n 0, 1) := dk_42 (dk_at dksX1_number_0 18 rfl rfl)
theorem dX1_number_19 : decode cX1_number 19 = .ok (.invokevirtual 145, 3) := dk_182 0 145 (dk_at dksX1_number_0 19 rfl rfl)
theorem dX1_number_22 : decode cX1_number 22 = .ok (.ifCond .eq 37, 3) := dk_153 0 37 (dk_at dksX1_number_1 0 rfl rfl)
theorem dX1_number_25 : decode cX1_number 25 = .ok (.bipush 10, 2) := dk_16 10 (dk_at dksX1_number_1 3 rfl rfl)
theorem dX1_number_27 : decode cX1_number 27 = .ok (.iload_n 2, 1) := dk_28 (dk_at dksX1_number_1 5 rfl rfl)
theorem dX1_number_28 : decode cX1_number 28 = .ok (.imul, 1) := dk_104 (dk_at dksX1_number_1 6 rfl rfl)
theorem dX1_number_29 : decode cX1_number 29 = .ok (.aload_n 0, 1) := dk_42 (dk_at dksX1_number_1 7 rfl rfl)
theorem dX1_number_30 : decode cX1_number 30 = .ok (.getfield 34, 3) := dk_180 0 34 (dk_at dksX1_number_1 8 rfl rfl)
theorem dX1_number_33 : decode cX1_number 33 = .ok (.aload_n 0, 1) := dk_42 (dk_at dksX1_number_1 11 rfl rfl)
theorem dX1_number_34 : decode cX1_number 34 = .ok (.getfield 116, 3) := dk_180 0 116 (dk_at dksX1_number_1 12 rfl rfl)
theorem dX1_number_37 : decode cX1_number 37 = .ok (.iaload, 1) := dk_46 (dk_at dksX1_number_1 15 rfl rfl)
theorem dX1_number_38 : decode cX1_number 38 = .ok (.iadd, 1) := dk_96 (dk_at dksX1_number_1 16 rfl rfl)
theorem dX1_number_39 : decode cX1_number 39 = .ok (.bipush 48, 2) := dk_16 48 (dk_at dksX1_number_1 17 rfl rfl)
theorem dX1_number_41 : decode cX1_number 41 = .ok (.isub, 1) := dk_100 (dk_at dksX1_number_1 19 rfl rfl)
theorem dX1_number_42 : decode cX1_number 42 = .ok (.istore_n 2, 1) := dk_61 (dk_at dksX1_number_1 20 rfl rfl)
theorem dX1_number_43 : decode cX1_number 43 = .ok (.aload_n 0, 1) := dk_42 (dk_at dksX1_number_1 21 rfl rfl)
theorem dX1_number_44 : decode cX1_number 44 = .ok (.dup, 1) := dk_89 (dk_at dksX1_number_1 22 rfl rfl)
theorem dX1_number_45 : decode cX1_number 45 = .ok (.getfield 116, 3) := dk_180 0 116 (dk_at dksX1_number_2 0 rfl rfl)
theorem dX1_number_48 : decode cX1_number 48 = .ok (.iconst 1, 1) := dk_4 (dk_at dksX1_number_2 3 rfl rfl)
theorem dX1_number_49 : decode cX1_number 49 = .ok (.iadd, 1) := dk_96 (dk_at dksX1_number_2 4 rfl rfl)
theorem dX1_number_50 : decode cX1_number 50 = .ok (.putfield 116, 3) := dk_181 0 116 (dk_at dksX1_number_2 5 rfl rfl)
theorem dX1_number_53 : decode cX1_number 53 = .ok (.iinc 3 1, 3) := dk_132 3 1 (dk_at dksX1_number_2 8 rfl rfl)
theorem dX1_number_56 : decode cX1_number 56 = .ok (.goto (-43), 3) := dk_167 255 213 (dk_at dksX1_number_2 11 rfl rfl)
theorem dX1_number_59 : decode cX1_number 59 = .ok (.iload_n 2, 1) := dk_28 (dk_at dksX1_number_2 14 rfl rfl)
theorem dX1_number_60 : decode cX1_number 60 = .ok (.ireturn, 1) := dk_172 (dk_at dksX1_number_2 15 rfl rfl)
abbrev cX1_isDigit : ByteArray := prog_1_method_12_code
def yX1_isDigit : MethodName := ⟨RX1, "isDigit", "()Z"⟩
def dkwX1_isDigit_1 : List UInt8 := [20, 0, 143, 184, 0, 106, 153, 0, 7, 4, 167, 0, 4, 3, 172]
abbrev dktX1_isDigit_1 : List UInt8 := dkwX1_isDigit_1 ++ []
def dkwX1_isDigit_0 : List UInt8 := [42, 180, 0, 116, 42, 180, 0, 128, 162, 0, 29, 42, 180, 0, 34, 42, 180, 0, 116, 46, 133, 20, 0, 141]
abbrev dktX1_isDigit_0 : List UInt8 := dkwX1_isDigit_0 ++ dktX1_isDigit_1
theorem dksX1_isDigit_0 : cX1_isDigit.data.toList.drop 0 = dktX1_isDigit_0 := by decide +kernel
theorem dksX1_isDigit_1 : cX1_isDigit.data.toList.drop 24 = dktX1_isDigit_1 := dk_seg dksX1_isDigit_0 24 rfl rfl
theorem dX1_isDigit_0 : decode cX1_isDigit 0 = .ok (.aload_n 0, 1) := dk_42 (dk_at dksX1_isDigit_0 0 rfl rfl)
theorem dX1_isDigit_1 : decode cX1_isDigit 1 = .ok (.getfield 116, 3) := dk_180 0 116 (dk_at dksX1_isDigit_0 1 rfl rfl)
theorem dX1_isDigit_4 : decode cX1_isDigit 4 = .ok (.aload_n 0, 1) := dk_42 (dk_at dksX1_isDigit_0 4 rfl rfl)
theorem dX1_isDigit_5 : decode cX1_isDigit 5 = .ok (.getfield 128, 3) := dk_180 0 128 (dk_at dksX1_isDigit_0 5 rfl rfl)
theorem dX1_isDigit_8 : decode cX1_isDigit 8 = .ok (.if_icmp .ge 29, 3) := dk_162 0 29 (dk_at dksX1_isDigit_0 8 rfl rfl)
theorem dX1_isDigit_11 : decode cX1_isDigit 11 = .ok (.aload_n 0, 1) := dk_42 (dk_at dksX1_isDigit_0 11 rfl rfl)
theorem dX1_isDigit_12 : decode cX1_isDigit 12 = .ok (.getfield 34, 3) := dk_180 0 34 (dk_at dksX1_isDigit_0 12 rfl rfl)
theorem dX1_isDigit_15 : decode cX1_isDigit 15 = .ok (.aload_n 0, 1) := dk_42 (dk_at dksX1_isDigit_0 15 rfl rfl)
theorem dX1_isDigit_16 : decode cX1_isDigit 16 = .ok (.getfield 116, 3) := dk_180 0 116 (dk_at dksX1_isDigit_0 16 rfl rfl)
theorem dX1_isDigit_19 : decode cX1_isDigit 19 = .ok (.iaload, 1) := dk_46 (dk_at dksX1_isDigit_0 19 rfl rfl)
theorem dX1_isDigit_20 : decode cX1_isDigit 20 = .ok (.i2l, 1) := dk_133 (dk_at dksX1_isDigit_0 20 rfl rfl)
theorem dX1_isDigit_21 : decode cX1_isDigit 21 = .ok (.ldc2_w 141, 3) := dk_20 0 141 (dk_at dksX1_isDigit_0 21 rfl rfl)
theorem dX1_isDigit_24 : decode cX1_isDigit 24 = .ok (.ldc2_w 143, 3) := dk_20 0 143 (dk_at dksX1_isDigit_1 0 rfl rfl)
theorem dX1_isDigit_27 : decode cX1_isDigit 27 = .ok (.invokestatic 106, 3) := dk_184 0 106 (dk_at dksX1_isDigit_1 3 rfl rfl)
theorem dX1_isDigit_30 : decode cX1_isDigit 30 = .ok (.ifCond .eq 7, 3) := dk_153 0 7 (dk_at dksX1_isDigit_1 6 rfl rfl)
theorem dX1_isDigit_33 : decode cX1_isDigit 33 = .ok (.iconst 1, 1) := dk_4 (dk_at dksX1_isDigit_1 9 rfl rfl)
theorem dX1_isDigit_34 : decode cX1_isDigit 34 = .ok (.goto 4, 3) := dk_167 0 4 (dk_at dksX1_isDigit_1 10 rfl rfl)
theorem dX1_isDigit_37 : decode cX1_isDigit 37 = .ok (.iconst 0, 1) := dk_3 (dk_at dksX1_isDigit_1 13 rfl rfl)
theorem dX1_isDigit_38 : decode cX1_isDigit 38 = .ok (.ireturn, 1) := dk_172 (dk_at dksX1_isDigit_1 14 rfl rfl)
abbrev cX1_faultOf : ByteArray := prog_1_method_14_code
def yX1_faultOf : MethodName := ⟨RX1, "faultOf", "(IZ)I"⟩
def dkwX1_faultOf_2 : List UInt8 := [180, 0, 128, 100, 172, 29, 153, 0, 7, 3, 167, 0, 9, 2, 42, 180, 0, 116, 100, 172]
abbrev dktX1_faultOf_2 : List UInt8 := dkwX1_faultOf_2 ++ []
def dkwX1_faultOf_1 : List UInt8 := [180, 0, 128, 164, 0, 25, 29, 154, 0, 14, 42, 180, 0, 116, 42, 180, 0, 128, 160, 0, 10, 2, 42]
abbrev dktX1_faultOf_1 : List UInt8 := dkwX1_faultOf_1 ++ dktX1_faultOf_2
def dkwX1_faultOf_0 : List UInt8 := [28, 153, 0, 18, 42, 180, 0, 116, 42, 180, 0, 128, 160, 0, 7, 4, 167, 0, 4, 3, 62, 27, 42]
abbrev dktX1_faultOf_0 : List UInt8 := dkwX1_faultOf_0 ++ dktX1_faultOf_1
theorem dksX1_faultOf_0 : cX1_faultOf.data.toList.drop 0 = dktX1_faultOf_0 := by decide +kernel
theorem dksX1_faultOf_1 : cX1_faultOf.data.toList.drop 23 = dktX1_faultOf_1 := dk_seg dksX1_faultOf_0 23 rfl rfl
theorem dksX1_faultOf_2 : cX1_faultOf.data.toList.drop 46 = dktX1_faultOf_2 := dk_seg dksX1_faultOf_1 23 rfl rfl
theorem dX1_faultOf_0 : decode cX1_faultOf 0 = .ok (.iload_n 2, 1) := dk_28 (dk_at dksX1_faultOf_0 0 rfl rfl)
theorem dX1_faultOf_1 : decode cX1_faultOf 1 = .ok (.ifCond .eq 18, 3) := dk_153 0 18 (dk_at dksX1_faultOf_0 1 rfl rfl)
theorem dX1_faultOf_4 : decode cX1_faultOf 4 = .ok (.aload_n 0, 1) := dk_42 (dk_at dksX1_faultOf_0 4 rfl rfl)
theorem dX1_faultOf_5 : decode cX1_faultOf 5 = .ok (.getfield 116, 3) := dk_180 0 116 (dk_at dksX1_faultOf_0 5 rfl rfl)
theorem dX1_faultOf_8 : decode cX1_faultOf 8 = .ok (.aload_n 0, 1) := dk_42 (dk_at dksX1_faultOf_0 8 rfl rfl)
theorem dX1_faultOf_9 : decode cX1_faultOf 9 = .ok (.getfield 128, 3) := dk_180 0 128 (dk_at dksX1_faultOf_0 9 rfl rfl)
theorem dX1_faultOf_12 : decode cX1_faultOf 12 = .ok (.if_icmp .ne 7, 3) := dk_160 0 7 (dk_at dksX1_faultOf_0 12 rfl rfl)
theorem dX1_faultOf_15 : decode cX1_faultOf 15 = .ok (.iconst 1, 1) := dk_4 (dk_at dksX1_faultOf_0 15 rfl rfl)
theorem dX1_faultOf_16 : decode cX1_faultOf 16 = .ok (.goto 4, 3) := dk_167 0 4 (dk_at dksX1_faultOf_0 16 rfl rfl)
theorem dX1_faultOf_19 : decode cX1_faultOf 19 = .ok (.iconst 0, 1) := dk_3 (dk_at dksX1_faultOf_0 19 rfl rfl)
theorem dX1_faultOf_20 : decode cX1_faultOf 20 = .ok (.istore_n 3, 1) := dk_62 (dk_at dksX1_faultOf_0 20 rfl rfl)
theorem dX1_faultOf_21 : decode cX1_faultOf 21 = .ok (.iload_n 1, 1) := dk_27 (dk_at dksX1_faultOf_0 21 rfl rfl)
theorem dX1_faultOf_22 : decode cX1_faultOf 22 = .ok (.aload_n 0, 1) := dk_42 (dk_at dksX1_faultOf_0 22 rfl rfl)
theorem dX1_faultOf_23 : decode cX1_faultOf 23 = .ok (.getfield 128, 3) := dk_180 0 128 (dk_at dksX1_faultOf_1 0 rfl rfl)
theorem dX1_faultOf_26 : decode cX1_faultOf 26 = .ok (.if_icmp .le 25, 3) := dk_164 0 25 (dk_at dksX1_faultOf_1 3 rfl rfl)
theorem dX1_faultOf_29 : decode cX1_faultOf 29 = .ok (.iload_n 3, 1) := dk_29 (dk_at dksX1_faultOf_1 6 rfl rfl)
theorem dX1_faultOf_30 : decode cX1_faultOf 30 = .ok (.ifCond .ne 14, 3) := dk_154 0 14 (dk_at dksX1_faultOf_1 7 rfl rfl)
theorem dX1_faultOf_33 : decode cX1_faultOf 33 = .ok (.aload_n 0, 1) := dk_42 (dk_at dksX1_faultOf_1 10 rfl rfl)
theorem dX1_faultOf_34 : decode cX1_faultOf 34 = .ok (.getfield 116, 3) := dk_180 0 116 (dk_at dksX1_faultOf_1 11 rfl rfl)
theorem dX1_faultOf_37 : decode cX1_faultOf 37 = .ok (.aload_n 0, 1) := dk_42 (dk_at dksX1_faultOf_1 14 rfl rfl)
theorem dX1_faultOf_38 : decode cX1_faultOf 38 = .ok (.getfield 128, 3) := dk_180 0 128 (dk_at dksX1_faultOf_1 15 rfl rfl)
theorem dX1_faultOf_41 : decode cX1_faultOf 41 = .ok (.if_icmp .ne 10, 3) := dk_160 0 10 (dk_at dksX1_faultOf_1 18 rfl rfl)
theorem dX1_faultOf_44 : decode cX1_faultOf 44 = .ok (.iconst (-1), 1) := dk_2 (dk_at dksX1_faultOf_1 21 rfl rfl)
theorem dX1_faultOf_45 : decode cX1_faultOf 45 = .ok (.aload_n 0, 1) := dk_42 (dk_at dksX1_faultOf_1 22 rfl rfl)
theorem dX1_faultOf_46 : decode cX1_faultOf 46 = .ok (.getfield 128, 3) := dk_180 0 128 (dk_at dksX1_faultOf_2 0 rfl rfl)
theorem dX1_faultOf_49 : decode cX1_faultOf 49 = .ok (.isub, 1) := dk_100 (dk_at dksX1_faultOf_2 3 rfl rfl)
theorem dX1_faultOf_50 : decode cX1_faultOf 50 = .ok (.ireturn, 1) := dk_172 (dk_at dksX1_faultOf_2 4 rfl rfl)
theorem dX1_faultOf_51 : decode cX1_faultOf 51 = .ok (.iload_n 3, 1) := dk_29 (dk_at dksX1_faultOf_2 5 rfl rfl)
theorem dX1_faultOf_52 : decode cX1_faultOf 52 = .ok (.ifCond .eq 7, 3) := dk_153 0 7 (dk_at dksX1_faultOf_2 6 rfl rfl)
theorem dX1_faultOf_55 : decode cX1_faultOf 55 = .ok (.iconst 0, 1) := dk_3 (dk_at dksX1_faultOf_2 9 rfl rfl)
theorem dX1_faultOf_56 : decode cX1_faultOf 56 = .ok (.goto 9, 3) := dk_167 0 9 (dk_at dksX1_faultOf_2 10 rfl rfl)
theorem dX1_faultOf_59 : decode cX1_faultOf 59 = .ok (.iconst (-1), 1) := dk_2 (dk_at dksX1_faultOf_2 13 rfl rfl)
theorem dX1_faultOf_60 : decode cX1_faultOf 60 = .ok (.aload_n 0, 1) := dk_42 (dk_at dksX1_faultOf_2 14 rfl rfl)
theorem dX1_faultOf_61 : decode cX1_faultOf 61 = .ok (.getfield 116, 3) := dk_180 0 116 (dk_at dksX1_faultOf_2 15 rfl rfl)
theorem dX1_faultOf_64 : decode cX1_faultOf 64 = .ok (.isub, 1) := dk_100 (dk_at dksX1_faultOf_2 18 rfl rfl)
theorem dX1_faultOf_65 : decode cX1_faultOf 65 = .ok (.ireturn, 1) := dk_172 (dk_at dksX1_faultOf_2 19 rfl rfl)
abbrev cX1_rule : ByteArray := prog_1_method_23_code
def yX1_rule : MethodName := ⟨RX1, "rule", "()I"⟩
def dkwX1_rule_2 : List UInt8 := [154, 0, 8, 42, 44, 181, 0, 233, 29, 172]
abbrev dktX1_rule_2 : List UInt8 := dkwX1_rule_2 ++ []
def dkwX1_rule_1 : List UInt8 := [154, 0, 7, 3, 167, 0, 17, 42, 27, 44, 198, 0, 7, 4, 167, 0, 4, 3, 182, 0, 187, 62, 29]
abbrev dktX1_rule_1 : List UInt8 := dkwX1_rule_1 ++ dktX1_rule_2
def dkwX1_rule_0 : List UInt8 := [42, 16, 40, 182, 0, 175, 60, 27, 154, 0, 7, 1, 167, 0, 8, 42, 3, 182, 0, 214, 77, 27]
abbrev dktX1_rule_0 : List UInt8 := dkwX1_rule_0 ++ dktX1_rule_1
theorem dksX1_rule_0 : cX1_rule.data.toList.drop 0 = dktX1_rule_0 := by decide +kernel
theorem dksX1_rule_1 : cX1_rule.data.toList.drop 22 = dktX1_rule_1 := dk_seg dksX1_rule_0 22 rfl rfl
theorem dksX1_rule_2 : cX1_rule.data.toList.drop 45 = dktX1_rule_2 := dk_seg dksX1_rule_1 23 rfl rfl
theorem dX1_rule_0 : decode cX1_rule 0 = .ok (.aload_n 0, 1) := dk_42 (dk_at dksX1_rule_0 0 rfl rfl)
theorem dX1_rule_1 : decode cX1_rule 1 = .ok (.bipush 40, 2) := dk_16 40 (dk_at dksX1_rule_0 1 rfl rfl)
theorem dX1_rule_3 : decode cX1_rule 3 = .ok (.invokevirtual 175, 3) := dk_182 0 175 (dk_at dksX1_rule_0 3 rfl rfl)
theorem dX1_rule_6 : decode cX1_rule 6 = .ok (.istore_n 1, 1) := dk_60 (dk_at dksX1_rule_0 6 rfl rfl)
theorem dX1_rule_7 : decode cX1_rule 7 = .ok (.iload_n 1, 1) := dk_27 (dk_at dksX1_rule_0 7 rfl rfl)
theorem dX1_rule_8 : decode cX1_rule 8 = .ok (.ifCond .ne 7, 3) := dk_154 0 7 (dk_at dksX1_rule_0 8 rfl rfl)
theorem dX1_rule_11 : decode cX1_rule 11 = .ok (.aconst_null, 1) := dk_1 (dk_at dksX1_rule_0 11 rfl rfl)
theorem dX1_rule_12 : decode cX1_rule 12 = .ok (.goto 8, 3) := dk_167 0 8 (dk_at dksX1_rule_0 12 rfl rfl)
theorem dX1_rule_15 : decode cX1_rule 15 = .ok (.aload_n 0, 1) := dk_42 (dk_at dksX1_rule_0 15 rfl rfl)
theorem dX1_rule_16 : decode cX1_rule 16 = .ok (.iconst 0, 1) := dk_3 (dk_at dksX1_rule_0 16 rfl rfl)
theorem dX1_rule_17 : decode cX1_rule 17 = .ok (.invokevirtual 214, 3) := dk_182 0 214 (dk_at dksX1_rule_0 17 rfl rfl)
theorem dX1_rule_20 : decode cX1_rule 20 = .ok (.astore_n 2, 1) := dk_77 (dk_at dksX1_rule_0 20 rfl rfl)
theorem dX1_rule_21 : decode cX1_rule 21 = .ok (.iload_n 1, 1) := dk_27 (dk_at dksX1_rule_0 21 rfl rfl)
theorem dX1_rule_22 : decode cX1_rule 22 = .ok (.ifCond .ne 7, 3) := dk_154 0 7 (dk_at dksX1_rule_1 0 rfl rfl)
theorem dX1_rule_25 : decode cX1_rule 25 = .ok (.iconst 0, 1) := dk_3 (dk_at dksX1_rule_1 3 rfl rfl)
theorem dX1_rule_26 : decode cX1_rule 26 = .ok (.goto 17, 3) := dk_167 0 17 (dk_at dksX1_rule_1 4 rfl rfl)
theorem dX1_rule_29 : decode cX1_rule 29 = .ok (.aload_n 0, 1) := dk_42 (dk_at dksX1_rule_1 7 rfl rfl)
theorem dX1_rule_30 : decode cX1_rule 30 = .ok (.iload_n 1, 1) := dk_27 (dk_at dksX1_rule_1 8 rfl rfl)
theorem dX1_rule_31 : decode cX1_rule 31 = .ok (.aload_n 2, 1) := dk_44 (dk_at dksX1_rule_1 9 rfl rfl)
theorem dX1_rule_32 : decode cX1_rule 32 = .ok (.ifnull 7, 3) := dk_198 0 7 (dk_at dksX1_rule_1 10 rfl rfl)
theorem dX1_rule_35 : decode cX1_rule 35 = .ok (.iconst 1, 1) := dk_4 (dk_at dksX1_rule_1 13 rfl rfl)
theorem dX1_rule_36 : decode cX1_rule 36 = .ok (.goto 4, 3) := dk_167 0 4 (dk_at dksX1_rule_1 14 rfl rfl)
theorem dX1_rule_39 : decode cX1_rule 39 = .ok (.iconst 0, 1) := dk_3 (dk_at dksX1_rule_1 17 rfl rfl)
theorem dX1_rule_40 : decode cX1_rule 40 = .ok (.invokevirtual 187, 3) := dk_182 0 187 (dk_at dksX1_rule_1 18 rfl rfl)
theorem dX1_rule_43 : decode cX1_rule 43 = .ok (.istore_n 3, 1) := dk_62 (dk_at dksX1_rule_1 21 rfl rfl)
theorem dX1_rule_44 : decode cX1_rule 44 = .ok (.iload_n 3, 1) := dk_29 (dk_at dksX1_rule_1 22 rfl rfl)
theorem dX1_rule_45 : decode cX1_rule 45 = .ok (.ifCond .ne 8, 3) := dk_154 0 8 (dk_at dksX1_rule_2 0 rfl rfl)
theorem dX1_rule_48 : decode cX1_rule 48 = .ok (.aload_n 0, 1) := dk_42 (dk_at dksX1_rule_2 3 rfl rfl)
theorem dX1_rule_49 : decode cX1_rule 49 = .ok (.aload_n 2, 1) := dk_44 (dk_at dksX1_rule_2 4 rfl rfl)
theorem dX1_rule_50 : decode cX1_rule 50 = .ok (.putfield 233, 3) := dk_181 0 233 (dk_at dksX1_rule_2 5 rfl rfl)
theorem dX1_rule_53 : decode cX1_rule 53 = .ok (.iload_n 3, 1) := dk_29 (dk_at dksX1_rule_2 8 rfl rfl)
theorem dX1_rule_54 : decode cX1_rule 54 = .ok (.ireturn, 1) := dk_172 (dk_at dksX1_rule_2 9 rfl rfl)
abbrev cX1_reads : ByteArray := prog_1_method_22_code
def yX1_reads : MethodName := ⟨RX1, "reads", "(I)LNextMustShare$Node;"⟩
def dkwX1_reads_4 : List UInt8 := [158, 0, 7, 4, 167, 0, 4, 3, 62, 167, 255, 173, 44, 176]
abbrev dktX1_reads_4 : List UInt8 := dkwX1_reads_4 ++ []
def dkwX1_reads_3 : List UInt8 := [199, 0, 7, 1, 167, 0, 16, 187, 0, 228, 89, 42, 21, 4, 44, 25, 5, 183, 0, 230, 77, 27]
abbrev dktX1_reads_3 : List UInt8 := dkwX1_reads_3 ++ dktX1_reads_4
def dkwX1_reads_2 : List UInt8 := [146, 54, 4, 42, 89, 180, 0, 116, 4, 96, 181, 0, 116, 42, 27, 4, 96, 182, 0, 214, 58, 5, 25, 5]
abbrev dktX1_reads_2 : List UInt8 := dkwX1_reads_2 ++ dktX1_reads_3
def dkwX1_reads_1 : List UInt8 := [29, 153, 0, 81, 42, 27, 184, 0, 224, 182, 0, 207, 153, 0, 70, 42, 180, 0, 34, 42, 180, 0, 116, 46]
abbrev dktX1_reads_1 : List UInt8 := dkwX1_reads_1 ++ dktX1_reads_2
def dkwX1_reads_0 : List UInt8 := [27, 6, 160, 0, 8, 42, 182, 0, 191, 176, 42, 27, 4, 96, 182, 0, 214, 77, 4, 62, 44, 198, 0, 85]
abbrev dktX1_reads_0 : List UInt8 := dkwX1_reads_0 ++ dktX1_reads_1
theorem dksX1_reads_0 : cX1_reads.data.toList.drop 0 = dktX1_reads_0 := by decide +kernel
theorem dksX1_reads_1 : cX1_reads.data.toList.drop 24 = dktX1_reads_1 := dk_seg dksX1_reads_0 24 rfl rfl
theorem dksX1_reads_2 : cX1_reads.data.toList.drop 48 = dktX1_reads_2 := dk_seg dksX1_reads_1 24 rfl rfl
theorem dksX1_reads_3 : cX1_reads.data.toList.drop 72 = dktX1_reads_3 := dk_seg dksX1_reads_2 24 rfl rfl
theorem dksX1_reads_4 : cX1_reads.data.toList.drop 94 = dktX1_reads_4 := dk_seg dksX1_reads_3 22 rfl rfl
theorem dX1_reads_0 : decode cX1_reads 0 = .ok (.iload_n 1, 1) := dk_27 (dk_at dksX1_reads_0 0 rfl rfl)
theorem dX1_reads_1 : decode cX1_reads 1 = .ok (.iconst 3, 1) := dk_6 (dk_at dksX1_reads_0 1 rfl rfl)
theorem dX1_reads_2 : decode cX1_reads 2 = .ok (.if_icmp .ne 8, 3) := dk_160 0 8 (dk_at dksX1_reads_0 2 rfl rfl)
theorem dX1_reads_5 : decode cX1_reads 5 = .ok (.aload_n 0, 1) := dk_42 (dk_at dksX1_reads_0 5 rfl rfl)
theorem dX1_reads_6 : decode cX1_reads 6 = .ok (.invokevirtual 191, 3) := dk_182 0 191 (dk_at dksX1_reads_0 6 rfl rfl)
theorem dX1_reads_9 : decode cX1_reads 9 = .ok (.areturn, 1) := dk_176 (dk_at dksX1_reads_0 9 rfl rfl)
theorem dX1_reads_10 : decode cX1_reads 10 = .ok (.aload_n 0, 1) := dk_42 (dk_at dksX1_reads_0 10 rfl rfl)
theorem dX1_reads_11 : decode cX1_reads 11 = .ok (.iload_n 1, 1) := dk_27 (dk_at dksX1_reads_0 11 rfl rfl)
theorem dX1_reads_12 : decode cX1_reads 12 = .ok (.iconst 1, 1) := dk_4 (dk_at dksX1_reads_0 12 rfl rfl)
theorem dX1_reads_13 : decode cX1_reads 13 = .ok (.iadd, 1) := dk_96 (dk_at dksX1_reads_0 13 rfl rfl)
theorem dX1_reads_14 : decode cX1_reads 14 = .ok (.invokevirtual 214, 3) := dk_182 0 214 (dk_at dksX1_reads_0 14 rfl rfl)
theorem dX1_reads_17 : decode cX1_reads 17 = .ok (.astore_n 2, 1) := dk_77 (dk_at dksX1_reads_0 17 rfl rfl)
theorem dX1_reads_18 : decode cX1_reads 18 = .ok (.iconst 1, 1) := dk_4 (dk_at dksX1_reads_0 18 rfl rfl)
theorem dX1_reads_19 : decode cX1_reads 19 = .ok (.istore_n 3, 1) := dk_62 (dk_at dksX1_reads_0 19 rfl rfl)
theorem dX1_reads_20 : decode cX1_reads 20 = .ok (.aload_n 2, 1) := dk_44 (dk_at dksX1_reads_0 20 rfl rfl)
theorem dX1_reads_21 : decode cX1_reads 21 = .ok (.ifnull 85, 3) := dk_198 0 85 (dk_at dksX1_reads_0 21 rfl rfl)
theorem dX1_reads_24 : decode cX1_reads 24 = .ok (.iload_n 3, 1) := dk_29 (dk_at dksX1_reads_1 0 rfl rfl)
theorem dX1_reads_25 : decode cX1_reads 25 = .ok (.ifCond .eq 81, 3) := dk_153 0 81 (dk_at dksX1_reads_1 1 rfl rfl)
theorem dX1_reads_28 : decode cX1_reads 28 = .ok (.aload_n 0, 1) := dk_42 (dk_at dksX1_reads_1 4 rfl rfl)
theorem dX1_reads_29 : decode cX1_reads 29 = .ok (.iload_n 1, 1) := dk_27 (dk_at dksX1_reads_1 5 rfl rfl)
theorem dX1_reads_30 : decode cX1_reads 30 = .ok (.invokestatic 224, 3) := dk_184 0 224 (dk_at dksX1_reads_1 6 rfl rfl)
theorem dX1_reads_33 : decode cX1_reads 33 = .ok (.invokevirtual 207, 3) := dk_182 0 207 (dk_at dksX1_reads_1 9 rfl rfl)
theorem dX1_reads_36 : decode cX1_reads 36 = .ok (.ifCond .eq 70, 3) := dk_153 0 70 (dk_at dksX1_reads_1 12 rfl rfl)
theorem dX1_reads_39 : decode cX1_reads 39 = .ok (.aload_n 0, 1) := dk_42 (dk_at dksX1_reads_1 15 rfl rfl)
theorem dX1_reads_40 : decode cX1_reads 40 = .ok (.getfield 34, 3) := dk_180 0 34 (dk_at dksX1_reads_1 16 rfl rfl)
theorem dX1_reads_43 : decode cX1_reads 43 = .ok (.aload_n 0, 1) := dk_42 (dk_at dksX1_reads_1 19 rfl rfl)
theorem dX1_reads_44 : decode cX1_reads 44 = .ok (.getfield 116, 3) := dk_180 0 116 (dk_at dksX1_reads_1 20 rfl rfl)
theorem dX1_reads_47 : decode cX1_reads 47 = .ok (.iaload, 1) := dk_46 (dk_at dksX1_reads_1 23 rfl rfl)
theorem dX1_reads_48 : decode cX1_reads 48 = .ok (.i2c, 1) := dk_146 (dk_at dksX1_reads_2 0 rfl rfl)
theorem dX1_reads_49 : decode cX1_reads 49 = .ok (.istore 4, 2) := dk_54 4 (dk_at dksX1_reads_2 1 rfl rfl)
theorem dX1_reads_51 : decode cX1_reads 51 = .ok (.aload_n 0, 1) := dk_42 (dk_at dksX1_reads_2 3 rfl rfl)
theorem dX1_reads_52 : decode cX1_reads 52 = .ok (.dup, 1) := dk_89 (dk_at dksX1_reads_2 4 rfl rfl)
theorem dX1_reads_53 : decode cX1_reads 53 = .ok (.getfield 116, 3) := dk_180 0 116 (dk_at dksX1_reads_2 5 rfl rfl)
theorem dX1_reads_56 : decode cX1_reads 56 = .ok (.iconst 1, 1) := dk_4 (dk_at dksX1_reads_2 8 rfl rfl)
theorem dX1_reads_57 : decode cX1_reads 57 = .ok (.iadd, 1) := dk_96 (dk_at dksX1_reads_2 9 rfl rfl)
theorem dX1_reads_58 : decode cX1_reads 58 = .ok (.putfield 116, 3) := dk_181 0 116 (dk_at dksX1_reads_2 10 rfl rfl)
theorem dX1_reads_61 : decode cX1_reads 61 = .ok (.aload_n 0, 1) := dk_42 (dk_at dksX1_reads_2 13 rfl rfl)
theorem dX1_reads_62 : decode cX1_reads 62 = .ok (.iload_n 1, 1) := dk_27 (dk_at dksX1_reads_2 14 rfl rfl)
theorem dX1_reads_63 : decode cX1_reads 63 = .ok (.iconst 1, 1) := dk_4 (dk_at dksX1_reads_2 15 rfl rfl)
theorem dX1_reads_64 : decode cX1_reads 64 = .ok (.iadd, 1) := dk_96 (dk_at dksX1_reads_2 16 rfl rfl)
theorem dX1_reads_65 : decode cX1_reads 65 = .ok (.invokevirtual 214, 3) := dk_182 0 214 (dk_at dksX1_reads_2 17 rfl rfl)
theorem dX1_reads_68 : decode cX1_reads 68 = .ok (.astore 5, 2) := dk_58 5 (dk_at dksX1_reads_2 20 rfl rfl)
theorem dX1_reads_70 : decode cX1_reads 70 = .ok (.aload 5, 2) := dk_25 5 (dk_at dksX1_reads_2 22 rfl rfl)
theorem dX1_reads_72 : decode cX1_reads 72 = .ok (.ifnonnull 7, 3) := dk_199 0 7 (dk_at dksX1_reads_3 0 rfl rfl)
theorem dX1_reads_75 : decode cX1_reads 75 = .ok (.aconst_null, 1) := dk_1 (dk_at dksX1_reads_3 3 rfl rfl)
theorem dX1_reads_76 : decode cX1_reads 76 = .ok (.goto 16, 3) := dk_167 0 16 (dk_at dksX1_reads_3 4 rfl rfl)
theorem dX1_reads_79 : decode cX1_reads 79 = .ok (.new 228, 3) := dk_187 0 228 (dk_at dksX1_reads_3 7 rfl rfl)
theorem dX1_reads_82 : decode cX1_reads 82 = .ok (.dup, 1) := dk_89 (dk_at dksX1_reads_3 10 rfl rfl)
theorem dX1_reads_83 : decode cX1_reads 83 = .ok (.aload_n 0, 1) := dk_42 (dk_at dksX1_reads_3 11 rfl rfl)
theorem dX1_reads_84 : decode cX1_reads 84 = .ok (.iload 4, 2) := dk_21 4 (dk_at dksX1_reads_3 12 rfl rfl)
theorem dX1_reads_86 : decode cX1_reads 86 = .ok (.aload_n 2, 1) := dk_44 (dk_at dksX1_reads_3 14 rfl rfl)
theorem dX1_reads_87 : decode cX1_reads 87 = .ok (.aload 5, 2) := dk_25 5 (dk_at dksX1_reads_3 15 rfl rfl)
theorem dX1_reads_89 : decode cX1_reads 89 = .ok (.invokespecial 230, 3) := dk_183 0 230 (dk_at dksX1_reads_3 17 rfl rfl)
theorem dX1_reads_92 : decode cX1_reads 92 = .ok (.astore_n 2, 1) := dk_77 (dk_at dksX1_reads_3 20 rfl rfl)
theorem dX1_reads_93 : decode cX1_reads 93 = .ok (.iload_n 1, 1) := dk_27 (dk_at dksX1_reads_3 21 rfl rfl)
theorem dX1_reads_94 : decode cX1_reads 94 = .ok (.ifCond .le 7, 3) := dk_158 0 7 (dk_at dksX1_reads_4 0 rfl rfl)
theorem dX1_reads_97 : decode cX1_reads 97 = .ok (.iconst 1, 1) := dk_4 (dk_at dksX1_reads_4 3 rfl rfl)
theorem dX1_reads_98 : decode cX1_reads 98 = .ok (.goto 4, 3) := dk_167 0 4 (dk_at dksX1_reads_4 4 rfl rfl)
theorem dX1_reads_101 : decode cX1_reads 101 = .ok (.iconst 0, 1) := dk_3 (dk_at dksX1_reads_4 7 rfl rfl)
theorem dX1_reads_102 : decode cX1_reads 102 = .ok (.istore_n 3, 1) := dk_62 (dk_at dksX1_reads_4 8 rfl rfl)
theorem dX1_reads_103 : decode cX1_reads 103 = .ok (.goto (-83), 3) := dk_167 255 173 (dk_at dksX1_reads_4 9 rfl rfl)
theorem dX1_reads_106 : decode cX1_reads 106 = .ok (.aload_n 2, 1) := dk_44 (dk_at dksX1_reads_4 12 rfl rfl)
theorem dX1_reads_107 : decode cX1_reads 107 = .ok (.areturn, 1) := dk_176 (dk_at dksX1_reads_4 13 rfl rfl)
abbrev cX1_readsThing : ByteArray := prog_1_method_20_code
def yX1_readsThing : MethodName := ⟨RX1, "readsThing", "()LNextMustShare$Node;"⟩
def dkwX1_readsThing_6 : List UInt8 := [42, 16, 41, 182, 0, 169, 154, 0, 5, 1, 176, 42, 89, 180, 0, 119, 4, 100, 181, 0, 119, 43, 176]
abbrev dktX1_readsThing_6 : List UInt8 := dkwX1_readsThing_6 ++ []
def dkwX1_readsThing_5 : List UInt8 := [96, 181, 0, 116, 42, 89, 180, 0, 119, 4, 96, 181, 0, 119, 42, 3, 182, 0, 214, 76, 43, 198, 0, 12]
abbrev dktX1_readsThing_5 : List UInt8 := dkwX1_readsThing_5 ++ dktX1_readsThing_6
def dkwX1_readsThing_4 : List UInt8 := [16, 40, 182, 0, 131, 153, 0, 11, 42, 180, 0, 119, 7, 160, 0, 5, 1, 176, 42, 89, 180, 0, 116, 4]
abbrev dktX1_readsThing_4 : List UInt8 := dkwX1_readsThing_4 ++ dktX1_readsThing_5
def dkwX1_readsThing_3 : List UInt8 := [181, 0, 116, 187, 0, 211, 89, 42, 42, 180, 0, 34, 42, 180, 0, 116, 4, 100, 46, 183, 0, 213, 176, 42]
abbrev dktX1_readsThing_3 : List UInt8 := dkwX1_readsThing_3 ++ dktX1_readsThing_4
def dkwX1_readsThing_2 : List UInt8 := [182, 0, 163, 183, 0, 202, 176, 42, 18, 205, 182, 0, 207, 153, 0, 33, 42, 89, 180, 0, 116, 4, 96]
abbrev dktX1_readsThing_2 : List UInt8 := dkwX1_readsThing_2 ++ dktX1_readsThing_3
def dkwX1_readsThing_1 : List UInt8 := [187, 0, 195, 89, 42, 43, 183, 0, 197, 176, 42, 182, 0, 145, 153, 0, 17, 187, 0, 200, 89, 42, 42, 6]
abbrev dktX1_readsThing_1 : List UInt8 := dkwX1_readsThing_1 ++ dktX1_readsThing_2
def dkwX1_readsThing_0 : List UInt8 := [42, 16, 45, 182, 0, 169, 153, 0, 26, 42, 182, 0, 191, 76, 43, 199, 0, 7, 1, 167, 0, 12]
abbrev dktX1_readsThing_0 : List UInt8 := dkwX1_readsThing_0 ++ dktX1_readsThing_1
theorem dksX1_readsThing_0 : cX1_readsThing.data.toList.drop 0 = dktX1_readsThing_0 := by decide +kernel
theorem dksX1_readsThing_1 : cX1_readsThing.data.toList.drop 22 = dktX1_readsThing_1 := dk_seg dksX1_readsThing_0 22 rfl rfl
theorem dksX1_readsThing_2 : cX1_readsThing.data.toList.drop 46 = dktX1_readsThing_2 := dk_seg dksX1_readsThing_1 24 rfl rfl
theorem dksX1_readsThing_3 : cX1_readsThing.data.toList.drop 69 = dktX1_readsThing_3 := dk_seg dksX1_readsThing_2 23 rfl rfl
theorem dksX1_readsThing_4 : cX1_readsThing.data.toList.drop 93 = dktX1_readsThing_4 := dk_seg dksX1_readsThing_3 24 rfl rfl
theorem dksX1_readsThing_5 : cX1_readsThing.data.toList.drop 117 = dktX1_readsThing_5 := dk_seg dksX1_readsThing_4 24 rfl rfl
theorem dksX1_readsThing_6 : cX1_readsThing.data.toList.drop 141 = dktX1_readsThing_6 := dk_seg dksX1_readsThing_5 24 rfl rfl
theorem dX1_readsThing_0 : decode cX1_readsThing 0 = .ok (.aload_n 0, 1) := dk_42 (dk_at dksX1_readsThing_0 0 rfl rfl)
theorem dX1_readsThing_1 : decode cX1_readsThing 1 = .ok (.bipush 45, 2) := dk_16 45 (dk_at dksX1_readsThing_0 1 rfl rfl)
theorem dX1_readsThing_3 : decode cX1_readsThing 3 = .ok (.invokevirtual 169, 3) := dk_182 0 169 (dk_at dksX1_readsThing_0 3 rfl rfl)
theorem dX1_readsThing_6 : decode cX1_readsThing 6 = .ok (.ifCond .eq 26, 3) := dk_153 0 26 (dk_at dksX1_readsThing_0 6 rfl rfl)
theorem dX1_readsThing_9 : decode cX1_readsThing 9 = .ok (.aload_n 0, 1) := dk_42 (dk_at dksX1_readsThing_0 9 rfl rfl)
theorem dX1_readsThing_10 : decode cX1_readsThing 10 = .ok (.invokevirtual 191, 3) := dk_182 0 191 (dk_at dksX1_readsThing_0 10 rfl rfl)
theorem dX1_readsThing_13 : decode cX1_readsThing 13 = .ok (.astore_n 1, 1) := dk_76 (dk_at dksX1_readsThing_0 13 rfl rfl)
theorem dX1_readsThing_14 : decode cX1_readsThing 14 = .ok (.aload_n 1, 1) := dk_43 (dk_at dksX1_readsThing_0 14 rfl rfl)
theorem dX1_readsThing_15 : decode cX1_readsThing 15 = .ok (.ifnonnull 7, 3) := dk_199 0 7 (dk_at dksX1_readsThing_0 15 rfl rfl)
theorem dX1_readsThing_18 : decode cX1_readsThing 18 = .ok (.aconst_null, 1) := dk_1 (dk_at dksX1_readsThing_0 18 rfl rfl)
theorem dX1_readsThing_19 : decode cX1_readsThing 19 = .ok (.goto 12, 3) := dk_167 0 12 (dk_at dksX1_readsThing_0 19 rfl rfl)
theorem dX1_readsThing_22 : decode cX1_readsThing 22 = .ok (.new 195, 3) := dk_187 0 195 (dk_at dksX1_readsThing_1 0 rfl rfl)
theorem dX1_readsThing_25 : decode cX1_readsThing 25 = .ok (.dup, 1) := dk_89 (dk_at dksX1_readsThing_1 3 rfl rfl)
theorem dX1_readsThing_26 : decode cX1_readsThing 26 = .ok (.aload_n 0, 1) := dk_42 (dk_at dksX1_readsThing_1 4 rfl rfl)
theorem dX1_readsThing_27 : decode cX1_readsThing 27 = .ok (.aload_n 1, 1) := dk_43 (dk_at dksX1_readsThing_1 5 rfl rfl)
theorem dX1_readsThing_28 : decode cX1_readsThing 28 = .ok (.invokespecial 197, 3) := dk_183 0 197 (dk_at dksX1_readsThing_1 6 rfl rfl)
theorem dX1_readsThing_31 : decode cX1_readsThing 31 = .ok (.areturn, 1) := dk_176 (dk_at dksX1_readsThing_1 9 rfl rfl)
theorem dX1_readsThing_32 : decode cX1_readsThing 32 = .ok (.aload_n 0, 1) := dk_42 (dk_at dksX1_readsThing_1 10 rfl rfl)
theorem dX1_readsThing_33 : decode cX1_readsThing 33 = .ok (.invokevirtual 145, 3) := dk_182 0 145 (dk_at dksX1_readsThing_1 11 rfl rfl)
theorem dX1_readsThing_36 : decode cX1_readsThing 36 = .ok (.ifCond .eq 17, 3) := dk_153 0 17 (dk_at dksX1_readsThing_1 14 rfl rfl)
theorem dX1_readsThing_39 : decode cX1_readsThing 39 = .ok (.new 200, 3) := dk_187 0 200 (dk_at dksX1_readsThing_1 17 rfl rfl)
theorem dX1_readsThing_42 : decode cX1_readsThing 42 = .ok (.dup, 1) := dk_89 (dk_at dksX1_readsThing_1 20 rfl rfl)
theorem dX1_readsThing_43 : decode cX1_readsThing 43 = .ok (.aload_n 0, 1) := dk_42 (dk_at dksX1_readsThing_1 21 rfl rfl)
theorem dX1_readsThing_44 : decode cX1_readsThing 44 = .ok (.aload_n 0, 1) := dk_42 (dk_at dksX1_readsThing_1 22 rfl rfl)
theorem dX1_readsThing_45 : decode cX1_readsThing 45 = .ok (.iconst 3, 1) := dk_6 (dk_at dksX1_readsThing_1 23 rfl rfl)
theorem dX1_readsThing_46 : decode cX1_readsThing 46 = .ok (.invokevirtual 163, 3) := dk_182 0 163 (dk_at dksX1_readsThing_2 0 rfl rfl)
theorem dX1_readsThing_49 : decode cX1_readsThing 49 = .ok (.invokespecial 202, 3) := dk_183 0 202 (dk_at dksX1_readsThing_2 3 rfl rfl)
theorem dX1_readsThing_52 : decode cX1_readsThing 52 = .ok (.areturn, 1) := dk_176 (dk_at dksX1_readsThing_2 6 rfl rfl)
theorem dX1_readsThing_53 : decode cX1_readsThing 53 = .ok (.aload_n 0, 1) := dk_42 (dk_at dksX1_readsThing_2 7 rfl rfl)
theorem dX1_readsThing_54 : decode cX1_readsThing 54 = .ok (.ldc 205, 2) := dk_18 205 (dk_at dksX1_readsThing_2 8 rfl rfl)
theorem dX1_readsThing_56 : decode cX1_readsThing 56 = .ok (.invokevirtual 207, 3) := dk_182 0 207 (dk_at dksX1_readsThing_2 10 rfl rfl)
theorem dX1_readsThing_59 : decode cX1_readsThing 59 = .ok (.ifCond .eq 33, 3) := dk_153 0 33 (dk_at dksX1_readsThing_2 13 rfl rfl)
theorem dX1_readsThing_62 : decode cX1_readsThing 62 = .ok (.aload_n 0, 1) := dk_42 (dk_at dksX1_readsThing_2 16 rfl rfl)
theorem dX1_readsThing_63 : decode cX1_readsThing 63 = .ok (.dup, 1) := dk_89 (dk_at dksX1_readsThing_2 17 rfl rfl)
theorem dX1_readsThing_64 : decode cX1_readsThing 64 = .ok (.getfield 116, 3) := dk_180 0 116 (dk_at dksX1_readsThing_2 18 rfl rfl)
theorem dX1_readsThing_67 : decode cX1_readsThing 67 = .ok (.iconst 1, 1) := dk_4 (dk_at dksX1_readsThing_2 21 rfl rfl)
theorem dX1_readsThing_68 : decode cX1_readsThing 68 = .ok (.iadd, 1) := dk_96 (dk_at dksX1_readsThing_2 22 rfl rfl)
theorem dX1_readsThing_69 : decode cX1_readsThing 69 = .ok (.putfield 116, 3) := dk_181 0 116 (dk_at dksX1_readsThing_3 0 rfl rfl)
theorem dX1_readsThing_72 : decode cX1_readsThing 72 = .ok (.new 211, 3) := dk_187 0 211 (dk_at dksX1_readsThing_3 3 rfl rfl)
theorem dX1_readsThing_75 : decode cX1_readsThing 75 = .ok (.dup, 1) := dk_89 (dk_at dksX1_readsThing_3 6 rfl rfl)
theorem dX1_readsThing_76 : decode cX1_readsThing 76 = .ok (.aload_n 0, 1) := dk_42 (dk_at dksX1_readsThing_3 7 rfl rfl)
theorem dX1_readsThing_77 : decode cX1_readsThing 77 = .ok (.aload_n 0, 1) := dk_42 (dk_at dksX1_readsThing_3 8 rfl rfl)
theorem dX1_readsThing_78 : decode cX1_readsThing 78 = .ok (.getfield 34, 3) := dk_180 0 34 (dk_at dksX1_readsThing_3 9 rfl rfl)
theorem dX1_readsThing_81 : decode cX1_readsThing 81 = .ok (.aload_n 0, 1) := dk_42 (dk_at dksX1_readsThing_3 12 rfl rfl)
theorem dX1_readsThing_82 : decode cX1_readsThing 82 = .ok (.getfield 116, 3) := dk_180 0 116 (dk_at dksX1_readsThing_3 13 rfl rfl)
theorem dX1_readsThing_85 : decode cX1_readsThing 85 = .ok (.iconst 1, 1) := dk_4 (dk_at dksX1_readsThing_3 16 rfl rfl)
theorem dX1_readsThing_86 : decode cX1_readsThing 86 = .ok (.isub, 1) := dk_100 (dk_at dksX1_readsThing_3 17 rfl rfl)
theorem dX1_readsThing_87 : decode cX1_readsThing 87 = .ok (.iaload, 1) := dk_46 (dk_at dksX1_readsThing_3 18 rfl rfl)
theorem dX1_readsThing_88 : decode cX1_readsThing 88 = .ok (.invokespecial 213, 3) := dk_183 0 213 (dk_at dksX1_readsThing_3 19 rfl rfl)
theorem dX1_readsThing_91 : decode cX1_readsThing 91 = .ok (.areturn, 1) := dk_176 (dk_at dksX1_readsThing_3 22 rfl rfl)
theorem dX1_readsThing_92 : decode cX1_readsThing 92 = .ok (.aload_n 0, 1) := dk_42 (dk_at dksX1_readsThing_3 23 rfl rfl)
theorem dX1_readsThing_93 : decode cX1_readsThing 93 = .ok (.bipush 40, 2) := dk_16 40 (dk_at dksX1_readsThing_4 0 rfl rfl)
theorem dX1_readsThing_95 : decode cX1_readsThing 95 = .ok (.invokevirtual 131, 3) := dk_182 0 131 (dk_at dksX1_readsThing_4 2 rfl rfl)
theorem dX1_readsThing_98 : decode cX1_readsThing 98 = .ok (.ifCond .eq 11, 3) := dk_153 0 11 (dk_at dksX1_readsThing_4 5 rfl rfl)
theorem dX1_readsThing_101 : decode cX1_readsThing 101 = .ok (.aload_n 0, 1) := dk_42 (dk_at dksX1_readsThing_4 8 rfl rfl)
theorem dX1_readsThing_102 : decode cX1_readsThing 102 = .ok (.getfield 119, 3) := dk_180 0 119 (dk_at dksX1_readsThing_4 9 rfl rfl)
theorem dX1_readsThing_105 : decode cX1_readsThing 105 = .ok (.iconst 4, 1) := dk_7 (dk_at dksX1_readsThing_4 12 rfl rfl)
theorem dX1_readsThing_106 : decode cX1_readsThing 106 = .ok (.if_icmp .ne 5, 3) := dk_160 0 5 (dk_at dksX1_readsThing_4 13 rfl rfl)
theorem dX1_readsThing_109 : decode cX1_readsThing 109 = .ok (.aconst_null, 1) := dk_1 (dk_at dksX1_readsThing_4 16 rfl rfl)
theorem dX1_readsThing_110 : decode cX1_readsThing 110 = .ok (.areturn, 1) := dk_176 (dk_at dksX1_readsThing_4 17 rfl rfl)
theorem dX1_readsThing_111 : decode cX1_readsThing 111 = .ok (.aload_n 0, 1) := dk_42 (dk_at dksX1_readsThing_4 18 rfl rfl)
theorem dX1_readsThing_112 : decode cX1_readsThing 112 = .ok (.dup, 1) := dk_89 (dk_at dksX1_readsThing_4 19 rfl rfl)
theorem dX1_readsThing_113 : decode cX1_readsThing 113 = .ok (.getfield 116, 3) := dk_180 0 116 (dk_at dksX1_readsThing_4 20 rfl rfl)
theorem dX1_readsThing_116 : decode cX1_readsThing 116 = .ok (.iconst 1, 1) := dk_4 (dk_at dksX1_readsThing_4 23 rfl rfl)
theorem dX1_readsThing_117 : decode cX1_readsThing 117 = .ok (.iadd, 1) := dk_96 (dk_at dksX1_readsThing_5 0 rfl rfl)
theorem dX1_readsThing_118 : decode cX1_readsThing 118 = .ok (.putfield 116, 3) := dk_181 0 116 (dk_at dksX1_readsThing_5 1 rfl rfl)
theorem dX1_readsThing_121 : decode cX1_readsThing 121 = .ok (.aload_n 0, 1) := dk_42 (dk_at dksX1_readsThing_5 4 rfl rfl)
theorem dX1_readsThing_122 : decode cX1_readsThing 122 = .ok (.dup, 1) := dk_89 (dk_at dksX1_readsThing_5 5 rfl rfl)
theorem dX1_readsThing_123 : decode cX1_readsThing 123 = .ok (.getfield 119, 3) := dk_180 0 119 (dk_at dksX1_readsThing_5 6 rfl rfl)
theorem dX1_readsThing_126 : decode cX1_readsThing 126 = .ok (.iconst 1, 1) := dk_4 (dk_at dksX1_readsThing_5 9 rfl rfl)
theorem dX1_readsThing_127 : decode cX1_readsThing 127 = .ok (.iadd, 1) := dk_96 (dk_at dksX1_readsThing_5 10 rfl rfl)
theorem dX1_readsThing_128 : decode cX1_readsThing 128 = .ok (.putfield 119, 3) := dk_181 0 119 (dk_at dksX1_readsThing_5 11 rfl rfl)
theorem dX1_readsThing_131 : decode cX1_readsThing 131 = .ok (.aload_n 0, 1) := dk_42 (dk_at dksX1_readsThing_5 14 rfl rfl)
theorem dX1_readsThing_132 : decode cX1_readsThing 132 = .ok (.iconst 0, 1) := dk_3 (dk_at dksX1_readsThing_5 15 rfl rfl)
theorem dX1_readsThing_133 : decode cX1_readsThing 133 = .ok (.invokevirtual 214, 3) := dk_182 0 214 (dk_at dksX1_readsThing_5 16 rfl rfl)
theorem dX1_readsThing_136 : decode cX1_readsThing 136 = .ok (.astore_n 1, 1) := dk_76 (dk_at dksX1_readsThing_5 19 rfl rfl)
theorem dX1_readsThing_137 : decode cX1_readsThing 137 = .ok (.aload_n 1, 1) := dk_43 (dk_at dksX1_readsThing_5 20 rfl rfl)
theorem dX1_readsThing_138 : decode cX1_readsThing 138 = .ok (.ifnull 12, 3) := dk_198 0 12 (dk_at dksX1_readsThing_5 21 rfl rfl)
theorem dX1_readsThing_141 : decode cX1_readsThing 141 = .ok (.aload_n 0, 1) := dk_42 (dk_at dksX1_readsThing_6 0 rfl rfl)
theorem dX1_readsThing_142 : decode cX1_readsThing 142 = .ok (.bipush 41, 2) := dk_16 41 (dk_at dksX1_readsThing_6 1 rfl rfl)
theorem dX1_readsThing_144 : decode cX1_readsThing 144 = .ok (.invokevirtual 169, 3) := dk_182 0 169 (dk_at dksX1_readsThing_6 3 rfl rfl)
theorem dX1_readsThing_147 : decode cX1_readsThing 147 = .ok (.ifCond .ne 5, 3) := dk_154 0 5 (dk_at dksX1_readsThing_6 6 rfl rfl)
theorem dX1_readsThing_150 : decode cX1_readsThing 150 = .ok (.aconst_null, 1) := dk_1 (dk_at dksX1_readsThing_6 9 rfl rfl)
theorem dX1_readsThing_151 : decode cX1_readsThing 151 = .ok (.areturn, 1) := dk_176 (dk_at dksX1_readsThing_6 10 rfl rfl)
theorem dX1_readsThing_152 : decode cX1_readsThing 152 = .ok (.aload_n 0, 1) := dk_42 (dk_at dksX1_readsThing_6 11 rfl rfl)
theorem dX1_readsThing_153 : decode cX1_readsThing 153 = .ok (.dup, 1) := dk_89 (dk_at dksX1_readsThing_6 12 rfl rfl)
theorem dX1_readsThing_154 : decode cX1_readsThing 154 = .ok (.getfield 119, 3) := dk_180 0 119 (dk_at dksX1_readsThing_6 13 rfl rfl)
theorem dX1_readsThing_157 : decode cX1_readsThing 157 = .ok (.iconst 1, 1) := dk_4 (dk_at dksX1_readsThing_6 16 rfl rfl)
theorem dX1_readsThing_158 : decode cX1_readsThing 158 = .ok (.isub, 1) := dk_100 (dk_at dksX1_readsThing_6 17 rfl rfl)
theorem dX1_readsThing_159 : decode cX1_readsThing 159 = .ok (.putfield 119, 3) := dk_181 0 119 (dk_at dksX1_readsThing_6 18 rfl rfl)
theorem dX1_readsThing_162 : decode cX1_readsThing 162 = .ok (.aload_n 1, 1) := dk_43 (dk_at dksX1_readsThing_6 21 rfl rfl)
theorem dX1_readsThing_163 : decode cX1_readsThing 163 = .ok (.areturn, 1) := dk_176 (dk_at dksX1_readsThing_6 22 rfl rfl)
abbrev cX1_isOf : ByteArray := prog_1_method_11_code
def yX1_isOf : MethodName := ⟨RX1, "isOf", "(Ljava/lang/String;)Z"⟩
def dkwX1_isOf_1 : List UInt8 := [42, 180, 0, 34, 42, 180, 0, 116, 46, 182, 0, 135, 155, 0, 7, 4, 167, 0, 4, 3, 172]
abbrev dktX1_isOf_1 : List UInt8 := dkwX1_isOf_1 ++ []
def dkwX1_isOf_0 : List UInt8 := [42, 180, 0, 116, 42, 180, 0, 128, 162, 0, 35, 42, 180, 0, 34, 42, 180, 0, 116, 46, 158, 0, 23, 43]
abbrev dktX1_isOf_0 : List UInt8 := dkwX1_isOf_0 ++ dktX1_isOf_1
theorem dksX1_isOf_0 : cX1_isOf.data.toList.drop 0 = dktX1_isOf_0 := by decide +kernel
theorem dksX1_isOf_1 : cX1_isOf.data.toList.drop 24 = dktX1_isOf_1 := dk_seg dksX1_isOf_0 24 rfl rfl
theorem dX1_isOf_0 : decode cX1_isOf 0 = .ok (.aload_n 0, 1) := dk_42 (dk_at dksX1_isOf_0 0 rfl rfl)
theorem dX1_isOf_1 : decode cX1_isOf 1 = .ok (.getfield 116, 3) := dk_180 0 116 (dk_at dksX1_isOf_0 1 rfl rfl)
theorem dX1_isOf_4 : decode cX1_isOf 4 = .ok (.aload_n 0, 1) := dk_42 (dk_at dksX1_isOf_0 4 rfl rfl)
theorem dX1_isOf_5 : decode cX1_isOf 5 = .ok (.getfield 128, 3) := dk_180 0 128 (dk_at dksX1_isOf_0 5 rfl rfl)
theorem dX1_isOf_8 : decode cX1_isOf 8 = .ok (.if_icmp .ge 35, 3) := dk_162 0 35 (dk_at dksX1_isOf_0 8 rfl rfl)
theorem dX1_isOf_11 : decode cX1_isOf 11 = .ok (.aload_n 0, 1) := dk_42 (dk_at dksX1_isOf_0 11 rfl rfl)
theorem dX1_isOf_12 : decode cX1_isOf 12 = .ok (.getfield 34, 3) := dk_180 0 34 (dk_at dksX1_isOf_0 12 rfl rfl)
theorem dX1_isOf_15 : decode cX1_isOf 15 = .ok (.aload_n 0, 1) := dk_42 (dk_at dksX1_isOf_0 15 rfl rfl)
theorem dX1_isOf_16 : decode cX1_isOf 16 = .ok (.getfield 116, 3) := dk_180 0 116 (dk_at dksX1_isOf_0 16 rfl rfl)
theorem dX1_isOf_19 : decode cX1_isOf 19 = .ok (.iaload, 1) := dk_46 (dk_at dksX1_isOf_0 19 rfl rfl)
theorem dX1_isOf_20 : decode cX1_isOf 20 = .ok (.ifCond .le 23, 3) := dk_158 0 23 (dk_at dksX1_isOf_0 20 rfl rfl)
theorem dX1_isOf_23 : decode cX1_isOf 23 = .ok (.aload_n 1, 1) := dk_43 (dk_at dksX1_isOf_0 23 rfl rfl)
theorem dX1_isOf_24 : decode cX1_isOf 24 = .ok (.aload_n 0, 1) := dk_42 (dk_at dksX1_isOf_1 0 rfl rfl)
theorem dX1_isOf_25 : decode cX1_isOf 25 = .ok (.getfield 34, 3) := dk_180 0 34 (dk_at dksX1_isOf_1 1 rfl rfl)
theorem dX1_isOf_28 : decode cX1_isOf 28 = .ok (.aload_n 0, 1) := dk_42 (dk_at dksX1_isOf_1 4 rfl rfl)
theorem dX1_isOf_29 : decode cX1_isOf 29 = .ok (.getfield 116, 3) := dk_180 0 116 (dk_at dksX1_isOf_1 5 rfl rfl)
theorem dX1_isOf_32 : decode cX1_isOf 32 = .ok (.iaload, 1) := dk_46 (dk_at dksX1_isOf_1 8 rfl rfl)
theorem dX1_isOf_33 : decode cX1_isOf 33 = .ok (.invokevirtual 135, 3) := dk_182 0 135 (dk_at dksX1_isOf_1 9 rfl rfl)
theorem dX1_isOf_36 : decode cX1_isOf 36 = .ok (.ifCond .lt 7, 3) := dk_155 0 7 (dk_at dksX1_isOf_1 12 rfl rfl)
theorem dX1_isOf_39 : decode cX1_isOf 39 = .ok (.iconst 1, 1) := dk_4 (dk_at dksX1_isOf_1 15 rfl rfl)
theorem dX1_isOf_40 : decode cX1_isOf 40 = .ok (.goto 4, 3) := dk_167 0 4 (dk_at dksX1_isOf_1 16 rfl rfl)
theorem dX1_isOf_43 : decode cX1_isOf 43 = .ok (.iconst 0, 1) := dk_3 (dk_at dksX1_isOf_1 19 rfl rfl)
theorem dX1_isOf_44 : decode cX1_isOf 44 = .ok (.ireturn, 1) := dk_172 (dk_at dksX1_isOf_1 20 rfl rfl)
abbrev cX1_acts : ByteArray := prog_1_method_21_code
def yX1_acts : MethodName := ⟨RX1, "acts", "(I)Ljava/lang/String;"⟩
def dkwX1_acts_0 : List UInt8 := [26, 154, 0, 8, 18, 218, 167, 0, 15, 26, 4, 160, 0, 8, 18, 220, 167, 0, 5, 18, 222, 176]
abbrev dktX1_acts_0 : List UInt8 := dkwX1_acts_0 ++ []
theorem dksX1_acts_0 : cX1_acts.data.toList.drop 0 = dktX1_acts_0 := by decide +kernel
theorem dX1_acts_0 : decode cX1_acts 0 = .ok (.iload_n 0, 1) := dk_26 (dk_at dksX1_acts_0 0 rfl rfl)
theorem dX1_acts_1 : decode cX1_acts 1 = .ok (.ifCond .ne 8, 3) := dk_154 0 8 (dk_at dksX1_acts_0 1 rfl rfl)
theorem dX1_acts_4 : decode cX1_acts 4 = .ok (.ldc 218, 2) := dk_18 218 (dk_at dksX1_acts_0 4 rfl rfl)
theorem dX1_acts_6 : decode cX1_acts 6 = .ok (.goto 15, 3) := dk_167 0 15 (dk_at dksX1_acts_0 6 rfl rfl)
theorem dX1_acts_9 : decode cX1_acts 9 = .ok (.iload_n 0, 1) := dk_26 (dk_at dksX1_acts_0 9 rfl rfl)
theorem dX1_acts_10 : decode cX1_acts 10 = .ok (.iconst 1, 1) := dk_4 (dk_at dksX1_acts_0 10 rfl rfl)
theorem dX1_acts_11 : decode cX1_acts 11 = .ok (.if_icmp .ne 8, 3) := dk_160 0 8 (dk_at dksX1_acts_0 11 rfl rfl)
theorem dX1_acts_14 : decode cX1_acts 14 = .ok (.ldc 220, 2) := dk_18 220 (dk_at dksX1_acts_0 14 rfl rfl)
theorem dX1_acts_16 : decode cX1_acts 16 = .ok (.goto 5, 3) := dk_167 0 5 (dk_at dksX1_acts_0 16 rfl rfl)
theorem dX1_acts_19 : decode cX1_acts 19 = .ok (.ldc 222, 2) := dk_18 222 (dk_at dksX1_acts_0 19 rfl rfl)
theorem dX1_acts_21 : decode cX1_acts 21 = .ok (.areturn, 1) := dk_176 (dk_at dksX1_acts_0 21 rfl rfl)
abbrev cX1_law : ByteArray := prog_1_method_31_code
def yX1_law : MethodName := ⟨RX1, "law", "(II)I"⟩
def dkwX1_law_1 : List UInt8 := [29, 172]
abbrev dktX1_law_1 : List UInt8 := dkwX1_law_1 ++ []
def dkwX1_law_0 : List UInt8 := [27, 28, 184, 1, 22, 154, 0, 5, 2, 172, 42, 180, 0, 28, 27, 46, 62, 42, 180, 0, 28, 27, 28, 79]
abbrev dktX1_law_0 : List UInt8 := dkwX1_law_0 ++ dktX1_law_1
theorem dksX1_law_0 : cX1_law.data.toList.drop 0 = dktX1_law_0 := by decide +kernel
theorem dksX1_law_1 : cX1_law.data.toList.drop 24 = dktX1_law_1 := dk_seg dksX1_law_0 24 rfl rfl
theorem dX1_law_0 : decode cX1_law 0 = .ok (.iload_n 1, 1) := dk_27 (dk_at dksX1_law_0 0 rfl rfl)
theorem dX1_law_1 : decode cX1_law 1 = .ok (.iload_n 2, 1) := dk_28 (dk_at dksX1_law_0 1 rfl rfl)
theorem dX1_law_2 : decode cX1_law 2 = .ok (.invokestatic 278, 3) := dk_184 1 22 (dk_at dksX1_law_0 2 rfl rfl)
theorem dX1_law_5 : decode cX1_law 5 = .ok (.ifCond .ne 5, 3) := dk_154 0 5 (dk_at dksX1_law_0 5 rfl rfl)
theorem dX1_law_8 : decode cX1_law 8 = .ok (.iconst (-1), 1) := dk_2 (dk_at dksX1_law_0 8 rfl rfl)
theorem dX1_law_9 : decode cX1_law 9 = .ok (.ireturn, 1) := dk_172 (dk_at dksX1_law_0 9 rfl rfl)
theorem dX1_law_10 : decode cX1_law 10 = .ok (.aload_n 0, 1) := dk_42 (dk_at dksX1_law_0 10 rfl rfl)
theorem dX1_law_11 : decode cX1_law 11 = .ok (.getfield 28, 3) := dk_180 0 28 (dk_at dksX1_law_0 11 rfl rfl)
theorem dX1_law_14 : decode cX1_law 14 = .ok (.iload_n 1, 1) := dk_27 (dk_at dksX1_law_0 14 rfl rfl)
theorem dX1_law_15 : decode cX1_law 15 = .ok (.iaload, 1) := dk_46 (dk_at dksX1_law_0 15 rfl rfl)
theorem dX1_law_16 : decode cX1_law 16 = .ok (.istore_n 3, 1) := dk_62 (dk_at dksX1_law_0 16 rfl rfl)
theorem dX1_law_17 : decode cX1_law 17 = .ok (.aload_n 0, 1) := dk_42 (dk_at dksX1_law_0 17 rfl rfl)
theorem dX1_law_18 : decode cX1_law 18 = .ok (.getfield 28, 3) := dk_180 0 28 (dk_at dksX1_law_0 18 rfl rfl)
theorem dX1_law_21 : decode cX1_law 21 = .ok (.iload_n 1, 1) := dk_27 (dk_at dksX1_law_0 21 rfl rfl)
theorem dX1_law_22 : decode cX1_law 22 = .ok (.iload_n 2, 1) := dk_28 (dk_at dksX1_law_0 22 rfl rfl)
theorem dX1_law_23 : decode cX1_law 23 = .ok (.iastore, 1) := dk_79 (dk_at dksX1_law_0 23 rfl rfl)
theorem dX1_law_24 : decode cX1_law 24 = .ok (.iload_n 3, 1) := dk_29 (dk_at dksX1_law_1 0 rfl rfl)
theorem dX1_law_25 : decode cX1_law 25 = .ok (.ireturn, 1) := dk_172 (dk_at dksX1_law_1 1 rfl rfl)
abbrev cX1_isLaw : ByteArray := prog_1_method_30_code
def yX1_isLaw : MethodName := ⟨RX1, "isLaw", "(II)Z"⟩
def dkwX1_isLaw_2 : List UInt8 := [153, 0, 7, 4, 167, 0, 4, 3, 172]
abbrev dktX1_isLaw_2 : List UInt8 := dkwX1_isLaw_2 ++ []
def dkwX1_isLaw_1 : List UInt8 := [20, 1, 18, 184, 0, 106, 167, 0, 25, 26, 5, 160, 0, 19, 27, 133, 9, 20, 1, 20, 184, 0, 106]
abbrev dktX1_isLaw_1 : List UInt8 := dkwX1_isLaw_1 ++ dktX1_isLaw_2
def dkwX1_isLaw_0 : List UInt8 := [26, 154, 0, 15, 27, 133, 10, 20, 1, 16, 184, 0, 106, 167, 0, 42, 26, 4, 160, 0, 15, 27, 133, 10]
abbrev dktX1_isLaw_0 : List UInt8 := dkwX1_isLaw_0 ++ dktX1_isLaw_1
theorem dksX1_isLaw_0 : cX1_isLaw.data.toList.drop 0 = dktX1_isLaw_0 := by decide +kernel
theorem dksX1_isLaw_1 : cX1_isLaw.data.toList.drop 24 = dktX1_isLaw_1 := dk_seg dksX1_isLaw_0 24 rfl rfl
theorem dksX1_isLaw_2 : cX1_isLaw.data.toList.drop 47 = dktX1_isLaw_2 := dk_seg dksX1_isLaw_1 23 rfl rfl
theorem dX1_isLaw_0 : decode cX1_isLaw 0 = .ok (.iload_n 0, 1) := dk_26 (dk_at dksX1_isLaw_0 0 rfl rfl)
theorem dX1_isLaw_1 : decode cX1_isLaw 1 = .ok (.ifCond .ne 15, 3) := dk_154 0 15 (dk_at dksX1_isLaw_0 1 rfl rfl)
theorem dX1_isLaw_4 : decode cX1_isLaw 4 = .ok (.iload_n 1, 1) := dk_27 (dk_at dksX1_isLaw_0 4 rfl rfl)
theorem dX1_isLaw_5 : decode cX1_isLaw 5 = .ok (.i2l, 1) := dk_133 (dk_at dksX1_isLaw_0 5 rfl rfl)
theorem dX1_isLaw_6 : decode cX1_isLaw 6 = .ok (.lconst 1, 1) := dk_10 (dk_at dksX1_isLaw_0 6 rfl rfl)
theorem dX1_isLaw_7 : decode cX1_isLaw 7 = .ok (.ldc2_w 272, 3) := dk_20 1 16 (dk_at dksX1_isLaw_0 7 rfl rfl)
theorem dX1_isLaw_10 : decode cX1_isLaw 10 = .ok (.invokestatic 106, 3) := dk_184 0 106 (dk_at dksX1_isLaw_0 10 rfl rfl)
theorem dX1_isLaw_13 : decode cX1_isLaw 13 = .ok (.goto 42, 3) := dk_167 0 42 (dk_at dksX1_isLaw_0 13 rfl rfl)
theorem dX1_isLaw_16 : decode cX1_isLaw 16 = .ok (.iload_n 0, 1) := dk_26 (dk_at dksX1_isLaw_0 16 rfl rfl)
theorem dX1_isLaw_17 : decode cX1_isLaw 17 = .ok (.iconst 1, 1) := dk_4 (dk_at dksX1_isLaw_0 17 rfl rfl)
theorem dX1_isLaw_18 : decode cX1_isLaw 18 = .ok (.if_icmp .ne 15, 3) := dk_160 0 15 (dk_at dksX1_isLaw_0 18 rfl rfl)
theorem dX1_isLaw_21 : decode cX1_isLaw 21 = .ok (.iload_n 1, 1) := dk_27 (dk_at dksX1_isLaw_0 21 rfl rfl)
theorem dX1_isLaw_22 : decode cX1_isLaw 22 = .ok (.i2l, 1) := dk_133 (dk_at dksX1_isLaw_0 22 rfl rfl)
theorem dX1_isLaw_23 : decode cX1_isLaw 23 = .ok (.lconst 1, 1) := dk_10 (dk_at dksX1_isLaw_0 23 rfl rfl)
theorem dX1_isLaw_24 : decode cX1_isLaw 24 = .ok (.ldc2_w 274, 3) := dk_20 1 18 (dk_at dksX1_isLaw_1 0 rfl rfl)
theorem dX1_isLaw_27 : decode cX1_isLaw 27 = .ok (.invokestatic 106, 3) := dk_184 0 106 (dk_at dksX1_isLaw_1 3 rfl rfl)
theorem dX1_isLaw_30 : decode cX1_isLaw 30 = .ok (.goto 25, 3) := dk_167 0 25 (dk_at dksX1_isLaw_1 6 rfl rfl)
theorem dX1_isLaw_33 : decode cX1_isLaw 33 = .ok (.iload_n 0, 1) := dk_26 (dk_at dksX1_isLaw_1 9 rfl rfl)
theorem dX1_isLaw_34 : decode cX1_isLaw 34 = .ok (.iconst 2, 1) := dk_5 (dk_at dksX1_isLaw_1 10 rfl rfl)
theorem dX1_isLaw_35 : decode cX1_isLaw 35 = .ok (.if_icmp .ne 19, 3) := dk_160 0 19 (dk_at dksX1_isLaw_1 11 rfl rfl)
theorem dX1_isLaw_38 : decode cX1_isLaw 38 = .ok (.iload_n 1, 1) := dk_27 (dk_at dksX1_isLaw_1 14 rfl rfl)
theorem dX1_isLaw_39 : decode cX1_isLaw 39 = .ok (.i2l, 1) := dk_133 (dk_at dksX1_isLaw_1 15 rfl rfl)
theorem dX1_isLaw_40 : decode cX1_isLaw 40 = .ok (.lconst 0, 1) := dk_9 (dk_at dksX1_isLaw_1 16 rfl rfl)
theorem dX1_isLaw_41 : decode cX1_isLaw 41 = .ok (.ldc2_w 276, 3) := dk_20 1 20 (dk_at dksX1_isLaw_1 17 rfl rfl)
theorem dX1_isLaw_44 : decode cX1_isLaw 44 = .ok (.invokestatic 106, 3) := dk_184 0 106 (dk_at dksX1_isLaw_1 20 rfl rfl)
theorem dX1_isLaw_47 : decode cX1_isLaw 47 = .ok (.ifCond .eq 7, 3) := dk_153 0 7 (dk_at dksX1_isLaw_2 0 rfl rfl)
theorem dX1_isLaw_50 : decode cX1_isLaw 50 = .ok (.iconst 1, 1) := dk_4 (dk_at dksX1_isLaw_2 3 rfl rfl)
theorem dX1_isLaw_51 : decode cX1_isLaw 51 = .ok (.goto 4, 3) := dk_167 0 4 (dk_at dksX1_isLaw_2 4 rfl rfl)
theorem dX1_isLaw_54 : decode cX1_isLaw 54 = .ok (.iconst 0, 1) := dk_3 (dk_at dksX1_isLaw_2 7 rfl rfl)
theorem dX1_isLaw_55 : decode cX1_isLaw 55 = .ok (.ireturn, 1) := dk_172 (dk_at dksX1_isLaw_2 8 rfl rfl)
abbrev cX1_store : ByteArray := prog_1_method_32_code
def yX1_store : MethodName := ⟨RX1, "store", "(II)I"⟩
def dkwX1_store_1 : List UInt8 := [2, 172, 42, 180, 0, 25, 27, 46, 62, 42, 180, 0, 25, 27, 28, 79, 29, 172]
abbrev dktX1_store_1 : List UInt8 := dkwX1_store_1 ++ []
def dkwX1_store_0 : List UInt8 := [27, 133, 9, 20, 1, 25, 184, 0, 106, 153, 0, 15, 28, 133, 9, 20, 1, 27, 184, 0, 106, 154, 0, 5]
abbrev dktX1_store_0 : List UInt8 := dkwX1_store_0 ++ dktX1_store_1
theorem dksX1_store_0 : cX1_store.data.toList.drop 0 = dktX1_store_0 := by decide +kernel
theorem dksX1_store_1 : cX1_store.data.toList.drop 24 = dktX1_store_1 := dk_seg dksX1_store_0 24 rfl rfl
theorem dX1_store_0 : decode cX1_store 0 = .ok (.iload_n 1, 1) := dk_27 (dk_at dksX1_store_0 0 rfl rfl)
theorem dX1_store_1 : decode cX1_store 1 = .ok (.i2l, 1) := dk_133 (dk_at dksX1_store_0 1 rfl rfl)
theorem dX1_store_2 : decode cX1_store 2 = .ok (.lconst 0, 1) := dk_9 (dk_at dksX1_store_0 2 rfl rfl)
theorem dX1_store_3 : decode cX1_store 3 = .ok (.ldc2_w 281, 3) := dk_20 1 25 (dk_at dksX1_store_0 3 rfl rfl)
theorem dX1_store_6 : decode cX1_store 6 = .ok (.invokestatic 106, 3) := dk_184 0 106 (dk_at dksX1_store_0 6 rfl rfl)
theorem dX1_store_9 : decode cX1_store 9 = .ok (.ifCond .eq 15, 3) := dk_153 0 15 (dk_at dksX1_store_0 9 rfl rfl)
theorem dX1_store_12 : decode cX1_store 12 = .ok (.iload_n 2, 1) := dk_28 (dk_at dksX1_store_0 12 rfl rfl)
theorem dX1_store_13 : decode cX1_store 13 = .ok (.i2l, 1) := dk_133 (dk_at dksX1_store_0 13 rfl rfl)
theorem dX1_store_14 : decode cX1_store 14 = .ok (.lconst 0, 1) := dk_9 (dk_at dksX1_store_0 14 rfl rfl)
theorem dX1_store_15 : decode cX1_store 15 = .ok (.ldc2_w 283, 3) := dk_20 1 27 (dk_at dksX1_store_0 15 rfl rfl)
theorem dX1_store_18 : decode cX1_store 18 = .ok (.invokestatic 106, 3) := dk_184 0 106 (dk_at dksX1_store_0 18 rfl rfl)
theorem dX1_store_21 : decode cX1_store 21 = .ok (.ifCond .ne 5, 3) := dk_154 0 5 (dk_at dksX1_store_0 21 rfl rfl)
theorem dX1_store_24 : decode cX1_store 24 = .ok (.iconst (-1), 1) := dk_2 (dk_at dksX1_store_1 0 rfl rfl)
theorem dX1_store_25 : decode cX1_store 25 = .ok (.ireturn, 1) := dk_172 (dk_at dksX1_store_1 1 rfl rfl)
theorem dX1_store_26 : decode cX1_store 26 = .ok (.aload_n 0, 1) := dk_42 (dk_at dksX1_store_1 2 rfl rfl)
theorem dX1_store_27 : decode cX1_store 27 = .ok (.getfield 25, 3) := dk_180 0 25 (dk_at dksX1_store_1 3 rfl rfl)
theorem dX1_store_30 : decode cX1_store 30 = .ok (.iload_n 1, 1) := dk_27 (dk_at dksX1_store_1 6 rfl rfl)
theorem dX1_store_31 : decode cX1_store 31 = .ok (.iaload, 1) := dk_46 (dk_at dksX1_store_1 7 rfl rfl)
theorem dX1_store_32 : decode cX1_store 32 = .ok (.istore_n 3, 1) := dk_62 (dk_at dksX1_store_1 8 rfl rfl)
theorem dX1_store_33 : decode cX1_store 33 = .ok (.aload_n 0, 1) := dk_42 (dk_at dksX1_store_1 9 rfl rfl)
theorem dX1_store_34 : decode cX1_store 34 = .ok (.getfield 25, 3) := dk_180 0 25 (dk_at dksX1_store_1 10 rfl rfl)
theorem dX1_store_37 : decode cX1_store 37 = .ok (.iload_n 1, 1) := dk_27 (dk_at dksX1_store_1 13 rfl rfl)
theorem dX1_store_38 : decode cX1_store 38 = .ok (.iload_n 2, 1) := dk_28 (dk_at dksX1_store_1 14 rfl rfl)
theorem dX1_store_39 : decode cX1_store 39 = .ok (.iastore, 1) := dk_79 (dk_at dksX1_store_1 15 rfl rfl)
theorem dX1_store_40 : decode cX1_store 40 = .ok (.iload_n 3, 1) := dk_29 (dk_at dksX1_store_1 16 rfl rfl)
theorem dX1_store_41 : decode cX1_store 41 = .ok (.ireturn, 1) := dk_172 (dk_at dksX1_store_1 17 rfl rfl)
abbrev cX1_sheet : ByteArray := prog_1_method_33_code
def yX1_sheet : MethodName := ⟨RX1, "sheet", "(IIII)I"⟩
def dkwX1_sheet_6 : List UInt8 := [167, 0, 5, 21, 5, 172]
abbrev dktX1_sheet_6 : List UInt8 := dkwX1_sheet_6 ++ []
def dkwX1_sheet_5 : List UInt8 := [46, 96, 54, 5, 21, 6, 21, 4, 96, 54, 6, 132, 7, 1, 167, 255, 167, 27, 6, 160, 0, 8, 16, 253]
abbrev dktX1_sheet_5 : List UInt8 := dkwX1_sheet_5 ++ dktX1_sheet_6
def dkwX1_sheet_4 : List UInt8 := [3, 167, 0, 14, 3, 16, 99, 21, 8, 184, 0, 122, 184, 0, 246, 79, 21, 5, 42, 180, 0, 13, 21, 7]
abbrev dktX1_sheet_4 : List UInt8 := dkwX1_sheet_4 ++ dktX1_sheet_5
def dkwX1_sheet_3 : List UInt8 := [167, 0, 5, 21, 6, 54, 8, 42, 180, 0, 13, 21, 7, 27, 6, 159, 0, 9, 21, 7, 28, 161, 0, 7]
abbrev dktX1_sheet_3 : List UInt8 := dkwX1_sheet_3 ++ dktX1_sheet_4
def dkwX1_sheet_2 : List UInt8 := [180, 0, 102, 162, 0, 86, 27, 154, 0, 9, 21, 6, 145, 167, 0, 16, 27, 4, 160, 0, 9, 21, 6, 147]
abbrev dktX1_sheet_2 : List UInt8 := dkwX1_sheet_2 ++ dktX1_sheet_3
def dkwX1_sheet_1 : List UInt8 := [159, 0, 10, 28, 156, 0, 6, 16, 254, 172, 3, 54, 5, 29, 54, 6, 3, 54, 7, 21, 7, 42]
abbrev dktX1_sheet_1 : List UInt8 := dkwX1_sheet_1 ++ dktX1_sheet_2
def dkwX1_sheet_0 : List UInt8 := [27, 133, 9, 20, 1, 29, 184, 0, 106, 153, 0, 9, 28, 16, 10, 164, 0, 5, 2, 172, 27, 6]
abbrev dktX1_sheet_0 : List UInt8 := dkwX1_sheet_0 ++ dktX1_sheet_1
theorem dksX1_sheet_0 : cX1_sheet.data.toList.drop 0 = dktX1_sheet_0 := by decide +kernel
theorem dksX1_sheet_1 : cX1_sheet.data.toList.drop 22 = dktX1_sheet_1 := dk_seg dksX1_sheet_0 22 rfl rfl
theorem dksX1_sheet_2 : cX1_sheet.data.toList.drop 44 = dktX1_sheet_2 := dk_seg dksX1_sheet_1 22 rfl rfl
theorem dksX1_sheet_3 : cX1_sheet.data.toList.drop 68 = dktX1_sheet_3 := dk_seg dksX1_sheet_2 24 rfl rfl
theorem dksX1_sheet_4 : cX1_sheet.data.toList.drop 92 = dktX1_sheet_4 := dk_seg dksX1_sheet_3 24 rfl rfl
theorem dksX1_sheet_5 : cX1_sheet.data.toList.drop 116 = dktX1_sheet_5 := dk_seg dksX1_sheet_4 24 rfl rfl
theorem dksX1_sheet_6 : cX1_sheet.data.toList.drop 140 = dktX1_sheet_6 := dk_seg dksX1_sheet_5 24 rfl rfl
theorem dX1_sheet_0 : decode cX1_sheet 0 = .ok (.iload_n 1, 1) := dk_27 (dk_at dksX1_sheet_0 0 rfl rfl)
theorem dX1_sheet_1 : decode cX1_sheet 1 = .ok (.i2l, 1) := dk_133 (dk_at dksX1_sheet_0 1 rfl rfl)
theorem dX1_sheet_2 : decode cX1_sheet 2 = .ok (.lconst 0, 1) := dk_9 (dk_at dksX1_sheet_0 2 rfl rfl)
theorem dX1_sheet_3 : decode cX1_sheet 3 = .ok (.ldc2_w 285, 3) := dk_20 1 29 (dk_at dksX1_sheet_0 3 rfl rfl)
theorem dX1_sheet_6 : decode cX1_sheet 6 = .ok (.invokestatic 106, 3) := dk_184 0 106 (dk_at dksX1_sheet_0 6 rfl rfl)
theorem dX1_sheet_9 : decode cX1_sheet 9 = .ok (.ifCond .eq 9, 3) := dk_153 0 9 (dk_at dksX1_sheet_0 9 rfl rfl)
theorem dX1_sheet_12 : decode cX1_sheet 12 = .ok (.iload_n 2, 1) := dk_28 (dk_at dksX1_sheet_0 12 rfl rfl)
theorem dX1_sheet_13 : decode cX1_sheet 13 = .ok (.bipush 10, 2) := dk_16 10 (dk_at dksX1_sheet_0 13 rfl rfl)
theorem dX1_sheet_15 : decode cX1_sheet 15 = .ok (.if_icmp .le 5, 3) := dk_164 0 5 (dk_at dksX1_sheet_0 15 rfl rfl)
theorem dX1_sheet_18 : decode cX1_sheet 18 = .ok (.iconst (-1), 1) := dk_2 (dk_at dksX1_sheet_0 18 rfl rfl)
theorem dX1_sheet_19 : decode cX1_sheet 19 = .ok (.ireturn, 1) := dk_172 (dk_at dksX1_sheet_0 19 rfl rfl)
theorem dX1_sheet_20 : decode cX1_sheet 20 = .ok (.iload_n 1, 1) := dk_27 (dk_at dksX1_sheet_0 20 rfl rfl)
theorem dX1_sheet_21 : decode cX1_sheet 21 = .ok (.iconst 3, 1) := dk_6 (dk_at dksX1_sheet_0 21 rfl rfl)
theorem dX1_sheet_22 : decode cX1_sheet 22 = .ok (.if_icmp .eq 10, 3) := dk_159 0 10 (dk_at dksX1_sheet_1 0 rfl rfl)
theorem dX1_sheet_25 : decode cX1_sheet 25 = .ok (.iload_n 2, 1) := dk_28 (dk_at dksX1_sheet_1 3 rfl rfl)
theorem dX1_sheet_26 : decode cX1_sheet 26 = .ok (.ifCond .ge 6, 3) := dk_156 0 6 (dk_at dksX1_sheet_1 4 rfl rfl)
theorem dX1_sheet_29 : decode cX1_sheet 29 = .ok (.bipush (-2), 2) := dk_16 254 (dk_at dksX1_sheet_1 7 rfl rfl)
theorem dX1_sheet_31 : decode cX1_sheet 31 = .ok (.ireturn, 1) := dk_172 (dk_at dksX1_sheet_1 9 rfl rfl)
theorem dX1_sheet_32 : decode cX1_sheet 32 = .ok (.iconst 0, 1) := dk_3 (dk_at dksX1_sheet_1 10 rfl rfl)
theorem dX1_sheet_33 : decode cX1_sheet 33 = .ok (.istore 5, 2) := dk_54 5 (dk_at dksX1_sheet_1 11 rfl rfl)
theorem dX1_sheet_35 : decode cX1_sheet 35 = .ok (.iload_n 3, 1) := dk_29 (dk_at dksX1_sheet_1 13 rfl rfl)
theorem dX1_sheet_36 : decode cX1_sheet 36 = .ok (.istore 6, 2) := dk_54 6 (dk_at dksX1_sheet_1 14 rfl rfl)
theorem dX1_sheet_38 : decode cX1_sheet 38 = .ok (.iconst 0, 1) := dk_3 (dk_at dksX1_sheet_1 16 rfl rfl)
theorem dX1_sheet_39 : decode cX1_sheet 39 = .ok (.istore 7, 2) := dk_54 7 (dk_at dksX1_sheet_1 17 rfl rfl)
theorem dX1_sheet_41 : decode cX1_sheet 41 = .ok (.iload 7, 2) := dk_21 7 (dk_at dksX1_sheet_1 19 rfl rfl)
theorem dX1_sheet_43 : decode cX1_sheet 43 = .ok (.aload_n 0, 1) := dk_42 (dk_at dksX1_sheet_1 21 rfl rfl)
theorem dX1_sheet_44 : decode cX1_sheet 44 = .ok (.getfield 102, 3) := dk_180 0 102 (dk_at dksX1_sheet_2 0 rfl rfl)
theorem dX1_sheet_47 : decode cX1_sheet 47 = .ok (.if_icmp .ge 86, 3) := dk_162 0 86 (dk_at dksX1_sheet_2 3 rfl rfl)
theorem dX1_sheet_50 : decode cX1_sheet 50 = .ok (.iload_n 1, 1) := dk_27 (dk_at dksX1_sheet_2 6 rfl rfl)
theorem dX1_sheet_51 : decode cX1_sheet 51 = .ok (.ifCond .ne 9, 3) := dk_154 0 9 (dk_at dksX1_sheet_2 7 rfl rfl)
theorem dX1_sheet_54 : decode cX1_sheet 54 = .ok (.iload 6, 2) := dk_21 6 (dk_at dksX1_sheet_2 10 rfl rfl)
theorem dX1_sheet_56 : decode cX1_sheet 56 = .ok (.i2b, 1) := dk_145 (dk_at dksX1_sheet_2 12 rfl rfl)
theorem dX1_sheet_57 : decode cX1_sheet 57 = .ok (.goto 16, 3) := dk_167 0 16 (dk_at dksX1_sheet_2 13 rfl rfl)
theorem dX1_sheet_60 : decode cX1_sheet 60 = .ok (.iload_n 1, 1) := dk_27 (dk_at dksX1_sheet_2 16 rfl rfl)
theorem dX1_sheet_61 : decode cX1_sheet 61 = .ok (.iconst 1, 1) := dk_4 (dk_at dksX1_sheet_2 17 rfl rfl)
theorem dX1_sheet_62 : decode cX1_sheet 62 = .ok (.if_icmp .ne 9, 3) := dk_160 0 9 (dk_at dksX1_sheet_2 18 rfl rfl)
theorem dX1_sheet_65 : decode cX1_sheet 65 = .ok (.iload 6, 2) := dk_21 6 (dk_at dksX1_sheet_2 21 rfl rfl)
theorem dX1_sheet_67 : decode cX1_sheet 67 = .ok (.i2s, 1) := dk_147 (dk_at dksX1_sheet_2 23 rfl rfl)
theorem dX1_sheet_68 : decode cX1_sheet 68 = .ok (.goto 5, 3) := dk_167 0 5 (dk_at dksX1_sheet_3 0 rfl rfl)
theorem dX1_sheet_71 : decode cX1_sheet 71 = .ok (.iload 6, 2) := dk_21 6 (dk_at dksX1_sheet_3 3 rfl rfl)
theorem dX1_sheet_73 : decode cX1_sheet 73 = .ok (.istore 8, 2) := dk_54 8 (dk_at dksX1_sheet_3 5 rfl rfl)
theorem dX1_sheet_75 : decode cX1_sheet 75 = .ok (.aload_n 0, 1) := dk_42 (dk_at dksX1_sheet_3 7 rfl rfl)
theorem dX1_sheet_76 : decode cX1_sheet 76 = .ok (.getfield 13, 3) := dk_180 0 13 (dk_at dksX1_sheet_3 8 rfl rfl)
theorem dX1_sheet_79 : decode cX1_sheet 79 = .ok (.iload 7, 2) := dk_21 7 (dk_at dksX1_sheet_3 11 rfl rfl)
theorem dX1_sheet_81 : decode cX1_sheet 81 = .ok (.iload_n 1, 1) := dk_27 (dk_at dksX1_sheet_3 13 rfl rfl)
theorem dX1_sheet_82 : decode cX1_sheet 82 = .ok (.iconst 3, 1) := dk_6 (dk_at dksX1_sheet_3 14 rfl rfl)
theorem dX1_sheet_83 : decode cX1_sheet 83 = .ok (.if_icmp .eq 9, 3) := dk_159 0 9 (dk_at dksX1_sheet_3 15 rfl rfl)
theorem dX1_sheet_86 : decode cX1_sheet 86 = .ok (.iload 7, 2) := dk_21 7 (dk_at dksX1_sheet_3 18 rfl rfl)
theorem dX1_sheet_88 : decode cX1_sheet 88 = .ok (.iload_n 2, 1) := dk_28 (dk_at dksX1_sheet_3 20 rfl rfl)
theorem dX1_sheet_89 : decode cX1_sheet 89 = .ok (.if_icmp .lt 7, 3) := dk_161 0 7 (dk_at dksX1_sheet_3 21 rfl rfl)
theorem dX1_sheet_92 : decode cX1_sheet 92 = .ok (.iconst 0, 1) := dk_3 (dk_at dksX1_sheet_4 0 rfl rfl)
theorem dX1_sheet_93 : decode cX1_sheet 93 = .ok (.goto 14, 3) := dk_167 0 14 (dk_at dksX1_sheet_4 1 rfl rfl)
theorem dX1_sheet_96 : decode cX1_sheet 96 = .ok (.iconst 0, 1) := dk_3 (dk_at dksX1_sheet_4 4 rfl rfl)
theorem dX1_sheet_97 : decode cX1_sheet 97 = .ok (.bipush 99, 2) := dk_16 99 (dk_at dksX1_sheet_4 5 rfl rfl)
theorem dX1_sheet_99 : decode cX1_sheet 99 = .ok (.iload 8, 2) := dk_21 8 (dk_at dksX1_sheet_4 7 rfl rfl)
theorem dX1_sheet_101 : decode cX1_sheet 101 = .ok (.invokestatic 122, 3) := dk_184 0 122 (dk_at dksX1_sheet_4 9 rfl rfl)
theorem dX1_sheet_104 : decode cX1_sheet 104 = .ok (.invokestatic 246, 3) := dk_184 0 246 (dk_at dksX1_sheet_4 12 rfl rfl)
theorem dX1_sheet_107 : decode cX1_sheet 107 = .ok (.iastore, 1) := dk_79 (dk_at dksX1_sheet_4 15 rfl rfl)
theorem dX1_sheet_108 : decode cX1_sheet 108 = .ok (.iload 5, 2) := dk_21 5 (dk_at dksX1_sheet_4 16 rfl rfl)
theorem dX1_sheet_110 : decode cX1_sheet 110 = .ok (.aload_n 0, 1) := dk_42 (dk_at dksX1_sheet_4 18 rfl rfl)
theorem dX1_sheet_111 : decode cX1_sheet 111 = .ok (.getfield 13, 3) := dk_180 0 13 (dk_at dksX1_sheet_4 19 rfl rfl)
theorem dX1_sheet_114 : decode cX1_sheet 114 = .ok (.iload 7, 2) := dk_21 7 (dk_at dksX1_sheet_4 22 rfl rfl)
theorem dX1_sheet_116 : decode cX1_sheet 116 = .ok (.iaload, 1) := dk_46 (dk_at dksX1_sheet_5 0 rfl rfl)
theorem dX1_sheet_117 : decode cX1_sheet 117 = .ok (.iadd, 1) := dk_96 (dk_at dksX1_sheet_5 1 rfl rfl)
theorem dX1_sheet_118 : decode cX1_sheet 118 = .ok (.istore 5, 2) := dk_54 5 (dk_at dksX1_sheet_5 2 rfl rfl)
theorem dX1_sheet_120 : decode cX1_sheet 120 = .ok (.iload 6, 2) := dk_21 6 (dk_at dksX1_sheet_5 4 rfl rfl)
theorem dX1_sheet_122 : decode cX1_sheet 122 = .ok (.iload 4, 2) := dk_21 4 (dk_at dksX1_sheet_5 6 rfl rfl)
theorem dX1_sheet_124 : decode cX1_sheet 124 = .ok (.iadd, 1) := dk_96 (dk_at dksX1_sheet_5 8 rfl rfl)
theorem dX1_sheet_125 : decode cX1_sheet 125 = .ok (.istore 6, 2) := dk_54 6 (dk_at dksX1_sheet_5 9 rfl rfl)
theorem dX1_sheet_127 : decode cX1_sheet 127 = .ok (.iinc 7 1, 3) := dk_132 7 1 (dk_at dksX1_sheet_5 11 rfl rfl)
theorem dX1_sheet_130 : decode cX1_sheet 130 = .ok (.goto (-89), 3) := dk_167 255 167 (dk_at dksX1_sheet_5 14 rfl rfl)
theorem dX1_sheet_133 : decode cX1_sheet 133 = .ok (.iload_n 1, 1) := dk_27 (dk_at dksX1_sheet_5 17 rfl rfl)
theorem dX1_sheet_134 : decode cX1_sheet 134 = .ok (.iconst 3, 1) := dk_6 (dk_at dksX1_sheet_5 18 rfl rfl)
theorem dX1_sheet_135 : decode cX1_sheet 135 = .ok (.if_icmp .ne 8, 3) := dk_160 0 8 (dk_at dksX1_sheet_5 19 rfl rfl)
theorem dX1_sheet_138 : decode cX1_sheet 138 = .ok (.bipush (-3), 2) := dk_16 253 (dk_at dksX1_sheet_5 22 rfl rfl)
theorem dX1_sheet_140 : decode cX1_sheet 140 = .ok (.goto 5, 3) := dk_167 0 5 (dk_at dksX1_sheet_6 0 rfl rfl)
theorem dX1_sheet_143 : decode cX1_sheet 143 = .ok (.iload 5, 2) := dk_21 5 (dk_at dksX1_sheet_6 3 rfl rfl)
theorem dX1_sheet_145 : decode cX1_sheet 145 = .ok (.ireturn, 1) := dk_172 (dk_at dksX1_sheet_6 5 rfl rfl)
abbrev cX1_serve : ByteArray := prog_1_method_42_code
def yX1_serve : MethodName := ⟨RX1, "serve", "(I)I"⟩
def dkwX1_serve_2 : List UInt8 := [181, 1, 47, 42, 180, 1, 47, 172]
abbrev dktX1_serve_2 : List UInt8 := dkwX1_serve_2 ++ []
def dkwX1_serve_1 : List UInt8 := [28, 156, 0, 5, 28, 172, 42, 180, 0, 31, 42, 180, 1, 47, 27, 79, 42, 89, 180, 1, 47, 4, 96]
abbrev dktX1_serve_1 : List UInt8 := dkwX1_serve_1 ++ dktX1_serve_2
def dkwX1_serve_0 : List UInt8 := [42, 27, 182, 0, 252, 154, 0, 5, 2, 172, 42, 42, 182, 1, 50, 42, 182, 1, 53, 27, 182, 1, 56, 61]
abbrev dktX1_serve_0 : List UInt8 := dkwX1_serve_0 ++ dktX1_serve_1
theorem dksX1_serve_0 : cX1_serve.data.toList.drop 0 = dktX1_serve_0 := by decide +kernel
theorem dksX1_serve_1 : cX1_serve.data.toList.drop 24 = dktX1_serve_1 := dk_seg dksX1_serve_0 24 rfl rfl
theorem dksX1_serve_2 : cX1_serve.data.toList.drop 47 = dktX1_serve_2 := dk_seg dksX1_serve_1 23 rfl rfl
theorem dX1_serve_0 : decode cX1_serve 0 = .ok (.aload_n 0, 1) := dk_42 (dk_at dksX1_serve_0 0 rfl rfl)
theorem dX1_serve_1 : decode cX1_serve 1 = .ok (.iload_n 1, 1) := dk_27 (dk_at dksX1_serve_0 1 rfl rfl)
theorem dX1_serve_2 : decode cX1_serve 2 = .ok (.invokevirtual 252, 3) := dk_182 0 252 (dk_at dksX1_serve_0 2 rfl rfl)
theorem dX1_serve_5 : decode cX1_serve 5 = .ok (.ifCond .ne 5, 3) := dk_154 0 5 (dk_at dksX1_serve_0 5 rfl rfl)
theorem dX1_serve_8 : decode cX1_serve 8 = .ok (.iconst (-1), 1) := dk_2 (dk_at dksX1_serve_0 8 rfl rfl)
theorem dX1_serve_9 : decode cX1_serve 9 = .ok (.ireturn, 1) := dk_172 (dk_at dksX1_serve_0 9 rfl rfl)
theorem dX1_serve_10 : decode cX1_serve 10 = .ok (.aload_n 0, 1) := dk_42 (dk_at dksX1_serve_0 10 rfl rfl)
theorem dX1_serve_11 : decode cX1_serve 11 = .ok (.aload_n 0, 1) := dk_42 (dk_at dksX1_serve_0 11 rfl rfl)
theorem dX1_serve_12 : decode cX1_serve 12 = .ok (.invokevirtual 306, 3) := dk_182 1 50 (dk_at dksX1_serve_0 12 rfl rfl)
theorem dX1_serve_15 : decode cX1_serve 15 = .ok (.aload_n 0, 1) := dk_42 (dk_at dksX1_serve_0 15 rfl rfl)
theorem dX1_serve_16 : decode cX1_serve 16 = .ok (.invokevirtual 309, 3) := dk_182 1 53 (dk_at dksX1_serve_0 16 rfl rfl)
theorem dX1_serve_19 : decode cX1_serve 19 = .ok (.iload_n 1, 1) := dk_27 (dk_at dksX1_serve_0 19 rfl rfl)
theorem dX1_serve_20 : decode cX1_serve 20 = .ok (.invokevirtual 312, 3) := dk_182 1 56 (dk_at dksX1_serve_0 20 rfl rfl)
theorem dX1_serve_23 : decode cX1_serve 23 = .ok (.istore_n 2, 1) := dk_61 (dk_at dksX1_serve_0 23 rfl rfl)
theorem dX1_serve_24 : decode cX1_serve 24 = .ok (.iload_n 2, 1) := dk_28 (dk_at dksX1_serve_1 0 rfl rfl)
theorem dX1_serve_25 : decode cX1_serve 25 = .ok (.ifCond .ge 5, 3) := dk_156 0 5 (dk_at dksX1_serve_1 1 rfl rfl)
theorem dX1_serve_28 : decode cX1_serve 28 = .ok (.iload_n 2, 1) := dk_28 (dk_at dksX1_serve_1 4 rfl rfl)
theorem dX1_serve_29 : decode cX1_serve 29 = .ok (.ireturn, 1) := dk_172 (dk_at dksX1_serve_1 5 rfl rfl)
theorem dX1_serve_30 : decode cX1_serve 30 = .ok (.aload_n 0, 1) := dk_42 (dk_at dksX1_serve_1 6 rfl rfl)
theorem dX1_serve_31 : decode cX1_serve 31 = .ok (.getfield 31, 3) := dk_180 0 31 (dk_at dksX1_serve_1 7 rfl rfl)
theorem dX1_serve_34 : decode cX1_serve 34 = .ok (.aload_n 0, 1) := dk_42 (dk_at dksX1_serve_1 10 rfl rfl)
theorem dX1_serve_35 : decode cX1_serve 35 = .ok (.getfield 303, 3) := dk_180 1 47 (dk_at dksX1_serve_1 11 rfl rfl)
theorem dX1_serve_38 : decode cX1_serve 38 = .ok (.iload_n 1, 1) := dk_27 (dk_at dksX1_serve_1 14 rfl rfl)
theorem dX1_serve_39 : decode cX1_serve 39 = .ok (.iastore, 1) := dk_79 (dk_at dksX1_serve_1 15 rfl rfl)
theorem dX1_serve_40 : decode cX1_serve 40 = .ok (.aload_n 0, 1) := dk_42 (dk_at dksX1_serve_1 16 rfl rfl)
theorem dX1_serve_41 : decode cX1_serve 41 = .ok (.dup, 1) := dk_89 (dk_at dksX1_serve_1 17 rfl rfl)
theorem dX1_serve_42 : decode cX1_serve 42 = .ok (.getfield 303, 3) := dk_180 1 47 (dk_at dksX1_serve_1 18 rfl rfl)
theorem dX1_serve_45 : decode cX1_serve 45 = .ok (.iconst 1, 1) := dk_4 (dk_at dksX1_serve_1 21 rfl rfl)
theorem dX1_serve_46 : decode cX1_serve 46 = .ok (.iadd, 1) := dk_96 (dk_at dksX1_serve_1 22 rfl rfl)
theorem dX1_serve_47 : decode cX1_serve 47 = .ok (.putfield 303, 3) := dk_181 1 47 (dk_at dksX1_serve_2 0 rfl rfl)
theorem dX1_serve_50 : decode cX1_serve 50 = .ok (.aload_n 0, 1) := dk_42 (dk_at dksX1_serve_2 3 rfl rfl)
theorem dX1_serve_51 : decode cX1_serve 51 = .ok (.getfield 303, 3) := dk_180 1 47 (dk_at dksX1_serve_2 4 rfl rfl)
theorem dX1_serve_54 : decode cX1_serve 54 = .ok (.ireturn, 1) := dk_172 (dk_at dksX1_serve_2 7 rfl rfl)
abbrev cX1_isDish : ByteArray := prog_1_method_4_code
def yX1_isDish : MethodName := ⟨RX1, "isDish", "(I)Z"⟩
def dkwX1_isDish_0 : List UInt8 := [27, 133, 9, 42, 180, 0, 102, 4, 100, 133, 184, 0, 106, 172]
abbrev dktX1_isDish_0 : List UInt8 := dkwX1_isDish_0 ++ []
theorem dksX1_isDish_0 : cX1_isDish.data.toList.drop 0 = dktX1_isDish_0 := by decide +kernel
theorem dX1_isDish_0 : decode cX1_isDish 0 = .ok (.iload_n 1, 1) := dk_27 (dk_at dksX1_isDish_0 0 rfl rfl)
theorem dX1_isDish_1 : decode cX1_isDish 1 = .ok (.i2l, 1) := dk_133 (dk_at dksX1_isDish_0 1 rfl rfl)
theorem dX1_isDish_2 : decode cX1_isDish 2 = .ok (.lconst 0, 1) := dk_9 (dk_at dksX1_isDish_0 2 rfl rfl)
theorem dX1_isDish_3 : decode cX1_isDish 3 = .ok (.aload_n 0, 1) := dk_42 (dk_at dksX1_isDish_0 3 rfl rfl)
theorem dX1_isDish_4 : decode cX1_isDish 4 = .ok (.getfield 102, 3) := dk_180 0 102 (dk_at dksX1_isDish_0 4 rfl rfl)
theorem dX1_isDish_7 : decode cX1_isDish 7 = .ok (.iconst 1, 1) := dk_4 (dk_at dksX1_isDish_0 7 rfl rfl)
theorem dX1_isDish_8 : decode cX1_isDish 8 = .ok (.isub, 1) := dk_100 (dk_at dksX1_isDish_0 8 rfl rfl)
theorem dX1_isDish_9 : decode cX1_isDish 9 = .ok (.i2l, 1) := dk_133 (dk_at dksX1_isDish_0 9 rfl rfl)
theorem dX1_isDish_10 : decode cX1_isDish 10 = .ok (.invokestatic 106, 3) := dk_184 0 106 (dk_at dksX1_isDish_0 10 rfl rfl)
theorem dX1_isDish_13 : decode cX1_isDish 13 = .ok (.ireturn, 1) := dk_172 (dk_at dksX1_isDish_0 13 rfl rfl)
abbrev cX1_setNow : ByteArray := prog_1_method_40_code
def yX1_setNow : MethodName := ⟨RX1, "setNow", "()I"⟩
def dkwX1_setNow_1 : List UInt8 := [132, 2, 1, 167, 255, 234, 27, 172]
abbrev dktX1_setNow_1 : List UInt8 := dkwX1_setNow_1 ++ []
def dkwX1_setNow_0 : List UInt8 := [3, 60, 3, 61, 28, 42, 180, 1, 47, 162, 0, 20, 27, 4, 42, 180, 0, 31, 28, 46, 120, 128, 60]
abbrev dktX1_setNow_0 : List UInt8 := dkwX1_setNow_0 ++ dktX1_setNow_1
theorem dksX1_setNow_0 : cX1_setNow.data.toList.drop 0 = dktX1_setNow_0 := by decide +kernel
theorem dksX1_setNow_1 : cX1_setNow.data.toList.drop 23 = dktX1_setNow_1 := dk_seg dksX1_setNow_0 23 rfl rfl
theorem dX1_setNow_0 : decode cX1_setNow 0 = .ok (.iconst 0, 1) := dk_3 (dk_at dksX1_setNow_0 0 rfl rfl)
theorem dX1_setNow_1 : decode cX1_setNow 1 = .ok (.istore_n 1, 1) := dk_60 (dk_at dksX1_setNow_0 1 rfl rfl)
theorem dX1_setNow_2 : decode cX1_setNow 2 = .ok (.iconst 0, 1) := dk_3 (dk_at dksX1_setNow_0 2 rfl rfl)
theorem dX1_setNow_3 : decode cX1_setNow 3 = .ok (.istore_n 2, 1) := dk_61 (dk_at dksX1_setNow_0 3 rfl rfl)
theorem dX1_setNow_4 : decode cX1_setNow 4 = .ok (.iload_n 2, 1) := dk_28 (dk_at dksX1_setNow_0 4 rfl rfl)
theorem dX1_setNow_5 : decode cX1_setNow 5 = .ok (.aload_n 0, 1) := dk_42 (dk_at dksX1_setNow_0 5 rfl rfl)
theorem dX1_setNow_6 : decode cX1_setNow 6 = .ok (.getfield 303, 3) := dk_180 1 47 (dk_at dksX1_setNow_0 6 rfl rfl)
theorem dX1_setNow_9 : decode cX1_setNow 9 = .ok (.if_icmp .ge 20, 3) := dk_162 0 20 (dk_at dksX1_setNow_0 9 rfl rfl)
theorem dX1_setNow_12 : decode cX1_setNow 12 = .ok (.iload_n 1, 1) := dk_27 (dk_at dksX1_setNow_0 12 rfl rfl)
theorem dX1_setNow_13 : decode cX1_setNow 13 = .ok (.iconst 1, 1) := dk_4 (dk_at dksX1_setNow_0 13 rfl rfl)
theorem dX1_setNow_14 : decode cX1_setNow 14 = .ok (.aload_n 0, 1) := dk_42 (dk_at dksX1_setNow_0 14 rfl rfl)
theorem dX1_setNow_15 : decode cX1_setNow 15 = .ok (.getfield 31, 3) := dk_180 0 31 (dk_at dksX1_setNow_0 15 rfl rfl)
theorem dX1_setNow_18 : decode cX1_setNow 18 = .ok (.iload_n 2, 1) := dk_28 (dk_at dksX1_setNow_0 18 rfl rfl)
theorem dX1_setNow_19 : decode cX1_setNow 19 = .ok (.iaload, 1) := dk_46 (dk_at dksX1_setNow_0 19 rfl rfl)
theorem dX1_setNow_20 : decode cX1_setNow 20 = .ok (.ishl, 1) := dk_120 (dk_at dksX1_setNow_0 20 rfl rfl)
theorem dX1_setNow_21 : decode cX1_setNow 21 = .ok (.ior, 1) := dk_128 (dk_at dksX1_setNow_0 21 rfl rfl)
theorem dX1_setNow_22 : decode cX1_setNow 22 = .ok (.istore_n 1, 1) := dk_60 (dk_at dksX1_setNow_0 22 rfl rfl)
theorem dX1_setNow_23 : decode cX1_setNow 23 = .ok (.iinc 2 1, 3) := dk_132 2 1 (dk_at dksX1_setNow_1 0 rfl rfl)
theorem dX1_setNow_26 : decode cX1_setNow 26 = .ok (.goto (-22), 3) := dk_167 255 234 (dk_at dksX1_setNow_1 3 rfl rfl)
theorem dX1_setNow_29 : decode cX1_setNow 29 = .ok (.iload_n 1, 1) := dk_27 (dk_at dksX1_setNow_1 6 rfl rfl)
theorem dX1_setNow_30 : decode cX1_setNow 30 = .ok (.ireturn, 1) := dk_172 (dk_at dksX1_setNow_1 7 rfl rfl)
abbrev cX1_lastNow : ByteArray := prog_1_method_41_code
def yX1_lastNow : MethodName := ⟨RX1, "lastNow", "()I"⟩
def dkwX1_lastNow_0 : List UInt8 := [42, 180, 1, 47, 154, 0, 7, 2, 167, 0, 14, 42, 180, 0, 31, 42, 180, 1, 47, 4, 100, 46, 172]
abbrev dktX1_lastNow_0 : List UInt8 := dkwX1_lastNow_0 ++ []
theorem dksX1_lastNow_0 : cX1_lastNow.data.toList.drop 0 = dktX1_lastNow_0 := by decide +kernel
theorem dX1_lastNow_0 : decode cX1_lastNow 0 = .ok (.aload_n 0, 1) := dk_42 (dk_at dksX1_lastNow_0 0 rfl rfl)
theorem dX1_lastNow_1 : decode cX1_lastNow 1 = .ok (.getfield 303, 3) := dk_180 1 47 (dk_at dksX1_lastNow_0 1 rfl rfl)
theorem dX1_lastNow_4 : decode cX1_lastNow 4 = .ok (.ifCond .ne 7, 3) := dk_154 0 7 (dk_at dksX1_lastNow_0 4 rfl rfl)
theorem dX1_lastNow_7 : decode cX1_lastNow 7 = .ok (.iconst (-1), 1) := dk_2 (dk_at dksX1_lastNow_0 7 rfl rfl)
theorem dX1_lastNow_8 : decode cX1_lastNow 8 = .ok (.goto 14, 3) := dk_167 0 14 (dk_at dksX1_lastNow_0 8 rfl rfl)
theorem dX1_lastNow_11 : decode cX1_lastNow 11 = .ok (.aload_n 0, 1) := dk_42 (dk_at dksX1_lastNow_0 11 rfl rfl)
theorem dX1_lastNow_12 : decode cX1_lastNow 12 = .ok (.getfield 31, 3) := dk_180 0 31 (dk_at dksX1_lastNow_0 12 rfl rfl)
theorem dX1_lastNow_15 : decode cX1_lastNow 15 = .ok (.aload_n 0, 1) := dk_42 (dk_at dksX1_lastNow_0 15 rfl rfl)
theorem dX1_lastNow_16 : decode cX1_lastNow 16 = .ok (.getfield 303, 3) := dk_180 1 47 (dk_at dksX1_lastNow_0 16 rfl rfl)
theorem dX1_lastNow_19 : decode cX1_lastNow 19 = .ok (.iconst 1, 1) := dk_4 (dk_at dksX1_lastNow_0 19 rfl rfl)
theorem dX1_lastNow_20 : decode cX1_lastNow 20 = .ok (.isub, 1) := dk_100 (dk_at dksX1_lastNow_0 20 rfl rfl)
theorem dX1_lastNow_21 : decode cX1_lastNow 21 = .ok (.iaload, 1) := dk_46 (dk_at dksX1_lastNow_0 21 rfl rfl)
theorem dX1_lastNow_22 : decode cX1_lastNow 22 = .ok (.ireturn, 1) := dk_172 (dk_at dksX1_lastNow_0 22 rfl rfl)
abbrev cX1_whyNot : ByteArray := prog_1_method_39_code
def yX1_whyNot : MethodName := ⟨RX1, "whyNot", "(III)I"⟩
def dkwX1_whyNot_3 : List UInt8 := [21, 4, 182, 1, 44, 153, 0, 7, 3, 167, 0, 5, 16, 250, 172]
abbrev dktX1_whyNot_3 : List UInt8 := dkwX1_whyNot_3 ++ []
def dkwX1_whyNot_2 : List UInt8 := [128, 54, 4, 42, 21, 4, 182, 1, 41, 42, 180, 0, 28, 4, 46, 164, 0, 8, 16, 251, 167, 0, 18, 42]
abbrev dktX1_whyNot_2 : List UInt8 := dkwX1_whyNot_2 ++ dktX1_whyNot_3
def dkwX1_whyNot_1 : List UInt8 := [16, 253, 172, 28, 155, 0, 16, 42, 27, 28, 29, 182, 1, 37, 154, 0, 6, 16, 252, 172, 27, 4, 29, 120]
abbrev dktX1_whyNot_1 : List UInt8 := dkwX1_whyNot_1 ++ dktX1_whyNot_2
def dkwX1_whyNot_0 : List UInt8 := [27, 29, 184, 1, 3, 153, 0, 6, 16, 254, 172, 28, 155, 0, 15, 42, 28, 29, 182, 1, 34, 154, 0, 6]
abbrev dktX1_whyNot_0 : List UInt8 := dkwX1_whyNot_0 ++ dktX1_whyNot_1
theorem dksX1_whyNot_0 : cX1_whyNot.data.toList.drop 0 = dktX1_whyNot_0 := by decide +kernel
theorem dksX1_whyNot_1 : cX1_whyNot.data.toList.drop 24 = dktX1_whyNot_1 := dk_seg dksX1_whyNot_0 24 rfl rfl
theorem dksX1_whyNot_2 : cX1_whyNot.data.toList.drop 48 = dktX1_whyNot_2 := dk_seg dksX1_whyNot_1 24 rfl rfl
theorem dksX1_whyNot_3 : cX1_whyNot.data.toList.drop 72 = dktX1_whyNot_3 := dk_seg dksX1_whyNot_2 24 rfl rfl
theorem dX1_whyNot_0 : decode cX1_whyNot 0 = .ok (.iload_n 1, 1) := dk_27 (dk_at dksX1_whyNot_0 0 rfl rfl)
theorem dX1_whyNot_1 : decode cX1_whyNot 1 = .ok (.iload_n 3, 1) := dk_29 (dk_at dksX1_whyNot_0 1 rfl rfl)
theorem dX1_whyNot_2 : decode cX1_whyNot 2 = .ok (.invokestatic 259, 3) := dk_184 1 3 (dk_at dksX1_whyNot_0 2 rfl rfl)
theorem dX1_whyNot_5 : decode cX1_whyNot 5 = .ok (.ifCond .eq 6, 3) := dk_153 0 6 (dk_at dksX1_whyNot_0 5 rfl rfl)
theorem dX1_whyNot_8 : decode cX1_whyNot 8 = .ok (.bipush (-2), 2) := dk_16 254 (dk_at dksX1_whyNot_0 8 rfl rfl)
theorem dX1_whyNot_10 : decode cX1_whyNot 10 = .ok (.ireturn, 1) := dk_172 (dk_at dksX1_whyNot_0 10 rfl rfl)
theorem dX1_whyNot_11 : decode cX1_whyNot 11 = .ok (.iload_n 2, 1) := dk_28 (dk_at dksX1_whyNot_0 11 rfl rfl)
theorem dX1_whyNot_12 : decode cX1_whyNot 12 = .ok (.ifCond .lt 15, 3) := dk_155 0 15 (dk_at dksX1_whyNot_0 12 rfl rfl)
theorem dX1_whyNot_15 : decode cX1_whyNot 15 = .ok (.aload_n 0, 1) := dk_42 (dk_at dksX1_whyNot_0 15 rfl rfl)
theorem dX1_whyNot_16 : decode cX1_whyNot 16 = .ok (.iload_n 2, 1) := dk_28 (dk_at dksX1_whyNot_0 16 rfl rfl)
theorem dX1_whyNot_17 : decode cX1_whyNot 17 = .ok (.iload_n 3, 1) := dk_29 (dk_at dksX1_whyNot_0 17 rfl rfl)
theorem dX1_whyNot_18 : decode cX1_whyNot 18 = .ok (.invokevirtual 290, 3) := dk_182 1 34 (dk_at dksX1_whyNot_0 18 rfl rfl)
theorem dX1_whyNot_21 : decode cX1_whyNot 21 = .ok (.ifCond .ne 6, 3) := dk_154 0 6 (dk_at dksX1_whyNot_0 21 rfl rfl)
theorem dX1_whyNot_24 : decode cX1_whyNot 24 = .ok (.bipush (-3), 2) := dk_16 253 (dk_at dksX1_whyNot_1 0 rfl rfl)
theorem dX1_whyNot_26 : decode cX1_whyNot 26 = .ok (.ireturn, 1) := dk_172 (dk_at dksX1_whyNot_1 2 rfl rfl)
theorem dX1_whyNot_27 : decode cX1_whyNot 27 = .ok (.iload_n 2, 1) := dk_28 (dk_at dksX1_whyNot_1 3 rfl rfl)
theorem dX1_whyNot_28 : decode cX1_whyNot 28 = .ok (.ifCond .lt 16, 3) := dk_155 0 16 (dk_at dksX1_whyNot_1 4 rfl rfl)
theorem dX1_whyNot_31 : decode cX1_whyNot 31 = .ok (.aload_n 0, 1) := dk_42 (dk_at dksX1_whyNot_1 7 rfl rfl)
theorem dX1_whyNot_32 : decode cX1_whyNot 32 = .ok (.iload_n 1, 1) := dk_27 (dk_at dksX1_whyNot_1 8 rfl rfl)
theorem dX1_whyNot_33 : decode cX1_whyNot 33 = .ok (.iload_n 2, 1) := dk_28 (dk_at dksX1_whyNot_1 9 rfl rfl)
theorem dX1_whyNot_34 : decode cX1_whyNot 34 = .ok (.iload_n 3, 1) := dk_29 (dk_at dksX1_whyNot_1 10 rfl rfl)
theorem dX1_whyNot_35 : decode cX1_whyNot 35 = .ok (.invokevirtual 293, 3) := dk_182 1 37 (dk_at dksX1_whyNot_1 11 rfl rfl)
theorem dX1_whyNot_38 : decode cX1_whyNot 38 = .ok (.ifCond .ne 6, 3) := dk_154 0 6 (dk_at dksX1_whyNot_1 14 rfl rfl)
theorem dX1_whyNot_41 : decode cX1_whyNot 41 = .ok (.bipush (-4), 2) := dk_16 252 (dk_at dksX1_whyNot_1 17 rfl rfl)
theorem dX1_whyNot_43 : decode cX1_whyNot 43 = .ok (.ireturn, 1) := dk_172 (dk_at dksX1_whyNot_1 19 rfl rfl)
theorem dX1_whyNot_44 : decode cX1_whyNot 44 = .ok (.iload_n 1, 1) := dk_27 (dk_at dksX1_whyNot_1 20 rfl rfl)
theorem dX1_whyNot_45 : decode cX1_whyNot 45 = .ok (.iconst 1, 1) := dk_4 (dk_at dksX1_whyNot_1 21 rfl rfl)
theorem dX1_whyNot_46 : decode cX1_whyNot 46 = .ok (.iload_n 3, 1) := dk_29 (dk_at dksX1_whyNot_1 22 rfl rfl)
theorem dX1_whyNot_47 : decode cX1_whyNot 47 = .ok (.ishl, 1) := dk_120 (dk_at dksX1_whyNot_1 23 rfl rfl)
theorem dX1_whyNot_48 : decode cX1_whyNot 48 = .ok (.ior, 1) := dk_128 (dk_at dksX1_whyNot_2 0 rfl rfl)
theorem dX1_whyNot_49 : decode cX1_whyNot 49 = .ok (.istore 4, 2) := dk_54 4 (dk_at dksX1_whyNot_2 1 rfl rfl)
theorem dX1_whyNot_51 : decode cX1_whyNot 51 = .ok (.aload_n 0, 1) := dk_42 (dk_at dksX1_whyNot_2 3 rfl rfl)
theorem dX1_whyNot_52 : decode cX1_whyNot 52 = .ok (.iload 4, 2) := dk_21 4 (dk_at dksX1_whyNot_2 4 rfl rfl)
theorem dX1_whyNot_54 : decode cX1_whyNot 54 = .ok (.invokevirtual 297, 3) := dk_182 1 41 (dk_at dksX1_whyNot_2 6 rfl rfl)
theorem dX1_whyNot_57 : decode cX1_whyNot 57 = .ok (.aload_n 0, 1) := dk_42 (dk_at dksX1_whyNot_2 9 rfl rfl)
theorem dX1_whyNot_58 : decode cX1_whyNot 58 = .ok (.getfield 28, 3) := dk_180 0 28 (dk_at dksX1_whyNot_2 10 rfl rfl)
theorem dX1_whyNot_61 : decode cX1_whyNot 61 = .ok (.iconst 1, 1) := dk_4 (dk_at dksX1_whyNot_2 13 rfl rfl)
theorem dX1_whyNot_62 : decode cX1_whyNot 62 = .ok (.iaload, 1) := dk_46 (dk_at dksX1_whyNot_2 14 rfl rfl)
theorem dX1_whyNot_63 : decode cX1_whyNot 63 = .ok (.if_icmp .le 8, 3) := dk_164 0 8 (dk_at dksX1_whyNot_2 15 rfl rfl)
theorem dX1_whyNot_66 : decode cX1_whyNot 66 = .ok (.bipush (-5), 2) := dk_16 251 (dk_at dksX1_whyNot_2 18 rfl rfl)
theorem dX1_whyNot_68 : decode cX1_whyNot 68 = .ok (.goto 18, 3) := dk_167 0 18 (dk_at dksX1_whyNot_2 20 rfl rfl)
theorem dX1_whyNot_71 : decode cX1_whyNot 71 = .ok (.aload_n 0, 1) := dk_42 (dk_at dksX1_whyNot_2 23 rfl rfl)
theorem dX1_whyNot_72 : decode cX1_whyNot 72 = .ok (.iload 4, 2) := dk_21 4 (dk_at dksX1_whyNot_3 0 rfl rfl)
theorem dX1_whyNot_74 : decode cX1_whyNot 74 = .ok (.invokevirtual 300, 3) := dk_182 1 44 (dk_at dksX1_whyNot_3 2 rfl rfl)
theorem dX1_whyNot_77 : decode cX1_whyNot 77 = .ok (.ifCond .eq 7, 3) := dk_153 0 7 (dk_at dksX1_whyNot_3 5 rfl rfl)
theorem dX1_whyNot_80 : decode cX1_whyNot 80 = .ok (.iconst 0, 1) := dk_3 (dk_at dksX1_whyNot_3 8 rfl rfl)
theorem dX1_whyNot_81 : decode cX1_whyNot 81 = .ok (.goto 5, 3) := dk_167 0 5 (dk_at dksX1_whyNot_3 9 rfl rfl)
theorem dX1_whyNot_84 : decode cX1_whyNot 84 = .ok (.bipush (-6), 2) := dk_16 250 (dk_at dksX1_whyNot_3 12 rfl rfl)
theorem dX1_whyNot_86 : decode cX1_whyNot 86 = .ok (.ireturn, 1) := dk_172 (dk_at dksX1_whyNot_3 14 rfl rfl)
abbrev cX1_has : ByteArray := prog_1_method_2_code
def yX1_has : MethodName := ⟨RX1, "has", "(II)Z"⟩
def dkwX1_has_0 : List UInt8 := [26, 27, 122, 4, 126, 4, 160, 0, 7, 4, 167, 0, 4, 3, 172]
abbrev dktX1_has_0 : List UInt8 := dkwX1_has_0 ++ []
theorem dksX1_has_0 : cX1_has.data.toList.drop 0 = dktX1_has_0 := by decide +kernel
theorem dX1_has_0 : decode cX1_has 0 = .ok (.iload_n 0, 1) := dk_26 (dk_at dksX1_has_0 0 rfl rfl)
theorem dX1_has_1 : decode cX1_has 1 = .ok (.iload_n 1, 1) := dk_27 (dk_at dksX1_has_0 1 rfl rfl)
theorem dX1_has_2 : decode cX1_has 2 = .ok (.ishr, 1) := dk_122 (dk_at dksX1_has_0 2 rfl rfl)
theorem dX1_has_3 : decode cX1_has 3 = .ok (.iconst 1, 1) := dk_4 (dk_at dksX1_has_0 3 rfl rfl)
theorem dX1_has_4 : decode cX1_has 4 = .ok (.iand, 1) := dk_126 (dk_at dksX1_has_0 4 rfl rfl)
theorem dX1_has_5 : decode cX1_has 5 = .ok (.iconst 1, 1) := dk_4 (dk_at dksX1_has_0 5 rfl rfl)
theorem dX1_has_6 : decode cX1_has 6 = .ok (.if_icmp .ne 7, 3) := dk_160 0 7 (dk_at dksX1_has_0 6 rfl rfl)
theorem dX1_has_9 : decode cX1_has 9 = .ok (.iconst 1, 1) := dk_4 (dk_at dksX1_has_0 9 rfl rfl)
theorem dX1_has_10 : decode cX1_has 10 = .ok (.goto 4, 3) := dk_167 0 4 (dk_at dksX1_has_0 10 rfl rfl)
theorem dX1_has_13 : decode cX1_has 13 = .ok (.iconst 0, 1) := dk_3 (dk_at dksX1_has_0 13 rfl rfl)
theorem dX1_has_14 : decode cX1_has 14 = .ok (.ireturn, 1) := dk_172 (dk_at dksX1_has_0 14 rfl rfl)
abbrev cX1_arePair : ByteArray := prog_1_method_34_code
def yX1_arePair : MethodName := ⟨RX1, "arePair", "(II)Z"⟩
def dkwX1_arePair_1 : List UInt8 := [161, 0, 7, 4, 167, 0, 4, 3, 172]
abbrev dktX1_arePair_1 : List UInt8 := dkwX1_arePair_1 ++ []
def dkwX1_arePair_0 : List UInt8 := [42, 180, 0, 9, 27, 46, 42, 180, 0, 9, 28, 46, 126, 184, 0, 237, 42, 180, 0, 28, 3, 46]
abbrev dktX1_arePair_0 : List UInt8 := dkwX1_arePair_0 ++ dktX1_arePair_1
theorem dksX1_arePair_0 : cX1_arePair.data.toList.drop 0 = dktX1_arePair_0 := by decide +kernel
theorem dksX1_arePair_1 : cX1_arePair.data.toList.drop 22 = dktX1_arePair_1 := dk_seg dksX1_arePair_0 22 rfl rfl
theorem dX1_arePair_0 : decode cX1_arePair 0 = .ok (.aload_n 0, 1) := dk_42 (dk_at dksX1_arePair_0 0 rfl rfl)
theorem dX1_arePair_1 : decode cX1_arePair 1 = .ok (.getfield 9, 3) := dk_180 0 9 (dk_at dksX1_arePair_0 1 rfl rfl)
theorem dX1_arePair_4 : decode cX1_arePair 4 = .ok (.iload_n 1, 1) := dk_27 (dk_at dksX1_arePair_0 4 rfl rfl)
theorem dX1_arePair_5 : decode cX1_arePair 5 = .ok (.iaload, 1) := dk_46 (dk_at dksX1_arePair_0 5 rfl rfl)
theorem dX1_arePair_6 : decode cX1_arePair 6 = .ok (.aload_n 0, 1) := dk_42 (dk_at dksX1_arePair_0 6 rfl rfl)
theorem dX1_arePair_7 : decode cX1_arePair 7 = .ok (.getfield 9, 3) := dk_180 0 9 (dk_at dksX1_arePair_0 7 rfl rfl)
theorem dX1_arePair_10 : decode cX1_arePair 10 = .ok (.iload_n 2, 1) := dk_28 (dk_at dksX1_arePair_0 10 rfl rfl)
theorem dX1_arePair_11 : decode cX1_arePair 11 = .ok (.iaload, 1) := dk_46 (dk_at dksX1_arePair_0 11 rfl rfl)
theorem dX1_arePair_12 : decode cX1_arePair 12 = .ok (.iand, 1) := dk_126 (dk_at dksX1_arePair_0 12 rfl rfl)
theorem dX1_arePair_13 : decode cX1_arePair 13 = .ok (.invokestatic 237, 3) := dk_184 0 237 (dk_at dksX1_arePair_0 13 rfl rfl)
theorem dX1_arePair_16 : decode cX1_arePair 16 = .ok (.aload_n 0, 1) := dk_42 (dk_at dksX1_arePair_0 16 rfl rfl)
theorem dX1_arePair_17 : decode cX1_arePair 17 = .ok (.getfield 28, 3) := dk_180 0 28 (dk_at dksX1_arePair_0 17 rfl rfl)
theorem dX1_arePair_20 : decode cX1_arePair 20 = .ok (.iconst 0, 1) := dk_3 (dk_at dksX1_arePair_0 20 rfl rfl)
theorem dX1_arePair_21 : decode cX1_arePair 21 = .ok (.iaload, 1) := dk_46 (dk_at dksX1_arePair_0 21 rfl rfl)
theorem dX1_arePair_22 : decode cX1_arePair 22 = .ok (.if_icmp .lt 7, 3) := dk_161 0 7 (dk_at dksX1_arePair_1 0 rfl rfl)
theorem dX1_arePair_25 : decode cX1_arePair 25 = .ok (.iconst 1, 1) := dk_4 (dk_at dksX1_arePair_1 3 rfl rfl)
theorem dX1_arePair_26 : decode cX1_arePair 26 = .ok (.goto 4, 3) := dk_167 0 4 (dk_at dksX1_arePair_1 4 rfl rfl)
theorem dX1_arePair_29 : decode cX1_arePair 29 = .ok (.iconst 0, 1) := dk_3 (dk_at dksX1_arePair_1 7 rfl rfl)
theorem dX1_arePair_30 : decode cX1_arePair 30 = .ok (.ireturn, 1) := dk_172 (dk_at dksX1_arePair_1 8 rfl rfl)
abbrev cX1_isWarm : ByteArray := prog_1_method_35_code
def yX1_isWarm : MethodName := ⟨RX1, "isWarm", "(III)Z"⟩
def dkwX1_isWarm_2 : List UInt8 := [180, 0, 178, 28, 184, 1, 3, 42, 180, 0, 178, 29, 184, 1, 3, 159, 0, 7, 4, 167, 0, 4, 3, 172]
abbrev dktX1_isWarm_2 : List UInt8 := dkwX1_isWarm_2 ++ []
def dkwX1_isWarm_1 : List UInt8 := [180, 0, 178, 126, 154, 0, 7, 4, 167, 0, 4, 3, 172, 42, 180, 0, 28, 5, 46, 153, 0, 22, 42]
abbrev dktX1_isWarm_1 : List UInt8 := dkwX1_isWarm_1 ++ dktX1_isWarm_2
def dkwX1_isWarm_0 : List UInt8 := [42, 180, 0, 28, 5, 46, 4, 160, 0, 29, 42, 180, 0, 178, 29, 184, 1, 3, 154, 0, 12, 27, 42]
abbrev dktX1_isWarm_0 : List UInt8 := dkwX1_isWarm_0 ++ dktX1_isWarm_1
theorem dksX1_isWarm_0 : cX1_isWarm.data.toList.drop 0 = dktX1_isWarm_0 := by decide +kernel
theorem dksX1_isWarm_1 : cX1_isWarm.data.toList.drop 23 = dktX1_isWarm_1 := dk_seg dksX1_isWarm_0 23 rfl rfl
theorem dksX1_isWarm_2 : cX1_isWarm.data.toList.drop 46 = dktX1_isWarm_2 := dk_seg dksX1_isWarm_1 23 rfl rfl
theorem dX1_isWarm_0 : decode cX1_isWarm 0 = .ok (.aload_n 0, 1) := dk_42 (dk_at dksX1_isWarm_0 0 rfl rfl)
theorem dX1_isWarm_1 : decode cX1_isWarm 1 = .ok (.getfield 28, 3) := dk_180 0 28 (dk_at dksX1_isWarm_0 1 rfl rfl)
theorem dX1_isWarm_4 : decode cX1_isWarm 4 = .ok (.iconst 2, 1) := dk_5 (dk_at dksX1_isWarm_0 4 rfl rfl)
theorem dX1_isWarm_5 : decode cX1_isWarm 5 = .ok (.iaload, 1) := dk_46 (dk_at dksX1_isWarm_0 5 rfl rfl)
theorem dX1_isWarm_6 : decode cX1_isWarm 6 = .ok (.iconst 1, 1) := dk_4 (dk_at dksX1_isWarm_0 6 rfl rfl)
theorem dX1_isWarm_7 : decode cX1_isWarm 7 = .ok (.if_icmp .ne 29, 3) := dk_160 0 29 (dk_at dksX1_isWarm_0 7 rfl rfl)
theorem dX1_isWarm_10 : decode cX1_isWarm 10 = .ok (.aload_n 0, 1) := dk_42 (dk_at dksX1_isWarm_0 10 rfl rfl)
theorem dX1_isWarm_11 : decode cX1_isWarm 11 = .ok (.getfield 178, 3) := dk_180 0 178 (dk_at dksX1_isWarm_0 11 rfl rfl)
theorem dX1_isWarm_14 : decode cX1_isWarm 14 = .ok (.iload_n 3, 1) := dk_29 (dk_at dksX1_isWarm_0 14 rfl rfl)
theorem dX1_isWarm_15 : decode cX1_isWarm 15 = .ok (.invokestatic 259, 3) := dk_184 1 3 (dk_at dksX1_isWarm_0 15 rfl rfl)
theorem dX1_isWarm_18 : decode cX1_isWarm 18 = .ok (.ifCond .ne 12, 3) := dk_154 0 12 (dk_at dksX1_isWarm_0 18 rfl rfl)
theorem dX1_isWarm_21 : decode cX1_isWarm 21 = .ok (.iload_n 1, 1) := dk_27 (dk_at dksX1_isWarm_0 21 rfl rfl)
theorem dX1_isWarm_22 : decode cX1_isWarm 22 = .ok (.aload_n 0, 1) := dk_42 (dk_at dksX1_isWarm_0 22 rfl rfl)
theorem dX1_isWarm_23 : decode cX1_isWarm 23 = .ok (.getfield 178, 3) := dk_180 0 178 (dk_at dksX1_isWarm_1 0 rfl rfl)
theorem dX1_isWarm_26 : decode cX1_isWarm 26 = .ok (.iand, 1) := dk_126 (dk_at dksX1_isWarm_1 3 rfl rfl)
theorem dX1_isWarm_27 : decode cX1_isWarm 27 = .ok (.ifCond .ne 7, 3) := dk_154 0 7 (dk_at dksX1_isWarm_1 4 rfl rfl)
theorem dX1_isWarm_30 : decode cX1_isWarm 30 = .ok (.iconst 1, 1) := dk_4 (dk_at dksX1_isWarm_1 7 rfl rfl)
theorem dX1_isWarm_31 : decode cX1_isWarm 31 = .ok (.goto 4, 3) := dk_167 0 4 (dk_at dksX1_isWarm_1 8 rfl rfl)
theorem dX1_isWarm_34 : decode cX1_isWarm 34 = .ok (.iconst 0, 1) := dk_3 (dk_at dksX1_isWarm_1 11 rfl rfl)
theorem dX1_isWarm_35 : decode cX1_isWarm 35 = .ok (.ireturn, 1) := dk_172 (dk_at dksX1_isWarm_1 12 rfl rfl)
theorem dX1_isWarm_36 : decode cX1_isWarm 36 = .ok (.aload_n 0, 1) := dk_42 (dk_at dksX1_isWarm_1 13 rfl rfl)
theorem dX1_isWarm_37 : decode cX1_isWarm 37 = .ok (.getfield 28, 3) := dk_180 0 28 (dk_at dksX1_isWarm_1 14 rfl rfl)
theorem dX1_isWarm_40 : decode cX1_isWarm 40 = .ok (.iconst 2, 1) := dk_5 (dk_at dksX1_isWarm_1 17 rfl rfl)
theorem dX1_isWarm_41 : decode cX1_isWarm 41 = .ok (.iaload, 1) := dk_46 (dk_at dksX1_isWarm_1 18 rfl rfl)
theorem dX1_isWarm_42 : decode cX1_isWarm 42 = .ok (.ifCond .eq 22, 3) := dk_153 0 22 (dk_at dksX1_isWarm_1 19 rfl rfl)
theorem dX1_isWarm_45 : decode cX1_isWarm 45 = .ok (.aload_n 0, 1) := dk_42 (dk_at dksX1_isWarm_1 22 rfl rfl)
theorem dX1_isWarm_46 : decode cX1_isWarm 46 = .ok (.getfield 178, 3) := dk_180 0 178 (dk_at dksX1_isWarm_2 0 rfl rfl)
theorem dX1_isWarm_49 : decode cX1_isWarm 49 = .ok (.iload_n 2, 1) := dk_28 (dk_at dksX1_isWarm_2 3 rfl rfl)
theorem dX1_isWarm_50 : decode cX1_isWarm 50 = .ok (.invokestatic 259, 3) := dk_184 1 3 (dk_at dksX1_isWarm_2 4 rfl rfl)
theorem dX1_isWarm_53 : decode cX1_isWarm 53 = .ok (.aload_n 0, 1) := dk_42 (dk_at dksX1_isWarm_2 7 rfl rfl)
theorem dX1_isWarm_54 : decode cX1_isWarm 54 = .ok (.getfield 178, 3) := dk_180 0 178 (dk_at dksX1_isWarm_2 8 rfl rfl)
theorem dX1_isWarm_57 : decode cX1_isWarm 57 = .ok (.iload_n 3, 1) := dk_29 (dk_at dksX1_isWarm_2 11 rfl rfl)
theorem dX1_isWarm_58 : decode cX1_isWarm 58 = .ok (.invokestatic 259, 3) := dk_184 1 3 (dk_at dksX1_isWarm_2 12 rfl rfl)
theorem dX1_isWarm_61 : decode cX1_isWarm 61 = .ok (.if_icmp .eq 7, 3) := dk_159 0 7 (dk_at dksX1_isWarm_2 15 rfl rfl)
theorem dX1_isWarm_64 : decode cX1_isWarm 64 = .ok (.iconst 1, 1) := dk_4 (dk_at dksX1_isWarm_2 18 rfl rfl)
theorem dX1_isWarm_65 : decode cX1_isWarm 65 = .ok (.goto 4, 3) := dk_167 0 4 (dk_at dksX1_isWarm_2 19 rfl rfl)
theorem dX1_isWarm_68 : decode cX1_isWarm 68 = .ok (.iconst 0, 1) := dk_3 (dk_at dksX1_isWarm_2 22 rfl rfl)
theorem dX1_isWarm_69 : decode cX1_isWarm 69 = .ok (.ireturn, 1) := dk_172 (dk_at dksX1_isWarm_2 23 rfl rfl)
abbrev cX1_mostOf : ByteArray := prog_1_method_36_code
def yX1_mostOf : MethodName := ⟨RX1, "mostOf", "(I)I"⟩
def dkwX1_mostOf_1 : List UInt8 := [167, 255, 236, 28, 172]
abbrev dktX1_mostOf_1 : List UInt8 := dkwX1_mostOf_1 ++ []
def dkwX1_mostOf_0 : List UInt8 := [3, 61, 3, 62, 29, 16, 8, 162, 0, 20, 28, 42, 27, 29, 182, 1, 31, 184, 0, 246, 61, 132, 3, 1]
abbrev dktX1_mostOf_0 : List UInt8 := dkwX1_mostOf_0 ++ dktX1_mostOf_1
theorem dksX1_mostOf_0 : cX1_mostOf.data.toList.drop 0 = dktX1_mostOf_0 := by decide +kernel
theorem dksX1_mostOf_1 : cX1_mostOf.data.toList.drop 24 = dktX1_mostOf_1 := dk_seg dksX1_mostOf_0 24 rfl rfl
theorem dX1_mostOf_0 : decode cX1_mostOf 0 = .ok (.iconst 0, 1) := dk_3 (dk_at dksX1_mostOf_0 0 rfl rfl)
theorem dX1_mostOf_1 : decode cX1_mostOf 1 = .ok (.istore_n 2, 1) := dk_61 (dk_at dksX1_mostOf_0 1 rfl rfl)
theorem dX1_mostOf_2 : decode cX1_mostOf 2 = .ok (.iconst 0, 1) := dk_3 (dk_at dksX1_mostOf_0 2 rfl rfl)
theorem dX1_mostOf_3 : decode cX1_mostOf 3 = .ok (.istore_n 3, 1) := dk_62 (dk_at dksX1_mostOf_0 3 rfl rfl)
theorem dX1_mostOf_4 : decode cX1_mostOf 4 = .ok (.iload_n 3, 1) := dk_29 (dk_at dksX1_mostOf_0 4 rfl rfl)
theorem dX1_mostOf_5 : decode cX1_mostOf 5 = .ok (.bipush 8, 2) := dk_16 8 (dk_at dksX1_mostOf_0 5 rfl rfl)
theorem dX1_mostOf_7 : decode cX1_mostOf 7 = .ok (.if_icmp .ge 20, 3) := dk_162 0 20 (dk_at dksX1_mostOf_0 7 rfl rfl)
theorem dX1_mostOf_10 : decode cX1_mostOf 10 = .ok (.iload_n 2, 1) := dk_28 (dk_at dksX1_mostOf_0 10 rfl rfl)
theorem dX1_mostOf_11 : decode cX1_mostOf 11 = .ok (.aload_n 0, 1) := dk_42 (dk_at dksX1_mostOf_0 11 rfl rfl)
theorem dX1_mostOf_12 : decode cX1_mostOf 12 = .ok (.iload_n 1, 1) := dk_27 (dk_at dksX1_mostOf_0 12 rfl rfl)
theorem dX1_mostOf_13 : decode cX1_mostOf 13 = .ok (.iload_n 3, 1) := dk_29 (dk_at dksX1_mostOf_0 13 rfl rfl)
theorem dX1_mostOf_14 : decode cX1_mostOf 14 = .ok (.invokevirtual 287, 3) := dk_182 1 31 (dk_at dksX1_mostOf_0 14 rfl rfl)
theorem dX1_mostOf_17 : decode cX1_mostOf 17 = .ok (.invokestatic 246, 3) := dk_184 0 246 (dk_at dksX1_mostOf_0 17 rfl rfl)
theorem dX1_mostOf_20 : decode cX1_mostOf 20 = .ok (.istore_n 2, 1) := dk_61 (dk_at dksX1_mostOf_0 20 rfl rfl)
theorem dX1_mostOf_21 : decode cX1_mostOf 21 = .ok (.iinc 3 1, 3) := dk_132 3 1 (dk_at dksX1_mostOf_0 21 rfl rfl)
theorem dX1_mostOf_24 : decode cX1_mostOf 24 = .ok (.goto (-20), 3) := dk_167 255 236 (dk_at dksX1_mostOf_1 0 rfl rfl)
theorem dX1_mostOf_27 : decode cX1_mostOf 27 = .ok (.iload_n 2, 1) := dk_28 (dk_at dksX1_mostOf_1 3 rfl rfl)
theorem dX1_mostOf_28 : decode cX1_mostOf 28 = .ok (.ireturn, 1) := dk_172 (dk_at dksX1_mostOf_1 4 rfl rfl)
abbrev cX1_manyOf : ByteArray := prog_1_method_37_code
def yX1_manyOf : MethodName := ⟨RX1, "manyOf", "(II)I"⟩
def dkwX1_manyOf_2 : List UInt8 := [167, 255, 213, 29, 172]
abbrev dktX1_manyOf_2 : List UInt8 := dkwX1_manyOf_2 ++ []
def dkwX1_manyOf_1 : List UInt8 := [42, 180, 0, 9, 21, 4, 46, 28, 184, 1, 3, 153, 0, 7, 4, 167, 0, 4, 3, 96, 62, 132, 4, 1]
abbrev dktX1_manyOf_1 : List UInt8 := dkwX1_manyOf_1 ++ dktX1_manyOf_2
def dkwX1_manyOf_0 : List UInt8 := [3, 62, 3, 54, 4, 21, 4, 42, 180, 0, 102, 162, 0, 40, 29, 27, 21, 4, 184, 1, 3, 153, 0, 21]
abbrev dktX1_manyOf_0 : List UInt8 := dkwX1_manyOf_0 ++ dktX1_manyOf_1
theorem dksX1_manyOf_0 : cX1_manyOf.data.toList.drop 0 = dktX1_manyOf_0 := by decide +kernel
theorem dksX1_manyOf_1 : cX1_manyOf.data.toList.drop 24 = dktX1_manyOf_1 := dk_seg dksX1_manyOf_0 24 rfl rfl
theorem dksX1_manyOf_2 : cX1_manyOf.data.toList.drop 48 = dktX1_manyOf_2 := dk_seg dksX1_manyOf_1 24 rfl rfl
theorem dX1_manyOf_0 : decode cX1_manyOf 0 = .ok (.iconst 0, 1) := dk_3 (dk_at dksX1_manyOf_0 0 rfl rfl)
theorem dX1_manyOf_1 : decode cX1_manyOf 1 = .ok (.istore_n 3, 1) := dk_62 (dk_at dksX1_manyOf_0 1 rfl rfl)
theorem dX1_manyOf_2 : decode cX1_manyOf 2 = .ok (.iconst 0, 1) := dk_3 (dk_at dksX1_manyOf_0 2 rfl rfl)
theorem dX1_manyOf_3 : decode cX1_manyOf 3 = .ok (.istore 4, 2) := dk_54 4 (dk_at dksX1_manyOf_0 3 rfl rfl)
theorem dX1_manyOf_5 : decode cX1_manyOf 5 = .ok (.iload 4, 2) := dk_21 4 (dk_at dksX1_manyOf_0 5 rfl rfl)
theorem dX1_manyOf_7 : decode cX1_manyOf 7 = .ok (.aload_n 0, 1) := dk_42 (dk_at dksX1_manyOf_0 7 rfl rfl)
theorem dX1_manyOf_8 : decode cX1_manyOf 8 = .ok (.getfield 102, 3) := dk_180 0 102 (dk_at dksX1_manyOf_0 8 rfl rfl)
theorem dX1_manyOf_11 : decode cX1_manyOf 11 = .ok (.if_icmp .ge 40, 3) := dk_162 0 40 (dk_at dksX1_manyOf_0 11 rfl rfl)
theorem dX1_manyOf_14 : decode cX1_manyOf 14 = .ok (.iload_n 3, 1) := dk_29 (dk_at dksX1_manyOf_0 14 rfl rfl)
theorem dX1_manyOf_15 : decode cX1_manyOf 15 = .ok (.iload_n 1, 1) := dk_27 (dk_at dksX1_manyOf_0 15 rfl rfl)
theorem dX1_manyOf_16 : decode cX1_manyOf 16 = .ok (.iload 4, 2) := dk_21 4 (dk_at dksX1_manyOf_0 16 rfl rfl)
theorem dX1_manyOf_18 : decode cX1_manyOf 18 = .ok (.invokestatic 259, 3) := dk_184 1 3 (dk_at dksX1_manyOf_0 18 rfl rfl)
theorem dX1_manyOf_21 : decode cX1_manyOf 21 = .ok (.ifCond .eq 21, 3) := dk_153 0 21 (dk_at dksX1_manyOf_0 21 rfl rfl)
theorem dX1_manyOf_24 : decode cX1_manyOf 24 = .ok (.aload_n 0, 1) := dk_42 (dk_at dksX1_manyOf_1 0 rfl rfl)
theorem dX1_manyOf_25 : decode cX1_manyOf 25 = .ok (.getfield 9, 3) := dk_180 0 9 (dk_at dksX1_manyOf_1 1 rfl rfl)
theorem dX1_manyOf_28 : decode cX1_manyOf 28 = .ok (.iload 4, 2) := dk_21 4 (dk_at dksX1_manyOf_1 4 rfl rfl)
theorem dX1_manyOf_30 : decode cX1_manyOf 30 = .ok (.iaload, 1) := dk_46 (dk_at dksX1_manyOf_1 6 rfl rfl)
theorem dX1_manyOf_31 : decode cX1_manyOf 31 = .ok (.iload_n 2, 1) := dk_28 (dk_at dksX1_manyOf_1 7 rfl rfl)
theorem dX1_manyOf_32 : decode cX1_manyOf 32 = .ok (.invokestatic 259, 3) := dk_184 1 3 (dk_at dksX1_manyOf_1 8 rfl rfl)
theorem dX1_manyOf_35 : decode cX1_manyOf 35 = .ok (.ifCond .eq 7, 3) := dk_153 0 7 (dk_at dksX1_manyOf_1 11 rfl rfl)
theorem dX1_manyOf_38 : decode cX1_manyOf 38 = .ok (.iconst 1, 1) := dk_4 (dk_at dksX1_manyOf_1 14 rfl rfl)
theorem dX1_manyOf_39 : decode cX1_manyOf 39 = .ok (.goto 4, 3) := dk_167 0 4 (dk_at dksX1_manyOf_1 15 rfl rfl)
theorem dX1_manyOf_42 : decode cX1_manyOf 42 = .ok (.iconst 0, 1) := dk_3 (dk_at dksX1_manyOf_1 18 rfl rfl)
theorem dX1_manyOf_43 : decode cX1_manyOf 43 = .ok (.iadd, 1) := dk_96 (dk_at dksX1_manyOf_1 19 rfl rfl)
theorem dX1_manyOf_44 : decode cX1_manyOf 44 = .ok (.istore_n 3, 1) := dk_62 (dk_at dksX1_manyOf_1 20 rfl rfl)
theorem dX1_manyOf_45 : decode cX1_manyOf 45 = .ok (.iinc 4 1, 3) := dk_132 4 1 (dk_at dksX1_manyOf_1 21 rfl rfl)
theorem dX1_manyOf_48 : decode cX1_manyOf 48 = .ok (.goto (-43), 3) := dk_167 255 213 (dk_at dksX1_manyOf_2 0 rfl rfl)
theorem dX1_manyOf_51 : decode cX1_manyOf 51 = .ok (.iload_n 3, 1) := dk_29 (dk_at dksX1_manyOf_2 3 rfl rfl)
theorem dX1_manyOf_52 : decode cX1_manyOf 52 = .ok (.ireturn, 1) := dk_172 (dk_at dksX1_manyOf_2 4 rfl rfl)
abbrev cX1_isStored : ByteArray := prog_1_method_38_code
def yX1_isStored : MethodName := ⟨RX1, "isStored", "(I)Z"⟩
def dkwX1_isStored_1 : List UInt8 := [172, 132, 2, 1, 167, 255, 230, 4, 172]
abbrev dktX1_isStored_1 : List UInt8 := dkwX1_isStored_1 ++ []
def dkwX1_isStored_0 : List UInt8 := [3, 61, 28, 16, 8, 162, 0, 26, 42, 27, 28, 182, 1, 31, 42, 180, 0, 25, 28, 46, 164, 0, 5, 3]
abbrev dktX1_isStored_0 : List UInt8 := dkwX1_isStored_0 ++ dktX1_isStored_1
theorem dksX1_isStored_0 : cX1_isStored.data.toList.drop 0 = dktX1_isStored_0 := by decide +kernel
theorem dksX1_isStored_1 : cX1_isStored.data.toList.drop 24 = dktX1_isStored_1 := dk_seg dksX1_isStored_0 24 rfl rfl
theorem dX1_isStored_0 : decode cX1_isStored 0 = .ok (.iconst 0, 1) := dk_3 (dk_at dksX1_isStored_0 0 rfl rfl)
theorem dX1_isStored_1 : decode cX1_isStored 1 = .ok (.istore_n 2, 1) := dk_61 (dk_at dksX1_isStored_0 1 rfl rfl)
theorem dX1_isStored_2 : decode cX1_isStored 2 = .ok (.iload_n 2, 1) := dk_28 (dk_at dksX1_isStored_0 2 rfl rfl)
theorem dX1_isStored_3 : decode cX1_isStored 3 = .ok (.bipush 8, 2) := dk_16 8 (dk_at dksX1_isStored_0 3 rfl rfl)
theorem dX1_isStored_5 : decode cX1_isStored 5 = .ok (.if_icmp .ge 26, 3) := dk_162 0 26 (dk_at dksX1_isStored_0 5 rfl rfl)
theorem dX1_isStored_8 : decode cX1_isStored 8 = .ok (.aload_n 0, 1) := dk_42 (dk_at dksX1_isStored_0 8 rfl rfl)
theorem dX1_isStored_9 : decode cX1_isStored 9 = .ok (.iload_n 1, 1) := dk_27 (dk_at dksX1_isStored_0 9 rfl rfl)
theorem dX1_isStored_10 : decode cX1_isStored 10 = .ok (.iload_n 2, 1) := dk_28 (dk_at dksX1_isStored_0 10 rfl rfl)
theorem dX1_isStored_11 : decode cX1_isStored 11 = .ok (.invokevirtual 287, 3) := dk_182 1 31 (dk_at dksX1_isStored_0 11 rfl rfl)
theorem dX1_isStored_14 : decode cX1_isStored 14 = .ok (.aload_n 0, 1) := dk_42 (dk_at dksX1_isStored_0 14 rfl rfl)
theorem dX1_isStored_15 : decode cX1_isStored 15 = .ok (.getfield 25, 3) := dk_180 0 25 (dk_at dksX1_isStored_0 15 rfl rfl)
theorem dX1_isStored_18 : decode cX1_isStored 18 = .ok (.iload_n 2, 1) := dk_28 (dk_at dksX1_isStored_0 18 rfl rfl)
theorem dX1_isStored_19 : decode cX1_isStored 19 = .ok (.iaload, 1) := dk_46 (dk_at dksX1_isStored_0 19 rfl rfl)
theorem dX1_isStored_20 : decode cX1_isStored 20 = .ok (.if_icmp .le 5, 3) := dk_164 0 5 (dk_at dksX1_isStored_0 20 rfl rfl)
theorem dX1_isStored_23 : decode cX1_isStored 23 = .ok (.iconst 0, 1) := dk_3 (dk_at dksX1_isStored_0 23 rfl rfl)
theorem dX1_isStored_24 : decode cX1_isStored 24 = .ok (.ireturn, 1) := dk_172 (dk_at dksX1_isStored_1 0 rfl rfl)
theorem dX1_isStored_25 : decode cX1_isStored 25 = .ok (.iinc 2 1, 3) := dk_132 2 1 (dk_at dksX1_isStored_1 1 rfl rfl)
theorem dX1_isStored_28 : decode cX1_isStored 28 = .ok (.goto (-26), 3) := dk_167 255 230 (dk_at dksX1_isStored_1 4 rfl rfl)
theorem dX1_isStored_31 : decode cX1_isStored 31 = .ok (.iconst 1, 1) := dk_4 (dk_at dksX1_isStored_1 7 rfl rfl)
theorem dX1_isStored_32 : decode cX1_isStored 32 = .ok (.ireturn, 1) := dk_172 (dk_at dksX1_isStored_1 8 rfl rfl)
abbrev cX1_back : ByteArray := prog_1_method_43_code
def yX1_back : MethodName := ⟨RX1, "back", "()I"⟩
def dkwX1_back_1 : List UInt8 := [180, 1, 47, 46, 172]
abbrev dktX1_back_1 : List UInt8 := dkwX1_back_1 ++ []
def dkwX1_back_0 : List UInt8 := [42, 180, 1, 47, 154, 0, 5, 2, 172, 42, 89, 180, 1, 47, 4, 100, 181, 1, 47, 42, 180, 0, 31, 42]
abbrev dktX1_back_0 : List UInt8 := dkwX1_back_0 ++ dktX1_back_1
theorem dksX1_back_0 : cX1_back.data.toList.drop 0 = dktX1_back_0 := by decide +kernel
theorem dksX1_back_1 : cX1_back.data.toList.drop 24 = dktX1_back_1 := dk_seg dksX1_back_0 24 rfl rfl
theorem dX1_back_0 : decode cX1_back 0 = .ok (.aload_n 0, 1) := dk_42 (dk_at dksX1_back_0 0 rfl rfl)
theorem dX1_back_1 : decode cX1_back 1 = .ok (.getfield 303, 3) := dk_180 1 47 (dk_at dksX1_back_0 1 rfl rfl)
theorem dX1_back_4 : decode cX1_back 4 = .ok (.ifCond .ne 5, 3) := dk_154 0 5 (dk_at dksX1_back_0 4 rfl rfl)
theorem dX1_back_7 : decode cX1_back 7 = .ok (.iconst (-1), 1) := dk_2 (dk_at dksX1_back_0 7 rfl rfl)
theorem dX1_back_8 : decode cX1_back 8 = .ok (.ireturn, 1) := dk_172 (dk_at dksX1_back_0 8 rfl rfl)
theorem dX1_back_9 : decode cX1_back 9 = .ok (.aload_n 0, 1) := dk_42 (dk_at dksX1_back_0 9 rfl rfl)
theorem dX1_back_10 : decode cX1_back 10 = .ok (.dup, 1) := dk_89 (dk_at dksX1_back_0 10 rfl rfl)
theorem dX1_back_11 : decode cX1_back 11 = .ok (.getfield 303, 3) := dk_180 1 47 (dk_at dksX1_back_0 11 rfl rfl)
theorem dX1_back_14 : decode cX1_back 14 = .ok (.iconst 1, 1) := dk_4 (dk_at dksX1_back_0 14 rfl rfl)
theorem dX1_back_15 : decode cX1_back 15 = .ok (.isub, 1) := dk_100 (dk_at dksX1_back_0 15 rfl rfl)
theorem dX1_back_16 : decode cX1_back 16 = .ok (.putfield 303, 3) := dk_181 1 47 (dk_at dksX1_back_0 16 rfl rfl)
theorem dX1_back_19 : decode cX1_back 19 = .ok (.aload_n 0, 1) := dk_42 (dk_at dksX1_back_0 19 rfl rfl)
theorem dX1_back_20 : decode cX1_back 20 = .ok (.getfield 31, 3) := dk_180 0 31 (dk_at dksX1_back_0 20 rfl rfl)
theorem dX1_back_23 : decode cX1_back 23 = .ok (.aload_n 0, 1) := dk_42 (dk_at dksX1_back_0 23 rfl rfl)
theorem dX1_back_24 : decode cX1_back 24 = .ok (.getfield 303, 3) := dk_180 1 47 (dk_at dksX1_back_1 0 rfl rfl)
theorem dX1_back_27 : decode cX1_back 27 = .ok (.iaload, 1) := dk_46 (dk_at dksX1_back_1 3 rfl rfl)
theorem dX1_back_28 : decode cX1_back 28 = .ok (.ireturn, 1) := dk_172 (dk_at dksX1_back_1 4 rfl rfl)
abbrev cX1_over : ByteArray := prog_1_method_44_code
def yX1_over : MethodName := ⟨RX1, "over", "()I"⟩
def dkwX1_over_2 : List UInt8 := [181, 1, 47, 27, 172]
abbrev dktX1_over_2 : List UInt8 := dkwX1_over_2 ++ []
def dkwX1_over_1 : List UInt8 := [46, 42, 42, 182, 1, 50, 28, 182, 1, 31, 100, 184, 0, 246, 79, 132, 2, 1, 167, 255, 221, 42, 3]
abbrev dktX1_over_1 : List UInt8 := dkwX1_over_1 ++ dktX1_over_2
def dkwX1_over_0 : List UInt8 := [42, 180, 1, 47, 60, 3, 61, 28, 16, 8, 162, 0, 35, 42, 180, 0, 25, 28, 3, 42, 180, 0, 25, 28]
abbrev dktX1_over_0 : List UInt8 := dkwX1_over_0 ++ dktX1_over_1
theorem dksX1_over_0 : cX1_over.data.toList.drop 0 = dktX1_over_0 := by decide +kernel
theorem dksX1_over_1 : cX1_over.data.toList.drop 24 = dktX1_over_1 := dk_seg dksX1_over_0 24 rfl rfl
theorem dksX1_over_2 : cX1_over.data.toList.drop 47 = dktX1_over_2 := dk_seg dksX1_over_1 23 rfl rfl
theorem dX1_over_0 : decode cX1_over 0 = .ok (.aload_n 0, 1) := dk_42 (dk_at dksX1_over_0 0 rfl rfl)
theorem dX1_over_1 : decode cX1_over 1 = .ok (.getfield 303, 3) := dk_180 1 47 (dk_at dksX1_over_0 1 rfl rfl)
theorem dX1_over_4 : decode cX1_over 4 = .ok (.istore_n 1, 1) := dk_60 (dk_at dksX1_over_0 4 rfl rfl)
theorem dX1_over_5 : decode cX1_over 5 = .ok (.iconst 0, 1) := dk_3 (dk_at dksX1_over_0 5 rfl rfl)
theorem dX1_over_6 : decode cX1_over 6 = .ok (.istore_n 2, 1) := dk_61 (dk_at dksX1_over_0 6 rfl rfl)
theorem dX1_over_7 : decode cX1_over 7 = .ok (.iload_n 2, 1) := dk_28 (dk_at dksX1_over_0 7 rfl rfl)
theorem dX1_over_8 : decode cX1_over 8 = .ok (.bipush 8, 2) := dk_16 8 (dk_at dksX1_over_0 8 rfl rfl)
theorem dX1_over_10 : decode cX1_over 10 = .ok (.if_icmp .ge 35, 3) := dk_162 0 35 (dk_at dksX1_over_0 10 rfl rfl)
theorem dX1_over_13 : decode cX1_over 13 = .ok (.aload_n 0, 1) := dk_42 (dk_at dksX1_over_0 13 rfl rfl)
theorem dX1_over_14 : decode cX1_over 14 = .ok (.getfield 25, 3) := dk_180 0 25 (dk_at dksX1_over_0 14 rfl rfl)
theorem dX1_over_17 : decode cX1_over 17 = .ok (.iload_n 2, 1) := dk_28 (dk_at dksX1_over_0 17 rfl rfl)
theorem dX1_over_18 : decode cX1_over 18 = .ok (.iconst 0, 1) := dk_3 (dk_at dksX1_over_0 18 rfl rfl)
theorem dX1_over_19 : decode cX1_over 19 = .ok (.aload_n 0, 1) := dk_42 (dk_at dksX1_over_0 19 rfl rfl)
theorem dX1_over_20 : decode cX1_over 20 = .ok (.getfield 25, 3) := dk_180 0 25 (dk_at dksX1_over_0 20 rfl rfl)
theorem dX1_over_23 : decode cX1_over 23 = .ok (.iload_n 2, 1) := dk_28 (dk_at dksX1_over_0 23 rfl rfl)
theorem dX1_over_24 : decode cX1_over 24 = .ok (.iaload, 1) := dk_46 (dk_at dksX1_over_1 0 rfl rfl)
theorem dX1_over_25 : decode cX1_over 25 = .ok (.aload_n 0, 1) := dk_42 (dk_at dksX1_over_1 1 rfl rfl)
theorem dX1_over_26 : decode cX1_over 26 = .ok (.aload_n 0, 1) := dk_42 (dk_at dksX1_over_1 2 rfl rfl)
theorem dX1_over_27 : decode cX1_over 27 = .ok (.invokevirtual 306, 3) := dk_182 1 50 (dk_at dksX1_over_1 3 rfl rfl)
theorem dX1_over_30 : decode cX1_over 30 = .ok (.iload_n 2, 1) := dk_28 (dk_at dksX1_over_1 6 rfl rfl)
theorem dX1_over_31 : decode cX1_over 31 = .ok (.invokevirtual 287, 3) := dk_182 1 31 (dk_at dksX1_over_1 7 rfl rfl)
theorem dX1_over_34 : decode cX1_over 34 = .ok (.isub, 1) := dk_100 (dk_at dksX1_over_1 10 rfl rfl)
theorem dX1_over_35 : decode cX1_over 35 = .ok (.invokestatic 246, 3) := dk_184 0 246 (dk_at dksX1_over_1 11 rfl rfl)
theorem dX1_over_38 : decode cX1_over 38 = .ok (.iastore, 1) := dk_79 (dk_at dksX1_over_1 14 rfl rfl)
theorem dX1_over_39 : decode cX1_over 39 = .ok (.iinc 2 1, 3) := dk_132 2 1 (dk_at dksX1_over_1 15 rfl rfl)
theorem dX1_over_42 : decode cX1_over 42 = .ok (.goto (-35), 3) := dk_167 255 221 (dk_at dksX1_over_1 18 rfl rfl)
theorem dX1_over_45 : decode cX1_over 45 = .ok (.aload_n 0, 1) := dk_42 (dk_at dksX1_over_1 21 rfl rfl)
theorem dX1_over_46 : decode cX1_over 46 = .ok (.iconst 0, 1) := dk_3 (dk_at dksX1_over_1 22 rfl rfl)
theorem dX1_over_47 : decode cX1_over 47 = .ok (.putfield 303, 3) := dk_181 1 47 (dk_at dksX1_over_2 0 rfl rfl)
theorem dX1_over_50 : decode cX1_over 50 = .ok (.iload_n 1, 1) := dk_27 (dk_at dksX1_over_2 3 rfl rfl)
theorem dX1_over_51 : decode cX1_over 51 = .ok (.ireturn, 1) := dk_172 (dk_at dksX1_over_2 4 rfl rfl)
abbrev cX1_can : ByteArray := prog_1_method_45_code
def yX1_can : MethodName := ⟨RX1, "can", "()I"⟩
def dkwX1_can_1 : List UInt8 := [182, 1, 56, 154, 0, 9, 4, 28, 120, 167, 0, 4, 3, 128, 60, 132, 2, 1, 167, 255, 219, 27, 172]
abbrev dktX1_can_1 : List UInt8 := dkwX1_can_1 ++ []
def dkwX1_can_0 : List UInt8 := [3, 60, 3, 61, 28, 42, 180, 0, 102, 162, 0, 35, 27, 42, 42, 182, 1, 50, 42, 182, 1, 53, 28]
abbrev dktX1_can_0 : List UInt8 := dkwX1_can_0 ++ dktX1_can_1
theorem dksX1_can_0 : cX1_can.data.toList.drop 0 = dktX1_can_0 := by decide +kernel
theorem dksX1_can_1 : cX1_can.data.toList.drop 23 = dktX1_can_1 := dk_seg dksX1_can_0 23 rfl rfl
theorem dX1_can_0 : decode cX1_can 0 = .ok (.iconst 0, 1) := dk_3 (dk_at dksX1_can_0 0 rfl rfl)
theorem dX1_can_1 : decode cX1_can 1 = .ok (.istore_n 1, 1) := dk_60 (dk_at dksX1_can_0 1 rfl rfl)
theorem dX1_can_2 : decode cX1_can 2 = .ok (.iconst 0, 1) := dk_3 (dk_at dksX1_can_0 2 rfl rfl)
theorem dX1_can_3 : decode cX1_can 3 = .ok (.istore_n 2, 1) := dk_61 (dk_at dksX1_can_0 3 rfl rfl)
theorem dX1_can_4 : decode cX1_can 4 = .ok (.iload_n 2, 1) := dk_28 (dk_at dksX1_can_0 4 rfl rfl)
theorem dX1_can_5 : decode cX1_can 5 = .ok (.aload_n 0, 1) := dk_42 (dk_at dksX1_can_0 5 rfl rfl)
theorem dX1_can_6 : decode cX1_can 6 = .ok (.getfield 102, 3) := dk_180 0 102 (dk_at dksX1_can_0 6 rfl rfl)
theorem dX1_can_9 : decode cX1_can 9 = .ok (.if_icmp .ge 35, 3) := dk_162 0 35 (dk_at dksX1_can_0 9 rfl rfl)
theorem dX1_can_12 : decode cX1_can 12 = .ok (.iload_n 1, 1) := dk_27 (dk_at dksX1_can_0 12 rfl rfl)
theorem dX1_can_13 : decode cX1_can 13 = .ok (.aload_n 0, 1) := dk_42 (dk_at dksX1_can_0 13 rfl rfl)
theorem dX1_can_14 : decode cX1_can 14 = .ok (.aload_n 0, 1) := dk_42 (dk_at dksX1_can_0 14 rfl rfl)
theorem dX1_can_15 : decode cX1_can 15 = .ok (.invokevirtual 306, 3) := dk_182 1 50 (dk_at dksX1_can_0 15 rfl rfl)
theorem dX1_can_18 : decode cX1_can 18 = .ok (.aload_n 0, 1) := dk_42 (dk_at dksX1_can_0 18 rfl rfl)
theorem dX1_can_19 : decode cX1_can 19 = .ok (.invokevirtual 309, 3) := dk_182 1 53 (dk_at dksX1_can_0 19 rfl rfl)
theorem dX1_can_22 : decode cX1_can 22 = .ok (.iload_n 2, 1) := dk_28 (dk_at dksX1_can_0 22 rfl rfl)
theorem dX1_can_23 : decode cX1_can 23 = .ok (.invokevirtual 312, 3) := dk_182 1 56 (dk_at dksX1_can_1 0 rfl rfl)
theorem dX1_can_26 : decode cX1_can 26 = .ok (.ifCond .ne 9, 3) := dk_154 0 9 (dk_at dksX1_can_1 3 rfl rfl)
theorem dX1_can_29 : decode cX1_can 29 = .ok (.iconst 1, 1) := dk_4 (dk_at dksX1_can_1 6 rfl rfl)
theorem dX1_can_30 : decode cX1_can 30 = .ok (.iload_n 2, 1) := dk_28 (dk_at dksX1_can_1 7 rfl rfl)
theorem dX1_can_31 : decode cX1_can 31 = .ok (.ishl, 1) := dk_120 (dk_at dksX1_can_1 8 rfl rfl)
theorem dX1_can_32 : decode cX1_can 32 = .ok (.goto 4, 3) := dk_167 0 4 (dk_at dksX1_can_1 9 rfl rfl)
theorem dX1_can_35 : decode cX1_can 35 = .ok (.iconst 0, 1) := dk_3 (dk_at dksX1_can_1 12 rfl rfl)
theorem dX1_can_36 : decode cX1_can 36 = .ok (.ior, 1) := dk_128 (dk_at dksX1_can_1 13 rfl rfl)
theorem dX1_can_37 : decode cX1_can 37 = .ok (.istore_n 1, 1) := dk_60 (dk_at dksX1_can_1 14 rfl rfl)
theorem dX1_can_38 : decode cX1_can 38 = .ok (.iinc 2 1, 3) := dk_132 2 1 (dk_at dksX1_can_1 15 rfl rfl)
theorem dX1_can_41 : decode cX1_can 41 = .ok (.goto (-37), 3) := dk_167 255 219 (dk_at dksX1_can_1 18 rfl rfl)
theorem dX1_can_44 : decode cX1_can 44 = .ok (.iload_n 1, 1) := dk_27 (dk_at dksX1_can_1 21 rfl rfl)
theorem dX1_can_45 : decode cX1_can 45 = .ok (.ireturn, 1) := dk_172 (dk_at dksX1_can_1 22 rfl rfl)
abbrev cX1_menu : ByteArray := prog_1_method_47_code
def yX1_menu : MethodName := ⟨RX1, "menu", "(I)I"⟩
def dkwX1_menu_6 : List UInt8 := [180, 0, 52, 16, 10, 27, 104, 16, 10, 184, 1, 63, 42, 180, 0, 55, 27, 29, 79, 29, 172]
abbrev dktX1_menu_6 : List UInt8 := dkwX1_menu_6 ++ []
def dkwX1_menu_5 : List UInt8 := [42, 28, 4, 182, 0, 187, 54, 4, 21, 4, 156, 0, 6, 21, 4, 172, 42, 180, 0, 58, 3, 42]
abbrev dktX1_menu_5 : List UInt8 := dkwX1_menu_5 ++ dktX1_menu_6
def dkwX1_menu_4 : List UInt8 := [180, 0, 116, 46, 16, 65, 100, 79, 132, 3, 1, 42, 89, 180, 0, 116, 4, 96, 181, 0, 116, 167, 255, 162]
abbrev dktX1_menu_4 : List UInt8 := dkwX1_menu_4 ++ dktX1_menu_5
def dkwX1_menu_3 : List UInt8 := [180, 0, 34, 42, 180, 0, 116, 46, 16, 63, 160, 0, 8, 16, 99, 167, 0, 15, 42, 180, 0, 34, 42]
abbrev dktX1_menu_3 : List UInt8 := dkwX1_menu_3 ++ dktX1_menu_4
def dkwX1_menu_2 : List UInt8 := [180, 0, 34, 42, 180, 0, 116, 46, 16, 65, 100, 182, 0, 252, 153, 0, 56, 42, 180, 0, 58, 29, 42]
abbrev dktX1_menu_2 : List UInt8 := dkwX1_menu_2 ++ dktX1_menu_3
def dkwX1_menu_1 : List UInt8 := [180, 0, 128, 162, 0, 89, 42, 180, 0, 34, 42, 180, 0, 116, 46, 16, 63, 159, 0, 22, 42, 42]
abbrev dktX1_menu_1 : List UInt8 := dkwX1_menu_1 ++ dktX1_menu_2
def dkwX1_menu_0 : List UInt8 := [42, 16, 10, 182, 0, 175, 61, 27, 184, 1, 60, 154, 0, 6, 16, 156, 172, 3, 62, 42, 180, 0, 116, 42]
abbrev dktX1_menu_0 : List UInt8 := dkwX1_menu_0 ++ dktX1_menu_1
theorem dksX1_menu_0 : cX1_menu.data.toList.drop 0 = dktX1_menu_0 := by decide +kernel
theorem dksX1_menu_1 : cX1_menu.data.toList.drop 24 = dktX1_menu_1 := dk_seg dksX1_menu_0 24 rfl rfl
theorem dksX1_menu_2 : cX1_menu.data.toList.drop 46 = dktX1_menu_2 := dk_seg dksX1_menu_1 22 rfl rfl
theorem dksX1_menu_3 : cX1_menu.data.toList.drop 69 = dktX1_menu_3 := dk_seg dksX1_menu_2 23 rfl rfl
theorem dksX1_menu_4 : cX1_menu.data.toList.drop 92 = dktX1_menu_4 := dk_seg dksX1_menu_3 23 rfl rfl
theorem dksX1_menu_5 : cX1_menu.data.toList.drop 116 = dktX1_menu_5 := dk_seg dksX1_menu_4 24 rfl rfl
theorem dksX1_menu_6 : cX1_menu.data.toList.drop 138 = dktX1_menu_6 := dk_seg dksX1_menu_5 22 rfl rfl
theorem dX1_menu_0 : decode cX1_menu 0 = .ok (.aload_n 0, 1) := dk_42 (dk_at dksX1_menu_0 0 rfl rfl)
theorem dX1_menu_1 : decode cX1_menu 1 = .ok (.bipush 10, 2) := dk_16 10 (dk_at dksX1_menu_0 1 rfl rfl)
theorem dX1_menu_3 : decode cX1_menu 3 = .ok (.invokevirtual 175, 3) := dk_182 0 175 (dk_at dksX1_menu_0 3 rfl rfl)
theorem dX1_menu_6 : decode cX1_menu 6 = .ok (.istore_n 2, 1) := dk_61 (dk_at dksX1_menu_0 6 rfl rfl)
theorem dX1_menu_7 : decode cX1_menu 7 = .ok (.iload_n 1, 1) := dk_27 (dk_at dksX1_menu_0 7 rfl rfl)
theorem dX1_menu_8 : decode cX1_menu 8 = .ok (.invokestatic 316, 3) := dk_184 1 60 (dk_at dksX1_menu_0 8 rfl rfl)
theorem dX1_menu_11 : decode cX1_menu 11 = .ok (.ifCond .ne 6, 3) := dk_154 0 6 (dk_at dksX1_menu_0 11 rfl rfl)
theorem dX1_menu_14 : decode cX1_menu 14 = .ok (.bipush (-100), 2) := dk_16 156 (dk_at dksX1_menu_0 14 rfl rfl)
theorem dX1_menu_16 : decode cX1_menu 16 = .ok (.ireturn, 1) := dk_172 (dk_at dksX1_menu_0 16 rfl rfl)
theorem dX1_menu_17 : decode cX1_menu 17 = .ok (.iconst 0, 1) := dk_3 (dk_at dksX1_menu_0 17 rfl rfl)
theorem dX1_menu_18 : decode cX1_menu 18 = .ok (.istore_n 3, 1) := dk_62 (dk_at dksX1_menu_0 18 rfl rfl)
theorem dX1_menu_19 : decode cX1_menu 19 = .ok (.aload_n 0, 1) := dk_42 (dk_at dksX1_menu_0 19 rfl rfl)
theorem dX1_menu_20 : decode cX1_menu 20 = .ok (.getfield 116, 3) := dk_180 0 116 (dk_at dksX1_menu_0 20 rfl rfl)
theorem dX1_menu_23 : decode cX1_menu 23 = .ok (.aload_n 0, 1) := dk_42 (dk_at dksX1_menu_0 23 rfl rfl)
theorem dX1_menu_24 : decode cX1_menu 24 = .ok (.getfield 128, 3) := dk_180 0 128 (dk_at dksX1_menu_1 0 rfl rfl)
theorem dX1_menu_27 : decode cX1_menu 27 = .ok (.if_icmp .ge 89, 3) := dk_162 0 89 (dk_at dksX1_menu_1 3 rfl rfl)
theorem dX1_menu_30 : decode cX1_menu 30 = .ok (.aload_n 0, 1) := dk_42 (dk_at dksX1_menu_1 6 rfl rfl)
theorem dX1_menu_31 : decode cX1_menu 31 = .ok (.getfield 34, 3) := dk_180 0 34 (dk_at dksX1_menu_1 7 rfl rfl)
theorem dX1_menu_34 : decode cX1_menu 34 = .ok (.aload_n 0, 1) := dk_42 (dk_at dksX1_menu_1 10 rfl rfl)
theorem dX1_menu_35 : decode cX1_menu 35 = .ok (.getfield 116, 3) := dk_180 0 116 (dk_at dksX1_menu_1 11 rfl rfl)
theorem dX1_menu_38 : decode cX1_menu 38 = .ok (.iaload, 1) := dk_46 (dk_at dksX1_menu_1 14 rfl rfl)
theorem dX1_menu_39 : decode cX1_menu 39 = .ok (.bipush 63, 2) := dk_16 63 (dk_at dksX1_menu_1 15 rfl rfl)
theorem dX1_menu_41 : decode cX1_menu 41 = .ok (.if_icmp .eq 22, 3) := dk_159 0 22 (dk_at dksX1_menu_1 17 rfl rfl)
theorem dX1_menu_44 : decode cX1_menu 44 = .ok (.aload_n 0, 1) := dk_42 (dk_at dksX1_menu_1 20 rfl rfl)
theorem dX1_menu_45 : decode cX1_menu 45 = .ok (.aload_n 0, 1) := dk_42 (dk_at dksX1_menu_1 21 rfl rfl)
theorem dX1_menu_46 : decode cX1_menu 46 = .ok (.getfield 34, 3) := dk_180 0 34 (dk_at dksX1_menu_2 0 rfl rfl)
theorem dX1_menu_49 : decode cX1_menu 49 = .ok (.aload_n 0, 1) := dk_42 (dk_at dksX1_menu_2 3 rfl rfl)
theorem dX1_menu_50 : decode cX1_menu 50 = .ok (.getfield 116, 3) := dk_180 0 116 (dk_at dksX1_menu_2 4 rfl rfl)
theorem dX1_menu_53 : decode cX1_menu 53 = .ok (.iaload, 1) := dk_46 (dk_at dksX1_menu_2 7 rfl rfl)
theorem dX1_menu_54 : decode cX1_menu 54 = .ok (.bipush 65, 2) := dk_16 65 (dk_at dksX1_menu_2 8 rfl rfl)
theorem dX1_menu_56 : decode cX1_menu 56 = .ok (.isub, 1) := dk_100 (dk_at dksX1_menu_2 10 rfl rfl)
theorem dX1_menu_57 : decode cX1_menu 57 = .ok (.invokevirtual 252, 3) := dk_182 0 252 (dk_at dksX1_menu_2 11 rfl rfl)
theorem dX1_menu_60 : decode cX1_menu 60 = .ok (.ifCond .eq 56, 3) := dk_153 0 56 (dk_at dksX1_menu_2 14 rfl rfl)
theorem dX1_menu_63 : decode cX1_menu 63 = .ok (.aload_n 0, 1) := dk_42 (dk_at dksX1_menu_2 17 rfl rfl)
theorem dX1_menu_64 : decode cX1_menu 64 = .ok (.getfield 58, 3) := dk_180 0 58 (dk_at dksX1_menu_2 18 rfl rfl)
theorem dX1_menu_67 : decode cX1_menu 67 = .ok (.iload_n 3, 1) := dk_29 (dk_at dksX1_menu_2 21 rfl rfl)
theorem dX1_menu_68 : decode cX1_menu 68 = .ok (.aload_n 0, 1) := dk_42 (dk_at dksX1_menu_2 22 rfl rfl)
theorem dX1_menu_69 : decode cX1_menu 69 = .ok (.getfield 34, 3) := dk_180 0 34 (dk_at dksX1_menu_3 0 rfl rfl)
theorem dX1_menu_72 : decode cX1_menu 72 = .ok (.aload_n 0, 1) := dk_42 (dk_at dksX1_menu_3 3 rfl rfl)
theorem dX1_menu_73 : decode cX1_menu 73 = .ok (.getfield 116, 3) := dk_180 0 116 (dk_at dksX1_menu_3 4 rfl rfl)
theorem dX1_menu_76 : decode cX1_menu 76 = .ok (.iaload, 1) := dk_46 (dk_at dksX1_menu_3 7 rfl rfl)
theorem dX1_menu_77 : decode cX1_menu 77 = .ok (.bipush 63, 2) := dk_16 63 (dk_at dksX1_menu_3 8 rfl rfl)
theorem dX1_menu_79 : decode cX1_menu 79 = .ok (.if_icmp .ne 8, 3) := dk_160 0 8 (dk_at dksX1_menu_3 10 rfl rfl)
theorem dX1_menu_82 : decode cX1_menu 82 = .ok (.bipush 99, 2) := dk_16 99 (dk_at dksX1_menu_3 13 rfl rfl)
theorem dX1_menu_84 : decode cX1_menu 84 = .ok (.goto 15, 3) := dk_167 0 15 (dk_at dksX1_menu_3 15 rfl rfl)
theorem dX1_menu_87 : decode cX1_menu 87 = .ok (.aload_n 0, 1) := dk_42 (dk_at dksX1_menu_3 18 rfl rfl)
theorem dX1_menu_88 : decode cX1_menu 88 = .ok (.getfield 34, 3) := dk_180 0 34 (dk_at dksX1_menu_3 19 rfl rfl)
theorem dX1_menu_91 : decode cX1_menu 91 = .ok (.aload_n 0, 1) := dk_42 (dk_at dksX1_menu_3 22 rfl rfl)
theorem dX1_menu_92 : decode cX1_menu 92 = .ok (.getfield 116, 3) := dk_180 0 116 (dk_at dksX1_menu_4 0 rfl rfl)
theorem dX1_menu_95 : decode cX1_menu 95 = .ok (.iaload, 1) := dk_46 (dk_at dksX1_menu_4 3 rfl rfl)
theorem dX1_menu_96 : decode cX1_menu 96 = .ok (.bipush 65, 2) := dk_16 65 (dk_at dksX1_menu_4 4 rfl rfl)
theorem dX1_menu_98 : decode cX1_menu 98 = .ok (.isub, 1) := dk_100 (dk_at dksX1_menu_4 6 rfl rfl)
theorem dX1_menu_99 : decode cX1_menu 99 = .ok (.iastore, 1) := dk_79 (dk_at dksX1_menu_4 7 rfl rfl)
theorem dX1_menu_100 : decode cX1_menu 100 = .ok (.iinc 3 1, 3) := dk_132 3 1 (dk_at dksX1_menu_4 8 rfl rfl)
theorem dX1_menu_103 : decode cX1_menu 103 = .ok (.aload_n 0, 1) := dk_42 (dk_at dksX1_menu_4 11 rfl rfl)
theorem dX1_menu_104 : decode cX1_menu 104 = .ok (.dup, 1) := dk_89 (dk_at dksX1_menu_4 12 rfl rfl)
theorem dX1_menu_105 : decode cX1_menu 105 = .ok (.getfield 116, 3) := dk_180 0 116 (dk_at dksX1_menu_4 13 rfl rfl)
theorem dX1_menu_108 : decode cX1_menu 108 = .ok (.iconst 1, 1) := dk_4 (dk_at dksX1_menu_4 16 rfl rfl)
theorem dX1_menu_109 : decode cX1_menu 109 = .ok (.iadd, 1) := dk_96 (dk_at dksX1_menu_4 17 rfl rfl)
theorem dX1_menu_110 : decode cX1_menu 110 = .ok (.putfield 116, 3) := dk_181 0 116 (dk_at dksX1_menu_4 18 rfl rfl)
theorem dX1_menu_113 : decode cX1_menu 113 = .ok (.goto (-94), 3) := dk_167 255 162 (dk_at dksX1_menu_4 21 rfl rfl)
theorem dX1_menu_116 : decode cX1_menu 116 = .ok (.aload_n 0, 1) := dk_42 (dk_at dksX1_menu_5 0 rfl rfl)
theorem dX1_menu_117 : decode cX1_menu 117 = .ok (.iload_n 2, 1) := dk_28 (dk_at dksX1_menu_5 1 rfl rfl)
theorem dX1_menu_118 : decode cX1_menu 118 = .ok (.iconst 1, 1) := dk_4 (dk_at dksX1_menu_5 2 rfl rfl)
theorem dX1_menu_119 : decode cX1_menu 119 = .ok (.invokevirtual 187, 3) := dk_182 0 187 (dk_at dksX1_menu_5 3 rfl rfl)
theorem dX1_menu_122 : decode cX1_menu 122 = .ok (.istore 4, 2) := dk_54 4 (dk_at dksX1_menu_5 6 rfl rfl)
theorem dX1_menu_124 : decode cX1_menu 124 = .ok (.iload 4, 2) := dk_21 4 (dk_at dksX1_menu_5 8 rfl rfl)
theorem dX1_menu_126 : decode cX1_menu 126 = .ok (.ifCond .ge 6, 3) := dk_156 0 6 (dk_at dksX1_menu_5 10 rfl rfl)
theorem dX1_menu_129 : decode cX1_menu 129 = .ok (.iload 4, 2) := dk_21 4 (dk_at dksX1_menu_5 13 rfl rfl)
theorem dX1_menu_131 : decode cX1_menu 131 = .ok (.ireturn, 1) := dk_172 (dk_at dksX1_menu_5 15 rfl rfl)
theorem dX1_menu_132 : decode cX1_menu 132 = .ok (.aload_n 0, 1) := dk_42 (dk_at dksX1_menu_5 16 rfl rfl)
theorem dX1_menu_133 : decode cX1_menu 133 = .ok (.getfield 58, 3) := dk_180 0 58 (dk_at dksX1_menu_5 17 rfl rfl)
theorem dX1_menu_136 : decode cX1_menu 136 = .ok (.iconst 0, 1) := dk_3 (dk_at dksX1_menu_5 20 rfl rfl)
theorem dX1_menu_137 : decode cX1_menu 137 = .ok (.aload_n 0, 1) := dk_42 (dk_at dksX1_menu_5 21 rfl rfl)
theorem dX1_menu_138 : decode cX1_menu 138 = .ok (.getfield 52, 3) := dk_180 0 52 (dk_at dksX1_menu_6 0 rfl rfl)
theorem dX1_menu_141 : decode cX1_menu 141 = .ok (.bipush 10, 2) := dk_16 10 (dk_at dksX1_menu_6 3 rfl rfl)
theorem dX1_menu_143 : decode cX1_menu 143 = .ok (.iload_n 1, 1) := dk_27 (dk_at dksX1_menu_6 5 rfl rfl)
theorem dX1_menu_144 : decode cX1_menu 144 = .ok (.imul, 1) := dk_104 (dk_at dksX1_menu_6 6 rfl rfl)
theorem dX1_menu_145 : decode cX1_menu 145 = .ok (.bipush 10, 2) := dk_16 10 (dk_at dksX1_menu_6 7 rfl rfl)
theorem dX1_menu_147 : decode cX1_menu 147 = .ok (.invokestatic 319, 3) := dk_184 1 63 (dk_at dksX1_menu_6 9 rfl rfl)
theorem dX1_menu_150 : decode cX1_menu 150 = .ok (.aload_n 0, 1) := dk_42 (dk_at dksX1_menu_6 12 rfl rfl)
theorem dX1_menu_151 : decode cX1_menu 151 = .ok (.getfield 55, 3) := dk_180 0 55 (dk_at dksX1_menu_6 13 rfl rfl)
theorem dX1_menu_154 : decode cX1_menu 154 = .ok (.iload_n 1, 1) := dk_27 (dk_at dksX1_menu_6 16 rfl rfl)
theorem dX1_menu_155 : decode cX1_menu 155 = .ok (.iload_n 3, 1) := dk_29 (dk_at dksX1_menu_6 17 rfl rfl)
theorem dX1_menu_156 : decode cX1_menu 156 = .ok (.iastore, 1) := dk_79 (dk_at dksX1_menu_6 18 rfl rfl)
theorem dX1_menu_157 : decode cX1_menu 157 = .ok (.iload_n 3, 1) := dk_29 (dk_at dksX1_menu_6 19 rfl rfl)
theorem dX1_menu_158 : decode cX1_menu 158 = .ok (.ireturn, 1) := dk_172 (dk_at dksX1_menu_6 20 rfl rfl)
abbrev cX1_isMenu : ByteArray := prog_1_method_46_code
def yX1_isMenu : MethodName := ⟨RX1, "isMenu", "(I)Z"⟩
def dkwX1_isMenu_0 : List UInt8 := [26, 133, 9, 20, 1, 20, 184, 0, 106, 172]
abbrev dktX1_isMenu_0 : List UInt8 := dkwX1_isMenu_0 ++ []
theorem dksX1_isMenu_0 : cX1_isMenu.data.toList.drop 0 = dktX1_isMenu_0 := by decide +kernel
theorem dX1_isMenu_0 : decode cX1_isMenu 0 = .ok (.iload_n 0, 1) := dk_26 (dk_at dksX1_isMenu_0 0 rfl rfl)
theorem dX1_isMenu_1 : decode cX1_isMenu 1 = .ok (.i2l, 1) := dk_133 (dk_at dksX1_isMenu_0 1 rfl rfl)
theorem dX1_isMenu_2 : decode cX1_isMenu 2 = .ok (.lconst 0, 1) := dk_9 (dk_at dksX1_isMenu_0 2 rfl rfl)
theorem dX1_isMenu_3 : decode cX1_isMenu 3 = .ok (.ldc2_w 276, 3) := dk_20 1 20 (dk_at dksX1_isMenu_0 3 rfl rfl)
theorem dX1_isMenu_6 : decode cX1_isMenu 6 = .ok (.invokestatic 106, 3) := dk_184 0 106 (dk_at dksX1_isMenu_0 6 rfl rfl)
theorem dX1_isMenu_9 : decode cX1_isMenu 9 = .ok (.ireturn, 1) := dk_172 (dk_at dksX1_isMenu_0 9 rfl rfl)
abbrev cX1_look : ByteArray := prog_1_method_52_code
def yX1_look : MethodName := ⟨RX1, "look", "(I)I"⟩
def dkwX1_look_4 : List UInt8 := [182, 1, 84, 42, 29, 182, 1, 84, 42, 21, 4, 182, 1, 84, 28, 172]
abbrev dktX1_look_4 : List UInt8 := dkwX1_look_4 ++ []
def dkwX1_look_3 : List UInt8 := [182, 1, 10, 128, 54, 4, 132, 5, 1, 167, 255, 203, 42, 3, 181, 1, 81, 42, 42, 180, 1, 75]
abbrev dktX1_look_3 : List UInt8 := dkwX1_look_3 ++ dktX1_look_4
def dkwX1_look_2 : List UInt8 := [180, 0, 13, 42, 27, 21, 5, 182, 1, 72, 46, 96, 62, 21, 4, 42, 42, 27, 21, 5, 182, 1, 72]
abbrev dktX1_look_2 : List UInt8 := dkwX1_look_2 ++ dktX1_look_3
def dkwX1_look_1 : List UInt8 := [54, 5, 21, 5, 28, 156, 0, 12, 42, 180, 0, 55, 27, 46, 167, 0, 4, 28, 162, 0, 40, 29, 42]
abbrev dktX1_look_1 : List UInt8 := dkwX1_look_1 ++ dktX1_look_2
def dkwX1_look_0 : List UInt8 := [42, 27, 182, 1, 69, 154, 0, 6, 16, 253, 172, 42, 27, 182, 1, 78, 61, 3, 62, 3, 54, 4, 3]
abbrev dktX1_look_0 : List UInt8 := dkwX1_look_0 ++ dktX1_look_1
theorem dksX1_look_0 : cX1_look.data.toList.drop 0 = dktX1_look_0 := by decide +kernel
theorem dksX1_look_1 : cX1_look.data.toList.drop 23 = dktX1_look_1 := dk_seg dksX1_look_0 23 rfl rfl
theorem dksX1_look_2 : cX1_look.data.toList.drop 46 = dktX1_look_2 := dk_seg dksX1_look_1 23 rfl rfl
theorem dksX1_look_3 : cX1_look.data.toList.drop 69 = dktX1_look_3 := dk_seg dksX1_look_2 23 rfl rfl
theorem dksX1_look_4 : cX1_look.data.toList.drop 91 = dktX1_look_4 := dk_seg dksX1_look_3 22 rfl rfl
theorem dX1_look_0 : decode cX1_look 0 = .ok (.aload_n 0, 1) := dk_42 (dk_at dksX1_look_0 0 rfl rfl)
theorem dX1_look_1 : decode cX1_look 1 = .ok (.iload_n 1, 1) := dk_27 (dk_at dksX1_look_0 1 rfl rfl)
theorem dX1_look_2 : decode cX1_look 2 = .ok (.invokevirtual 325, 3) := dk_182 1 69 (dk_at dksX1_look_0 2 rfl rfl)
theorem dX1_look_5 : decode cX1_look 5 = .ok (.ifCond .ne 6, 3) := dk_154 0 6 (dk_at dksX1_look_0 5 rfl rfl)
theorem dX1_look_8 : decode cX1_look 8 = .ok (.bipush (-3), 2) := dk_16 253 (dk_at dksX1_look_0 8 rfl rfl)
theorem dX1_look_10 : decode cX1_look 10 = .ok (.ireturn, 1) := dk_172 (dk_at dksX1_look_0 10 rfl rfl)
theorem dX1_look_11 : decode cX1_look 11 = .ok (.aload_n 0, 1) := dk_42 (dk_at dksX1_look_0 11 rfl rfl)
theorem dX1_look_12 : decode cX1_look 12 = .ok (.iload_n 1, 1) := dk_27 (dk_at dksX1_look_0 12 rfl rfl)
theorem dX1_look_13 : decode cX1_look 13 = .ok (.invokevirtual 334, 3) := dk_182 1 78 (dk_at dksX1_look_0 13 rfl rfl)
theorem dX1_look_16 : decode cX1_look 16 = .ok (.istore_n 2, 1) := dk_61 (dk_at dksX1_look_0 16 rfl rfl)
theorem dX1_look_17 : decode cX1_look 17 = .ok (.iconst 0, 1) := dk_3 (dk_at dksX1_look_0 17 rfl rfl)
theorem dX1_look_18 : decode cX1_look 18 = .ok (.istore_n 3, 1) := dk_62 (dk_at dksX1_look_0 18 rfl rfl)
theorem dX1_look_19 : decode cX1_look 19 = .ok (.iconst 0, 1) := dk_3 (dk_at dksX1_look_0 19 rfl rfl)
theorem dX1_look_20 : decode cX1_look 20 = .ok (.istore 4, 2) := dk_54 4 (dk_at dksX1_look_0 20 rfl rfl)
theorem dX1_look_22 : decode cX1_look 22 = .ok (.iconst 0, 1) := dk_3 (dk_at dksX1_look_0 22 rfl rfl)
theorem dX1_look_23 : decode cX1_look 23 = .ok (.istore 5, 2) := dk_54 5 (dk_at dksX1_look_1 0 rfl rfl)
theorem dX1_look_25 : decode cX1_look 25 = .ok (.iload 5, 2) := dk_21 5 (dk_at dksX1_look_1 2 rfl rfl)
theorem dX1_look_27 : decode cX1_look 27 = .ok (.iload_n 2, 1) := dk_28 (dk_at dksX1_look_1 4 rfl rfl)
theorem dX1_look_28 : decode cX1_look 28 = .ok (.ifCond .ge 12, 3) := dk_156 0 12 (dk_at dksX1_look_1 5 rfl rfl)
theorem dX1_look_31 : decode cX1_look 31 = .ok (.aload_n 0, 1) := dk_42 (dk_at dksX1_look_1 8 rfl rfl)
theorem dX1_look_32 : decode cX1_look 32 = .ok (.getfield 55, 3) := dk_180 0 55 (dk_at dksX1_look_1 9 rfl rfl)
theorem dX1_look_35 : decode cX1_look 35 = .ok (.iload_n 1, 1) := dk_27 (dk_at dksX1_look_1 12 rfl rfl)
theorem dX1_look_36 : decode cX1_look 36 = .ok (.iaload, 1) := dk_46 (dk_at dksX1_look_1 13 rfl rfl)
theorem dX1_look_37 : decode cX1_look 37 = .ok (.goto 4, 3) := dk_167 0 4 (dk_at dksX1_look_1 14 rfl rfl)
theorem dX1_look_40 : decode cX1_look 40 = .ok (.iload_n 2, 1) := dk_28 (dk_at dksX1_look_1 17 rfl rfl)
theorem dX1_look_41 : decode cX1_look 41 = .ok (.if_icmp .ge 40, 3) := dk_162 0 40 (dk_at dksX1_look_1 18 rfl rfl)
theorem dX1_look_44 : decode cX1_look 44 = .ok (.iload_n 3, 1) := dk_29 (dk_at dksX1_look_1 21 rfl rfl)
theorem dX1_look_45 : decode cX1_look 45 = .ok (.aload_n 0, 1) := dk_42 (dk_at dksX1_look_1 22 rfl rfl)
theorem dX1_look_46 : decode cX1_look 46 = .ok (.getfield 13, 3) := dk_180 0 13 (dk_at dksX1_look_2 0 rfl rfl)
theorem dX1_look_49 : decode cX1_look 49 = .ok (.aload_n 0, 1) := dk_42 (dk_at dksX1_look_2 3 rfl rfl)
theorem dX1_look_50 : decode cX1_look 50 = .ok (.iload_n 1, 1) := dk_27 (dk_at dksX1_look_2 4 rfl rfl)
theorem dX1_look_51 : decode cX1_look 51 = .ok (.iload 5, 2) := dk_21 5 (dk_at dksX1_look_2 5 rfl rfl)
theorem dX1_look_53 : decode cX1_look 53 = .ok (.invokevirtual 328, 3) := dk_182 1 72 (dk_at dksX1_look_2 7 rfl rfl)
theorem dX1_look_56 : decode cX1_look 56 = .ok (.iaload, 1) := dk_46 (dk_at dksX1_look_2 10 rfl rfl)
theorem dX1_look_57 : decode cX1_look 57 = .ok (.iadd, 1) := dk_96 (dk_at dksX1_look_2 11 rfl rfl)
theorem dX1_look_58 : decode cX1_look 58 = .ok (.istore_n 3, 1) := dk_62 (dk_at dksX1_look_2 12 rfl rfl)
theorem dX1_look_59 : decode cX1_look 59 = .ok (.iload 4, 2) := dk_21 4 (dk_at dksX1_look_2 13 rfl rfl)
theorem dX1_look_61 : decode cX1_look 61 = .ok (.aload_n 0, 1) := dk_42 (dk_at dksX1_look_2 15 rfl rfl)
theorem dX1_look_62 : decode cX1_look 62 = .ok (.aload_n 0, 1) := dk_42 (dk_at dksX1_look_2 16 rfl rfl)
theorem dX1_look_63 : decode cX1_look 63 = .ok (.iload_n 1, 1) := dk_27 (dk_at dksX1_look_2 17 rfl rfl)
theorem dX1_look_64 : decode cX1_look 64 = .ok (.iload 5, 2) := dk_21 5 (dk_at dksX1_look_2 18 rfl rfl)
theorem dX1_look_66 : decode cX1_look 66 = .ok (.invokevirtual 328, 3) := dk_182 1 72 (dk_at dksX1_look_2 20 rfl rfl)
theorem dX1_look_69 : decode cX1_look 69 = .ok (.invokevirtual 266, 3) := dk_182 1 10 (dk_at dksX1_look_3 0 rfl rfl)
theorem dX1_look_72 : decode cX1_look 72 = .ok (.ior, 1) := dk_128 (dk_at dksX1_look_3 3 rfl rfl)
theorem dX1_look_73 : decode cX1_look 73 = .ok (.istore 4, 2) := dk_54 4 (dk_at dksX1_look_3 4 rfl rfl)
theorem dX1_look_75 : decode cX1_look 75 = .ok (.iinc 5 1, 3) := dk_132 5 1 (dk_at dksX1_look_3 6 rfl rfl)
theorem dX1_look_78 : decode cX1_look 78 = .ok (.goto (-53), 3) := dk_167 255 203 (dk_at dksX1_look_3 9 rfl rfl)
theorem dX1_look_81 : decode cX1_look 81 = .ok (.aload_n 0, 1) := dk_42 (dk_at dksX1_look_3 12 rfl rfl)
theorem dX1_look_82 : decode cX1_look 82 = .ok (.iconst 0, 1) := dk_3 (dk_at dksX1_look_3 13 rfl rfl)
theorem dX1_look_83 : decode cX1_look 83 = .ok (.putfield 337, 3) := dk_181 1 81 (dk_at dksX1_look_3 14 rfl rfl)
theorem dX1_look_86 : decode cX1_look 86 = .ok (.aload_n 0, 1) := dk_42 (dk_at dksX1_look_3 17 rfl rfl)
theorem dX1_look_87 : decode cX1_look 87 = .ok (.aload_n 0, 1) := dk_42 (dk_at dksX1_look_3 18 rfl rfl)
theorem dX1_look_88 : decode cX1_look 88 = .ok (.getfield 331, 3) := dk_180 1 75 (dk_at dksX1_look_3 19 rfl rfl)
theorem dX1_look_91 : decode cX1_look 91 = .ok (.invokevirtual 340, 3) := dk_182 1 84 (dk_at dksX1_look_4 0 rfl rfl)
theorem dX1_look_94 : decode cX1_look 94 = .ok (.aload_n 0, 1) := dk_42 (dk_at dksX1_look_4 3 rfl rfl)
theorem dX1_look_95 : decode cX1_look 95 = .ok (.iload_n 3, 1) := dk_29 (dk_at dksX1_look_4 4 rfl rfl)
theorem dX1_look_96 : decode cX1_look 96 = .ok (.invokevirtual 340, 3) := dk_182 1 84 (dk_at dksX1_look_4 5 rfl rfl)
theorem dX1_look_99 : decode cX1_look 99 = .ok (.aload_n 0, 1) := dk_42 (dk_at dksX1_look_4 8 rfl rfl)
theorem dX1_look_100 : decode cX1_look 100 = .ok (.iload 4, 2) := dk_21 4 (dk_at dksX1_look_4 9 rfl rfl)
theorem dX1_look_102 : decode cX1_look 102 = .ok (.invokevirtual 340, 3) := dk_182 1 84 (dk_at dksX1_look_4 11 rfl rfl)
theorem dX1_look_105 : decode cX1_look 105 = .ok (.iload_n 2, 1) := dk_28 (dk_at dksX1_look_4 14 rfl rfl)
theorem dX1_look_106 : decode cX1_look 106 = .ok (.ireturn, 1) := dk_172 (dk_at dksX1_look_4 15 rfl rfl)
abbrev cX1_isLaid : ByteArray := prog_1_method_48_code
def yX1_isLaid : MethodName := ⟨RX1, "isLaid", "(I)Z"⟩
def dkwX1_isLaid_0 : List UInt8 := [27, 184, 1, 60, 153, 0, 16, 42, 180, 0, 55, 27, 46, 158, 0, 7, 4, 167, 0, 4, 3, 172]
abbrev dktX1_isLaid_0 : List UInt8 := dkwX1_isLaid_0 ++ []
theorem dksX1_isLaid_0 : cX1_isLaid.data.toList.drop 0 = dktX1_isLaid_0 := by decide +kernel
theorem dX1_isLaid_0 : decode cX1_isLaid 0 = .ok (.iload_n 1, 1) := dk_27 (dk_at dksX1_isLaid_0 0 rfl rfl)
theorem dX1_isLaid_1 : decode cX1_isLaid 1 = .ok (.invokestatic 316, 3) := dk_184 1 60 (dk_at dksX1_isLaid_0 1 rfl rfl)
theorem dX1_isLaid_4 : decode cX1_isLaid 4 = .ok (.ifCond .eq 16, 3) := dk_153 0 16 (dk_at dksX1_isLaid_0 4 rfl rfl)
theorem dX1_isLaid_7 : decode cX1_isLaid 7 = .ok (.aload_n 0, 1) := dk_42 (dk_at dksX1_isLaid_0 7 rfl rfl)
theorem dX1_isLaid_8 : decode cX1_isLaid 8 = .ok (.getfield 55, 3) := dk_180 0 55 (dk_at dksX1_isLaid_0 8 rfl rfl)
theorem dX1_isLaid_11 : decode cX1_isLaid 11 = .ok (.iload_n 1, 1) := dk_27 (dk_at dksX1_isLaid_0 11 rfl rfl)
theorem dX1_isLaid_12 : decode cX1_isLaid 12 = .ok (.iaload, 1) := dk_46 (dk_at dksX1_isLaid_0 12 rfl rfl)
theorem dX1_isLaid_13 : decode cX1_isLaid 13 = .ok (.ifCond .le 7, 3) := dk_158 0 7 (dk_at dksX1_isLaid_0 13 rfl rfl)
theorem dX1_isLaid_16 : decode cX1_isLaid 16 = .ok (.iconst 1, 1) := dk_4 (dk_at dksX1_isLaid_0 16 rfl rfl)
theorem dX1_isLaid_17 : decode cX1_isLaid 17 = .ok (.goto 4, 3) := dk_167 0 4 (dk_at dksX1_isLaid_0 17 rfl rfl)
theorem dX1_isLaid_20 : decode cX1_isLaid 20 = .ok (.iconst 0, 1) := dk_3 (dk_at dksX1_isLaid_0 20 rfl rfl)
theorem dX1_isLaid_21 : decode cX1_isLaid 21 = .ok (.ireturn, 1) := dk_172 (dk_at dksX1_isLaid_0 21 rfl rfl)
abbrev cX1_firstBad : ByteArray := prog_1_method_51_code
def yX1_firstBad : MethodName := ⟨RX1, "firstBad", "(I)I"⟩
def dkwX1_firstBad_3 : List UInt8 := [182, 1, 72, 62, 28, 4, 29, 120, 128, 61, 132, 4, 1, 167, 255, 185, 16, 254, 172]
abbrev dktX1_firstBad_3 : List UInt8 := dkwX1_firstBad_3 ++ []
def dkwX1_firstBad_2 : List UInt8 := [182, 1, 72, 182, 1, 56, 181, 1, 75, 42, 180, 1, 75, 156, 0, 6, 21, 4, 172, 42, 27, 21, 4]
abbrev dktX1_firstBad_2 : List UInt8 := dkwX1_firstBad_2 ++ dktX1_firstBad_3
def dkwX1_firstBad_1 : List UInt8 := [42, 27, 21, 4, 182, 1, 72, 16, 99, 160, 0, 7, 2, 167, 0, 16, 42, 28, 29, 42, 27, 21, 4]
abbrev dktX1_firstBad_1 : List UInt8 := dkwX1_firstBad_1 ++ dktX1_firstBad_2
def dkwX1_firstBad_0 : List UInt8 := [3, 61, 2, 62, 42, 3, 181, 1, 75, 3, 54, 4, 21, 4, 42, 180, 0, 55, 27, 46, 162, 0, 66, 42]
abbrev dktX1_firstBad_0 : List UInt8 := dkwX1_firstBad_0 ++ dktX1_firstBad_1
theorem dksX1_firstBad_0 : cX1_firstBad.data.toList.drop 0 = dktX1_firstBad_0 := by decide +kernel
theorem dksX1_firstBad_1 : cX1_firstBad.data.toList.drop 24 = dktX1_firstBad_1 := dk_seg dksX1_firstBad_0 24 rfl rfl
theorem dksX1_firstBad_2 : cX1_firstBad.data.toList.drop 47 = dktX1_firstBad_2 := dk_seg dksX1_firstBad_1 23 rfl rfl
theorem dksX1_firstBad_3 : cX1_firstBad.data.toList.drop 70 = dktX1_firstBad_3 := dk_seg dksX1_firstBad_2 23 rfl rfl
theorem dX1_firstBad_0 : decode cX1_firstBad 0 = .ok (.iconst 0, 1) := dk_3 (dk_at dksX1_firstBad_0 0 rfl rfl)
theorem dX1_firstBad_1 : decode cX1_firstBad 1 = .ok (.istore_n 2, 1) := dk_61 (dk_at dksX1_firstBad_0 1 rfl rfl)
theorem dX1_firstBad_2 : decode cX1_firstBad 2 = .ok (.iconst (-1), 1) := dk_2 (dk_at dksX1_firstBad_0 2 rfl rfl)
theorem dX1_firstBad_3 : decode cX1_firstBad 3 = .ok (.istore_n 3, 1) := dk_62 (dk_at dksX1_firstBad_0 3 rfl rfl)
theorem dX1_firstBad_4 : decode cX1_firstBad 4 = .ok (.aload_n 0, 1) := dk_42 (dk_at dksX1_firstBad_0 4 rfl rfl)
theorem dX1_firstBad_5 : decode cX1_firstBad 5 = .ok (.iconst 0, 1) := dk_3 (dk_at dksX1_firstBad_0 5 rfl rfl)
theorem dX1_firstBad_6 : decode cX1_firstBad 6 = .ok (.putfield 331, 3) := dk_181 1 75 (dk_at dksX1_firstBad_0 6 rfl rfl)
theorem dX1_firstBad_9 : decode cX1_firstBad 9 = .ok (.iconst 0, 1) := dk_3 (dk_at dksX1_firstBad_0 9 rfl rfl)
theorem dX1_firstBad_10 : decode cX1_firstBad 10 = .ok (.istore 4, 2) := dk_54 4 (dk_at dksX1_firstBad_0 10 rfl rfl)
theorem dX1_firstBad_12 : decode cX1_firstBad 12 = .ok (.iload 4, 2) := dk_21 4 (dk_at dksX1_firstBad_0 12 rfl rfl)
theorem dX1_firstBad_14 : decode cX1_firstBad 14 = .ok (.aload_n 0, 1) := dk_42 (dk_at dksX1_firstBad_0 14 rfl rfl)
theorem dX1_firstBad_15 : decode cX1_firstBad 15 = .ok (.getfield 55, 3) := dk_180 0 55 (dk_at dksX1_firstBad_0 15 rfl rfl)
theorem dX1_firstBad_18 : decode cX1_firstBad 18 = .ok (.iload_n 1, 1) := dk_27 (dk_at dksX1_firstBad_0 18 rfl rfl)
theorem dX1_firstBad_19 : decode cX1_firstBad 19 = .ok (.iaload, 1) := dk_46 (dk_at dksX1_firstBad_0 19 rfl rfl)
theorem dX1_firstBad_20 : decode cX1_firstBad 20 = .ok (.if_icmp .ge 66, 3) := dk_162 0 66 (dk_at dksX1_firstBad_0 20 rfl rfl)
theorem dX1_firstBad_23 : decode cX1_firstBad 23 = .ok (.aload_n 0, 1) := dk_42 (dk_at dksX1_firstBad_0 23 rfl rfl)
theorem dX1_firstBad_24 : decode cX1_firstBad 24 = .ok (.aload_n 0, 1) := dk_42 (dk_at dksX1_firstBad_1 0 rfl rfl)
theorem dX1_firstBad_25 : decode cX1_firstBad 25 = .ok (.iload_n 1, 1) := dk_27 (dk_at dksX1_firstBad_1 1 rfl rfl)
theorem dX1_firstBad_26 : decode cX1_firstBad 26 = .ok (.iload 4, 2) := dk_21 4 (dk_at dksX1_firstBad_1 2 rfl rfl)
theorem dX1_firstBad_28 : decode cX1_firstBad 28 = .ok (.invokevirtual 328, 3) := dk_182 1 72 (dk_at dksX1_firstBad_1 4 rfl rfl)
theorem dX1_firstBad_31 : decode cX1_firstBad 31 = .ok (.bipush 99, 2) := dk_16 99 (dk_at dksX1_firstBad_1 7 rfl rfl)
theorem dX1_firstBad_33 : decode cX1_firstBad 33 = .ok (.if_icmp .ne 7, 3) := dk_160 0 7 (dk_at dksX1_firstBad_1 9 rfl rfl)
theorem dX1_firstBad_36 : decode cX1_firstBad 36 = .ok (.iconst (-1), 1) := dk_2 (dk_at dksX1_firstBad_1 12 rfl rfl)
theorem dX1_firstBad_37 : decode cX1_firstBad 37 = .ok (.goto 16, 3) := dk_167 0 16 (dk_at dksX1_firstBad_1 13 rfl rfl)
theorem dX1_firstBad_40 : decode cX1_firstBad 40 = .ok (.aload_n 0, 1) := dk_42 (dk_at dksX1_firstBad_1 16 rfl rfl)
theorem dX1_firstBad_41 : decode cX1_firstBad 41 = .ok (.iload_n 2, 1) := dk_28 (dk_at dksX1_firstBad_1 17 rfl rfl)
theorem dX1_firstBad_42 : decode cX1_firstBad 42 = .ok (.iload_n 3, 1) := dk_29 (dk_at dksX1_firstBad_1 18 rfl rfl)
theorem dX1_firstBad_43 : decode cX1_firstBad 43 = .ok (.aload_n 0, 1) := dk_42 (dk_at dksX1_firstBad_1 19 rfl rfl)
theorem dX1_firstBad_44 : decode cX1_firstBad 44 = .ok (.iload_n 1, 1) := dk_27 (dk_at dksX1_firstBad_1 20 rfl rfl)
theorem dX1_firstBad_45 : decode cX1_firstBad 45 = .ok (.iload 4, 2) := dk_21 4 (dk_at dksX1_firstBad_1 21 rfl rfl)
theorem dX1_firstBad_47 : decode cX1_firstBad 47 = .ok (.invokevirtual 328, 3) := dk_182 1 72 (dk_at dksX1_firstBad_2 0 rfl rfl)
theorem dX1_firstBad_50 : decode cX1_firstBad 50 = .ok (.invokevirtual 312, 3) := dk_182 1 56 (dk_at dksX1_firstBad_2 3 rfl rfl)
theorem dX1_firstBad_53 : decode cX1_firstBad 53 = .ok (.putfield 331, 3) := dk_181 1 75 (dk_at dksX1_firstBad_2 6 rfl rfl)
theorem dX1_firstBad_56 : decode cX1_firstBad 56 = .ok (.aload_n 0, 1) := dk_42 (dk_at dksX1_firstBad_2 9 rfl rfl)
theorem dX1_firstBad_57 : decode cX1_firstBad 57 = .ok (.getfield 331, 3) := dk_180 1 75 (dk_at dksX1_firstBad_2 10 rfl rfl)
theorem dX1_firstBad_60 : decode cX1_firstBad 60 = .ok (.ifCond .ge 6, 3) := dk_156 0 6 (dk_at dksX1_firstBad_2 13 rfl rfl)
theorem dX1_firstBad_63 : decode cX1_firstBad 63 = .ok (.iload 4, 2) := dk_21 4 (dk_at dksX1_firstBad_2 16 rfl rfl)
theorem dX1_firstBad_65 : decode cX1_firstBad 65 = .ok (.ireturn, 1) := dk_172 (dk_at dksX1_firstBad_2 18 rfl rfl)
theorem dX1_firstBad_66 : decode cX1_firstBad 66 = .ok (.aload_n 0, 1) := dk_42 (dk_at dksX1_firstBad_2 19 rfl rfl)
theorem dX1_firstBad_67 : decode cX1_firstBad 67 = .ok (.iload_n 1, 1) := dk_27 (dk_at dksX1_firstBad_2 20 rfl rfl)
theorem dX1_firstBad_68 : decode cX1_firstBad 68 = .ok (.iload 4, 2) := dk_21 4 (dk_at dksX1_firstBad_2 21 rfl rfl)
theorem dX1_firstBad_70 : decode cX1_firstBad 70 = .ok (.invokevirtual 328, 3) := dk_182 1 72 (dk_at dksX1_firstBad_3 0 rfl rfl)
theorem dX1_firstBad_73 : decode cX1_firstBad 73 = .ok (.istore_n 3, 1) := dk_62 (dk_at dksX1_firstBad_3 3 rfl rfl)
theorem dX1_firstBad_74 : decode cX1_firstBad 74 = .ok (.iload_n 2, 1) := dk_28 (dk_at dksX1_firstBad_3 4 rfl rfl)
theorem dX1_firstBad_75 : decode cX1_firstBad 75 = .ok (.iconst 1, 1) := dk_4 (dk_at dksX1_firstBad_3 5 rfl rfl)
theorem dX1_firstBad_76 : decode cX1_firstBad 76 = .ok (.iload_n 3, 1) := dk_29 (dk_at dksX1_firstBad_3 6 rfl rfl)
theorem dX1_firstBad_77 : decode cX1_firstBad 77 = .ok (.ishl, 1) := dk_120 (dk_at dksX1_firstBad_3 7 rfl rfl)
theorem dX1_firstBad_78 : decode cX1_firstBad 78 = .ok (.ior, 1) := dk_128 (dk_at dksX1_firstBad_3 8 rfl rfl)
theorem dX1_firstBad_79 : decode cX1_firstBad 79 = .ok (.istore_n 2, 1) := dk_61 (dk_at dksX1_firstBad_3 9 rfl rfl)
theorem dX1_firstBad_80 : decode cX1_firstBad 80 = .ok (.iinc 4 1, 3) := dk_132 4 1 (dk_at dksX1_firstBad_3 10 rfl rfl)
theorem dX1_firstBad_83 : decode cX1_firstBad 83 = .ok (.goto (-71), 3) := dk_167 255 185 (dk_at dksX1_firstBad_3 13 rfl rfl)
theorem dX1_firstBad_86 : decode cX1_firstBad 86 = .ok (.bipush (-2), 2) := dk_16 254 (dk_at dksX1_firstBad_3 16 rfl rfl)
theorem dX1_firstBad_88 : decode cX1_firstBad 88 = .ok (.ireturn, 1) := dk_172 (dk_at dksX1_firstBad_3 18 rfl rfl)
abbrev cX1_dishAt : ByteArray := prog_1_method_49_code
def yX1_dishAt : MethodName := ⟨RX1, "dishAt", "(II)I"⟩
def dkwX1_dishAt_0 : List UInt8 := [42, 180, 0, 52, 16, 10, 27, 104, 28, 96, 46, 172]
abbrev dktX1_dishAt_0 : List UInt8 := dkwX1_dishAt_0 ++ []
theorem dksX1_dishAt_0 : cX1_dishAt.data.toList.drop 0 = dktX1_dishAt_0 := by decide +kernel
theorem dX1_dishAt_0 : decode cX1_dishAt 0 = .ok (.aload_n 0, 1) := dk_42 (dk_at dksX1_dishAt_0 0 rfl rfl)
theorem dX1_dishAt_1 : decode cX1_dishAt 1 = .ok (.getfield 52, 3) := dk_180 0 52 (dk_at dksX1_dishAt_0 1 rfl rfl)
theorem dX1_dishAt_4 : decode cX1_dishAt 4 = .ok (.bipush 10, 2) := dk_16 10 (dk_at dksX1_dishAt_0 4 rfl rfl)
theorem dX1_dishAt_6 : decode cX1_dishAt 6 = .ok (.iload_n 1, 1) := dk_27 (dk_at dksX1_dishAt_0 6 rfl rfl)
theorem dX1_dishAt_7 : decode cX1_dishAt 7 = .ok (.imul, 1) := dk_104 (dk_at dksX1_dishAt_0 7 rfl rfl)
theorem dX1_dishAt_8 : decode cX1_dishAt 8 = .ok (.iload_n 2, 1) := dk_28 (dk_at dksX1_dishAt_0 8 rfl rfl)
theorem dX1_dishAt_9 : decode cX1_dishAt 9 = .ok (.iadd, 1) := dk_96 (dk_at dksX1_dishAt_0 9 rfl rfl)
theorem dX1_dishAt_10 : decode cX1_dishAt 10 = .ok (.iaload, 1) := dk_46 (dk_at dksX1_dishAt_0 10 rfl rfl)
theorem dX1_dishAt_11 : decode cX1_dishAt 11 = .ok (.ireturn, 1) := dk_172 (dk_at dksX1_dishAt_0 11 rfl rfl)
abbrev cX1_hungryAt : ByteArray := prog_1_method_26_code
def yX1_hungryAt : MethodName := ⟨RX1, "hungryAt", "(I)I"⟩
def dkwX1_hungryAt_1 : List UInt8 := [46, 126, 153, 0, 9, 4, 29, 120, 167, 0, 4, 3, 128, 61, 132, 3, 1, 167, 255, 219, 28, 172]
abbrev dktX1_hungryAt_1 : List UInt8 := dkwX1_hungryAt_1 ++ []
def dkwX1_hungryAt_0 : List UInt8 := [3, 61, 3, 62, 29, 42, 180, 0, 110, 162, 0, 35, 28, 42, 180, 0, 22, 29, 46, 42, 180, 0, 9, 27]
abbrev dktX1_hungryAt_0 : List UInt8 := dkwX1_hungryAt_0 ++ dktX1_hungryAt_1
theorem dksX1_hungryAt_0 : cX1_hungryAt.data.toList.drop 0 = dktX1_hungryAt_0 := by decide +kernel
theorem dksX1_hungryAt_1 : cX1_hungryAt.data.toList.drop 24 = dktX1_hungryAt_1 := dk_seg dksX1_hungryAt_0 24 rfl rfl
theorem dX1_hungryAt_0 : decode cX1_hungryAt 0 = .ok (.iconst 0, 1) := dk_3 (dk_at dksX1_hungryAt_0 0 rfl rfl)
theorem dX1_hungryAt_1 : decode cX1_hungryAt 1 = .ok (.istore_n 2, 1) := dk_61 (dk_at dksX1_hungryAt_0 1 rfl rfl)
theorem dX1_hungryAt_2 : decode cX1_hungryAt 2 = .ok (.iconst 0, 1) := dk_3 (dk_at dksX1_hungryAt_0 2 rfl rfl)
theorem dX1_hungryAt_3 : decode cX1_hungryAt 3 = .ok (.istore_n 3, 1) := dk_62 (dk_at dksX1_hungryAt_0 3 rfl rfl)
theorem dX1_hungryAt_4 : decode cX1_hungryAt 4 = .ok (.iload_n 3, 1) := dk_29 (dk_at dksX1_hungryAt_0 4 rfl rfl)
theorem dX1_hungryAt_5 : decode cX1_hungryAt 5 = .ok (.aload_n 0, 1) := dk_42 (dk_at dksX1_hungryAt_0 5 rfl rfl)
theorem dX1_hungryAt_6 : decode cX1_hungryAt 6 = .ok (.getfield 110, 3) := dk_180 0 110 (dk_at dksX1_hungryAt_0 6 rfl rfl)
theorem dX1_hungryAt_9 : decode cX1_hungryAt 9 = .ok (.if_icmp .ge 35, 3) := dk_162 0 35 (dk_at dksX1_hungryAt_0 9 rfl rfl)
theorem dX1_hungryAt_12 : decode cX1_hungryAt 12 = .ok (.iload_n 2, 1) := dk_28 (dk_at dksX1_hungryAt_0 12 rfl rfl)
theorem dX1_hungryAt_13 : decode cX1_hungryAt 13 = .ok (.aload_n 0, 1) := dk_42 (dk_at dksX1_hungryAt_0 13 rfl rfl)
theorem dX1_hungryAt_14 : decode cX1_hungryAt 14 = .ok (.getfield 22, 3) := dk_180 0 22 (dk_at dksX1_hungryAt_0 14 rfl rfl)
theorem dX1_hungryAt_17 : decode cX1_hungryAt 17 = .ok (.iload_n 3, 1) := dk_29 (dk_at dksX1_hungryAt_0 17 rfl rfl)
theorem dX1_hungryAt_18 : decode cX1_hungryAt 18 = .ok (.iaload, 1) := dk_46 (dk_at dksX1_hungryAt_0 18 rfl rfl)
theorem dX1_hungryAt_19 : decode cX1_hungryAt 19 = .ok (.aload_n 0, 1) := dk_42 (dk_at dksX1_hungryAt_0 19 rfl rfl)
theorem dX1_hungryAt_20 : decode cX1_hungryAt 20 = .ok (.getfield 9, 3) := dk_180 0 9 (dk_at dksX1_hungryAt_0 20 rfl rfl)
theorem dX1_hungryAt_23 : decode cX1_hungryAt 23 = .ok (.iload_n 1, 1) := dk_27 (dk_at dksX1_hungryAt_0 23 rfl rfl)
theorem dX1_hungryAt_24 : decode cX1_hungryAt 24 = .ok (.iaload, 1) := dk_46 (dk_at dksX1_hungryAt_1 0 rfl rfl)
theorem dX1_hungryAt_25 : decode cX1_hungryAt 25 = .ok (.iand, 1) := dk_126 (dk_at dksX1_hungryAt_1 1 rfl rfl)
theorem dX1_hungryAt_26 : decode cX1_hungryAt 26 = .ok (.ifCond .eq 9, 3) := dk_153 0 9 (dk_at dksX1_hungryAt_1 2 rfl rfl)
theorem dX1_hungryAt_29 : decode cX1_hungryAt 29 = .ok (.iconst 1, 1) := dk_4 (dk_at dksX1_hungryAt_1 5 rfl rfl)
theorem dX1_hungryAt_30 : decode cX1_hungryAt 30 = .ok (.iload_n 3, 1) := dk_29 (dk_at dksX1_hungryAt_1 6 rfl rfl)
theorem dX1_hungryAt_31 : decode cX1_hungryAt 31 = .ok (.ishl, 1) := dk_120 (dk_at dksX1_hungryAt_1 7 rfl rfl)
theorem dX1_hungryAt_32 : decode cX1_hungryAt 32 = .ok (.goto 4, 3) := dk_167 0 4 (dk_at dksX1_hungryAt_1 8 rfl rfl)
theorem dX1_hungryAt_35 : decode cX1_hungryAt 35 = .ok (.iconst 0, 1) := dk_3 (dk_at dksX1_hungryAt_1 11 rfl rfl)
theorem dX1_hungryAt_36 : decode cX1_hungryAt 36 = .ok (.ior, 1) := dk_128 (dk_at dksX1_hungryAt_1 12 rfl rfl)
theorem dX1_hungryAt_37 : decode cX1_hungryAt 37 = .ok (.istore_n 2, 1) := dk_61 (dk_at dksX1_hungryAt_1 13 rfl rfl)
theorem dX1_hungryAt_38 : decode cX1_hungryAt 38 = .ok (.iinc 3 1, 3) := dk_132 3 1 (dk_at dksX1_hungryAt_1 14 rfl rfl)
theorem dX1_hungryAt_41 : decode cX1_hungryAt 41 = .ok (.goto (-37), 3) := dk_167 255 219 (dk_at dksX1_hungryAt_1 17 rfl rfl)
theorem dX1_hungryAt_44 : decode cX1_hungryAt 44 = .ok (.iload_n 2, 1) := dk_28 (dk_at dksX1_hungryAt_1 20 rfl rfl)
theorem dX1_hungryAt_45 : decode cX1_hungryAt 45 = .ok (.ireturn, 1) := dk_172 (dk_at dksX1_hungryAt_1 21 rfl rfl)
abbrev cX1_tells : ByteArray := prog_1_method_113_code
def yX1_tells : MethodName := ⟨RX1, "tells", "(I)V"⟩
def dkwX1_tells_0 : List UInt8 := [42, 180, 0, 99, 42, 180, 1, 81, 27, 79, 42, 89, 180, 1, 81, 4, 96, 181, 1, 81, 177]
abbrev dktX1_tells_0 : List UInt8 := dkwX1_tells_0 ++ []
theorem dksX1_tells_0 : cX1_tells.data.toList.drop 0 = dktX1_tells_0 := by decide +kernel
theorem dX1_tells_0 : decode cX1_tells 0 = .ok (.aload_n 0, 1) := dk_42 (dk_at dksX1_tells_0 0 rfl rfl)
theorem dX1_tells_1 : decode cX1_tells 1 = .ok (.getfield 99, 3) := dk_180 0 99 (dk_at dksX1_tells_0 1 rfl rfl)
theorem dX1_tells_4 : decode cX1_tells 4 = .ok (.aload_n 0, 1) := dk_42 (dk_at dksX1_tells_0 4 rfl rfl)
theorem dX1_tells_5 : decode cX1_tells 5 = .ok (.getfield 337, 3) := dk_180 1 81 (dk_at dksX1_tells_0 5 rfl rfl)
theorem dX1_tells_8 : decode cX1_tells 8 = .ok (.iload_n 1, 1) := dk_27 (dk_at dksX1_tells_0 8 rfl rfl)
theorem dX1_tells_9 : decode cX1_tells 9 = .ok (.iastore, 1) := dk_79 (dk_at dksX1_tells_0 9 rfl rfl)
theorem dX1_tells_10 : decode cX1_tells 10 = .ok (.aload_n 0, 1) := dk_42 (dk_at dksX1_tells_0 10 rfl rfl)
theorem dX1_tells_11 : decode cX1_tells 11 = .ok (.dup, 1) := dk_89 (dk_at dksX1_tells_0 11 rfl rfl)
theorem dX1_tells_12 : decode cX1_tells 12 = .ok (.getfield 337, 3) := dk_180 1 81 (dk_at dksX1_tells_0 12 rfl rfl)
theorem dX1_tells_15 : decode cX1_tells 15 = .ok (.iconst 1, 1) := dk_4 (dk_at dksX1_tells_0 15 rfl rfl)
theorem dX1_tells_16 : decode cX1_tells 16 = .ok (.iadd, 1) := dk_96 (dk_at dksX1_tells_0 16 rfl rfl)
theorem dX1_tells_17 : decode cX1_tells 17 = .ok (.putfield 337, 3) := dk_181 1 81 (dk_at dksX1_tells_0 17 rfl rfl)
theorem dX1_tells_20 : decode cX1_tells 20 = .ok (.return_, 1) := dk_177 (dk_at dksX1_tells_0 20 rfl rfl)
abbrev cX1_swap : ByteArray := prog_1_method_55_code
def yX1_swap : MethodName := ⟨RX1, "swap", "(III)Z"⟩
def dkwX1_swap_1 : List UInt8 := [153, 0, 8, 28, 29, 160, 0, 5, 3, 172, 42, 27, 28, 29, 182, 1, 91, 4, 172]
abbrev dktX1_swap_1 : List UInt8 := dkwX1_swap_1 ++ []
def dkwX1_swap_0 : List UInt8 := [27, 184, 1, 60, 153, 0, 26, 42, 27, 28, 182, 1, 88, 153, 0, 17, 42, 27, 29, 182, 1, 88]
abbrev dktX1_swap_0 : List UInt8 := dkwX1_swap_0 ++ dktX1_swap_1
theorem dksX1_swap_0 : cX1_swap.data.toList.drop 0 = dktX1_swap_0 := by decide +kernel
theorem dksX1_swap_1 : cX1_swap.data.toList.drop 22 = dktX1_swap_1 := dk_seg dksX1_swap_0 22 rfl rfl
theorem dX1_swap_0 : decode cX1_swap 0 = .ok (.iload_n 1, 1) := dk_27 (dk_at dksX1_swap_0 0 rfl rfl)
theorem dX1_swap_1 : decode cX1_swap 1 = .ok (.invokestatic 316, 3) := dk_184 1 60 (dk_at dksX1_swap_0 1 rfl rfl)
theorem dX1_swap_4 : decode cX1_swap 4 = .ok (.ifCond .eq 26, 3) := dk_153 0 26 (dk_at dksX1_swap_0 4 rfl rfl)
theorem dX1_swap_7 : decode cX1_swap 7 = .ok (.aload_n 0, 1) := dk_42 (dk_at dksX1_swap_0 7 rfl rfl)
theorem dX1_swap_8 : decode cX1_swap 8 = .ok (.iload_n 1, 1) := dk_27 (dk_at dksX1_swap_0 8 rfl rfl)
theorem dX1_swap_9 : decode cX1_swap 9 = .ok (.iload_n 2, 1) := dk_28 (dk_at dksX1_swap_0 9 rfl rfl)
theorem dX1_swap_10 : decode cX1_swap 10 = .ok (.invokevirtual 344, 3) := dk_182 1 88 (dk_at dksX1_swap_0 10 rfl rfl)
theorem dX1_swap_13 : decode cX1_swap 13 = .ok (.ifCond .eq 17, 3) := dk_153 0 17 (dk_at dksX1_swap_0 13 rfl rfl)
theorem dX1_swap_16 : decode cX1_swap 16 = .ok (.aload_n 0, 1) := dk_42 (dk_at dksX1_swap_0 16 rfl rfl)
theorem dX1_swap_17 : decode cX1_swap 17 = .ok (.iload_n 1, 1) := dk_27 (dk_at dksX1_swap_0 17 rfl rfl)
theorem dX1_swap_18 : decode cX1_swap 18 = .ok (.iload_n 3, 1) := dk_29 (dk_at dksX1_swap_0 18 rfl rfl)
theorem dX1_swap_19 : decode cX1_swap 19 = .ok (.invokevirtual 344, 3) := dk_182 1 88 (dk_at dksX1_swap_0 19 rfl rfl)
theorem dX1_swap_22 : decode cX1_swap 22 = .ok (.ifCond .eq 8, 3) := dk_153 0 8 (dk_at dksX1_swap_1 0 rfl rfl)
theorem dX1_swap_25 : decode cX1_swap 25 = .ok (.iload_n 2, 1) := dk_28 (dk_at dksX1_swap_1 3 rfl rfl)
theorem dX1_swap_26 : decode cX1_swap 26 = .ok (.iload_n 3, 1) := dk_29 (dk_at dksX1_swap_1 4 rfl rfl)
theorem dX1_swap_27 : decode cX1_swap 27 = .ok (.if_icmp .ne 5, 3) := dk_160 0 5 (dk_at dksX1_swap_1 5 rfl rfl)
theorem dX1_swap_30 : decode cX1_swap 30 = .ok (.iconst 0, 1) := dk_3 (dk_at dksX1_swap_1 8 rfl rfl)
theorem dX1_swap_31 : decode cX1_swap 31 = .ok (.ireturn, 1) := dk_172 (dk_at dksX1_swap_1 9 rfl rfl)
theorem dX1_swap_32 : decode cX1_swap 32 = .ok (.aload_n 0, 1) := dk_42 (dk_at dksX1_swap_1 10 rfl rfl)
theorem dX1_swap_33 : decode cX1_swap 33 = .ok (.iload_n 1, 1) := dk_27 (dk_at dksX1_swap_1 11 rfl rfl)
theorem dX1_swap_34 : decode cX1_swap 34 = .ok (.iload_n 2, 1) := dk_28 (dk_at dksX1_swap_1 12 rfl rfl)
theorem dX1_swap_35 : decode cX1_swap 35 = .ok (.iload_n 3, 1) := dk_29 (dk_at dksX1_swap_1 13 rfl rfl)
theorem dX1_swap_36 : decode cX1_swap 36 = .ok (.invokevirtual 347, 3) := dk_182 1 91 (dk_at dksX1_swap_1 14 rfl rfl)
theorem dX1_swap_39 : decode cX1_swap 39 = .ok (.iconst 1, 1) := dk_4 (dk_at dksX1_swap_1 17 rfl rfl)
theorem dX1_swap_40 : decode cX1_swap 40 = .ok (.ireturn, 1) := dk_172 (dk_at dksX1_swap_1 18 rfl rfl)
abbrev cX1_isPlace : ByteArray := prog_1_method_53_code
def yX1_isPlace : MethodName := ⟨RX1, "isPlace", "(II)Z"⟩
def dkwX1_isPlace_0 : List UInt8 := [28, 133, 9, 42, 180, 0, 55, 27, 46, 4, 100, 133, 184, 0, 106, 172]
abbrev dktX1_isPlace_0 : List UInt8 := dkwX1_isPlace_0 ++ []
theorem dksX1_isPlace_0 : cX1_isPlace.data.toList.drop 0 = dktX1_isPlace_0 := by decide +kernel
theorem dX1_isPlace_0 : decode cX1_isPlace 0 = .ok (.iload_n 2, 1) := dk_28 (dk_at dksX1_isPlace_0 0 rfl rfl)
theorem dX1_isPlace_1 : decode cX1_isPlace 1 = .ok (.i2l, 1) := dk_133 (dk_at dksX1_isPlace_0 1 rfl rfl)
theorem dX1_isPlace_2 : decode cX1_isPlace 2 = .ok (.lconst 0, 1) := dk_9 (dk_at dksX1_isPlace_0 2 rfl rfl)
theorem dX1_isPlace_3 : decode cX1_isPlace 3 = .ok (.aload_n 0, 1) := dk_42 (dk_at dksX1_isPlace_0 3 rfl rfl)
theorem dX1_isPlace_4 : decode cX1_isPlace 4 = .ok (.getfield 55, 3) := dk_180 0 55 (dk_at dksX1_isPlace_0 4 rfl rfl)
theorem dX1_isPlace_7 : decode cX1_isPlace 7 = .ok (.iload_n 1, 1) := dk_27 (dk_at dksX1_isPlace_0 7 rfl rfl)
theorem dX1_isPlace_8 : decode cX1_isPlace 8 = .ok (.iaload, 1) := dk_46 (dk_at dksX1_isPlace_0 8 rfl rfl)
theorem dX1_isPlace_9 : decode cX1_isPlace 9 = .ok (.iconst 1, 1) := dk_4 (dk_at dksX1_isPlace_0 9 rfl rfl)
theorem dX1_isPlace_10 : decode cX1_isPlace 10 = .ok (.isub, 1) := dk_100 (dk_at dksX1_isPlace_0 10 rfl rfl)
theorem dX1_isPlace_11 : decode cX1_isPlace 11 = .ok (.i2l, 1) := dk_133 (dk_at dksX1_isPlace_0 11 rfl rfl)
theorem dX1_isPlace_12 : decode cX1_isPlace 12 = .ok (.invokestatic 106, 3) := dk_184 0 106 (dk_at dksX1_isPlace_0 12 rfl rfl)
theorem dX1_isPlace_15 : decode cX1_isPlace 15 = .ok (.ireturn, 1) := dk_172 (dk_at dksX1_isPlace_0 15 rfl rfl)
abbrev cX1_swaps : ByteArray := prog_1_method_54_code
def yX1_swaps : MethodName := ⟨RX1, "swaps", "(III)V"⟩
def dkwX1_swaps_2 : List UInt8 := [177]
abbrev dktX1_swaps_2 : List UInt8 := dkwX1_swaps_2 ++ []
def dkwX1_swaps_1 : List UInt8 := [180, 0, 52, 16, 10, 27, 104, 29, 96, 46, 79, 42, 180, 0, 52, 16, 10, 27, 104, 29, 96, 21, 4, 79]
abbrev dktX1_swaps_1 : List UInt8 := dkwX1_swaps_1 ++ dktX1_swaps_2
def dkwX1_swaps_0 : List UInt8 := [42, 180, 0, 52, 16, 10, 27, 104, 28, 96, 46, 54, 4, 42, 180, 0, 52, 16, 10, 27, 104, 28, 96, 42]
abbrev dktX1_swaps_0 : List UInt8 := dkwX1_swaps_0 ++ dktX1_swaps_1
theorem dksX1_swaps_0 : cX1_swaps.data.toList.drop 0 = dktX1_swaps_0 := by decide +kernel
theorem dksX1_swaps_1 : cX1_swaps.data.toList.drop 24 = dktX1_swaps_1 := dk_seg dksX1_swaps_0 24 rfl rfl
theorem dksX1_swaps_2 : cX1_swaps.data.toList.drop 48 = dktX1_swaps_2 := dk_seg dksX1_swaps_1 24 rfl rfl
theorem dX1_swaps_0 : decode cX1_swaps 0 = .ok (.aload_n 0, 1) := dk_42 (dk_at dksX1_swaps_0 0 rfl rfl)
theorem dX1_swaps_1 : decode cX1_swaps 1 = .ok (.getfield 52, 3) := dk_180 0 52 (dk_at dksX1_swaps_0 1 rfl rfl)
theorem dX1_swaps_4 : decode cX1_swaps 4 = .ok (.bipush 10, 2) := dk_16 10 (dk_at dksX1_swaps_0 4 rfl rfl)
theorem dX1_swaps_6 : decode cX1_swaps 6 = .ok (.iload_n 1, 1) := dk_27 (dk_at dksX1_swaps_0 6 rfl rfl)
theorem dX1_swaps_7 : decode cX1_swaps 7 = .ok (.imul, 1) := dk_104 (dk_at dksX1_swaps_0 7 rfl rfl)
theorem dX1_swaps_8 : decode cX1_swaps 8 = .ok (.iload_n 2, 1) := dk_28 (dk_at dksX1_swaps_0 8 rfl rfl)
theorem dX1_swaps_9 : decode cX1_swaps 9 = .ok (.iadd, 1) := dk_96 (dk_at dksX1_swaps_0 9 rfl rfl)
theorem dX1_swaps_10 : decode cX1_swaps 10 = .ok (.iaload, 1) := dk_46 (dk_at dksX1_swaps_0 10 rfl rfl)
theorem dX1_swaps_11 : decode cX1_swaps 11 = .ok (.istore 4, 2) := dk_54 4 (dk_at dksX1_swaps_0 11 rfl rfl)
theorem dX1_swaps_13 : decode cX1_swaps 13 = .ok (.aload_n 0, 1) := dk_42 (dk_at dksX1_swaps_0 13 rfl rfl)
theorem dX1_swaps_14 : decode cX1_swaps 14 = .ok (.getfield 52, 3) := dk_180 0 52 (dk_at dksX1_swaps_0 14 rfl rfl)
theorem dX1_swaps_17 : decode cX1_swaps 17 = .ok (.bipush 10, 2) := dk_16 10 (dk_at dksX1_swaps_0 17 rfl rfl)
theorem dX1_swaps_19 : decode cX1_swaps 19 = .ok (.iload_n 1, 1) := dk_27 (dk_at dksX1_swaps_0 19 rfl rfl)
theorem dX1_swaps_20 : decode cX1_swaps 20 = .ok (.imul, 1) := dk_104 (dk_at dksX1_swaps_0 20 rfl rfl)
theorem dX1_swaps_21 : decode cX1_swaps 21 = .ok (.iload_n 2, 1) := dk_28 (dk_at dksX1_swaps_0 21 rfl rfl)
theorem dX1_swaps_22 : decode cX1_swaps 22 = .ok (.iadd, 1) := dk_96 (dk_at dksX1_swaps_0 22 rfl rfl)
theorem dX1_swaps_23 : decode cX1_swaps 23 = .ok (.aload_n 0, 1) := dk_42 (dk_at dksX1_swaps_0 23 rfl rfl)
theorem dX1_swaps_24 : decode cX1_swaps 24 = .ok (.getfield 52, 3) := dk_180 0 52 (dk_at dksX1_swaps_1 0 rfl rfl)
theorem dX1_swaps_27 : decode cX1_swaps 27 = .ok (.bipush 10, 2) := dk_16 10 (dk_at dksX1_swaps_1 3 rfl rfl)
theorem dX1_swaps_29 : decode cX1_swaps 29 = .ok (.iload_n 1, 1) := dk_27 (dk_at dksX1_swaps_1 5 rfl rfl)
theorem dX1_swaps_30 : decode cX1_swaps 30 = .ok (.imul, 1) := dk_104 (dk_at dksX1_swaps_1 6 rfl rfl)
theorem dX1_swaps_31 : decode cX1_swaps 31 = .ok (.iload_n 3, 1) := dk_29 (dk_at dksX1_swaps_1 7 rfl rfl)
theorem dX1_swaps_32 : decode cX1_swaps 32 = .ok (.iadd, 1) := dk_96 (dk_at dksX1_swaps_1 8 rfl rfl)
theorem dX1_swaps_33 : decode cX1_swaps 33 = .ok (.iaload, 1) := dk_46 (dk_at dksX1_swaps_1 9 rfl rfl)
theorem dX1_swaps_34 : decode cX1_swaps 34 = .ok (.iastore, 1) := dk_79 (dk_at dksX1_swaps_1 10 rfl rfl)
theorem dX1_swaps_35 : decode cX1_swaps 35 = .ok (.aload_n 0, 1) := dk_42 (dk_at dksX1_swaps_1 11 rfl rfl)
theorem dX1_swaps_36 : decode cX1_swaps 36 = .ok (.getfield 52, 3) := dk_180 0 52 (dk_at dksX1_swaps_1 12 rfl rfl)
theorem dX1_swaps_39 : decode cX1_swaps 39 = .ok (.bipush 10, 2) := dk_16 10 (dk_at dksX1_swaps_1 15 rfl rfl)
theorem dX1_swaps_41 : decode cX1_swaps 41 = .ok (.iload_n 1, 1) := dk_27 (dk_at dksX1_swaps_1 17 rfl rfl)
theorem dX1_swaps_42 : decode cX1_swaps 42 = .ok (.imul, 1) := dk_104 (dk_at dksX1_swaps_1 18 rfl rfl)
theorem dX1_swaps_43 : decode cX1_swaps 43 = .ok (.iload_n 3, 1) := dk_29 (dk_at dksX1_swaps_1 19 rfl rfl)
theorem dX1_swaps_44 : decode cX1_swaps 44 = .ok (.iadd, 1) := dk_96 (dk_at dksX1_swaps_1 20 rfl rfl)
theorem dX1_swaps_45 : decode cX1_swaps 45 = .ok (.iload 4, 2) := dk_21 4 (dk_at dksX1_swaps_1 21 rfl rfl)
theorem dX1_swaps_47 : decode cX1_swaps 47 = .ok (.iastore, 1) := dk_79 (dk_at dksX1_swaps_1 23 rfl rfl)
theorem dX1_swaps_48 : decode cX1_swaps 48 = .ok (.return_, 1) := dk_177 (dk_at dksX1_swaps_2 0 rfl rfl)
abbrev cX1_turn : ByteArray := prog_1_method_56_code
def yX1_turn : MethodName := ⟨RX1, "turn", "(I)Z"⟩
def dkwX1_turn_2 : List UInt8 := [167, 255, 223, 4, 172]
abbrev dktX1_turn_2 : List UInt8 := dkwX1_turn_2 ++ []
def dkwX1_turn_1 : List UInt8 := [162, 0, 25, 42, 27, 28, 42, 180, 0, 55, 27, 46, 4, 100, 28, 100, 182, 1, 91, 132, 2, 1]
abbrev dktX1_turn_1 : List UInt8 := dkwX1_turn_1 ++ dktX1_turn_2
def dkwX1_turn_0 : List UInt8 := [42, 27, 182, 1, 69, 154, 0, 5, 3, 172, 3, 61, 5, 28, 104, 42, 180, 0, 55, 27, 46, 4, 100]
abbrev dktX1_turn_0 : List UInt8 := dkwX1_turn_0 ++ dktX1_turn_1
theorem dksX1_turn_0 : cX1_turn.data.toList.drop 0 = dktX1_turn_0 := by decide +kernel
theorem dksX1_turn_1 : cX1_turn.data.toList.drop 23 = dktX1_turn_1 := dk_seg dksX1_turn_0 23 rfl rfl
theorem dksX1_turn_2 : cX1_turn.data.toList.drop 45 = dktX1_turn_2 := dk_seg dksX1_turn_1 22 rfl rfl
theorem dX1_turn_0 : decode cX1_turn 0 = .ok (.aload_n 0, 1) := dk_42 (dk_at dksX1_turn_0 0 rfl rfl)
theorem dX1_turn_1 : decode cX1_turn 1 = .ok (.iload_n 1, 1) := dk_27 (dk_at dksX1_turn_0 1 rfl rfl)
theorem dX1_turn_2 : decode cX1_turn 2 = .ok (.invokevirtual 325, 3) := dk_182 1 69 (dk_at dksX1_turn_0 2 rfl rfl)
theorem dX1_turn_5 : decode cX1_turn 5 = .ok (.ifCond .ne 5, 3) := dk_154 0 5 (dk_at dksX1_turn_0 5 rfl rfl)
theorem dX1_turn_8 : decode cX1_turn 8 = .ok (.iconst 0, 1) := dk_3 (dk_at dksX1_turn_0 8 rfl rfl)
theorem dX1_turn_9 : decode cX1_turn 9 = .ok (.ireturn, 1) := dk_172 (dk_at dksX1_turn_0 9 rfl rfl)
theorem dX1_turn_10 : decode cX1_turn 10 = .ok (.iconst 0, 1) := dk_3 (dk_at dksX1_turn_0 10 rfl rfl)
theorem dX1_turn_11 : decode cX1_turn 11 = .ok (.istore_n 2, 1) := dk_61 (dk_at dksX1_turn_0 11 rfl rfl)
theorem dX1_turn_12 : decode cX1_turn 12 = .ok (.iconst 2, 1) := dk_5 (dk_at dksX1_turn_0 12 rfl rfl)
theorem dX1_turn_13 : decode cX1_turn 13 = .ok (.iload_n 2, 1) := dk_28 (dk_at dksX1_turn_0 13 rfl rfl)
theorem dX1_turn_14 : decode cX1_turn 14 = .ok (.imul, 1) := dk_104 (dk_at dksX1_turn_0 14 rfl rfl)
theorem dX1_turn_15 : decode cX1_turn 15 = .ok (.aload_n 0, 1) := dk_42 (dk_at dksX1_turn_0 15 rfl rfl)
theorem dX1_turn_16 : decode cX1_turn 16 = .ok (.getfield 55, 3) := dk_180 0 55 (dk_at dksX1_turn_0 16 rfl rfl)
theorem dX1_turn_19 : decode cX1_turn 19 = .ok (.iload_n 1, 1) := dk_27 (dk_at dksX1_turn_0 19 rfl rfl)
theorem dX1_turn_20 : decode cX1_turn 20 = .ok (.iaload, 1) := dk_46 (dk_at dksX1_turn_0 20 rfl rfl)
theorem dX1_turn_21 : decode cX1_turn 21 = .ok (.iconst 1, 1) := dk_4 (dk_at dksX1_turn_0 21 rfl rfl)
theorem dX1_turn_22 : decode cX1_turn 22 = .ok (.isub, 1) := dk_100 (dk_at dksX1_turn_0 22 rfl rfl)
theorem dX1_turn_23 : decode cX1_turn 23 = .ok (.if_icmp .ge 25, 3) := dk_162 0 25 (dk_at dksX1_turn_1 0 rfl rfl)
theorem dX1_turn_26 : decode cX1_turn 26 = .ok (.aload_n 0, 1) := dk_42 (dk_at dksX1_turn_1 3 rfl rfl)
theorem dX1_turn_27 : decode cX1_turn 27 = .ok (.iload_n 1, 1) := dk_27 (dk_at dksX1_turn_1 4 rfl rfl)
theorem dX1_turn_28 : decode cX1_turn 28 = .ok (.iload_n 2, 1) := dk_28 (dk_at dksX1_turn_1 5 rfl rfl)
theorem dX1_turn_29 : decode cX1_turn 29 = .ok (.aload_n 0, 1) := dk_42 (dk_at dksX1_turn_1 6 rfl rfl)
theorem dX1_turn_30 : decode cX1_turn 30 = .ok (.getfield 55, 3) := dk_180 0 55 (dk_at dksX1_turn_1 7 rfl rfl)
theorem dX1_turn_33 : decode cX1_turn 33 = .ok (.iload_n 1, 1) := dk_27 (dk_at dksX1_turn_1 10 rfl rfl)
theorem dX1_turn_34 : decode cX1_turn 34 = .ok (.iaload, 1) := dk_46 (dk_at dksX1_turn_1 11 rfl rfl)
theorem dX1_turn_35 : decode cX1_turn 35 = .ok (.iconst 1, 1) := dk_4 (dk_at dksX1_turn_1 12 rfl rfl)
theorem dX1_turn_36 : decode cX1_turn 36 = .ok (.isub, 1) := dk_100 (dk_at dksX1_turn_1 13 rfl rfl)
theorem dX1_turn_37 : decode cX1_turn 37 = .ok (.iload_n 2, 1) := dk_28 (dk_at dksX1_turn_1 14 rfl rfl)
theorem dX1_turn_38 : decode cX1_turn 38 = .ok (.isub, 1) := dk_100 (dk_at dksX1_turn_1 15 rfl rfl)
theorem dX1_turn_39 : decode cX1_turn 39 = .ok (.invokevirtual 347, 3) := dk_182 1 91 (dk_at dksX1_turn_1 16 rfl rfl)
theorem dX1_turn_42 : decode cX1_turn 42 = .ok (.iinc 2 1, 3) := dk_132 2 1 (dk_at dksX1_turn_1 19 rfl rfl)
theorem dX1_turn_45 : decode cX1_turn 45 = .ok (.goto (-33), 3) := dk_167 255 223 (dk_at dksX1_turn_2 0 rfl rfl)
theorem dX1_turn_48 : decode cX1_turn 48 = .ok (.iconst 1, 1) := dk_4 (dk_at dksX1_turn_2 3 rfl rfl)
theorem dX1_turn_49 : decode cX1_turn 49 = .ok (.ireturn, 1) := dk_172 (dk_at dksX1_turn_2 4 rfl rfl)
abbrev cX1_joined : ByteArray := prog_1_method_57_code
def yX1_joined : MethodName := ⟨RX1, "joined", "(II)I"⟩
def dkwX1_joined_6 : List UInt8 := [132, 7, 1, 167, 255, 147, 42, 3, 181, 1, 81, 42, 21, 5, 182, 1, 84, 21, 6, 172]
abbrev dktX1_joined_6 : List UInt8 := dkwX1_joined_6 ++ []
def dkwX1_joined_5 : List UInt8 := [156, 0, 8, 21, 7, 167, 0, 5, 21, 6, 54, 6, 21, 8, 54, 4, 29, 4, 21, 8, 120, 128, 62]
abbrev dktX1_joined_5 : List UInt8 := dkwX1_joined_5 ++ dktX1_joined_6
def dkwX1_joined_4 : List UInt8 := [180, 0, 55, 27, 46, 100, 46, 54, 8, 42, 29, 21, 4, 21, 8, 182, 1, 56, 54, 5, 21, 5]
abbrev dktX1_joined_4 : List UInt8 := dkwX1_joined_4 ++ dktX1_joined_5
def dkwX1_joined_3 : List UInt8 := [16, 10, 27, 104, 21, 7, 96, 46, 167, 0, 22, 42, 180, 0, 52, 16, 10, 28, 104, 21, 7, 96, 42]
abbrev dktX1_joined_3 : List UInt8 := dkwX1_joined_3 ++ dktX1_joined_4
def dkwX1_joined_2 : List UInt8 := [96, 162, 0, 97, 21, 6, 156, 0, 92, 21, 7, 42, 180, 0, 55, 27, 46, 162, 0, 18, 42, 180, 0, 52]
abbrev dktX1_joined_2 : List UInt8 := dkwX1_joined_2 ++ dktX1_joined_3
def dkwX1_joined_1 : List UInt8 := [3, 54, 5, 16, 254, 54, 6, 3, 54, 7, 21, 7, 42, 180, 0, 55, 27, 46, 42, 180, 0, 55, 28, 46]
abbrev dktX1_joined_1 : List UInt8 := dkwX1_joined_1 ++ dktX1_joined_2
def dkwX1_joined_0 : List UInt8 := [42, 27, 182, 1, 95, 153, 0, 11, 42, 28, 182, 1, 95, 154, 0, 6, 16, 253, 172, 3, 62, 2, 54, 4]
abbrev dktX1_joined_0 : List UInt8 := dkwX1_joined_0 ++ dktX1_joined_1
theorem dksX1_joined_0 : cX1_joined.data.toList.drop 0 = dktX1_joined_0 := by decide +kernel
theorem dksX1_joined_1 : cX1_joined.data.toList.drop 24 = dktX1_joined_1 := dk_seg dksX1_joined_0 24 rfl rfl
theorem dksX1_joined_2 : cX1_joined.data.toList.drop 48 = dktX1_joined_2 := dk_seg dksX1_joined_1 24 rfl rfl
theorem dksX1_joined_3 : cX1_joined.data.toList.drop 72 = dktX1_joined_3 := dk_seg dksX1_joined_2 24 rfl rfl
theorem dksX1_joined_4 : cX1_joined.data.toList.drop 95 = dktX1_joined_4 := dk_seg dksX1_joined_3 23 rfl rfl
theorem dksX1_joined_5 : cX1_joined.data.toList.drop 117 = dktX1_joined_5 := dk_seg dksX1_joined_4 22 rfl rfl
theorem dksX1_joined_6 : cX1_joined.data.toList.drop 140 = dktX1_joined_6 := dk_seg dksX1_joined_5 23 rfl rfl
theorem dX1_joined_0 : decode cX1_joined 0 = .ok (.aload_n 0, 1) := dk_42 (dk_at dksX1_joined_0 0 rfl rfl)
theorem dX1_joined_1 : decode cX1_joined 1 = .ok (.iload_n 1, 1) := dk_27 (dk_at dksX1_joined_0 1 rfl rfl)
theorem dX1_joined_2 : decode cX1_joined 2 = .ok (.invokevirtual 351, 3) := dk_182 1 95 (dk_at dksX1_joined_0 2 rfl rfl)
theorem dX1_joined_5 : decode cX1_joined 5 = .ok (.ifCond .eq 11, 3) := dk_153 0 11 (dk_at dksX1_joined_0 5 rfl rfl)
theorem dX1_joined_8 : decode cX1_joined 8 = .ok (.aload_n 0, 1) := dk_42 (dk_at dksX1_joined_0 8 rfl rfl)
theorem dX1_joined_9 : decode cX1_joined 9 = .ok (.iload_n 2, 1) := dk_28 (dk_at dksX1_joined_0 9 rfl rfl)
theorem dX1_joined_10 : decode cX1_joined 10 = .ok (.invokevirtual 351, 3) := dk_182 1 95 (dk_at dksX1_joined_0 10 rfl rfl)
theorem dX1_joined_13 : decode cX1_joined 13 = .ok (.ifCond .ne 6, 3) := dk_154 0 6 (dk_at dksX1_joined_0 13 rfl rfl)
theorem dX1_joined_16 : decode cX1_joined 16 = .ok (.bipush (-3), 2) := dk_16 253 (dk_at dksX1_joined_0 16 rfl rfl)
theorem dX1_joined_18 : decode cX1_joined 18 = .ok (.ireturn, 1) := dk_172 (dk_at dksX1_joined_0 18 rfl rfl)
theorem dX1_joined_19 : decode cX1_joined 19 = .ok (.iconst 0, 1) := dk_3 (dk_at dksX1_joined_0 19 rfl rfl)
theorem dX1_joined_20 : decode cX1_joined 20 = .ok (.istore_n 3, 1) := dk_62 (dk_at dksX1_joined_0 20 rfl rfl)
theorem dX1_joined_21 : decode cX1_joined 21 = .ok (.iconst (-1), 1) := dk_2 (dk_at dksX1_joined_0 21 rfl rfl)
theorem dX1_joined_22 : decode cX1_joined 22 = .ok (.istore 4, 2) := dk_54 4 (dk_at dksX1_joined_0 22 rfl rfl)
theorem dX1_joined_24 : decode cX1_joined 24 = .ok (.iconst 0, 1) := dk_3 (dk_at dksX1_joined_1 0 rfl rfl)
theorem dX1_joined_25 : decode cX1_joined 25 = .ok (.istore 5, 2) := dk_54 5 (dk_at dksX1_joined_1 1 rfl rfl)
theorem dX1_joined_27 : decode cX1_joined 27 = .ok (.bipush (-2), 2) := dk_16 254 (dk_at dksX1_joined_1 3 rfl rfl)
theorem dX1_joined_29 : decode cX1_joined 29 = .ok (.istore 6, 2) := dk_54 6 (dk_at dksX1_joined_1 5 rfl rfl)
theorem dX1_joined_31 : decode cX1_joined 31 = .ok (.iconst 0, 1) := dk_3 (dk_at dksX1_joined_1 7 rfl rfl)
theorem dX1_joined_32 : decode cX1_joined 32 = .ok (.istore 7, 2) := dk_54 7 (dk_at dksX1_joined_1 8 rfl rfl)
theorem dX1_joined_34 : decode cX1_joined 34 = .ok (.iload 7, 2) := dk_21 7 (dk_at dksX1_joined_1 10 rfl rfl)
theorem dX1_joined_36 : decode cX1_joined 36 = .ok (.aload_n 0, 1) := dk_42 (dk_at dksX1_joined_1 12 rfl rfl)
theorem dX1_joined_37 : decode cX1_joined 37 = .ok (.getfield 55, 3) := dk_180 0 55 (dk_at dksX1_joined_1 13 rfl rfl)
theorem dX1_joined_40 : decode cX1_joined 40 = .ok (.iload_n 1, 1) := dk_27 (dk_at dksX1_joined_1 16 rfl rfl)
theorem dX1_joined_41 : decode cX1_joined 41 = .ok (.iaload, 1) := dk_46 (dk_at dksX1_joined_1 17 rfl rfl)
theorem dX1_joined_42 : decode cX1_joined 42 = .ok (.aload_n 0, 1) := dk_42 (dk_at dksX1_joined_1 18 rfl rfl)
theorem dX1_joined_43 : decode cX1_joined 43 = .ok (.getfield 55, 3) := dk_180 0 55 (dk_at dksX1_joined_1 19 rfl rfl)
theorem dX1_joined_46 : decode cX1_joined 46 = .ok (.iload_n 2, 1) := dk_28 (dk_at dksX1_joined_1 22 rfl rfl)
theorem dX1_joined_47 : decode cX1_joined 47 = .ok (.iaload, 1) := dk_46 (dk_at dksX1_joined_1 23 rfl rfl)
theorem dX1_joined_48 : decode cX1_joined 48 = .ok (.iadd, 1) := dk_96 (dk_at dksX1_joined_2 0 rfl rfl)
theorem dX1_joined_49 : decode cX1_joined 49 = .ok (.if_icmp .ge 97, 3) := dk_162 0 97 (dk_at dksX1_joined_2 1 rfl rfl)
theorem dX1_joined_52 : decode cX1_joined 52 = .ok (.iload 6, 2) := dk_21 6 (dk_at dksX1_joined_2 4 rfl rfl)
theorem dX1_joined_54 : decode cX1_joined 54 = .ok (.ifCond .ge 92, 3) := dk_156 0 92 (dk_at dksX1_joined_2 6 rfl rfl)
theorem dX1_joined_57 : decode cX1_joined 57 = .ok (.iload 7, 2) := dk_21 7 (dk_at dksX1_joined_2 9 rfl rfl)
theorem dX1_joined_59 : decode cX1_joined 59 = .ok (.aload_n 0, 1) := dk_42 (dk_at dksX1_joined_2 11 rfl rfl)
theorem dX1_joined_60 : decode cX1_joined 60 = .ok (.getfield 55, 3) := dk_180 0 55 (dk_at dksX1_joined_2 12 rfl rfl)
theorem dX1_joined_63 : decode cX1_joined 63 = .ok (.iload_n 1, 1) := dk_27 (dk_at dksX1_joined_2 15 rfl rfl)
theorem dX1_joined_64 : decode cX1_joined 64 = .ok (.iaload, 1) := dk_46 (dk_at dksX1_joined_2 16 rfl rfl)
theorem dX1_joined_65 : decode cX1_joined 65 = .ok (.if_icmp .ge 18, 3) := dk_162 0 18 (dk_at dksX1_joined_2 17 rfl rfl)
theorem dX1_joined_68 : decode cX1_joined 68 = .ok (.aload_n 0, 1) := dk_42 (dk_at dksX1_joined_2 20 rfl rfl)
theorem dX1_joined_69 : decode cX1_joined 69 = .ok (.getfield 52, 3) := dk_180 0 52 (dk_at dksX1_joined_2 21 rfl rfl)
theorem dX1_joined_72 : decode cX1_joined 72 = .ok (.bipush 10, 2) := dk_16 10 (dk_at dksX1_joined_3 0 rfl rfl)
theorem dX1_joined_74 : decode cX1_joined 74 = .ok (.iload_n 1, 1) := dk_27 (dk_at dksX1_joined_3 2 rfl rfl)
theorem dX1_joined_75 : decode cX1_joined 75 = .ok (.imul, 1) := dk_104 (dk_at dksX1_joined_3 3 rfl rfl)
theorem dX1_joined_76 : decode cX1_joined 76 = .ok (.iload 7, 2) := dk_21 7 (dk_at dksX1_joined_3 4 rfl rfl)
theorem dX1_joined_78 : decode cX1_joined 78 = .ok (.iadd, 1) := dk_96 (dk_at dksX1_joined_3 6 rfl rfl)
theorem dX1_joined_79 : decode cX1_joined 79 = .ok (.iaload, 1) := dk_46 (dk_at dksX1_joined_3 7 rfl rfl)
theorem dX1_joined_80 : decode cX1_joined 80 = .ok (.goto 22, 3) := dk_167 0 22 (dk_at dksX1_joined_3 8 rfl rfl)
theorem dX1_joined_83 : decode cX1_joined 83 = .ok (.aload_n 0, 1) := dk_42 (dk_at dksX1_joined_3 11 rfl rfl)
theorem dX1_joined_84 : decode cX1_joined 84 = .ok (.getfield 52, 3) := dk_180 0 52 (dk_at dksX1_joined_3 12 rfl rfl)
theorem dX1_joined_87 : decode cX1_joined 87 = .ok (.bipush 10, 2) := dk_16 10 (dk_at dksX1_joined_3 15 rfl rfl)
theorem dX1_joined_89 : decode cX1_joined 89 = .ok (.iload_n 2, 1) := dk_28 (dk_at dksX1_joined_3 17 rfl rfl)
theorem dX1_joined_90 : decode cX1_joined 90 = .ok (.imul, 1) := dk_104 (dk_at dksX1_joined_3 18 rfl rfl)
theorem dX1_joined_91 : decode cX1_joined 91 = .ok (.iload 7, 2) := dk_21 7 (dk_at dksX1_joined_3 19 rfl rfl)
theorem dX1_joined_93 : decode cX1_joined 93 = .ok (.iadd, 1) := dk_96 (dk_at dksX1_joined_3 21 rfl rfl)
theorem dX1_joined_94 : decode cX1_joined 94 = .ok (.aload_n 0, 1) := dk_42 (dk_at dksX1_joined_3 22 rfl rfl)
theorem dX1_joined_95 : decode cX1_joined 95 = .ok (.getfield 55, 3) := dk_180 0 55 (dk_at dksX1_joined_4 0 rfl rfl)
theorem dX1_joined_98 : decode cX1_joined 98 = .ok (.iload_n 1, 1) := dk_27 (dk_at dksX1_joined_4 3 rfl rfl)
theorem dX1_joined_99 : decode cX1_joined 99 = .ok (.iaload, 1) := dk_46 (dk_at dksX1_joined_4 4 rfl rfl)
theorem dX1_joined_100 : decode cX1_joined 100 = .ok (.isub, 1) := dk_100 (dk_at dksX1_joined_4 5 rfl rfl)
theorem dX1_joined_101 : decode cX1_joined 101 = .ok (.iaload, 1) := dk_46 (dk_at dksX1_joined_4 6 rfl rfl)
theorem dX1_joined_102 : decode cX1_joined 102 = .ok (.istore 8, 2) := dk_54 8 (dk_at dksX1_joined_4 7 rfl rfl)
theorem dX1_joined_104 : decode cX1_joined 104 = .ok (.aload_n 0, 1) := dk_42 (dk_at dksX1_joined_4 9 rfl rfl)
theorem dX1_joined_105 : decode cX1_joined 105 = .ok (.iload_n 3, 1) := dk_29 (dk_at dksX1_joined_4 10 rfl rfl)
theorem dX1_joined_106 : decode cX1_joined 106 = .ok (.iload 4, 2) := dk_21 4 (dk_at dksX1_joined_4 11 rfl rfl)
theorem dX1_joined_108 : decode cX1_joined 108 = .ok (.iload 8, 2) := dk_21 8 (dk_at dksX1_joined_4 13 rfl rfl)
theorem dX1_joined_110 : decode cX1_joined 110 = .ok (.invokevirtual 312, 3) := dk_182 1 56 (dk_at dksX1_joined_4 15 rfl rfl)
theorem dX1_joined_113 : decode cX1_joined 113 = .ok (.istore 5, 2) := dk_54 5 (dk_at dksX1_joined_4 18 rfl rfl)
theorem dX1_joined_115 : decode cX1_joined 115 = .ok (.iload 5, 2) := dk_21 5 (dk_at dksX1_joined_4 20 rfl rfl)
theorem dX1_joined_117 : decode cX1_joined 117 = .ok (.ifCond .ge 8, 3) := dk_156 0 8 (dk_at dksX1_joined_5 0 rfl rfl)
theorem dX1_joined_120 : decode cX1_joined 120 = .ok (.iload 7, 2) := dk_21 7 (dk_at dksX1_joined_5 3 rfl rfl)
theorem dX1_joined_122 : decode cX1_joined 122 = .ok (.goto 5, 3) := dk_167 0 5 (dk_at dksX1_joined_5 5 rfl rfl)
theorem dX1_joined_125 : decode cX1_joined 125 = .ok (.iload 6, 2) := dk_21 6 (dk_at dksX1_joined_5 8 rfl rfl)
theorem dX1_joined_127 : decode cX1_joined 127 = .ok (.istore 6, 2) := dk_54 6 (dk_at dksX1_joined_5 10 rfl rfl)
theorem dX1_joined_129 : decode cX1_joined 129 = .ok (.iload 8, 2) := dk_21 8 (dk_at dksX1_joined_5 12 rfl rfl)
theorem dX1_joined_131 : decode cX1_joined 131 = .ok (.istore 4, 2) := dk_54 4 (dk_at dksX1_joined_5 14 rfl rfl)
theorem dX1_joined_133 : decode cX1_joined 133 = .ok (.iload_n 3, 1) := dk_29 (dk_at dksX1_joined_5 16 rfl rfl)
theorem dX1_joined_134 : decode cX1_joined 134 = .ok (.iconst 1, 1) := dk_4 (dk_at dksX1_joined_5 17 rfl rfl)
theorem dX1_joined_135 : decode cX1_joined 135 = .ok (.iload 8, 2) := dk_21 8 (dk_at dksX1_joined_5 18 rfl rfl)
theorem dX1_joined_137 : decode cX1_joined 137 = .ok (.ishl, 1) := dk_120 (dk_at dksX1_joined_5 20 rfl rfl)
theorem dX1_joined_138 : decode cX1_joined 138 = .ok (.ior, 1) := dk_128 (dk_at dksX1_joined_5 21 rfl rfl)
theorem dX1_joined_139 : decode cX1_joined 139 = .ok (.istore_n 3, 1) := dk_62 (dk_at dksX1_joined_5 22 rfl rfl)
theorem dX1_joined_140 : decode cX1_joined 140 = .ok (.iinc 7 1, 3) := dk_132 7 1 (dk_at dksX1_joined_6 0 rfl rfl)
theorem dX1_joined_143 : decode cX1_joined 143 = .ok (.goto (-109), 3) := dk_167 255 147 (dk_at dksX1_joined_6 3 rfl rfl)
theorem dX1_joined_146 : decode cX1_joined 146 = .ok (.aload_n 0, 1) := dk_42 (dk_at dksX1_joined_6 6 rfl rfl)
theorem dX1_joined_147 : decode cX1_joined 147 = .ok (.iconst 0, 1) := dk_3 (dk_at dksX1_joined_6 7 rfl rfl)
theorem dX1_joined_148 : decode cX1_joined 148 = .ok (.putfield 337, 3) := dk_181 1 81 (dk_at dksX1_joined_6 8 rfl rfl)
theorem dX1_joined_151 : decode cX1_joined 151 = .ok (.aload_n 0, 1) := dk_42 (dk_at dksX1_joined_6 11 rfl rfl)
theorem dX1_joined_152 : decode cX1_joined 152 = .ok (.iload 5, 2) := dk_21 5 (dk_at dksX1_joined_6 12 rfl rfl)
theorem dX1_joined_154 : decode cX1_joined 154 = .ok (.invokevirtual 340, 3) := dk_182 1 84 (dk_at dksX1_joined_6 14 rfl rfl)
theorem dX1_joined_157 : decode cX1_joined 157 = .ok (.iload 6, 2) := dk_21 6 (dk_at dksX1_joined_6 17 rfl rfl)
theorem dX1_joined_159 : decode cX1_joined 159 = .ok (.ireturn, 1) := dk_172 (dk_at dksX1_joined_6 19 rfl rfl)
abbrev cX1_isWhole : ByteArray := prog_1_method_50_code
def yX1_isWhole : MethodName := ⟨RX1, "isWhole", "(I)Z"⟩
def dkwX1_isWhole_1 : List UInt8 := [28, 182, 1, 72, 16, 99, 160, 0, 5, 3, 172, 132, 2, 1, 167, 255, 230, 4, 172]
abbrev dktX1_isWhole_1 : List UInt8 := dkwX1_isWhole_1 ++ []
def dkwX1_isWhole_0 : List UInt8 := [42, 27, 182, 1, 69, 154, 0, 5, 3, 172, 3, 61, 28, 42, 180, 0, 55, 27, 46, 162, 0, 22, 42, 27]
abbrev dktX1_isWhole_0 : List UInt8 := dkwX1_isWhole_0 ++ dktX1_isWhole_1
theorem dksX1_isWhole_0 : cX1_isWhole.data.toList.drop 0 = dktX1_isWhole_0 := by decide +kernel
theorem dksX1_isWhole_1 : cX1_isWhole.data.toList.drop 24 = dktX1_isWhole_1 := dk_seg dksX1_isWhole_0 24 rfl rfl
theorem dX1_isWhole_0 : decode cX1_isWhole 0 = .ok (.aload_n 0, 1) := dk_42 (dk_at dksX1_isWhole_0 0 rfl rfl)
theorem dX1_isWhole_1 : decode cX1_isWhole 1 = .ok (.iload_n 1, 1) := dk_27 (dk_at dksX1_isWhole_0 1 rfl rfl)
theorem dX1_isWhole_2 : decode cX1_isWhole 2 = .ok (.invokevirtual 325, 3) := dk_182 1 69 (dk_at dksX1_isWhole_0 2 rfl rfl)
theorem dX1_isWhole_5 : decode cX1_isWhole 5 = .ok (.ifCond .ne 5, 3) := dk_154 0 5 (dk_at dksX1_isWhole_0 5 rfl rfl)
theorem dX1_isWhole_8 : decode cX1_isWhole 8 = .ok (.iconst 0, 1) := dk_3 (dk_at dksX1_isWhole_0 8 rfl rfl)
theorem dX1_isWhole_9 : decode cX1_isWhole 9 = .ok (.ireturn, 1) := dk_172 (dk_at dksX1_isWhole_0 9 rfl rfl)
theorem dX1_isWhole_10 : decode cX1_isWhole 10 = .ok (.iconst 0, 1) := dk_3 (dk_at dksX1_isWhole_0 10 rfl rfl)
theorem dX1_isWhole_11 : decode cX1_isWhole 11 = .ok (.istore_n 2, 1) := dk_61 (dk_at dksX1_isWhole_0 11 rfl rfl)
theorem dX1_isWhole_12 : decode cX1_isWhole 12 = .ok (.iload_n 2, 1) := dk_28 (dk_at dksX1_isWhole_0 12 rfl rfl)
theorem dX1_isWhole_13 : decode cX1_isWhole 13 = .ok (.aload_n 0, 1) := dk_42 (dk_at dksX1_isWhole_0 13 rfl rfl)
theorem dX1_isWhole_14 : decode cX1_isWhole 14 = .ok (.getfield 55, 3) := dk_180 0 55 (dk_at dksX1_isWhole_0 14 rfl rfl)
theorem dX1_isWhole_17 : decode cX1_isWhole 17 = .ok (.iload_n 1, 1) := dk_27 (dk_at dksX1_isWhole_0 17 rfl rfl)
theorem dX1_isWhole_18 : decode cX1_isWhole 18 = .ok (.iaload, 1) := dk_46 (dk_at dksX1_isWhole_0 18 rfl rfl)
theorem dX1_isWhole_19 : decode cX1_isWhole 19 = .ok (.if_icmp .ge 22, 3) := dk_162 0 22 (dk_at dksX1_isWhole_0 19 rfl rfl)
theorem dX1_isWhole_22 : decode cX1_isWhole 22 = .ok (.aload_n 0, 1) := dk_42 (dk_at dksX1_isWhole_0 22 rfl rfl)
theorem dX1_isWhole_23 : decode cX1_isWhole 23 = .ok (.iload_n 1, 1) := dk_27 (dk_at dksX1_isWhole_0 23 rfl rfl)
theorem dX1_isWhole_24 : decode cX1_isWhole 24 = .ok (.iload_n 2, 1) := dk_28 (dk_at dksX1_isWhole_1 0 rfl rfl)
theorem dX1_isWhole_25 : decode cX1_isWhole 25 = .ok (.invokevirtual 328, 3) := dk_182 1 72 (dk_at dksX1_isWhole_1 1 rfl rfl)
theorem dX1_isWhole_28 : decode cX1_isWhole 28 = .ok (.bipush 99, 2) := dk_16 99 (dk_at dksX1_isWhole_1 4 rfl rfl)
theorem dX1_isWhole_30 : decode cX1_isWhole 30 = .ok (.if_icmp .ne 5, 3) := dk_160 0 5 (dk_at dksX1_isWhole_1 6 rfl rfl)
theorem dX1_isWhole_33 : decode cX1_isWhole 33 = .ok (.iconst 0, 1) := dk_3 (dk_at dksX1_isWhole_1 9 rfl rfl)
theorem dX1_isWhole_34 : decode cX1_isWhole 34 = .ok (.ireturn, 1) := dk_172 (dk_at dksX1_isWhole_1 10 rfl rfl)
theorem dX1_isWhole_35 : decode cX1_isWhole 35 = .ok (.iinc 2 1, 3) := dk_132 2 1 (dk_at dksX1_isWhole_1 11 rfl rfl)
theorem dX1_isWhole_38 : decode cX1_isWhole 38 = .ok (.goto (-26), 3) := dk_167 255 230 (dk_at dksX1_isWhole_1 14 rfl rfl)
theorem dX1_isWhole_41 : decode cX1_isWhole 41 = .ok (.iconst 1, 1) := dk_4 (dk_at dksX1_isWhole_1 17 rfl rfl)
theorem dX1_isWhole_42 : decode cX1_isWhole 42 = .ok (.ireturn, 1) := dk_172 (dk_at dksX1_isWhole_1 18 rfl rfl)
abbrev cX1_falls : ByteArray := prog_1_method_58_code
def yX1_falls : MethodName := ⟨RX1, "falls", "(III)I"⟩
def dkwX1_falls_8 : List UInt8 := [42, 180, 0, 28, 5, 21, 7, 79, 21, 4, 172]
abbrev dktX1_falls_8 : List UInt8 := dkwX1_falls_8 ++ []
def dkwX1_falls_7 : List UInt8 := [54, 4, 132, 8, 1, 167, 255, 213, 42, 180, 0, 28, 3, 21, 5, 79, 42, 180, 0, 28, 4, 21, 6, 79]
abbrev dktX1_falls_7 : List UInt8 := dkwX1_falls_7 ++ dktX1_falls_8
def dkwX1_falls_6 : List UInt8 := [153, 0, 21, 42, 21, 8, 182, 1, 78, 156, 0, 12, 4, 21, 8, 120, 2, 130, 167, 0, 4, 2, 126]
abbrev dktX1_falls_6 : List UInt8 := dkwX1_falls_6 ++ dktX1_falls_7
def dkwX1_falls_5 : List UInt8 := [180, 0, 28, 5, 29, 79, 3, 54, 8, 21, 8, 6, 162, 0, 43, 21, 4, 21, 4, 21, 8, 184, 1, 3]
abbrev dktX1_falls_5 : List UInt8 := dkwX1_falls_5 ++ dktX1_falls_6
def dkwX1_falls_4 : List UInt8 := [180, 0, 28, 5, 46, 54, 7, 42, 180, 0, 28, 3, 27, 79, 42, 180, 0, 28, 4, 28, 79, 42]
abbrev dktX1_falls_4 : List UInt8 := dkwX1_falls_4 ++ dktX1_falls_5
def dkwX1_falls_3 : List UInt8 := [132, 5, 1, 167, 255, 216, 42, 180, 0, 28, 3, 46, 54, 5, 42, 180, 0, 28, 4, 46, 54, 6, 42]
abbrev dktX1_falls_3 : List UInt8 := dkwX1_falls_3 ++ dktX1_falls_4
def dkwX1_falls_2 : List UInt8 := [153, 0, 19, 42, 21, 5, 182, 1, 78, 156, 0, 10, 4, 21, 5, 120, 167, 0, 4, 3, 128, 54, 4]
abbrev dktX1_falls_2 : List UInt8 := dkwX1_falls_2 ++ dktX1_falls_3
def dkwX1_falls_1 : List UInt8 := [2, 172, 3, 54, 4, 3, 54, 5, 21, 5, 6, 162, 0, 40, 21, 4, 42, 21, 5, 182, 1, 95]
abbrev dktX1_falls_1 : List UInt8 := dkwX1_falls_1 ++ dktX1_falls_2
def dkwX1_falls_0 : List UInt8 := [3, 27, 184, 1, 22, 153, 0, 19, 4, 28, 184, 1, 22, 153, 0, 11, 5, 29, 184, 1, 22, 154, 0, 5]
abbrev dktX1_falls_0 : List UInt8 := dkwX1_falls_0 ++ dktX1_falls_1
theorem dksX1_falls_0 : cX1_falls.data.toList.drop 0 = dktX1_falls_0 := by decide +kernel
theorem dksX1_falls_1 : cX1_falls.data.toList.drop 24 = dktX1_falls_1 := dk_seg dksX1_falls_0 24 rfl rfl
theorem dksX1_falls_2 : cX1_falls.data.toList.drop 46 = dktX1_falls_2 := dk_seg dksX1_falls_1 22 rfl rfl
theorem dksX1_falls_3 : cX1_falls.data.toList.drop 69 = dktX1_falls_3 := dk_seg dksX1_falls_2 23 rfl rfl
theorem dksX1_falls_4 : cX1_falls.data.toList.drop 92 = dktX1_falls_4 := dk_seg dksX1_falls_3 23 rfl rfl
theorem dksX1_falls_5 : cX1_falls.data.toList.drop 114 = dktX1_falls_5 := dk_seg dksX1_falls_4 22 rfl rfl
theorem dksX1_falls_6 : cX1_falls.data.toList.drop 138 = dktX1_falls_6 := dk_seg dksX1_falls_5 24 rfl rfl
theorem dksX1_falls_7 : cX1_falls.data.toList.drop 161 = dktX1_falls_7 := dk_seg dksX1_falls_6 23 rfl rfl
theorem dksX1_falls_8 : cX1_falls.data.toList.drop 185 = dktX1_falls_8 := dk_seg dksX1_falls_7 24 rfl rfl
theorem dX1_falls_0 : decode cX1_falls 0 = .ok (.iconst 0, 1) := dk_3 (dk_at dksX1_falls_0 0 rfl rfl)
theorem dX1_falls_1 : decode cX1_falls 1 = .ok (.iload_n 1, 1) := dk_27 (dk_at dksX1_falls_0 1 rfl rfl)
theorem dX1_falls_2 : decode cX1_falls 2 = .ok (.invokestatic 278, 3) := dk_184 1 22 (dk_at dksX1_falls_0 2 rfl rfl)
theorem dX1_falls_5 : decode cX1_falls 5 = .ok (.ifCond .eq 19, 3) := dk_153 0 19 (dk_at dksX1_falls_0 5 rfl rfl)
theorem dX1_falls_8 : decode cX1_falls 8 = .ok (.iconst 1, 1) := dk_4 (dk_at dksX1_falls_0 8 rfl rfl)
theorem dX1_falls_9 : decode cX1_falls 9 = .ok (.iload_n 2, 1) := dk_28 (dk_at dksX1_falls_0 9 rfl rfl)
theorem dX1_falls_10 : decode cX1_falls 10 = .ok (.invokestatic 278, 3) := dk_184 1 22 (dk_at dksX1_falls_0 10 rfl rfl)
theorem dX1_falls_13 : decode cX1_falls 13 = .ok (.ifCond .eq 11, 3) := dk_153 0 11 (dk_at dksX1_falls_0 13 rfl rfl)
theorem dX1_falls_16 : decode cX1_falls 16 = .ok (.iconst 2, 1) := dk_5 (dk_at dksX1_falls_0 16 rfl rfl)
theorem dX1_falls_17 : decode cX1_falls 17 = .ok (.iload_n 3, 1) := dk_29 (dk_at dksX1_falls_0 17 rfl rfl)
theorem dX1_falls_18 : decode cX1_falls 18 = .ok (.invokestatic 278, 3) := dk_184 1 22 (dk_at dksX1_falls_0 18 rfl rfl)
theorem dX1_falls_21 : decode cX1_falls 21 = .ok (.ifCond .ne 5, 3) := dk_154 0 5 (dk_at dksX1_falls_0 21 rfl rfl)
theorem dX1_falls_24 : decode cX1_falls 24 = .ok (.iconst (-1), 1) := dk_2 (dk_at dksX1_falls_1 0 rfl rfl)
theorem dX1_falls_25 : decode cX1_falls 25 = .ok (.ireturn, 1) := dk_172 (dk_at dksX1_falls_1 1 rfl rfl)
theorem dX1_falls_26 : decode cX1_falls 26 = .ok (.iconst 0, 1) := dk_3 (dk_at dksX1_falls_1 2 rfl rfl)
theorem dX1_falls_27 : decode cX1_falls 27 = .ok (.istore 4, 2) := dk_54 4 (dk_at dksX1_falls_1 3 rfl rfl)
theorem dX1_falls_29 : decode cX1_falls 29 = .ok (.iconst 0, 1) := dk_3 (dk_at dksX1_falls_1 5 rfl rfl)
theorem dX1_falls_30 : decode cX1_falls 30 = .ok (.istore 5, 2) := dk_54 5 (dk_at dksX1_falls_1 6 rfl rfl)
theorem dX1_falls_32 : decode cX1_falls 32 = .ok (.iload 5, 2) := dk_21 5 (dk_at dksX1_falls_1 8 rfl rfl)
theorem dX1_falls_34 : decode cX1_falls 34 = .ok (.iconst 3, 1) := dk_6 (dk_at dksX1_falls_1 10 rfl rfl)
theorem dX1_falls_35 : decode cX1_falls 35 = .ok (.if_icmp .ge 40, 3) := dk_162 0 40 (dk_at dksX1_falls_1 11 rfl rfl)
theorem dX1_falls_38 : decode cX1_falls 38 = .ok (.iload 4, 2) := dk_21 4 (dk_at dksX1_falls_1 14 rfl rfl)
theorem dX1_falls_40 : decode cX1_falls 40 = .ok (.aload_n 0, 1) := dk_42 (dk_at dksX1_falls_1 16 rfl rfl)
theorem dX1_falls_41 : decode cX1_falls 41 = .ok (.iload 5, 2) := dk_21 5 (dk_at dksX1_falls_1 17 rfl rfl)
theorem dX1_falls_43 : decode cX1_falls 43 = .ok (.invokevirtual 351, 3) := dk_182 1 95 (dk_at dksX1_falls_1 19 rfl rfl)
theorem dX1_falls_46 : decode cX1_falls 46 = .ok (.ifCond .eq 19, 3) := dk_153 0 19 (dk_at dksX1_falls_2 0 rfl rfl)
theorem dX1_falls_49 : decode cX1_falls 49 = .ok (.aload_n 0, 1) := dk_42 (dk_at dksX1_falls_2 3 rfl rfl)
theorem dX1_falls_50 : decode cX1_falls 50 = .ok (.iload 5, 2) := dk_21 5 (dk_at dksX1_falls_2 4 rfl rfl)
theorem dX1_falls_52 : decode cX1_falls 52 = .ok (.invokevirtual 334, 3) := dk_182 1 78 (dk_at dksX1_falls_2 6 rfl rfl)
theorem dX1_falls_55 : decode cX1_falls 55 = .ok (.ifCond .ge 10, 3) := dk_156 0 10 (dk_at dksX1_falls_2 9 rfl rfl)
theorem dX1_falls_58 : decode cX1_falls 58 = .ok (.iconst 1, 1) := dk_4 (dk_at dksX1_falls_2 12 rfl rfl)
theorem dX1_falls_59 : decode cX1_falls 59 = .ok (.iload 5, 2) := dk_21 5 (dk_at dksX1_falls_2 13 rfl rfl)
theorem dX1_falls_61 : decode cX1_falls 61 = .ok (.ishl, 1) := dk_120 (dk_at dksX1_falls_2 15 rfl rfl)
theorem dX1_falls_62 : decode cX1_falls 62 = .ok (.goto 4, 3) := dk_167 0 4 (dk_at dksX1_falls_2 16 rfl rfl)
theorem dX1_falls_65 : decode cX1_falls 65 = .ok (.iconst 0, 1) := dk_3 (dk_at dksX1_falls_2 19 rfl rfl)
theorem dX1_falls_66 : decode cX1_falls 66 = .ok (.ior, 1) := dk_128 (dk_at dksX1_falls_2 20 rfl rfl)
theorem dX1_falls_67 : decode cX1_falls 67 = .ok (.istore 4, 2) := dk_54 4 (dk_at dksX1_falls_2 21 rfl rfl)
theorem dX1_falls_69 : decode cX1_falls 69 = .ok (.iinc 5 1, 3) := dk_132 5 1 (dk_at dksX1_falls_3 0 rfl rfl)
theorem dX1_falls_72 : decode cX1_falls 72 = .ok (.goto (-40), 3) := dk_167 255 216 (dk_at dksX1_falls_3 3 rfl rfl)
theorem dX1_falls_75 : decode cX1_falls 75 = .ok (.aload_n 0, 1) := dk_42 (dk_at dksX1_falls_3 6 rfl rfl)
theorem dX1_falls_76 : decode cX1_falls 76 = .ok (.getfield 28, 3) := dk_180 0 28 (dk_at dksX1_falls_3 7 rfl rfl)
theorem dX1_falls_79 : decode cX1_falls 79 = .ok (.iconst 0, 1) := dk_3 (dk_at dksX1_falls_3 10 rfl rfl)
theorem dX1_falls_80 : decode cX1_falls 80 = .ok (.iaload, 1) := dk_46 (dk_at dksX1_falls_3 11 rfl rfl)
theorem dX1_falls_81 : decode cX1_falls 81 = .ok (.istore 5, 2) := dk_54 5 (dk_at dksX1_falls_3 12 rfl rfl)
theorem dX1_falls_83 : decode cX1_falls 83 = .ok (.aload_n 0, 1) := dk_42 (dk_at dksX1_falls_3 14 rfl rfl)
theorem dX1_falls_84 : decode cX1_falls 84 = .ok (.getfield 28, 3) := dk_180 0 28 (dk_at dksX1_falls_3 15 rfl rfl)
theorem dX1_falls_87 : decode cX1_falls 87 = .ok (.iconst 1, 1) := dk_4 (dk_at dksX1_falls_3 18 rfl rfl)
theorem dX1_falls_88 : decode cX1_falls 88 = .ok (.iaload, 1) := dk_46 (dk_at dksX1_falls_3 19 rfl rfl)
theorem dX1_falls_89 : decode cX1_falls 89 = .ok (.istore 6, 2) := dk_54 6 (dk_at dksX1_falls_3 20 rfl rfl)
theorem dX1_falls_91 : decode cX1_falls 91 = .ok (.aload_n 0, 1) := dk_42 (dk_at dksX1_falls_3 22 rfl rfl)
theorem dX1_falls_92 : decode cX1_falls 92 = .ok (.getfield 28, 3) := dk_180 0 28 (dk_at dksX1_falls_4 0 rfl rfl)
theorem dX1_falls_95 : decode cX1_falls 95 = .ok (.iconst 2, 1) := dk_5 (dk_at dksX1_falls_4 3 rfl rfl)
theorem dX1_falls_96 : decode cX1_falls 96 = .ok (.iaload, 1) := dk_46 (dk_at dksX1_falls_4 4 rfl rfl)
theorem dX1_falls_97 : decode cX1_falls 97 = .ok (.istore 7, 2) := dk_54 7 (dk_at dksX1_falls_4 5 rfl rfl)
theorem dX1_falls_99 : decode cX1_falls 99 = .ok (.aload_n 0, 1) := dk_42 (dk_at dksX1_falls_4 7 rfl rfl)
theorem dX1_falls_100 : decode cX1_falls 100 = .ok (.getfield 28, 3) := dk_180 0 28 (dk_at dksX1_falls_4 8 rfl rfl)
theorem dX1_falls_103 : decode cX1_falls 103 = .ok (.iconst 0, 1) := dk_3 (dk_at dksX1_falls_4 11 rfl rfl)
theorem dX1_falls_104 : decode cX1_falls 104 = .ok (.iload_n 1, 1) := dk_27 (dk_at dksX1_falls_4 12 rfl rfl)
theorem dX1_falls_105 : decode cX1_falls 105 = .ok (.iastore, 1) := dk_79 (dk_at dksX1_falls_4 13 rfl rfl)
theorem dX1_falls_106 : decode cX1_falls 106 = .ok (.aload_n 0, 1) := dk_42 (dk_at dksX1_falls_4 14 rfl rfl)
theorem dX1_falls_107 : decode cX1_falls 107 = .ok (.getfield 28, 3) := dk_180 0 28 (dk_at dksX1_falls_4 15 rfl rfl)
theorem dX1_falls_110 : decode cX1_falls 110 = .ok (.iconst 1, 1) := dk_4 (dk_at dksX1_falls_4 18 rfl rfl)
theorem dX1_falls_111 : decode cX1_falls 111 = .ok (.iload_n 2, 1) := dk_28 (dk_at dksX1_falls_4 19 rfl rfl)
theorem dX1_falls_112 : decode cX1_falls 112 = .ok (.iastore, 1) := dk_79 (dk_at dksX1_falls_4 20 rfl rfl)
theorem dX1_falls_113 : decode cX1_falls 113 = .ok (.aload_n 0, 1) := dk_42 (dk_at dksX1_falls_4 21 rfl rfl)
theorem dX1_falls_114 : decode cX1_falls 114 = .ok (.getfield 28, 3) := dk_180 0 28 (dk_at dksX1_falls_5 0 rfl rfl)
theorem dX1_falls_117 : decode cX1_falls 117 = .ok (.iconst 2, 1) := dk_5 (dk_at dksX1_falls_5 3 rfl rfl)
theorem dX1_falls_118 : decode cX1_falls 118 = .ok (.iload_n 3, 1) := dk_29 (dk_at dksX1_falls_5 4 rfl rfl)
theorem dX1_falls_119 : decode cX1_falls 119 = .ok (.iastore, 1) := dk_79 (dk_at dksX1_falls_5 5 rfl rfl)
theorem dX1_falls_120 : decode cX1_falls 120 = .ok (.iconst 0, 1) := dk_3 (dk_at dksX1_falls_5 6 rfl rfl)
theorem dX1_falls_121 : decode cX1_falls 121 = .ok (.istore 8, 2) := dk_54 8 (dk_at dksX1_falls_5 7 rfl rfl)
theorem dX1_falls_123 : decode cX1_falls 123 = .ok (.iload 8, 2) := dk_21 8 (dk_at dksX1_falls_5 9 rfl rfl)
theorem dX1_falls_125 : decode cX1_falls 125 = .ok (.iconst 3, 1) := dk_6 (dk_at dksX1_falls_5 11 rfl rfl)
theorem dX1_falls_126 : decode cX1_falls 126 = .ok (.if_icmp .ge 43, 3) := dk_162 0 43 (dk_at dksX1_falls_5 12 rfl rfl)
theorem dX1_falls_129 : decode cX1_falls 129 = .ok (.iload 4, 2) := dk_21 4 (dk_at dksX1_falls_5 15 rfl rfl)
theorem dX1_falls_131 : decode cX1_falls 131 = .ok (.iload 4, 2) := dk_21 4 (dk_at dksX1_falls_5 17 rfl rfl)
theorem dX1_falls_133 : decode cX1_falls 133 = .ok (.iload 8, 2) := dk_21 8 (dk_at dksX1_falls_5 19 rfl rfl)
theorem dX1_falls_135 : decode cX1_falls 135 = .ok (.invokestatic 259, 3) := dk_184 1 3 (dk_at dksX1_falls_5 21 rfl rfl)
theorem dX1_falls_138 : decode cX1_falls 138 = .ok (.ifCond .eq 21, 3) := dk_153 0 21 (dk_at dksX1_falls_6 0 rfl rfl)
theorem dX1_falls_141 : decode cX1_falls 141 = .ok (.aload_n 0, 1) := dk_42 (dk_at dksX1_falls_6 3 rfl rfl)
theorem dX1_falls_142 : decode cX1_falls 142 = .ok (.iload 8, 2) := dk_21 8 (dk_at dksX1_falls_6 4 rfl rfl)
theorem dX1_falls_144 : decode cX1_falls 144 = .ok (.invokevirtual 334, 3) := dk_182 1 78 (dk_at dksX1_falls_6 6 rfl rfl)
theorem dX1_falls_147 : decode cX1_falls 147 = .ok (.ifCond .ge 12, 3) := dk_156 0 12 (dk_at dksX1_falls_6 9 rfl rfl)
theorem dX1_falls_150 : decode cX1_falls 150 = .ok (.iconst 1, 1) := dk_4 (dk_at dksX1_falls_6 12 rfl rfl)
theorem dX1_falls_151 : decode cX1_falls 151 = .ok (.iload 8, 2) := dk_21 8 (dk_at dksX1_falls_6 13 rfl rfl)
theorem dX1_falls_153 : decode cX1_falls 153 = .ok (.ishl, 1) := dk_120 (dk_at dksX1_falls_6 15 rfl rfl)
theorem dX1_falls_154 : decode cX1_falls 154 = .ok (.iconst (-1), 1) := dk_2 (dk_at dksX1_falls_6 16 rfl rfl)
theorem dX1_falls_155 : decode cX1_falls 155 = .ok (.ixor, 1) := dk_130 (dk_at dksX1_falls_6 17 rfl rfl)
theorem dX1_falls_156 : decode cX1_falls 156 = .ok (.goto 4, 3) := dk_167 0 4 (dk_at dksX1_falls_6 18 rfl rfl)
theorem dX1_falls_159 : decode cX1_falls 159 = .ok (.iconst (-1), 1) := dk_2 (dk_at dksX1_falls_6 21 rfl rfl)
theorem dX1_falls_160 : decode cX1_falls 160 = .ok (.iand, 1) := dk_126 (dk_at dksX1_falls_6 22 rfl rfl)
theorem dX1_falls_161 : decode cX1_falls 161 = .ok (.istore 4, 2) := dk_54 4 (dk_at dksX1_falls_7 0 rfl rfl)
theorem dX1_falls_163 : decode cX1_falls 163 = .ok (.iinc 8 1, 3) := dk_132 8 1 (dk_at dksX1_falls_7 2 rfl rfl)
theorem dX1_falls_166 : decode cX1_falls 166 = .ok (.goto (-43), 3) := dk_167 255 213 (dk_at dksX1_falls_7 5 rfl rfl)
theorem dX1_falls_169 : decode cX1_falls 169 = .ok (.aload_n 0, 1) := dk_42 (dk_at dksX1_falls_7 8 rfl rfl)
theorem dX1_falls_170 : decode cX1_falls 170 = .ok (.getfield 28, 3) := dk_180 0 28 (dk_at dksX1_falls_7 9 rfl rfl)
theorem dX1_falls_173 : decode cX1_falls 173 = .ok (.iconst 0, 1) := dk_3 (dk_at dksX1_falls_7 12 rfl rfl)
theorem dX1_falls_174 : decode cX1_falls 174 = .ok (.iload 5, 2) := dk_21 5 (dk_at dksX1_falls_7 13 rfl rfl)
theorem dX1_falls_176 : decode cX1_falls 176 = .ok (.iastore, 1) := dk_79 (dk_at dksX1_falls_7 15 rfl rfl)
theorem dX1_falls_177 : decode cX1_falls 177 = .ok (.aload_n 0, 1) := dk_42 (dk_at dksX1_falls_7 16 rfl rfl)
theorem dX1_falls_178 : decode cX1_falls 178 = .ok (.getfield 28, 3) := dk_180 0 28 (dk_at dksX1_falls_7 17 rfl rfl)
theorem dX1_falls_181 : decode cX1_falls 181 = .ok (.iconst 1, 1) := dk_4 (dk_at dksX1_falls_7 20 rfl rfl)
theorem dX1_falls_182 : decode cX1_falls 182 = .ok (.iload 6, 2) := dk_21 6 (dk_at dksX1_falls_7 21 rfl rfl)
theorem dX1_falls_184 : decode cX1_falls 184 = .ok (.iastore, 1) := dk_79 (dk_at dksX1_falls_7 23 rfl rfl)
theorem dX1_falls_185 : decode cX1_falls 185 = .ok (.aload_n 0, 1) := dk_42 (dk_at dksX1_falls_8 0 rfl rfl)
theorem dX1_falls_186 : decode cX1_falls 186 = .ok (.getfield 28, 3) := dk_180 0 28 (dk_at dksX1_falls_8 1 rfl rfl)
theorem dX1_falls_189 : decode cX1_falls 189 = .ok (.iconst 2, 1) := dk_5 (dk_at dksX1_falls_8 4 rfl rfl)
theorem dX1_falls_190 : decode cX1_falls 190 = .ok (.iload 7, 2) := dk_21 7 (dk_at dksX1_falls_8 5 rfl rfl)
theorem dX1_falls_192 : decode cX1_falls 192 = .ok (.iastore, 1) := dk_79 (dk_at dksX1_falls_8 7 rfl rfl)
theorem dX1_falls_193 : decode cX1_falls 193 = .ok (.iload 4, 2) := dk_21 4 (dk_at dksX1_falls_8 8 rfl rfl)
theorem dX1_falls_195 : decode cX1_falls 195 = .ok (.ireturn, 1) := dk_172 (dk_at dksX1_falls_8 10 rfl rfl)
abbrev cX1_longest : ByteArray := prog_1_method_65_code
def yX1_longest : MethodName := ⟨RX1, "longest", "()I"⟩
def dkwX1_longest_1 : List UInt8 := [182, 1, 118, 42, 180, 0, 67, 42, 182, 1, 50, 42, 182, 1, 53, 184, 1, 108, 46, 172]
abbrev dktX1_longest_1 : List UInt8 := dkwX1_longest_1 ++ []
def dkwX1_longest_0 : List UInt8 := [42, 182, 1, 111, 42, 2, 3, 182, 1, 114, 42, 3, 181, 1, 81, 42, 42, 182, 1, 50, 42, 182, 1, 53]
abbrev dktX1_longest_0 : List UInt8 := dkwX1_longest_0 ++ dktX1_longest_1
theorem dksX1_longest_0 : cX1_longest.data.toList.drop 0 = dktX1_longest_0 := by decide +kernel
theorem dksX1_longest_1 : cX1_longest.data.toList.drop 24 = dktX1_longest_1 := dk_seg dksX1_longest_0 24 rfl rfl
theorem dX1_longest_0 : decode cX1_longest 0 = .ok (.aload_n 0, 1) := dk_42 (dk_at dksX1_longest_0 0 rfl rfl)
theorem dX1_longest_1 : decode cX1_longest 1 = .ok (.invokevirtual 367, 3) := dk_182 1 111 (dk_at dksX1_longest_0 1 rfl rfl)
theorem dX1_longest_4 : decode cX1_longest 4 = .ok (.aload_n 0, 1) := dk_42 (dk_at dksX1_longest_0 4 rfl rfl)
theorem dX1_longest_5 : decode cX1_longest 5 = .ok (.iconst (-1), 1) := dk_2 (dk_at dksX1_longest_0 5 rfl rfl)
theorem dX1_longest_6 : decode cX1_longest 6 = .ok (.iconst 0, 1) := dk_3 (dk_at dksX1_longest_0 6 rfl rfl)
theorem dX1_longest_7 : decode cX1_longest 7 = .ok (.invokevirtual 370, 3) := dk_182 1 114 (dk_at dksX1_longest_0 7 rfl rfl)
theorem dX1_longest_10 : decode cX1_longest 10 = .ok (.aload_n 0, 1) := dk_42 (dk_at dksX1_longest_0 10 rfl rfl)
theorem dX1_longest_11 : decode cX1_longest 11 = .ok (.iconst 0, 1) := dk_3 (dk_at dksX1_longest_0 11 rfl rfl)
theorem dX1_longest_12 : decode cX1_longest 12 = .ok (.putfield 337, 3) := dk_181 1 81 (dk_at dksX1_longest_0 12 rfl rfl)
theorem dX1_longest_15 : decode cX1_longest 15 = .ok (.aload_n 0, 1) := dk_42 (dk_at dksX1_longest_0 15 rfl rfl)
theorem dX1_longest_16 : decode cX1_longest 16 = .ok (.aload_n 0, 1) := dk_42 (dk_at dksX1_longest_0 16 rfl rfl)
theorem dX1_longest_17 : decode cX1_longest 17 = .ok (.invokevirtual 306, 3) := dk_182 1 50 (dk_at dksX1_longest_0 17 rfl rfl)
theorem dX1_longest_20 : decode cX1_longest 20 = .ok (.aload_n 0, 1) := dk_42 (dk_at dksX1_longest_0 20 rfl rfl)
theorem dX1_longest_21 : decode cX1_longest 21 = .ok (.invokevirtual 309, 3) := dk_182 1 53 (dk_at dksX1_longest_0 21 rfl rfl)
theorem dX1_longest_24 : decode cX1_longest 24 = .ok (.invokevirtual 374, 3) := dk_182 1 118 (dk_at dksX1_longest_1 0 rfl rfl)
theorem dX1_longest_27 : decode cX1_longest 27 = .ok (.aload_n 0, 1) := dk_42 (dk_at dksX1_longest_1 3 rfl rfl)
theorem dX1_longest_28 : decode cX1_longest 28 = .ok (.getfield 67, 3) := dk_180 0 67 (dk_at dksX1_longest_1 4 rfl rfl)
theorem dX1_longest_31 : decode cX1_longest 31 = .ok (.aload_n 0, 1) := dk_42 (dk_at dksX1_longest_1 7 rfl rfl)
theorem dX1_longest_32 : decode cX1_longest 32 = .ok (.invokevirtual 306, 3) := dk_182 1 50 (dk_at dksX1_longest_1 8 rfl rfl)
theorem dX1_longest_35 : decode cX1_longest 35 = .ok (.aload_n 0, 1) := dk_42 (dk_at dksX1_longest_1 11 rfl rfl)
theorem dX1_longest_36 : decode cX1_longest 36 = .ok (.invokevirtual 309, 3) := dk_182 1 53 (dk_at dksX1_longest_1 12 rfl rfl)
theorem dX1_longest_39 : decode cX1_longest 39 = .ok (.invokestatic 364, 3) := dk_184 1 108 (dk_at dksX1_longest_1 15 rfl rfl)
theorem dX1_longest_42 : decode cX1_longest 42 = .ok (.iaload, 1) := dk_46 (dk_at dksX1_longest_1 18 rfl rfl)
theorem dX1_longest_43 : decode cX1_longest 43 = .ok (.ireturn, 1) := dk_172 (dk_at dksX1_longest_1 19 rfl rfl)
abbrev cX1_laysOut : ByteArray := prog_1_method_59_code
def yX1_laysOut : MethodName := ⟨RX1, "laysOut", "()V"⟩
def dkwX1_laysOut_2 : List UInt8 := [132, 1, 1, 167, 255, 210, 42, 4, 42, 180, 0, 102, 120, 4, 100, 181, 1, 98, 177]
abbrev dktX1_laysOut_2 : List UInt8 := dkwX1_laysOut_2 ++ []
def dkwX1_laysOut_1 : List UInt8 := [180, 0, 28, 4, 46, 163, 0, 15, 42, 27, 182, 1, 44, 153, 0, 7, 4, 167, 0, 4, 3, 79]
abbrev dktX1_laysOut_1 : List UInt8 := dkwX1_laysOut_1 ++ dktX1_laysOut_2
def dkwX1_laysOut_0 : List UInt8 := [3, 60, 27, 4, 42, 180, 0, 102, 120, 162, 0, 42, 42, 180, 0, 61, 27, 42, 27, 182, 1, 41, 42]
abbrev dktX1_laysOut_0 : List UInt8 := dkwX1_laysOut_0 ++ dktX1_laysOut_1
theorem dksX1_laysOut_0 : cX1_laysOut.data.toList.drop 0 = dktX1_laysOut_0 := by decide +kernel
theorem dksX1_laysOut_1 : cX1_laysOut.data.toList.drop 23 = dktX1_laysOut_1 := dk_seg dksX1_laysOut_0 23 rfl rfl
theorem dksX1_laysOut_2 : cX1_laysOut.data.toList.drop 45 = dktX1_laysOut_2 := dk_seg dksX1_laysOut_1 22 rfl rfl
theorem dX1_laysOut_0 : decode cX1_laysOut 0 = .ok (.iconst 0, 1) := dk_3 (dk_at dksX1_laysOut_0 0 rfl rfl)
theorem dX1_laysOut_1 : decode cX1_laysOut 1 = .ok (.istore_n 1, 1) := dk_60 (dk_at dksX1_laysOut_0 1 rfl rfl)
theorem dX1_laysOut_2 : decode cX1_laysOut 2 = .ok (.iload_n 1, 1) := dk_27 (dk_at dksX1_laysOut_0 2 rfl rfl)
theorem dX1_laysOut_3 : decode cX1_laysOut 3 = .ok (.iconst 1, 1) := dk_4 (dk_at dksX1_laysOut_0 3 rfl rfl)
theorem dX1_laysOut_4 : decode cX1_laysOut 4 = .ok (.aload_n 0, 1) := dk_42 (dk_at dksX1_laysOut_0 4 rfl rfl)
theorem dX1_laysOut_5 : decode cX1_laysOut 5 = .ok (.getfield 102, 3) := dk_180 0 102 (dk_at dksX1_laysOut_0 5 rfl rfl)
theorem dX1_laysOut_8 : decode cX1_laysOut 8 = .ok (.ishl, 1) := dk_120 (dk_at dksX1_laysOut_0 8 rfl rfl)
theorem dX1_laysOut_9 : decode cX1_laysOut 9 = .ok (.if_icmp .ge 42, 3) := dk_162 0 42 (dk_at dksX1_laysOut_0 9 rfl rfl)
theorem dX1_laysOut_12 : decode cX1_laysOut 12 = .ok (.aload_n 0, 1) := dk_42 (dk_at dksX1_laysOut_0 12 rfl rfl)
theorem dX1_laysOut_13 : decode cX1_laysOut 13 = .ok (.getfield 61, 3) := dk_180 0 61 (dk_at dksX1_laysOut_0 13 rfl rfl)
theorem dX1_laysOut_16 : decode cX1_laysOut 16 = .ok (.iload_n 1, 1) := dk_27 (dk_at dksX1_laysOut_0 16 rfl rfl)
theorem dX1_laysOut_17 : decode cX1_laysOut 17 = .ok (.aload_n 0, 1) := dk_42 (dk_at dksX1_laysOut_0 17 rfl rfl)
theorem dX1_laysOut_18 : decode cX1_laysOut 18 = .ok (.iload_n 1, 1) := dk_27 (dk_at dksX1_laysOut_0 18 rfl rfl)
theorem dX1_laysOut_19 : decode cX1_laysOut 19 = .ok (.invokevirtual 297, 3) := dk_182 1 41 (dk_at dksX1_laysOut_0 19 rfl rfl)
theorem dX1_laysOut_22 : decode cX1_laysOut 22 = .ok (.aload_n 0, 1) := dk_42 (dk_at dksX1_laysOut_0 22 rfl rfl)
theorem dX1_laysOut_23 : decode cX1_laysOut 23 = .ok (.getfield 28, 3) := dk_180 0 28 (dk_at dksX1_laysOut_1 0 rfl rfl)
theorem dX1_laysOut_26 : decode cX1_laysOut 26 = .ok (.iconst 1, 1) := dk_4 (dk_at dksX1_laysOut_1 3 rfl rfl)
theorem dX1_laysOut_27 : decode cX1_laysOut 27 = .ok (.iaload, 1) := dk_46 (dk_at dksX1_laysOut_1 4 rfl rfl)
theorem dX1_laysOut_28 : decode cX1_laysOut 28 = .ok (.if_icmp .gt 15, 3) := dk_163 0 15 (dk_at dksX1_laysOut_1 5 rfl rfl)
theorem dX1_laysOut_31 : decode cX1_laysOut 31 = .ok (.aload_n 0, 1) := dk_42 (dk_at dksX1_laysOut_1 8 rfl rfl)
theorem dX1_laysOut_32 : decode cX1_laysOut 32 = .ok (.iload_n 1, 1) := dk_27 (dk_at dksX1_laysOut_1 9 rfl rfl)
theorem dX1_laysOut_33 : decode cX1_laysOut 33 = .ok (.invokevirtual 300, 3) := dk_182 1 44 (dk_at dksX1_laysOut_1 10 rfl rfl)
theorem dX1_laysOut_36 : decode cX1_laysOut 36 = .ok (.ifCond .eq 7, 3) := dk_153 0 7 (dk_at dksX1_laysOut_1 13 rfl rfl)
theorem dX1_laysOut_39 : decode cX1_laysOut 39 = .ok (.iconst 1, 1) := dk_4 (dk_at dksX1_laysOut_1 16 rfl rfl)
theorem dX1_laysOut_40 : decode cX1_laysOut 40 = .ok (.goto 4, 3) := dk_167 0 4 (dk_at dksX1_laysOut_1 17 rfl rfl)
theorem dX1_laysOut_43 : decode cX1_laysOut 43 = .ok (.iconst 0, 1) := dk_3 (dk_at dksX1_laysOut_1 20 rfl rfl)
theorem dX1_laysOut_44 : decode cX1_laysOut 44 = .ok (.iastore, 1) := dk_79 (dk_at dksX1_laysOut_1 21 rfl rfl)
theorem dX1_laysOut_45 : decode cX1_laysOut 45 = .ok (.iinc 1 1, 3) := dk_132 1 1 (dk_at dksX1_laysOut_2 0 rfl rfl)
theorem dX1_laysOut_48 : decode cX1_laysOut 48 = .ok (.goto (-46), 3) := dk_167 255 210 (dk_at dksX1_laysOut_2 3 rfl rfl)
theorem dX1_laysOut_51 : decode cX1_laysOut 51 = .ok (.aload_n 0, 1) := dk_42 (dk_at dksX1_laysOut_2 6 rfl rfl)
theorem dX1_laysOut_52 : decode cX1_laysOut 52 = .ok (.iconst 1, 1) := dk_4 (dk_at dksX1_laysOut_2 7 rfl rfl)
theorem dX1_laysOut_53 : decode cX1_laysOut 53 = .ok (.aload_n 0, 1) := dk_42 (dk_at dksX1_laysOut_2 8 rfl rfl)
theorem dX1_laysOut_54 : decode cX1_laysOut 54 = .ok (.getfield 102, 3) := dk_180 0 102 (dk_at dksX1_laysOut_2 9 rfl rfl)
theorem dX1_laysOut_57 : decode cX1_laysOut 57 = .ok (.ishl, 1) := dk_120 (dk_at dksX1_laysOut_2 12 rfl rfl)
theorem dX1_laysOut_58 : decode cX1_laysOut 58 = .ok (.iconst 1, 1) := dk_4 (dk_at dksX1_laysOut_2 13 rfl rfl)
theorem dX1_laysOut_59 : decode cX1_laysOut 59 = .ok (.isub, 1) := dk_100 (dk_at dksX1_laysOut_2 14 rfl rfl)
theorem dX1_laysOut_60 : decode cX1_laysOut 60 = .ok (.putfield 354, 3) := dk_181 1 98 (dk_at dksX1_laysOut_2 15 rfl rfl)
theorem dX1_laysOut_63 : decode cX1_laysOut 63 = .ok (.return_, 1) := dk_177 (dk_at dksX1_laysOut_2 18 rfl rfl)
abbrev cX1_measures : ByteArray := prog_1_method_63_code
def yX1_measures : MethodName := ⟨RX1, "measures", "(II)V"⟩
def dkwX1_measures_7 : List UInt8 := [132, 3, 255, 167, 255, 103, 177]
abbrev dktX1_measures_7 : List UInt8 := dkwX1_measures_7 ++ []
def dkwX1_measures_6 : List UInt8 := [167, 255, 207, 42, 180, 0, 67, 29, 21, 4, 184, 1, 108, 21, 6, 79, 132, 4, 1, 167, 255, 116]
abbrev dktX1_measures_6 : List UInt8 := dkwX1_measures_6 ++ dktX1_measures_7
def dkwX1_measures_5 : List UInt8 := [180, 0, 67, 29, 4, 21, 7, 120, 128, 21, 7, 184, 1, 108, 46, 96, 184, 0, 246, 54, 6, 132, 7, 1]
abbrev dktX1_measures_5 : List UInt8 := dkwX1_measures_5 ++ dktX1_measures_6
def dkwX1_measures_4 : List UInt8 := [180, 0, 102, 162, 0, 46, 42, 29, 21, 4, 21, 7, 182, 1, 105, 153, 0, 28, 21, 6, 4, 42]
abbrev dktX1_measures_4 : List UInt8 := dkwX1_measures_4 ++ dktX1_measures_5
def dkwX1_measures_3 : List UInt8 := [3, 54, 5, 21, 5, 153, 0, 7, 3, 167, 0, 6, 19, 1, 104, 54, 6, 3, 54, 7, 21, 7, 42]
abbrev dktX1_measures_3 : List UInt8 := dkwX1_measures_3 ++ dktX1_measures_4
def dkwX1_measures_2 : List UInt8 := [155, 0, 24, 27, 21, 4, 184, 1, 3, 153, 0, 15, 29, 184, 0, 237, 28, 161, 0, 7, 4, 167, 0, 4]
abbrev dktX1_measures_2 : List UInt8 := dkwX1_measures_2 ++ dktX1_measures_3
def dkwX1_measures_1 : List UInt8 := [162, 0, 137, 42, 29, 21, 4, 182, 1, 101, 154, 0, 6, 167, 0, 118, 27, 155, 0, 25, 21, 4]
abbrev dktX1_measures_1 : List UInt8 := dkwX1_measures_1 ++ dktX1_measures_2
def dkwX1_measures_0 : List UInt8 := [4, 42, 180, 0, 102, 120, 4, 100, 62, 29, 155, 0, 155, 2, 54, 4, 21, 4, 42, 180, 0, 102]
abbrev dktX1_measures_0 : List UInt8 := dkwX1_measures_0 ++ dktX1_measures_1
theorem dksX1_measures_0 : cX1_measures.data.toList.drop 0 = dktX1_measures_0 := by decide +kernel
theorem dksX1_measures_1 : cX1_measures.data.toList.drop 22 = dktX1_measures_1 := dk_seg dksX1_measures_0 22 rfl rfl
theorem dksX1_measures_2 : cX1_measures.data.toList.drop 44 = dktX1_measures_2 := dk_seg dksX1_measures_1 22 rfl rfl
theorem dksX1_measures_3 : cX1_measures.data.toList.drop 68 = dktX1_measures_3 := dk_seg dksX1_measures_2 24 rfl rfl
theorem dksX1_measures_4 : cX1_measures.data.toList.drop 91 = dktX1_measures_4 := dk_seg dksX1_measures_3 23 rfl rfl
theorem dksX1_measures_5 : cX1_measures.data.toList.drop 113 = dktX1_measures_5 := dk_seg dksX1_measures_4 22 rfl rfl
theorem dksX1_measures_6 : cX1_measures.data.toList.drop 137 = dktX1_measures_6 := dk_seg dksX1_measures_5 24 rfl rfl
theorem dksX1_measures_7 : cX1_measures.data.toList.drop 159 = dktX1_measures_7 := dk_seg dksX1_measures_6 22 rfl rfl
theorem dX1_measures_0 : decode cX1_measures 0 = .ok (.iconst 1, 1) := dk_4 (dk_at dksX1_measures_0 0 rfl rfl)
theorem dX1_measures_1 : decode cX1_measures 1 = .ok (.aload_n 0, 1) := dk_42 (dk_at dksX1_measures_0 1 rfl rfl)
theorem dX1_measures_2 : decode cX1_measures 2 = .ok (.getfield 102, 3) := dk_180 0 102 (dk_at dksX1_measures_0 2 rfl rfl)
theorem dX1_measures_5 : decode cX1_measures 5 = .ok (.ishl, 1) := dk_120 (dk_at dksX1_measures_0 5 rfl rfl)
theorem dX1_measures_6 : decode cX1_measures 6 = .ok (.iconst 1, 1) := dk_4 (dk_at dksX1_measures_0 6 rfl rfl)
theorem dX1_measures_7 : decode cX1_measures 7 = .ok (.isub, 1) := dk_100 (dk_at dksX1_measures_0 7 rfl rfl)
theorem dX1_measures_8 : decode cX1_measures 8 = .ok (.istore_n 3, 1) := dk_62 (dk_at dksX1_measures_0 8 rfl rfl)
theorem dX1_measures_9 : decode cX1_measures 9 = .ok (.iload_n 3, 1) := dk_29 (dk_at dksX1_measures_0 9 rfl rfl)
theorem dX1_measures_10 : decode cX1_measures 10 = .ok (.ifCond .lt 155, 3) := dk_155 0 155 (dk_at dksX1_measures_0 10 rfl rfl)
theorem dX1_measures_13 : decode cX1_measures 13 = .ok (.iconst (-1), 1) := dk_2 (dk_at dksX1_measures_0 13 rfl rfl)
theorem dX1_measures_14 : decode cX1_measures 14 = .ok (.istore 4, 2) := dk_54 4 (dk_at dksX1_measures_0 14 rfl rfl)
theorem dX1_measures_16 : decode cX1_measures 16 = .ok (.iload 4, 2) := dk_21 4 (dk_at dksX1_measures_0 16 rfl rfl)
theorem dX1_measures_18 : decode cX1_measures 18 = .ok (.aload_n 0, 1) := dk_42 (dk_at dksX1_measures_0 18 rfl rfl)
theorem dX1_measures_19 : decode cX1_measures 19 = .ok (.getfield 102, 3) := dk_180 0 102 (dk_at dksX1_measures_0 19 rfl rfl)
theorem dX1_measures_22 : decode cX1_measures 22 = .ok (.if_icmp .ge 137, 3) := dk_162 0 137 (dk_at dksX1_measures_1 0 rfl rfl)
theorem dX1_measures_25 : decode cX1_measures 25 = .ok (.aload_n 0, 1) := dk_42 (dk_at dksX1_measures_1 3 rfl rfl)
theorem dX1_measures_26 : decode cX1_measures 26 = .ok (.iload_n 3, 1) := dk_29 (dk_at dksX1_measures_1 4 rfl rfl)
theorem dX1_measures_27 : decode cX1_measures 27 = .ok (.iload 4, 2) := dk_21 4 (dk_at dksX1_measures_1 5 rfl rfl)
theorem dX1_measures_29 : decode cX1_measures 29 = .ok (.invokevirtual 357, 3) := dk_182 1 101 (dk_at dksX1_measures_1 7 rfl rfl)
theorem dX1_measures_32 : decode cX1_measures 32 = .ok (.ifCond .ne 6, 3) := dk_154 0 6 (dk_at dksX1_measures_1 10 rfl rfl)
theorem dX1_measures_35 : decode cX1_measures 35 = .ok (.goto 118, 3) := dk_167 0 118 (dk_at dksX1_measures_1 13 rfl rfl)
theorem dX1_measures_38 : decode cX1_measures 38 = .ok (.iload_n 1, 1) := dk_27 (dk_at dksX1_measures_1 16 rfl rfl)
theorem dX1_measures_39 : decode cX1_measures 39 = .ok (.ifCond .lt 25, 3) := dk_155 0 25 (dk_at dksX1_measures_1 17 rfl rfl)
theorem dX1_measures_42 : decode cX1_measures 42 = .ok (.iload 4, 2) := dk_21 4 (dk_at dksX1_measures_1 20 rfl rfl)
theorem dX1_measures_44 : decode cX1_measures 44 = .ok (.ifCond .lt 24, 3) := dk_155 0 24 (dk_at dksX1_measures_2 0 rfl rfl)
theorem dX1_measures_47 : decode cX1_measures 47 = .ok (.iload_n 1, 1) := dk_27 (dk_at dksX1_measures_2 3 rfl rfl)
theorem dX1_measures_48 : decode cX1_measures 48 = .ok (.iload 4, 2) := dk_21 4 (dk_at dksX1_measures_2 4 rfl rfl)
theorem dX1_measures_50 : decode cX1_measures 50 = .ok (.invokestatic 259, 3) := dk_184 1 3 (dk_at dksX1_measures_2 6 rfl rfl)
theorem dX1_measures_53 : decode cX1_measures 53 = .ok (.ifCond .eq 15, 3) := dk_153 0 15 (dk_at dksX1_measures_2 9 rfl rfl)
theorem dX1_measures_56 : decode cX1_measures 56 = .ok (.iload_n 3, 1) := dk_29 (dk_at dksX1_measures_2 12 rfl rfl)
theorem dX1_measures_57 : decode cX1_measures 57 = .ok (.invokestatic 237, 3) := dk_184 0 237 (dk_at dksX1_measures_2 13 rfl rfl)
theorem dX1_measures_60 : decode cX1_measures 60 = .ok (.iload_n 2, 1) := dk_28 (dk_at dksX1_measures_2 16 rfl rfl)
theorem dX1_measures_61 : decode cX1_measures 61 = .ok (.if_icmp .lt 7, 3) := dk_161 0 7 (dk_at dksX1_measures_2 17 rfl rfl)
theorem dX1_measures_64 : decode cX1_measures 64 = .ok (.iconst 1, 1) := dk_4 (dk_at dksX1_measures_2 20 rfl rfl)
theorem dX1_measures_65 : decode cX1_measures 65 = .ok (.goto 4, 3) := dk_167 0 4 (dk_at dksX1_measures_2 21 rfl rfl)
theorem dX1_measures_68 : decode cX1_measures 68 = .ok (.iconst 0, 1) := dk_3 (dk_at dksX1_measures_3 0 rfl rfl)
theorem dX1_measures_69 : decode cX1_measures 69 = .ok (.istore 5, 2) := dk_54 5 (dk_at dksX1_measures_3 1 rfl rfl)
theorem dX1_measures_71 : decode cX1_measures 71 = .ok (.iload 5, 2) := dk_21 5 (dk_at dksX1_measures_3 3 rfl rfl)
theorem dX1_measures_73 : decode cX1_measures 73 = .ok (.ifCond .eq 7, 3) := dk_153 0 7 (dk_at dksX1_measures_3 5 rfl rfl)
theorem dX1_measures_76 : decode cX1_measures 76 = .ok (.iconst 0, 1) := dk_3 (dk_at dksX1_measures_3 8 rfl rfl)
theorem dX1_measures_77 : decode cX1_measures 77 = .ok (.goto 6, 3) := dk_167 0 6 (dk_at dksX1_measures_3 9 rfl rfl)
theorem dX1_measures_80 : decode cX1_measures 80 = .ok (.ldc_w 360, 3) := dk_19 1 104 (dk_at dksX1_measures_3 12 rfl rfl)
theorem dX1_measures_83 : decode cX1_measures 83 = .ok (.istore 6, 2) := dk_54 6 (dk_at dksX1_measures_3 15 rfl rfl)
theorem dX1_measures_85 : decode cX1_measures 85 = .ok (.iconst 0, 1) := dk_3 (dk_at dksX1_measures_3 17 rfl rfl)
theorem dX1_measures_86 : decode cX1_measures 86 = .ok (.istore 7, 2) := dk_54 7 (dk_at dksX1_measures_3 18 rfl rfl)
theorem dX1_measures_88 : decode cX1_measures 88 = .ok (.iload 7, 2) := dk_21 7 (dk_at dksX1_measures_3 20 rfl rfl)
theorem dX1_measures_90 : decode cX1_measures 90 = .ok (.aload_n 0, 1) := dk_42 (dk_at dksX1_measures_3 22 rfl rfl)
theorem dX1_measures_91 : decode cX1_measures 91 = .ok (.getfield 102, 3) := dk_180 0 102 (dk_at dksX1_measures_4 0 rfl rfl)
theorem dX1_measures_94 : decode cX1_measures 94 = .ok (.if_icmp .ge 46, 3) := dk_162 0 46 (dk_at dksX1_measures_4 3 rfl rfl)
theorem dX1_measures_97 : decode cX1_measures 97 = .ok (.aload_n 0, 1) := dk_42 (dk_at dksX1_measures_4 6 rfl rfl)
theorem dX1_measures_98 : decode cX1_measures 98 = .ok (.iload_n 3, 1) := dk_29 (dk_at dksX1_measures_4 7 rfl rfl)
theorem dX1_measures_99 : decode cX1_measures 99 = .ok (.iload 4, 2) := dk_21 4 (dk_at dksX1_measures_4 8 rfl rfl)
theorem dX1_measures_101 : decode cX1_measures 101 = .ok (.iload 7, 2) := dk_21 7 (dk_at dksX1_measures_4 10 rfl rfl)
theorem dX1_measures_103 : decode cX1_measures 103 = .ok (.invokevirtual 361, 3) := dk_182 1 105 (dk_at dksX1_measures_4 12 rfl rfl)
theorem dX1_measures_106 : decode cX1_measures 106 = .ok (.ifCond .eq 28, 3) := dk_153 0 28 (dk_at dksX1_measures_4 15 rfl rfl)
theorem dX1_measures_109 : decode cX1_measures 109 = .ok (.iload 6, 2) := dk_21 6 (dk_at dksX1_measures_4 18 rfl rfl)
theorem dX1_measures_111 : decode cX1_measures 111 = .ok (.iconst 1, 1) := dk_4 (dk_at dksX1_measures_4 20 rfl rfl)
theorem dX1_measures_112 : decode cX1_measures 112 = .ok (.aload_n 0, 1) := dk_42 (dk_at dksX1_measures_4 21 rfl rfl)
theorem dX1_measures_113 : decode cX1_measures 113 = .ok (.getfield 67, 3) := dk_180 0 67 (dk_at dksX1_measures_5 0 rfl rfl)
theorem dX1_measures_116 : decode cX1_measures 116 = .ok (.iload_n 3, 1) := dk_29 (dk_at dksX1_measures_5 3 rfl rfl)
theorem dX1_measures_117 : decode cX1_measures 117 = .ok (.iconst 1, 1) := dk_4 (dk_at dksX1_measures_5 4 rfl rfl)
theorem dX1_measures_118 : decode cX1_measures 118 = .ok (.iload 7, 2) := dk_21 7 (dk_at dksX1_measures_5 5 rfl rfl)
theorem dX1_measures_120 : decode cX1_measures 120 = .ok (.ishl, 1) := dk_120 (dk_at dksX1_measures_5 7 rfl rfl)
theorem dX1_measures_121 : decode cX1_measures 121 = .ok (.ior, 1) := dk_128 (dk_at dksX1_measures_5 8 rfl rfl)
theorem dX1_measures_122 : decode cX1_measures 122 = .ok (.iload 7, 2) := dk_21 7 (dk_at dksX1_measures_5 9 rfl rfl)
theorem dX1_measures_124 : decode cX1_measures 124 = .ok (.invokestatic 364, 3) := dk_184 1 108 (dk_at dksX1_measures_5 11 rfl rfl)
theorem dX1_measures_127 : decode cX1_measures 127 = .ok (.iaload, 1) := dk_46 (dk_at dksX1_measures_5 14 rfl rfl)
theorem dX1_measures_128 : decode cX1_measures 128 = .ok (.iadd, 1) := dk_96 (dk_at dksX1_measures_5 15 rfl rfl)
theorem dX1_measures_129 : decode cX1_measures 129 = .ok (.invokestatic 246, 3) := dk_184 0 246 (dk_at dksX1_measures_5 16 rfl rfl)
theorem dX1_measures_132 : decode cX1_measures 132 = .ok (.istore 6, 2) := dk_54 6 (dk_at dksX1_measures_5 19 rfl rfl)
theorem dX1_measures_134 : decode cX1_measures 134 = .ok (.iinc 7 1, 3) := dk_132 7 1 (dk_at dksX1_measures_5 21 rfl rfl)
theorem dX1_measures_137 : decode cX1_measures 137 = .ok (.goto (-49), 3) := dk_167 255 207 (dk_at dksX1_measures_6 0 rfl rfl)
theorem dX1_measures_140 : decode cX1_measures 140 = .ok (.aload_n 0, 1) := dk_42 (dk_at dksX1_measures_6 3 rfl rfl)
theorem dX1_measures_141 : decode cX1_measures 141 = .ok (.getfield 67, 3) := dk_180 0 67 (dk_at dksX1_measures_6 4 rfl rfl)
theorem dX1_measures_144 : decode cX1_measures 144 = .ok (.iload_n 3, 1) := dk_29 (dk_at dksX1_measures_6 7 rfl rfl)
theorem dX1_measures_145 : decode cX1_measures 145 = .ok (.iload 4, 2) := dk_21 4 (dk_at dksX1_measures_6 8 rfl rfl)
theorem dX1_measures_147 : decode cX1_measures 147 = .ok (.invokestatic 364, 3) := dk_184 1 108 (dk_at dksX1_measures_6 10 rfl rfl)
theorem dX1_measures_150 : decode cX1_measures 150 = .ok (.iload 6, 2) := dk_21 6 (dk_at dksX1_measures_6 13 rfl rfl)
theorem dX1_measures_152 : decode cX1_measures 152 = .ok (.iastore, 1) := dk_79 (dk_at dksX1_measures_6 15 rfl rfl)
theorem dX1_measures_153 : decode cX1_measures 153 = .ok (.iinc 4 1, 3) := dk_132 4 1 (dk_at dksX1_measures_6 16 rfl rfl)
theorem dX1_measures_156 : decode cX1_measures 156 = .ok (.goto (-140), 3) := dk_167 255 116 (dk_at dksX1_measures_6 19 rfl rfl)
theorem dX1_measures_159 : decode cX1_measures 159 = .ok (.iinc 3 (-1), 3) := dk_132 3 255 (dk_at dksX1_measures_7 0 rfl rfl)
theorem dX1_measures_162 : decode cX1_measures 162 = .ok (.goto (-153), 3) := dk_167 255 103 (dk_at dksX1_measures_7 3 rfl rfl)
theorem dX1_measures_165 : decode cX1_measures 165 = .ok (.return_, 1) := dk_177 (dk_at dksX1_measures_7 6 rfl rfl)
abbrev cX1_isLastOf : ByteArray := prog_1_method_62_code
def yX1_isLastOf : MethodName := ⟨RX1, "isLastOf", "(II)Z"⟩
def dkwX1_isLastOf_0 : List UInt8 := [28, 156, 0, 15, 27, 154, 0, 7, 4, 167, 0, 12, 3, 167, 0, 8, 27, 28, 184, 1, 3, 172]
abbrev dktX1_isLastOf_0 : List UInt8 := dkwX1_isLastOf_0 ++ []
theorem dksX1_isLastOf_0 : cX1_isLastOf.data.toList.drop 0 = dktX1_isLastOf_0 := by decide +kernel
theorem dX1_isLastOf_0 : decode cX1_isLastOf 0 = .ok (.iload_n 2, 1) := dk_28 (dk_at dksX1_isLastOf_0 0 rfl rfl)
theorem dX1_isLastOf_1 : decode cX1_isLastOf 1 = .ok (.ifCond .ge 15, 3) := dk_156 0 15 (dk_at dksX1_isLastOf_0 1 rfl rfl)
theorem dX1_isLastOf_4 : decode cX1_isLastOf 4 = .ok (.iload_n 1, 1) := dk_27 (dk_at dksX1_isLastOf_0 4 rfl rfl)
theorem dX1_isLastOf_5 : decode cX1_isLastOf 5 = .ok (.ifCond .ne 7, 3) := dk_154 0 7 (dk_at dksX1_isLastOf_0 5 rfl rfl)
theorem dX1_isLastOf_8 : decode cX1_isLastOf 8 = .ok (.iconst 1, 1) := dk_4 (dk_at dksX1_isLastOf_0 8 rfl rfl)
theorem dX1_isLastOf_9 : decode cX1_isLastOf 9 = .ok (.goto 12, 3) := dk_167 0 12 (dk_at dksX1_isLastOf_0 9 rfl rfl)
theorem dX1_isLastOf_12 : decode cX1_isLastOf 12 = .ok (.iconst 0, 1) := dk_3 (dk_at dksX1_isLastOf_0 12 rfl rfl)
theorem dX1_isLastOf_13 : decode cX1_isLastOf 13 = .ok (.goto 8, 3) := dk_167 0 8 (dk_at dksX1_isLastOf_0 13 rfl rfl)
theorem dX1_isLastOf_16 : decode cX1_isLastOf 16 = .ok (.iload_n 1, 1) := dk_27 (dk_at dksX1_isLastOf_0 16 rfl rfl)
theorem dX1_isLastOf_17 : decode cX1_isLastOf 17 = .ok (.iload_n 2, 1) := dk_28 (dk_at dksX1_isLastOf_0 17 rfl rfl)
theorem dX1_isLastOf_18 : decode cX1_isLastOf 18 = .ok (.invokestatic 259, 3) := dk_184 1 3 (dk_at dksX1_isLastOf_0 18 rfl rfl)
theorem dX1_isLastOf_21 : decode cX1_isLastOf 21 = .ok (.ireturn, 1) := dk_172 (dk_at dksX1_isLastOf_0 21 rfl rfl)
abbrev cX1_goesOn : ByteArray := prog_1_method_61_code
def yX1_goesOn : MethodName := ⟨RX1, "goesOn", "(III)Z"⟩
def dkwX1_goesOn_2 : List UInt8 := [27, 28, 29, 182, 1, 37, 153, 0, 7, 4, 167, 0, 4, 3, 172]
abbrev dktX1_goesOn_2 : List UInt8 := dkwX1_goesOn_2 ++ []
def dkwX1_goesOn_1 : List UInt8 := [4, 29, 120, 128, 46, 154, 0, 5, 3, 172, 28, 155, 0, 22, 42, 28, 29, 182, 1, 34, 153, 0, 17, 42]
abbrev dktX1_goesOn_1 : List UInt8 := dkwX1_goesOn_1 ++ dktX1_goesOn_2
def dkwX1_goesOn_0 : List UInt8 := [27, 29, 184, 1, 3, 154, 0, 27, 42, 180, 1, 98, 29, 184, 1, 3, 153, 0, 16, 42, 180, 0, 61, 27]
abbrev dktX1_goesOn_0 : List UInt8 := dkwX1_goesOn_0 ++ dktX1_goesOn_1
theorem dksX1_goesOn_0 : cX1_goesOn.data.toList.drop 0 = dktX1_goesOn_0 := by decide +kernel
theorem dksX1_goesOn_1 : cX1_goesOn.data.toList.drop 24 = dktX1_goesOn_1 := dk_seg dksX1_goesOn_0 24 rfl rfl
theorem dksX1_goesOn_2 : cX1_goesOn.data.toList.drop 48 = dktX1_goesOn_2 := dk_seg dksX1_goesOn_1 24 rfl rfl
theorem dX1_goesOn_0 : decode cX1_goesOn 0 = .ok (.iload_n 1, 1) := dk_27 (dk_at dksX1_goesOn_0 0 rfl rfl)
theorem dX1_goesOn_1 : decode cX1_goesOn 1 = .ok (.iload_n 3, 1) := dk_29 (dk_at dksX1_goesOn_0 1 rfl rfl)
theorem dX1_goesOn_2 : decode cX1_goesOn 2 = .ok (.invokestatic 259, 3) := dk_184 1 3 (dk_at dksX1_goesOn_0 2 rfl rfl)
theorem dX1_goesOn_5 : decode cX1_goesOn 5 = .ok (.ifCond .ne 27, 3) := dk_154 0 27 (dk_at dksX1_goesOn_0 5 rfl rfl)
theorem dX1_goesOn_8 : decode cX1_goesOn 8 = .ok (.aload_n 0, 1) := dk_42 (dk_at dksX1_goesOn_0 8 rfl rfl)
theorem dX1_goesOn_9 : decode cX1_goesOn 9 = .ok (.getfield 354, 3) := dk_180 1 98 (dk_at dksX1_goesOn_0 9 rfl rfl)
theorem dX1_goesOn_12 : decode cX1_goesOn 12 = .ok (.iload_n 3, 1) := dk_29 (dk_at dksX1_goesOn_0 12 rfl rfl)
theorem dX1_goesOn_13 : decode cX1_goesOn 13 = .ok (.invokestatic 259, 3) := dk_184 1 3 (dk_at dksX1_goesOn_0 13 rfl rfl)
theorem dX1_goesOn_16 : decode cX1_goesOn 16 = .ok (.ifCond .eq 16, 3) := dk_153 0 16 (dk_at dksX1_goesOn_0 16 rfl rfl)
theorem dX1_goesOn_19 : decode cX1_goesOn 19 = .ok (.aload_n 0, 1) := dk_42 (dk_at dksX1_goesOn_0 19 rfl rfl)
theorem dX1_goesOn_20 : decode cX1_goesOn 20 = .ok (.getfield 61, 3) := dk_180 0 61 (dk_at dksX1_goesOn_0 20 rfl rfl)
theorem dX1_goesOn_23 : decode cX1_goesOn 23 = .ok (.iload_n 1, 1) := dk_27 (dk_at dksX1_goesOn_0 23 rfl rfl)
theorem dX1_goesOn_24 : decode cX1_goesOn 24 = .ok (.iconst 1, 1) := dk_4 (dk_at dksX1_goesOn_1 0 rfl rfl)
theorem dX1_goesOn_25 : decode cX1_goesOn 25 = .ok (.iload_n 3, 1) := dk_29 (dk_at dksX1_goesOn_1 1 rfl rfl)
theorem dX1_goesOn_26 : decode cX1_goesOn 26 = .ok (.ishl, 1) := dk_120 (dk_at dksX1_goesOn_1 2 rfl rfl)
theorem dX1_goesOn_27 : decode cX1_goesOn 27 = .ok (.ior, 1) := dk_128 (dk_at dksX1_goesOn_1 3 rfl rfl)
theorem dX1_goesOn_28 : decode cX1_goesOn 28 = .ok (.iaload, 1) := dk_46 (dk_at dksX1_goesOn_1 4 rfl rfl)
theorem dX1_goesOn_29 : decode cX1_goesOn 29 = .ok (.ifCond .ne 5, 3) := dk_154 0 5 (dk_at dksX1_goesOn_1 5 rfl rfl)
theorem dX1_goesOn_32 : decode cX1_goesOn 32 = .ok (.iconst 0, 1) := dk_3 (dk_at dksX1_goesOn_1 8 rfl rfl)
theorem dX1_goesOn_33 : decode cX1_goesOn 33 = .ok (.ireturn, 1) := dk_172 (dk_at dksX1_goesOn_1 9 rfl rfl)
theorem dX1_goesOn_34 : decode cX1_goesOn 34 = .ok (.iload_n 2, 1) := dk_28 (dk_at dksX1_goesOn_1 10 rfl rfl)
theorem dX1_goesOn_35 : decode cX1_goesOn 35 = .ok (.ifCond .lt 22, 3) := dk_155 0 22 (dk_at dksX1_goesOn_1 11 rfl rfl)
theorem dX1_goesOn_38 : decode cX1_goesOn 38 = .ok (.aload_n 0, 1) := dk_42 (dk_at dksX1_goesOn_1 14 rfl rfl)
theorem dX1_goesOn_39 : decode cX1_goesOn 39 = .ok (.iload_n 2, 1) := dk_28 (dk_at dksX1_goesOn_1 15 rfl rfl)
theorem dX1_goesOn_40 : decode cX1_goesOn 40 = .ok (.iload_n 3, 1) := dk_29 (dk_at dksX1_goesOn_1 16 rfl rfl)
theorem dX1_goesOn_41 : decode cX1_goesOn 41 = .ok (.invokevirtual 290, 3) := dk_182 1 34 (dk_at dksX1_goesOn_1 17 rfl rfl)
theorem dX1_goesOn_44 : decode cX1_goesOn 44 = .ok (.ifCond .eq 17, 3) := dk_153 0 17 (dk_at dksX1_goesOn_1 20 rfl rfl)
theorem dX1_goesOn_47 : decode cX1_goesOn 47 = .ok (.aload_n 0, 1) := dk_42 (dk_at dksX1_goesOn_1 23 rfl rfl)
theorem dX1_goesOn_48 : decode cX1_goesOn 48 = .ok (.iload_n 1, 1) := dk_27 (dk_at dksX1_goesOn_2 0 rfl rfl)
theorem dX1_goesOn_49 : decode cX1_goesOn 49 = .ok (.iload_n 2, 1) := dk_28 (dk_at dksX1_goesOn_2 1 rfl rfl)
theorem dX1_goesOn_50 : decode cX1_goesOn 50 = .ok (.iload_n 3, 1) := dk_29 (dk_at dksX1_goesOn_2 2 rfl rfl)
theorem dX1_goesOn_51 : decode cX1_goesOn 51 = .ok (.invokevirtual 293, 3) := dk_182 1 37 (dk_at dksX1_goesOn_2 3 rfl rfl)
theorem dX1_goesOn_54 : decode cX1_goesOn 54 = .ok (.ifCond .eq 7, 3) := dk_153 0 7 (dk_at dksX1_goesOn_2 6 rfl rfl)
theorem dX1_goesOn_57 : decode cX1_goesOn 57 = .ok (.iconst 1, 1) := dk_4 (dk_at dksX1_goesOn_2 9 rfl rfl)
theorem dX1_goesOn_58 : decode cX1_goesOn 58 = .ok (.goto 4, 3) := dk_167 0 4 (dk_at dksX1_goesOn_2 10 rfl rfl)
theorem dX1_goesOn_61 : decode cX1_goesOn 61 = .ok (.iconst 0, 1) := dk_3 (dk_at dksX1_goesOn_2 13 rfl rfl)
theorem dX1_goesOn_62 : decode cX1_goesOn 62 = .ok (.ireturn, 1) := dk_172 (dk_at dksX1_goesOn_2 14 rfl rfl)
abbrev cX1_stateOf : ByteArray := prog_1_method_60_code
def yX1_stateOf : MethodName := ⟨RX1, "stateOf", "(II)I"⟩
def dkwX1_stateOf_0 : List UInt8 := [16, 11, 26, 104, 27, 156, 0, 8, 16, 10, 167, 0, 4, 27, 96, 172]
abbrev dktX1_stateOf_0 : List UInt8 := dkwX1_stateOf_0 ++ []
theorem dksX1_stateOf_0 : cX1_stateOf.data.toList.drop 0 = dktX1_stateOf_0 := by decide +kernel
theorem dX1_stateOf_0 : decode cX1_stateOf 0 = .ok (.bipush 11, 2) := dk_16 11 (dk_at dksX1_stateOf_0 0 rfl rfl)
theorem dX1_stateOf_2 : decode cX1_stateOf 2 = .ok (.iload_n 0, 1) := dk_26 (dk_at dksX1_stateOf_0 2 rfl rfl)
theorem dX1_stateOf_3 : decode cX1_stateOf 3 = .ok (.imul, 1) := dk_104 (dk_at dksX1_stateOf_0 3 rfl rfl)
theorem dX1_stateOf_4 : decode cX1_stateOf 4 = .ok (.iload_n 1, 1) := dk_27 (dk_at dksX1_stateOf_0 4 rfl rfl)
theorem dX1_stateOf_5 : decode cX1_stateOf 5 = .ok (.ifCond .ge 8, 3) := dk_156 0 8 (dk_at dksX1_stateOf_0 5 rfl rfl)
theorem dX1_stateOf_8 : decode cX1_stateOf 8 = .ok (.bipush 10, 2) := dk_16 10 (dk_at dksX1_stateOf_0 8 rfl rfl)
theorem dX1_stateOf_10 : decode cX1_stateOf 10 = .ok (.goto 4, 3) := dk_167 0 4 (dk_at dksX1_stateOf_0 10 rfl rfl)
theorem dX1_stateOf_13 : decode cX1_stateOf 13 = .ok (.iload_n 1, 1) := dk_27 (dk_at dksX1_stateOf_0 13 rfl rfl)
theorem dX1_stateOf_14 : decode cX1_stateOf 14 = .ok (.iadd, 1) := dk_96 (dk_at dksX1_stateOf_0 14 rfl rfl)
theorem dX1_stateOf_15 : decode cX1_stateOf 15 = .ok (.ireturn, 1) := dk_172 (dk_at dksX1_stateOf_0 15 rfl rfl)
abbrev cX1_tellsMost : ByteArray := prog_1_method_64_code
def yX1_tellsMost : MethodName := ⟨RX1, "tellsMost", "(II)V"⟩
def dkwX1_tellsMost_4 : List UInt8 := [132, 6, 255, 167, 255, 183, 177]
abbrev dktX1_tellsMost_4 : List UInt8 := dkwX1_tellsMost_4 ++ []
def dkwX1_tellsMost_3 : List UInt8 := [167, 255, 216, 42, 21, 7, 182, 1, 84, 21, 4, 4, 21, 7, 120, 128, 54, 4, 21, 7, 54, 5]
abbrev dktX1_tellsMost_3 : List UInt8 := dkwX1_tellsMost_3 ++ dktX1_tellsMost_4
def dkwX1_tellsMost_2 : List UInt8 := [21, 4, 4, 21, 7, 120, 128, 21, 7, 184, 1, 108, 46, 21, 6, 4, 100, 159, 0, 9, 132, 7, 1]
abbrev dktX1_tellsMost_2 : List UInt8 := dkwX1_tellsMost_2 ++ dktX1_tellsMost_3
def dkwX1_tellsMost_1 : List UInt8 := [158, 0, 74, 3, 54, 7, 42, 21, 4, 21, 5, 21, 7, 182, 1, 105, 153, 0, 27, 42, 180, 0, 67]
abbrev dktX1_tellsMost_1 : List UInt8 := dkwX1_tellsMost_1 ++ dktX1_tellsMost_2
def dkwX1_tellsMost_0 : List UInt8 := [42, 180, 0, 67, 27, 28, 184, 1, 108, 46, 62, 27, 54, 4, 28, 54, 5, 29, 54, 6, 21, 6]
abbrev dktX1_tellsMost_0 : List UInt8 := dkwX1_tellsMost_0 ++ dktX1_tellsMost_1
theorem dksX1_tellsMost_0 : cX1_tellsMost.data.toList.drop 0 = dktX1_tellsMost_0 := by decide +kernel
theorem dksX1_tellsMost_1 : cX1_tellsMost.data.toList.drop 22 = dktX1_tellsMost_1 := dk_seg dksX1_tellsMost_0 22 rfl rfl
theorem dksX1_tellsMost_2 : cX1_tellsMost.data.toList.drop 45 = dktX1_tellsMost_2 := dk_seg dksX1_tellsMost_1 23 rfl rfl
theorem dksX1_tellsMost_3 : cX1_tellsMost.data.toList.drop 68 = dktX1_tellsMost_3 := dk_seg dksX1_tellsMost_2 23 rfl rfl
theorem dksX1_tellsMost_4 : cX1_tellsMost.data.toList.drop 90 = dktX1_tellsMost_4 := dk_seg dksX1_tellsMost_3 22 rfl rfl
theorem dX1_tellsMost_0 : decode cX1_tellsMost 0 = .ok (.aload_n 0, 1) := dk_42 (dk_at dksX1_tellsMost_0 0 rfl rfl)
theorem dX1_tellsMost_1 : decode cX1_tellsMost 1 = .ok (.getfield 67, 3) := dk_180 0 67 (dk_at dksX1_tellsMost_0 1 rfl rfl)
theorem dX1_tellsMost_4 : decode cX1_tellsMost 4 = .ok (.iload_n 1, 1) := dk_27 (dk_at dksX1_tellsMost_0 4 rfl rfl)
theorem dX1_tellsMost_5 : decode cX1_tellsMost 5 = .ok (.iload_n 2, 1) := dk_28 (dk_at dksX1_tellsMost_0 5 rfl rfl)
theorem dX1_tellsMost_6 : decode cX1_tellsMost 6 = .ok (.invokestatic 364, 3) := dk_184 1 108 (dk_at dksX1_tellsMost_0 6 rfl rfl)
theorem dX1_tellsMost_9 : decode cX1_tellsMost 9 = .ok (.iaload, 1) := dk_46 (dk_at dksX1_tellsMost_0 9 rfl rfl)
theorem dX1_tellsMost_10 : decode cX1_tellsMost 10 = .ok (.istore_n 3, 1) := dk_62 (dk_at dksX1_tellsMost_0 10 rfl rfl)
theorem dX1_tellsMost_11 : decode cX1_tellsMost 11 = .ok (.iload_n 1, 1) := dk_27 (dk_at dksX1_tellsMost_0 11 rfl rfl)
theorem dX1_tellsMost_12 : decode cX1_tellsMost 12 = .ok (.istore 4, 2) := dk_54 4 (dk_at dksX1_tellsMost_0 12 rfl rfl)
theorem dX1_tellsMost_14 : decode cX1_tellsMost 14 = .ok (.iload_n 2, 1) := dk_28 (dk_at dksX1_tellsMost_0 14 rfl rfl)
theorem dX1_tellsMost_15 : decode cX1_tellsMost 15 = .ok (.istore 5, 2) := dk_54 5 (dk_at dksX1_tellsMost_0 15 rfl rfl)
theorem dX1_tellsMost_17 : decode cX1_tellsMost 17 = .ok (.iload_n 3, 1) := dk_29 (dk_at dksX1_tellsMost_0 17 rfl rfl)
theorem dX1_tellsMost_18 : decode cX1_tellsMost 18 = .ok (.istore 6, 2) := dk_54 6 (dk_at dksX1_tellsMost_0 18 rfl rfl)
theorem dX1_tellsMost_20 : decode cX1_tellsMost 20 = .ok (.iload 6, 2) := dk_21 6 (dk_at dksX1_tellsMost_0 20 rfl rfl)
theorem dX1_tellsMost_22 : decode cX1_tellsMost 22 = .ok (.ifCond .le 74, 3) := dk_158 0 74 (dk_at dksX1_tellsMost_1 0 rfl rfl)
theorem dX1_tellsMost_25 : decode cX1_tellsMost 25 = .ok (.iconst 0, 1) := dk_3 (dk_at dksX1_tellsMost_1 3 rfl rfl)
theorem dX1_tellsMost_26 : decode cX1_tellsMost 26 = .ok (.istore 7, 2) := dk_54 7 (dk_at dksX1_tellsMost_1 4 rfl rfl)
theorem dX1_tellsMost_28 : decode cX1_tellsMost 28 = .ok (.aload_n 0, 1) := dk_42 (dk_at dksX1_tellsMost_1 6 rfl rfl)
theorem dX1_tellsMost_29 : decode cX1_tellsMost 29 = .ok (.iload 4, 2) := dk_21 4 (dk_at dksX1_tellsMost_1 7 rfl rfl)
theorem dX1_tellsMost_31 : decode cX1_tellsMost 31 = .ok (.iload 5, 2) := dk_21 5 (dk_at dksX1_tellsMost_1 9 rfl rfl)
theorem dX1_tellsMost_33 : decode cX1_tellsMost 33 = .ok (.iload 7, 2) := dk_21 7 (dk_at dksX1_tellsMost_1 11 rfl rfl)
theorem dX1_tellsMost_35 : decode cX1_tellsMost 35 = .ok (.invokevirtual 361, 3) := dk_182 1 105 (dk_at dksX1_tellsMost_1 13 rfl rfl)
theorem dX1_tellsMost_38 : decode cX1_tellsMost 38 = .ok (.ifCond .eq 27, 3) := dk_153 0 27 (dk_at dksX1_tellsMost_1 16 rfl rfl)
theorem dX1_tellsMost_41 : decode cX1_tellsMost 41 = .ok (.aload_n 0, 1) := dk_42 (dk_at dksX1_tellsMost_1 19 rfl rfl)
theorem dX1_tellsMost_42 : decode cX1_tellsMost 42 = .ok (.getfield 67, 3) := dk_180 0 67 (dk_at dksX1_tellsMost_1 20 rfl rfl)
theorem dX1_tellsMost_45 : decode cX1_tellsMost 45 = .ok (.iload 4, 2) := dk_21 4 (dk_at dksX1_tellsMost_2 0 rfl rfl)
theorem dX1_tellsMost_47 : decode cX1_tellsMost 47 = .ok (.iconst 1, 1) := dk_4 (dk_at dksX1_tellsMost_2 2 rfl rfl)
theorem dX1_tellsMost_48 : decode cX1_tellsMost 48 = .ok (.iload 7, 2) := dk_21 7 (dk_at dksX1_tellsMost_2 3 rfl rfl)
theorem dX1_tellsMost_50 : decode cX1_tellsMost 50 = .ok (.ishl, 1) := dk_120 (dk_at dksX1_tellsMost_2 5 rfl rfl)
theorem dX1_tellsMost_51 : decode cX1_tellsMost 51 = .ok (.ior, 1) := dk_128 (dk_at dksX1_tellsMost_2 6 rfl rfl)
theorem dX1_tellsMost_52 : decode cX1_tellsMost 52 = .ok (.iload 7, 2) := dk_21 7 (dk_at dksX1_tellsMost_2 7 rfl rfl)
theorem dX1_tellsMost_54 : decode cX1_tellsMost 54 = .ok (.invokestatic 364, 3) := dk_184 1 108 (dk_at dksX1_tellsMost_2 9 rfl rfl)
theorem dX1_tellsMost_57 : decode cX1_tellsMost 57 = .ok (.iaload, 1) := dk_46 (dk_at dksX1_tellsMost_2 12 rfl rfl)
theorem dX1_tellsMost_58 : decode cX1_tellsMost 58 = .ok (.iload 6, 2) := dk_21 6 (dk_at dksX1_tellsMost_2 13 rfl rfl)
theorem dX1_tellsMost_60 : decode cX1_tellsMost 60 = .ok (.iconst 1, 1) := dk_4 (dk_at dksX1_tellsMost_2 15 rfl rfl)
theorem dX1_tellsMost_61 : decode cX1_tellsMost 61 = .ok (.isub, 1) := dk_100 (dk_at dksX1_tellsMost_2 16 rfl rfl)
theorem dX1_tellsMost_62 : decode cX1_tellsMost 62 = .ok (.if_icmp .eq 9, 3) := dk_159 0 9 (dk_at dksX1_tellsMost_2 17 rfl rfl)
theorem dX1_tellsMost_65 : decode cX1_tellsMost 65 = .ok (.iinc 7 1, 3) := dk_132 7 1 (dk_at dksX1_tellsMost_2 20 rfl rfl)
theorem dX1_tellsMost_68 : decode cX1_tellsMost 68 = .ok (.goto (-40), 3) := dk_167 255 216 (dk_at dksX1_tellsMost_3 0 rfl rfl)
theorem dX1_tellsMost_71 : decode cX1_tellsMost 71 = .ok (.aload_n 0, 1) := dk_42 (dk_at dksX1_tellsMost_3 3 rfl rfl)
theorem dX1_tellsMost_72 : decode cX1_tellsMost 72 = .ok (.iload 7, 2) := dk_21 7 (dk_at dksX1_tellsMost_3 4 rfl rfl)
theorem dX1_tellsMost_74 : decode cX1_tellsMost 74 = .ok (.invokevirtual 340, 3) := dk_182 1 84 (dk_at dksX1_tellsMost_3 6 rfl rfl)
theorem dX1_tellsMost_77 : decode cX1_tellsMost 77 = .ok (.iload 4, 2) := dk_21 4 (dk_at dksX1_tellsMost_3 9 rfl rfl)
theorem dX1_tellsMost_79 : decode cX1_tellsMost 79 = .ok (.iconst 1, 1) := dk_4 (dk_at dksX1_tellsMost_3 11 rfl rfl)
theorem dX1_tellsMost_80 : decode cX1_tellsMost 80 = .ok (.iload 7, 2) := dk_21 7 (dk_at dksX1_tellsMost_3 12 rfl rfl)
theorem dX1_tellsMost_82 : decode cX1_tellsMost 82 = .ok (.ishl, 1) := dk_120 (dk_at dksX1_tellsMost_3 14 rfl rfl)
theorem dX1_tellsMost_83 : decode cX1_tellsMost 83 = .ok (.ior, 1) := dk_128 (dk_at dksX1_tellsMost_3 15 rfl rfl)
theorem dX1_tellsMost_84 : decode cX1_tellsMost 84 = .ok (.istore 4, 2) := dk_54 4 (dk_at dksX1_tellsMost_3 16 rfl rfl)
theorem dX1_tellsMost_86 : decode cX1_tellsMost 86 = .ok (.iload 7, 2) := dk_21 7 (dk_at dksX1_tellsMost_3 18 rfl rfl)
theorem dX1_tellsMost_88 : decode cX1_tellsMost 88 = .ok (.istore 5, 2) := dk_54 5 (dk_at dksX1_tellsMost_3 20 rfl rfl)
theorem dX1_tellsMost_90 : decode cX1_tellsMost 90 = .ok (.iinc 6 (-1), 3) := dk_132 6 255 (dk_at dksX1_tellsMost_4 0 rfl rfl)
theorem dX1_tellsMost_93 : decode cX1_tellsMost 93 = .ok (.goto (-73), 3) := dk_167 255 183 (dk_at dksX1_tellsMost_4 3 rfl rfl)
theorem dX1_tellsMost_96 : decode cX1_tellsMost 96 = .ok (.return_, 1) := dk_177 (dk_at dksX1_tellsMost_4 6 rfl rfl)
abbrev cX1_ways : ByteArray := prog_1_method_66_code
def yX1_ways : MethodName := ⟨RX1, "ways", "(I)J"⟩
def dkwX1_ways_7 : List UInt8 := [167, 255, 131, 42, 180, 0, 73, 42, 182, 1, 50, 42, 182, 1, 53, 184, 1, 108, 47, 173]
abbrev dktX1_ways_7 : List UInt8 := dkwX1_ways_7 ++ []
def dkwX1_ways_6 : List UInt8 := [42, 180, 0, 73, 29, 21, 4, 184, 1, 108, 22, 5, 80, 132, 4, 1, 167, 255, 144, 132, 3, 255]
abbrev dktX1_ways_6 : List UInt8 := dkwX1_ways_6 ++ dktX1_ways_7
def dkwX1_ways_5 : List UInt8 := [180, 0, 73, 29, 4, 21, 7, 120, 128, 21, 7, 184, 1, 108, 47, 97, 55, 5, 132, 7, 1, 167, 255, 203]
abbrev dktX1_ways_5 : List UInt8 := dkwX1_ways_5 ++ dktX1_ways_6
def dkwX1_ways_4 : List UInt8 := [184, 0, 237, 28, 162, 0, 36, 42, 29, 21, 4, 21, 7, 182, 1, 105, 153, 0, 24, 22, 5, 42]
abbrev dktX1_ways_4 : List UInt8 := dkwX1_ways_4 ++ dktX1_ways_5
def dkwX1_ways_3 : List UInt8 := [160, 0, 7, 10, 167, 0, 4, 9, 55, 5, 3, 54, 7, 21, 7, 42, 180, 0, 102, 162, 0, 50, 29]
abbrev dktX1_ways_3 : List UInt8 := dkwX1_ways_3 ++ dktX1_ways_4
def dkwX1_ways_2 : List UInt8 := [180, 0, 102, 162, 0, 109, 42, 29, 21, 4, 182, 1, 101, 154, 0, 6, 167, 0, 90, 29, 184, 0, 237, 28]
abbrev dktX1_ways_2 : List UInt8 := dkwX1_ways_2 ++ dktX1_ways_3
def dkwX1_ways_1 : List UInt8 := [27, 96, 61, 4, 42, 180, 0, 102, 120, 4, 100, 62, 29, 155, 0, 127, 2, 54, 4, 21, 4, 42]
abbrev dktX1_ways_1 : List UInt8 := dkwX1_ways_1 ++ dktX1_ways_2
def dkwX1_ways_0 : List UInt8 := [27, 133, 9, 20, 1, 121, 184, 0, 106, 154, 0, 7, 20, 1, 123, 173, 42, 182, 1, 111, 42, 180, 1, 47]
abbrev dktX1_ways_0 : List UInt8 := dkwX1_ways_0 ++ dktX1_ways_1
theorem dksX1_ways_0 : cX1_ways.data.toList.drop 0 = dktX1_ways_0 := by decide +kernel
theorem dksX1_ways_1 : cX1_ways.data.toList.drop 24 = dktX1_ways_1 := dk_seg dksX1_ways_0 24 rfl rfl
theorem dksX1_ways_2 : cX1_ways.data.toList.drop 46 = dktX1_ways_2 := dk_seg dksX1_ways_1 22 rfl rfl
theorem dksX1_ways_3 : cX1_ways.data.toList.drop 70 = dktX1_ways_3 := dk_seg dksX1_ways_2 24 rfl rfl
theorem dksX1_ways_4 : cX1_ways.data.toList.drop 93 = dktX1_ways_4 := dk_seg dksX1_ways_3 23 rfl rfl
theorem dksX1_ways_5 : cX1_ways.data.toList.drop 115 = dktX1_ways_5 := dk_seg dksX1_ways_4 22 rfl rfl
theorem dksX1_ways_6 : cX1_ways.data.toList.drop 139 = dktX1_ways_6 := dk_seg dksX1_ways_5 24 rfl rfl
theorem dksX1_ways_7 : cX1_ways.data.toList.drop 161 = dktX1_ways_7 := dk_seg dksX1_ways_6 22 rfl rfl
theorem dX1_ways_0 : decode cX1_ways 0 = .ok (.iload_n 1, 1) := dk_27 (dk_at dksX1_ways_0 0 rfl rfl)
theorem dX1_ways_1 : decode cX1_ways 1 = .ok (.i2l, 1) := dk_133 (dk_at dksX1_ways_0 1 rfl rfl)
theorem dX1_ways_2 : decode cX1_ways 2 = .ok (.lconst 0, 1) := dk_9 (dk_at dksX1_ways_0 2 rfl rfl)
theorem dX1_ways_3 : decode cX1_ways 3 = .ok (.ldc2_w 377, 3) := dk_20 1 121 (dk_at dksX1_ways_0 3 rfl rfl)
theorem dX1_ways_6 : decode cX1_ways 6 = .ok (.invokestatic 106, 3) := dk_184 0 106 (dk_at dksX1_ways_0 6 rfl rfl)
theorem dX1_ways_9 : decode cX1_ways 9 = .ok (.ifCond .ne 7, 3) := dk_154 0 7 (dk_at dksX1_ways_0 9 rfl rfl)
theorem dX1_ways_12 : decode cX1_ways 12 = .ok (.ldc2_w 379, 3) := dk_20 1 123 (dk_at dksX1_ways_0 12 rfl rfl)
theorem dX1_ways_15 : decode cX1_ways 15 = .ok (.lreturn, 1) := dk_173 (dk_at dksX1_ways_0 15 rfl rfl)
theorem dX1_ways_16 : decode cX1_ways 16 = .ok (.aload_n 0, 1) := dk_42 (dk_at dksX1_ways_0 16 rfl rfl)
theorem dX1_ways_17 : decode cX1_ways 17 = .ok (.invokevirtual 367, 3) := dk_182 1 111 (dk_at dksX1_ways_0 17 rfl rfl)
theorem dX1_ways_20 : decode cX1_ways 20 = .ok (.aload_n 0, 1) := dk_42 (dk_at dksX1_ways_0 20 rfl rfl)
theorem dX1_ways_21 : decode cX1_ways 21 = .ok (.getfield 303, 3) := dk_180 1 47 (dk_at dksX1_ways_0 21 rfl rfl)
theorem dX1_ways_24 : decode cX1_ways 24 = .ok (.iload_n 1, 1) := dk_27 (dk_at dksX1_ways_1 0 rfl rfl)
theorem dX1_ways_25 : decode cX1_ways 25 = .ok (.iadd, 1) := dk_96 (dk_at dksX1_ways_1 1 rfl rfl)
theorem dX1_ways_26 : decode cX1_ways 26 = .ok (.istore_n 2, 1) := dk_61 (dk_at dksX1_ways_1 2 rfl rfl)
theorem dX1_ways_27 : decode cX1_ways 27 = .ok (.iconst 1, 1) := dk_4 (dk_at dksX1_ways_1 3 rfl rfl)
theorem dX1_ways_28 : decode cX1_ways 28 = .ok (.aload_n 0, 1) := dk_42 (dk_at dksX1_ways_1 4 rfl rfl)
theorem dX1_ways_29 : decode cX1_ways 29 = .ok (.getfield 102, 3) := dk_180 0 102 (dk_at dksX1_ways_1 5 rfl rfl)
theorem dX1_ways_32 : decode cX1_ways 32 = .ok (.ishl, 1) := dk_120 (dk_at dksX1_ways_1 8 rfl rfl)
theorem dX1_ways_33 : decode cX1_ways 33 = .ok (.iconst 1, 1) := dk_4 (dk_at dksX1_ways_1 9 rfl rfl)
theorem dX1_ways_34 : decode cX1_ways 34 = .ok (.isub, 1) := dk_100 (dk_at dksX1_ways_1 10 rfl rfl)
theorem dX1_ways_35 : decode cX1_ways 35 = .ok (.istore_n 3, 1) := dk_62 (dk_at dksX1_ways_1 11 rfl rfl)
theorem dX1_ways_36 : decode cX1_ways 36 = .ok (.iload_n 3, 1) := dk_29 (dk_at dksX1_ways_1 12 rfl rfl)
theorem dX1_ways_37 : decode cX1_ways 37 = .ok (.ifCond .lt 127, 3) := dk_155 0 127 (dk_at dksX1_ways_1 13 rfl rfl)
theorem dX1_ways_40 : decode cX1_ways 40 = .ok (.iconst (-1), 1) := dk_2 (dk_at dksX1_ways_1 16 rfl rfl)
theorem dX1_ways_41 : decode cX1_ways 41 = .ok (.istore 4, 2) := dk_54 4 (dk_at dksX1_ways_1 17 rfl rfl)
theorem dX1_ways_43 : decode cX1_ways 43 = .ok (.iload 4, 2) := dk_21 4 (dk_at dksX1_ways_1 19 rfl rfl)
theorem dX1_ways_45 : decode cX1_ways 45 = .ok (.aload_n 0, 1) := dk_42 (dk_at dksX1_ways_1 21 rfl rfl)
theorem dX1_ways_46 : decode cX1_ways 46 = .ok (.getfield 102, 3) := dk_180 0 102 (dk_at dksX1_ways_2 0 rfl rfl)
theorem dX1_ways_49 : decode cX1_ways 49 = .ok (.if_icmp .ge 109, 3) := dk_162 0 109 (dk_at dksX1_ways_2 3 rfl rfl)
theorem dX1_ways_52 : decode cX1_ways 52 = .ok (.aload_n 0, 1) := dk_42 (dk_at dksX1_ways_2 6 rfl rfl)
theorem dX1_ways_53 : decode cX1_ways 53 = .ok (.iload_n 3, 1) := dk_29 (dk_at dksX1_ways_2 7 rfl rfl)
theorem dX1_ways_54 : decode cX1_ways 54 = .ok (.iload 4, 2) := dk_21 4 (dk_at dksX1_ways_2 8 rfl rfl)
theorem dX1_ways_56 : decode cX1_ways 56 = .ok (.invokevirtual 357, 3) := dk_182 1 101 (dk_at dksX1_ways_2 10 rfl rfl)
theorem dX1_ways_59 : decode cX1_ways 59 = .ok (.ifCond .ne 6, 3) := dk_154 0 6 (dk_at dksX1_ways_2 13 rfl rfl)
theorem dX1_ways_62 : decode cX1_ways 62 = .ok (.goto 90, 3) := dk_167 0 90 (dk_at dksX1_ways_2 16 rfl rfl)
theorem dX1_ways_65 : decode cX1_ways 65 = .ok (.iload_n 3, 1) := dk_29 (dk_at dksX1_ways_2 19 rfl rfl)
theorem dX1_ways_66 : decode cX1_ways 66 = .ok (.invokestatic 237, 3) := dk_184 0 237 (dk_at dksX1_ways_2 20 rfl rfl)
theorem dX1_ways_69 : decode cX1_ways 69 = .ok (.iload_n 2, 1) := dk_28 (dk_at dksX1_ways_2 23 rfl rfl)
theorem dX1_ways_70 : decode cX1_ways 70 = .ok (.if_icmp .ne 7, 3) := dk_160 0 7 (dk_at dksX1_ways_3 0 rfl rfl)
theorem dX1_ways_73 : decode cX1_ways 73 = .ok (.lconst 1, 1) := dk_10 (dk_at dksX1_ways_3 3 rfl rfl)
theorem dX1_ways_74 : decode cX1_ways 74 = .ok (.goto 4, 3) := dk_167 0 4 (dk_at dksX1_ways_3 4 rfl rfl)
theorem dX1_ways_77 : decode cX1_ways 77 = .ok (.lconst 0, 1) := dk_9 (dk_at dksX1_ways_3 7 rfl rfl)
theorem dX1_ways_78 : decode cX1_ways 78 = .ok (.lstore 5, 2) := dk_55 5 (dk_at dksX1_ways_3 8 rfl rfl)
theorem dX1_ways_80 : decode cX1_ways 80 = .ok (.iconst 0, 1) := dk_3 (dk_at dksX1_ways_3 10 rfl rfl)
theorem dX1_ways_81 : decode cX1_ways 81 = .ok (.istore 7, 2) := dk_54 7 (dk_at dksX1_ways_3 11 rfl rfl)
theorem dX1_ways_83 : decode cX1_ways 83 = .ok (.iload 7, 2) := dk_21 7 (dk_at dksX1_ways_3 13 rfl rfl)
theorem dX1_ways_85 : decode cX1_ways 85 = .ok (.aload_n 0, 1) := dk_42 (dk_at dksX1_ways_3 15 rfl rfl)
theorem dX1_ways_86 : decode cX1_ways 86 = .ok (.getfield 102, 3) := dk_180 0 102 (dk_at dksX1_ways_3 16 rfl rfl)
theorem dX1_ways_89 : decode cX1_ways 89 = .ok (.if_icmp .ge 50, 3) := dk_162 0 50 (dk_at dksX1_ways_3 19 rfl rfl)
theorem dX1_ways_92 : decode cX1_ways 92 = .ok (.iload_n 3, 1) := dk_29 (dk_at dksX1_ways_3 22 rfl rfl)
theorem dX1_ways_93 : decode cX1_ways 93 = .ok (.invokestatic 237, 3) := dk_184 0 237 (dk_at dksX1_ways_4 0 rfl rfl)
theorem dX1_ways_96 : decode cX1_ways 96 = .ok (.iload_n 2, 1) := dk_28 (dk_at dksX1_ways_4 3 rfl rfl)
theorem dX1_ways_97 : decode cX1_ways 97 = .ok (.if_icmp .ge 36, 3) := dk_162 0 36 (dk_at dksX1_ways_4 4 rfl rfl)
theorem dX1_ways_100 : decode cX1_ways 100 = .ok (.aload_n 0, 1) := dk_42 (dk_at dksX1_ways_4 7 rfl rfl)
theorem dX1_ways_101 : decode cX1_ways 101 = .ok (.iload_n 3, 1) := dk_29 (dk_at dksX1_ways_4 8 rfl rfl)
theorem dX1_ways_102 : decode cX1_ways 102 = .ok (.iload 4, 2) := dk_21 4 (dk_at dksX1_ways_4 9 rfl rfl)
theorem dX1_ways_104 : decode cX1_ways 104 = .ok (.iload 7, 2) := dk_21 7 (dk_at dksX1_ways_4 11 rfl rfl)
theorem dX1_ways_106 : decode cX1_ways 106 = .ok (.invokevirtual 361, 3) := dk_182 1 105 (dk_at dksX1_ways_4 13 rfl rfl)
theorem dX1_ways_109 : decode cX1_ways 109 = .ok (.ifCond .eq 24, 3) := dk_153 0 24 (dk_at dksX1_ways_4 16 rfl rfl)
theorem dX1_ways_112 : decode cX1_ways 112 = .ok (.lload 5, 2) := dk_22 5 (dk_at dksX1_ways_4 19 rfl rfl)
theorem dX1_ways_114 : decode cX1_ways 114 = .ok (.aload_n 0, 1) := dk_42 (dk_at dksX1_ways_4 21 rfl rfl)
theorem dX1_ways_115 : decode cX1_ways 115 = .ok (.getfield 73, 3) := dk_180 0 73 (dk_at dksX1_ways_5 0 rfl rfl)
theorem dX1_ways_118 : decode cX1_ways 118 = .ok (.iload_n 3, 1) := dk_29 (dk_at dksX1_ways_5 3 rfl rfl)
theorem dX1_ways_119 : decode cX1_ways 119 = .ok (.iconst 1, 1) := dk_4 (dk_at dksX1_ways_5 4 rfl rfl)
theorem dX1_ways_120 : decode cX1_ways 120 = .ok (.iload 7, 2) := dk_21 7 (dk_at dksX1_ways_5 5 rfl rfl)
theorem dX1_ways_122 : decode cX1_ways 122 = .ok (.ishl, 1) := dk_120 (dk_at dksX1_ways_5 7 rfl rfl)
theorem dX1_ways_123 : decode cX1_ways 123 = .ok (.ior, 1) := dk_128 (dk_at dksX1_ways_5 8 rfl rfl)
theorem dX1_ways_124 : decode cX1_ways 124 = .ok (.iload 7, 2) := dk_21 7 (dk_at dksX1_ways_5 9 rfl rfl)
theorem dX1_ways_126 : decode cX1_ways 126 = .ok (.invokestatic 364, 3) := dk_184 1 108 (dk_at dksX1_ways_5 11 rfl rfl)
theorem dX1_ways_129 : decode cX1_ways 129 = .ok (.laload, 1) := dk_47 (dk_at dksX1_ways_5 14 rfl rfl)
theorem dX1_ways_130 : decode cX1_ways 130 = .ok (.ladd, 1) := dk_97 (dk_at dksX1_ways_5 15 rfl rfl)
theorem dX1_ways_131 : decode cX1_ways 131 = .ok (.lstore 5, 2) := dk_55 5 (dk_at dksX1_ways_5 16 rfl rfl)
theorem dX1_ways_133 : decode cX1_ways 133 = .ok (.iinc 7 1, 3) := dk_132 7 1 (dk_at dksX1_ways_5 18 rfl rfl)
theorem dX1_ways_136 : decode cX1_ways 136 = .ok (.goto (-53), 3) := dk_167 255 203 (dk_at dksX1_ways_5 21 rfl rfl)
theorem dX1_ways_139 : decode cX1_ways 139 = .ok (.aload_n 0, 1) := dk_42 (dk_at dksX1_ways_6 0 rfl rfl)
theorem dX1_ways_140 : decode cX1_ways 140 = .ok (.getfield 73, 3) := dk_180 0 73 (dk_at dksX1_ways_6 1 rfl rfl)
theorem dX1_ways_143 : decode cX1_ways 143 = .ok (.iload_n 3, 1) := dk_29 (dk_at dksX1_ways_6 4 rfl rfl)
theorem dX1_ways_144 : decode cX1_ways 144 = .ok (.iload 4, 2) := dk_21 4 (dk_at dksX1_ways_6 5 rfl rfl)
theorem dX1_ways_146 : decode cX1_ways 146 = .ok (.invokestatic 364, 3) := dk_184 1 108 (dk_at dksX1_ways_6 7 rfl rfl)
theorem dX1_ways_149 : decode cX1_ways 149 = .ok (.lload 5, 2) := dk_22 5 (dk_at dksX1_ways_6 10 rfl rfl)
theorem dX1_ways_151 : decode cX1_ways 151 = .ok (.lastore, 1) := dk_80 (dk_at dksX1_ways_6 12 rfl rfl)
theorem dX1_ways_152 : decode cX1_ways 152 = .ok (.iinc 4 1, 3) := dk_132 4 1 (dk_at dksX1_ways_6 13 rfl rfl)
theorem dX1_ways_155 : decode cX1_ways 155 = .ok (.goto (-112), 3) := dk_167 255 144 (dk_at dksX1_ways_6 16 rfl rfl)
theorem dX1_ways_158 : decode cX1_ways 158 = .ok (.iinc 3 (-1), 3) := dk_132 3 255 (dk_at dksX1_ways_6 19 rfl rfl)
theorem dX1_ways_161 : decode cX1_ways 161 = .ok (.goto (-125), 3) := dk_167 255 131 (dk_at dksX1_ways_7 0 rfl rfl)
theorem dX1_ways_164 : decode cX1_ways 164 = .ok (.aload_n 0, 1) := dk_42 (dk_at dksX1_ways_7 3 rfl rfl)
theorem dX1_ways_165 : decode cX1_ways 165 = .ok (.getfield 73, 3) := dk_180 0 73 (dk_at dksX1_ways_7 4 rfl rfl)
theorem dX1_ways_168 : decode cX1_ways 168 = .ok (.aload_n 0, 1) := dk_42 (dk_at dksX1_ways_7 7 rfl rfl)
theorem dX1_ways_169 : decode cX1_ways 169 = .ok (.invokevirtual 306, 3) := dk_182 1 50 (dk_at dksX1_ways_7 8 rfl rfl)
theorem dX1_ways_172 : decode cX1_ways 172 = .ok (.aload_n 0, 1) := dk_42 (dk_at dksX1_ways_7 11 rfl rfl)
theorem dX1_ways_173 : decode cX1_ways 173 = .ok (.invokevirtual 309, 3) := dk_182 1 53 (dk_at dksX1_ways_7 12 rfl rfl)
theorem dX1_ways_176 : decode cX1_ways 176 = .ok (.invokestatic 364, 3) := dk_184 1 108 (dk_at dksX1_ways_7 15 rfl rfl)
theorem dX1_ways_179 : decode cX1_ways 179 = .ok (.laload, 1) := dk_47 (dk_at dksX1_ways_7 18 rfl rfl)
theorem dX1_ways_180 : decode cX1_ways 180 = .ok (.lreturn, 1) := dk_173 (dk_at dksX1_ways_7 19 rfl rfl)
abbrev cX1_between : ByteArray := prog_1_method_67_code
def yX1_between : MethodName := ⟨RX1, "between", "(II)I"⟩
def dkwX1_between_4 : List UInt8 := [182, 1, 118, 29, 4, 96, 172]
abbrev dktX1_between_4 : List UInt8 := dkwX1_between_4 ++ []
def dkwX1_between_3 : List UInt8 := [16, 254, 172, 42, 3, 181, 1, 81, 42, 27, 182, 1, 84, 27, 28, 159, 0, 11, 42, 4, 27, 120, 27]
abbrev dktX1_between_3 : List UInt8 := dkwX1_between_3 ++ dktX1_between_4
def dkwX1_between_2 : List UInt8 := [160, 0, 7, 3, 167, 0, 15, 42, 180, 0, 67, 4, 27, 120, 27, 184, 1, 108, 46, 62, 29, 156, 0, 6]
abbrev dktX1_between_2 : List UInt8 := dkwX1_between_2 ++ dktX1_between_3
def dkwX1_between_1 : List UInt8 := [180, 0, 61, 4, 27, 120, 46, 154, 0, 6, 16, 254, 172, 42, 4, 28, 120, 3, 182, 1, 114, 27, 28]
abbrev dktX1_between_1 : List UInt8 := dkwX1_between_1 ++ dktX1_between_2
def dkwX1_between_0 : List UInt8 := [42, 27, 182, 0, 252, 153, 0, 11, 42, 28, 182, 0, 252, 154, 0, 5, 2, 172, 42, 182, 1, 111, 42]
abbrev dktX1_between_0 : List UInt8 := dkwX1_between_0 ++ dktX1_between_1
theorem dksX1_between_0 : cX1_between.data.toList.drop 0 = dktX1_between_0 := by decide +kernel
theorem dksX1_between_1 : cX1_between.data.toList.drop 23 = dktX1_between_1 := dk_seg dksX1_between_0 23 rfl rfl
theorem dksX1_between_2 : cX1_between.data.toList.drop 46 = dktX1_between_2 := dk_seg dksX1_between_1 23 rfl rfl
theorem dksX1_between_3 : cX1_between.data.toList.drop 70 = dktX1_between_3 := dk_seg dksX1_between_2 24 rfl rfl
theorem dksX1_between_4 : cX1_between.data.toList.drop 93 = dktX1_between_4 := dk_seg dksX1_between_3 23 rfl rfl
theorem dX1_between_0 : decode cX1_between 0 = .ok (.aload_n 0, 1) := dk_42 (dk_at dksX1_between_0 0 rfl rfl)
theorem dX1_between_1 : decode cX1_between 1 = .ok (.iload_n 1, 1) := dk_27 (dk_at dksX1_between_0 1 rfl rfl)
theorem dX1_between_2 : decode cX1_between 2 = .ok (.invokevirtual 252, 3) := dk_182 0 252 (dk_at dksX1_between_0 2 rfl rfl)
theorem dX1_between_5 : decode cX1_between 5 = .ok (.ifCond .eq 11, 3) := dk_153 0 11 (dk_at dksX1_between_0 5 rfl rfl)
theorem dX1_between_8 : decode cX1_between 8 = .ok (.aload_n 0, 1) := dk_42 (dk_at dksX1_between_0 8 rfl rfl)
theorem dX1_between_9 : decode cX1_between 9 = .ok (.iload_n 2, 1) := dk_28 (dk_at dksX1_between_0 9 rfl rfl)
theorem dX1_between_10 : decode cX1_between 10 = .ok (.invokevirtual 252, 3) := dk_182 0 252 (dk_at dksX1_between_0 10 rfl rfl)
theorem dX1_between_13 : decode cX1_between 13 = .ok (.ifCond .ne 5, 3) := dk_154 0 5 (dk_at dksX1_between_0 13 rfl rfl)
theorem dX1_between_16 : decode cX1_between 16 = .ok (.iconst (-1), 1) := dk_2 (dk_at dksX1_between_0 16 rfl rfl)
theorem dX1_between_17 : decode cX1_between 17 = .ok (.ireturn, 1) := dk_172 (dk_at dksX1_between_0 17 rfl rfl)
theorem dX1_between_18 : decode cX1_between 18 = .ok (.aload_n 0, 1) := dk_42 (dk_at dksX1_between_0 18 rfl rfl)
theorem dX1_between_19 : decode cX1_between 19 = .ok (.invokevirtual 367, 3) := dk_182 1 111 (dk_at dksX1_between_0 19 rfl rfl)
theorem dX1_between_22 : decode cX1_between 22 = .ok (.aload_n 0, 1) := dk_42 (dk_at dksX1_between_0 22 rfl rfl)
theorem dX1_between_23 : decode cX1_between 23 = .ok (.getfield 61, 3) := dk_180 0 61 (dk_at dksX1_between_1 0 rfl rfl)
theorem dX1_between_26 : decode cX1_between 26 = .ok (.iconst 1, 1) := dk_4 (dk_at dksX1_between_1 3 rfl rfl)
theorem dX1_between_27 : decode cX1_between 27 = .ok (.iload_n 1, 1) := dk_27 (dk_at dksX1_between_1 4 rfl rfl)
theorem dX1_between_28 : decode cX1_between 28 = .ok (.ishl, 1) := dk_120 (dk_at dksX1_between_1 5 rfl rfl)
theorem dX1_between_29 : decode cX1_between 29 = .ok (.iaload, 1) := dk_46 (dk_at dksX1_between_1 6 rfl rfl)
theorem dX1_between_30 : decode cX1_between 30 = .ok (.ifCond .ne 6, 3) := dk_154 0 6 (dk_at dksX1_between_1 7 rfl rfl)
theorem dX1_between_33 : decode cX1_between 33 = .ok (.bipush (-2), 2) := dk_16 254 (dk_at dksX1_between_1 10 rfl rfl)
theorem dX1_between_35 : decode cX1_between 35 = .ok (.ireturn, 1) := dk_172 (dk_at dksX1_between_1 12 rfl rfl)
theorem dX1_between_36 : decode cX1_between 36 = .ok (.aload_n 0, 1) := dk_42 (dk_at dksX1_between_1 13 rfl rfl)
theorem dX1_between_37 : decode cX1_between 37 = .ok (.iconst 1, 1) := dk_4 (dk_at dksX1_between_1 14 rfl rfl)
theorem dX1_between_38 : decode cX1_between 38 = .ok (.iload_n 2, 1) := dk_28 (dk_at dksX1_between_1 15 rfl rfl)
theorem dX1_between_39 : decode cX1_between 39 = .ok (.ishl, 1) := dk_120 (dk_at dksX1_between_1 16 rfl rfl)
theorem dX1_between_40 : decode cX1_between 40 = .ok (.iconst 0, 1) := dk_3 (dk_at dksX1_between_1 17 rfl rfl)
theorem dX1_between_41 : decode cX1_between 41 = .ok (.invokevirtual 370, 3) := dk_182 1 114 (dk_at dksX1_between_1 18 rfl rfl)
theorem dX1_between_44 : decode cX1_between 44 = .ok (.iload_n 1, 1) := dk_27 (dk_at dksX1_between_1 21 rfl rfl)
theorem dX1_between_45 : decode cX1_between 45 = .ok (.iload_n 2, 1) := dk_28 (dk_at dksX1_between_1 22 rfl rfl)
theorem dX1_between_46 : decode cX1_between 46 = .ok (.if_icmp .ne 7, 3) := dk_160 0 7 (dk_at dksX1_between_2 0 rfl rfl)
theorem dX1_between_49 : decode cX1_between 49 = .ok (.iconst 0, 1) := dk_3 (dk_at dksX1_between_2 3 rfl rfl)
theorem dX1_between_50 : decode cX1_between 50 = .ok (.goto 15, 3) := dk_167 0 15 (dk_at dksX1_between_2 4 rfl rfl)
theorem dX1_between_53 : decode cX1_between 53 = .ok (.aload_n 0, 1) := dk_42 (dk_at dksX1_between_2 7 rfl rfl)
theorem dX1_between_54 : decode cX1_between 54 = .ok (.getfield 67, 3) := dk_180 0 67 (dk_at dksX1_between_2 8 rfl rfl)
theorem dX1_between_57 : decode cX1_between 57 = .ok (.iconst 1, 1) := dk_4 (dk_at dksX1_between_2 11 rfl rfl)
theorem dX1_between_58 : decode cX1_between 58 = .ok (.iload_n 1, 1) := dk_27 (dk_at dksX1_between_2 12 rfl rfl)
theorem dX1_between_59 : decode cX1_between 59 = .ok (.ishl, 1) := dk_120 (dk_at dksX1_between_2 13 rfl rfl)
theorem dX1_between_60 : decode cX1_between 60 = .ok (.iload_n 1, 1) := dk_27 (dk_at dksX1_between_2 14 rfl rfl)
theorem dX1_between_61 : decode cX1_between 61 = .ok (.invokestatic 364, 3) := dk_184 1 108 (dk_at dksX1_between_2 15 rfl rfl)
theorem dX1_between_64 : decode cX1_between 64 = .ok (.iaload, 1) := dk_46 (dk_at dksX1_between_2 18 rfl rfl)
theorem dX1_between_65 : decode cX1_between 65 = .ok (.istore_n 3, 1) := dk_62 (dk_at dksX1_between_2 19 rfl rfl)
theorem dX1_between_66 : decode cX1_between 66 = .ok (.iload_n 3, 1) := dk_29 (dk_at dksX1_between_2 20 rfl rfl)
theorem dX1_between_67 : decode cX1_between 67 = .ok (.ifCond .ge 6, 3) := dk_156 0 6 (dk_at dksX1_between_2 21 rfl rfl)
theorem dX1_between_70 : decode cX1_between 70 = .ok (.bipush (-2), 2) := dk_16 254 (dk_at dksX1_between_3 0 rfl rfl)
theorem dX1_between_72 : decode cX1_between 72 = .ok (.ireturn, 1) := dk_172 (dk_at dksX1_between_3 2 rfl rfl)
theorem dX1_between_73 : decode cX1_between 73 = .ok (.aload_n 0, 1) := dk_42 (dk_at dksX1_between_3 3 rfl rfl)
theorem dX1_between_74 : decode cX1_between 74 = .ok (.iconst 0, 1) := dk_3 (dk_at dksX1_between_3 4 rfl rfl)
theorem dX1_between_75 : decode cX1_between 75 = .ok (.putfield 337, 3) := dk_181 1 81 (dk_at dksX1_between_3 5 rfl rfl)
theorem dX1_between_78 : decode cX1_between 78 = .ok (.aload_n 0, 1) := dk_42 (dk_at dksX1_between_3 8 rfl rfl)
theorem dX1_between_79 : decode cX1_between 79 = .ok (.iload_n 1, 1) := dk_27 (dk_at dksX1_between_3 9 rfl rfl)
theorem dX1_between_80 : decode cX1_between 80 = .ok (.invokevirtual 340, 3) := dk_182 1 84 (dk_at dksX1_between_3 10 rfl rfl)
theorem dX1_between_83 : decode cX1_between 83 = .ok (.iload_n 1, 1) := dk_27 (dk_at dksX1_between_3 13 rfl rfl)
theorem dX1_between_84 : decode cX1_between 84 = .ok (.iload_n 2, 1) := dk_28 (dk_at dksX1_between_3 14 rfl rfl)
theorem dX1_between_85 : decode cX1_between 85 = .ok (.if_icmp .eq 11, 3) := dk_159 0 11 (dk_at dksX1_between_3 15 rfl rfl)
theorem dX1_between_88 : decode cX1_between 88 = .ok (.aload_n 0, 1) := dk_42 (dk_at dksX1_between_3 18 rfl rfl)
theorem dX1_between_89 : decode cX1_between 89 = .ok (.iconst 1, 1) := dk_4 (dk_at dksX1_between_3 19 rfl rfl)
theorem dX1_between_90 : decode cX1_between 90 = .ok (.iload_n 1, 1) := dk_27 (dk_at dksX1_between_3 20 rfl rfl)
theorem dX1_between_91 : decode cX1_between 91 = .ok (.ishl, 1) := dk_120 (dk_at dksX1_between_3 21 rfl rfl)
theorem dX1_between_92 : decode cX1_between 92 = .ok (.iload_n 1, 1) := dk_27 (dk_at dksX1_between_3 22 rfl rfl)
theorem dX1_between_93 : decode cX1_between 93 = .ok (.invokevirtual 374, 3) := dk_182 1 118 (dk_at dksX1_between_4 0 rfl rfl)
theorem dX1_between_96 : decode cX1_between 96 = .ok (.iload_n 3, 1) := dk_29 (dk_at dksX1_between_4 3 rfl rfl)
theorem dX1_between_97 : decode cX1_between 97 = .ok (.iconst 1, 1) := dk_4 (dk_at dksX1_between_4 4 rfl rfl)
theorem dX1_between_98 : decode cX1_between 98 = .ok (.iadd, 1) := dk_96 (dk_at dksX1_between_4 5 rfl rfl)
theorem dX1_between_99 : decode cX1_between 99 = .ok (.ireturn, 1) := dk_172 (dk_at dksX1_between_4 6 rfl rfl)
abbrev cX1_shortest : ByteArray := prog_1_method_69_code
def yX1_shortest : MethodName := ⟨RX1, "shortest", "(II)I"⟩
def dkwX1_shortest_3 : List UInt8 := [182, 1, 84, 42, 4, 27, 120, 27, 182, 1, 118, 29, 4, 96, 172]
abbrev dktX1_shortest_3 : List UInt8 := dkwX1_shortest_3 ++ []
def dkwX1_shortest_2 : List UInt8 := [120, 27, 184, 1, 108, 46, 62, 29, 19, 1, 125, 161, 0, 6, 16, 254, 172, 42, 3, 181, 1, 81, 42, 27]
abbrev dktX1_shortest_2 : List UInt8 := dkwX1_shortest_2 ++ dktX1_shortest_3
def dkwX1_shortest_1 : List UInt8 := [180, 0, 61, 4, 27, 120, 46, 154, 0, 6, 16, 254, 172, 42, 28, 182, 1, 126, 42, 180, 0, 67, 4, 27]
abbrev dktX1_shortest_1 : List UInt8 := dkwX1_shortest_1 ++ dktX1_shortest_2
def dkwX1_shortest_0 : List UInt8 := [42, 27, 182, 0, 252, 153, 0, 11, 42, 28, 182, 0, 252, 154, 0, 5, 2, 172, 42, 182, 1, 111, 42]
abbrev dktX1_shortest_0 : List UInt8 := dkwX1_shortest_0 ++ dktX1_shortest_1
theorem dksX1_shortest_0 : cX1_shortest.data.toList.drop 0 = dktX1_shortest_0 := by decide +kernel
theorem dksX1_shortest_1 : cX1_shortest.data.toList.drop 23 = dktX1_shortest_1 := dk_seg dksX1_shortest_0 23 rfl rfl
theorem dksX1_shortest_2 : cX1_shortest.data.toList.drop 47 = dktX1_shortest_2 := dk_seg dksX1_shortest_1 24 rfl rfl
theorem dksX1_shortest_3 : cX1_shortest.data.toList.drop 71 = dktX1_shortest_3 := dk_seg dksX1_shortest_2 24 rfl rfl
theorem dX1_shortest_0 : decode cX1_shortest 0 = .ok (.aload_n 0, 1) := dk_42 (dk_at dksX1_shortest_0 0 rfl rfl)
theorem dX1_shortest_1 : decode cX1_shortest 1 = .ok (.iload_n 1, 1) := dk_27 (dk_at dksX1_shortest_0 1 rfl rfl)
theorem dX1_shortest_2 : decode cX1_shortest 2 = .ok (.invokevirtual 252, 3) := dk_182 0 252 (dk_at dksX1_shortest_0 2 rfl rfl)
theorem dX1_shortest_5 : decode cX1_shortest 5 = .ok (.ifCond .eq 11, 3) := dk_153 0 11 (dk_at dksX1_shortest_0 5 rfl rfl)
theorem dX1_shortest_8 : decode cX1_shortest 8 = .ok (.aload_n 0, 1) := dk_42 (dk_at dksX1_shortest_0 8 rfl rfl)
theorem dX1_shortest_9 : decode cX1_shortest 9 = .ok (.iload_n 2, 1) := dk_28 (dk_at dksX1_shortest_0 9 rfl rfl)
theorem dX1_shortest_10 : decode cX1_shortest 10 = .ok (.invokevirtual 252, 3) := dk_182 0 252 (dk_at dksX1_shortest_0 10 rfl rfl)
theorem dX1_shortest_13 : decode cX1_shortest 13 = .ok (.ifCond .ne 5, 3) := dk_154 0 5 (dk_at dksX1_shortest_0 13 rfl rfl)
theorem dX1_shortest_16 : decode cX1_shortest 16 = .ok (.iconst (-1), 1) := dk_2 (dk_at dksX1_shortest_0 16 rfl rfl)
theorem dX1_shortest_17 : decode cX1_shortest 17 = .ok (.ireturn, 1) := dk_172 (dk_at dksX1_shortest_0 17 rfl rfl)
theorem dX1_shortest_18 : decode cX1_shortest 18 = .ok (.aload_n 0, 1) := dk_42 (dk_at dksX1_shortest_0 18 rfl rfl)
theorem dX1_shortest_19 : decode cX1_shortest 19 = .ok (.invokevirtual 367, 3) := dk_182 1 111 (dk_at dksX1_shortest_0 19 rfl rfl)
theorem dX1_shortest_22 : decode cX1_shortest 22 = .ok (.aload_n 0, 1) := dk_42 (dk_at dksX1_shortest_0 22 rfl rfl)
theorem dX1_shortest_23 : decode cX1_shortest 23 = .ok (.getfield 61, 3) := dk_180 0 61 (dk_at dksX1_shortest_1 0 rfl rfl)
theorem dX1_shortest_26 : decode cX1_shortest 26 = .ok (.iconst 1, 1) := dk_4 (dk_at dksX1_shortest_1 3 rfl rfl)
theorem dX1_shortest_27 : decode cX1_shortest 27 = .ok (.iload_n 1, 1) := dk_27 (dk_at dksX1_shortest_1 4 rfl rfl)
theorem dX1_shortest_28 : decode cX1_shortest 28 = .ok (.ishl, 1) := dk_120 (dk_at dksX1_shortest_1 5 rfl rfl)
theorem dX1_shortest_29 : decode cX1_shortest 29 = .ok (.iaload, 1) := dk_46 (dk_at dksX1_shortest_1 6 rfl rfl)
theorem dX1_shortest_30 : decode cX1_shortest 30 = .ok (.ifCond .ne 6, 3) := dk_154 0 6 (dk_at dksX1_shortest_1 7 rfl rfl)
theorem dX1_shortest_33 : decode cX1_shortest 33 = .ok (.bipush (-2), 2) := dk_16 254 (dk_at dksX1_shortest_1 10 rfl rfl)
theorem dX1_shortest_35 : decode cX1_shortest 35 = .ok (.ireturn, 1) := dk_172 (dk_at dksX1_shortest_1 12 rfl rfl)
theorem dX1_shortest_36 : decode cX1_shortest 36 = .ok (.aload_n 0, 1) := dk_42 (dk_at dksX1_shortest_1 13 rfl rfl)
theorem dX1_shortest_37 : decode cX1_shortest 37 = .ok (.iload_n 2, 1) := dk_28 (dk_at dksX1_shortest_1 14 rfl rfl)
theorem dX1_shortest_38 : decode cX1_shortest 38 = .ok (.invokevirtual 382, 3) := dk_182 1 126 (dk_at dksX1_shortest_1 15 rfl rfl)
theorem dX1_shortest_41 : decode cX1_shortest 41 = .ok (.aload_n 0, 1) := dk_42 (dk_at dksX1_shortest_1 18 rfl rfl)
theorem dX1_shortest_42 : decode cX1_shortest 42 = .ok (.getfield 67, 3) := dk_180 0 67 (dk_at dksX1_shortest_1 19 rfl rfl)
theorem dX1_shortest_45 : decode cX1_shortest 45 = .ok (.iconst 1, 1) := dk_4 (dk_at dksX1_shortest_1 22 rfl rfl)
theorem dX1_shortest_46 : decode cX1_shortest 46 = .ok (.iload_n 1, 1) := dk_27 (dk_at dksX1_shortest_1 23 rfl rfl)
theorem dX1_shortest_47 : decode cX1_shortest 47 = .ok (.ishl, 1) := dk_120 (dk_at dksX1_shortest_2 0 rfl rfl)
theorem dX1_shortest_48 : decode cX1_shortest 48 = .ok (.iload_n 1, 1) := dk_27 (dk_at dksX1_shortest_2 1 rfl rfl)
theorem dX1_shortest_49 : decode cX1_shortest 49 = .ok (.invokestatic 364, 3) := dk_184 1 108 (dk_at dksX1_shortest_2 2 rfl rfl)
theorem dX1_shortest_52 : decode cX1_shortest 52 = .ok (.iaload, 1) := dk_46 (dk_at dksX1_shortest_2 5 rfl rfl)
theorem dX1_shortest_53 : decode cX1_shortest 53 = .ok (.istore_n 3, 1) := dk_62 (dk_at dksX1_shortest_2 6 rfl rfl)
theorem dX1_shortest_54 : decode cX1_shortest 54 = .ok (.iload_n 3, 1) := dk_29 (dk_at dksX1_shortest_2 7 rfl rfl)
theorem dX1_shortest_55 : decode cX1_shortest 55 = .ok (.ldc_w 381, 3) := dk_19 1 125 (dk_at dksX1_shortest_2 8 rfl rfl)
theorem dX1_shortest_58 : decode cX1_shortest 58 = .ok (.if_icmp .lt 6, 3) := dk_161 0 6 (dk_at dksX1_shortest_2 11 rfl rfl)
theorem dX1_shortest_61 : decode cX1_shortest 61 = .ok (.bipush (-2), 2) := dk_16 254 (dk_at dksX1_shortest_2 14 rfl rfl)
theorem dX1_shortest_63 : decode cX1_shortest 63 = .ok (.ireturn, 1) := dk_172 (dk_at dksX1_shortest_2 16 rfl rfl)
theorem dX1_shortest_64 : decode cX1_shortest 64 = .ok (.aload_n 0, 1) := dk_42 (dk_at dksX1_shortest_2 17 rfl rfl)
theorem dX1_shortest_65 : decode cX1_shortest 65 = .ok (.iconst 0, 1) := dk_3 (dk_at dksX1_shortest_2 18 rfl rfl)
theorem dX1_shortest_66 : decode cX1_shortest 66 = .ok (.putfield 337, 3) := dk_181 1 81 (dk_at dksX1_shortest_2 19 rfl rfl)
theorem dX1_shortest_69 : decode cX1_shortest 69 = .ok (.aload_n 0, 1) := dk_42 (dk_at dksX1_shortest_2 22 rfl rfl)
theorem dX1_shortest_70 : decode cX1_shortest 70 = .ok (.iload_n 1, 1) := dk_27 (dk_at dksX1_shortest_2 23 rfl rfl)
theorem dX1_shortest_71 : decode cX1_shortest 71 = .ok (.invokevirtual 340, 3) := dk_182 1 84 (dk_at dksX1_shortest_3 0 rfl rfl)
theorem dX1_shortest_74 : decode cX1_shortest 74 = .ok (.aload_n 0, 1) := dk_42 (dk_at dksX1_shortest_3 3 rfl rfl)
theorem dX1_shortest_75 : decode cX1_shortest 75 = .ok (.iconst 1, 1) := dk_4 (dk_at dksX1_shortest_3 4 rfl rfl)
theorem dX1_shortest_76 : decode cX1_shortest 76 = .ok (.iload_n 1, 1) := dk_27 (dk_at dksX1_shortest_3 5 rfl rfl)
theorem dX1_shortest_77 : decode cX1_shortest 77 = .ok (.ishl, 1) := dk_120 (dk_at dksX1_shortest_3 6 rfl rfl)
theorem dX1_shortest_78 : decode cX1_shortest 78 = .ok (.iload_n 1, 1) := dk_27 (dk_at dksX1_shortest_3 7 rfl rfl)
theorem dX1_shortest_79 : decode cX1_shortest 79 = .ok (.invokevirtual 374, 3) := dk_182 1 118 (dk_at dksX1_shortest_3 8 rfl rfl)
theorem dX1_shortest_82 : decode cX1_shortest 82 = .ok (.iload_n 3, 1) := dk_29 (dk_at dksX1_shortest_3 11 rfl rfl)
theorem dX1_shortest_83 : decode cX1_shortest 83 = .ok (.iconst 1, 1) := dk_4 (dk_at dksX1_shortest_3 12 rfl rfl)
theorem dX1_shortest_84 : decode cX1_shortest 84 = .ok (.iadd, 1) := dk_96 (dk_at dksX1_shortest_3 13 rfl rfl)
theorem dX1_shortest_85 : decode cX1_shortest 85 = .ok (.ireturn, 1) := dk_172 (dk_at dksX1_shortest_3 14 rfl rfl)
abbrev cX1_measuresLeast : ByteArray := prog_1_method_68_code
def yX1_measuresLeast : MethodName := ⟨RX1, "measuresLeast", "(I)V"⟩
def dkwX1_measuresLeast_5 : List UInt8 := [79, 132, 3, 1, 167, 255, 149, 132, 2, 255, 167, 255, 137, 177]
abbrev dktX1_measuresLeast_5 : List UInt8 := dkwX1_measuresLeast_5 ++ []
def dkwX1_measuresLeast_4 : List UInt8 := [46, 96, 184, 0, 122, 54, 4, 132, 5, 1, 167, 255, 203, 42, 180, 0, 67, 28, 29, 184, 1, 108, 21, 4]
abbrev dktX1_measuresLeast_4 : List UInt8 := dkwX1_measuresLeast_4 ++ dktX1_measuresLeast_5
def dkwX1_measuresLeast_3 : List UInt8 := [182, 1, 105, 153, 0, 28, 21, 4, 4, 42, 180, 0, 67, 28, 4, 21, 5, 120, 128, 21, 5, 184, 1, 108]
abbrev dktX1_measuresLeast_3 : List UInt8 := dkwX1_measuresLeast_3 ++ dktX1_measuresLeast_4
def dkwX1_measuresLeast_2 : List UInt8 := [3, 54, 5, 21, 5, 42, 180, 0, 102, 162, 0, 50, 21, 4, 158, 0, 45, 42, 28, 29, 21, 5]
abbrev dktX1_measuresLeast_2 : List UInt8 := dkwX1_measuresLeast_2 ++ dktX1_measuresLeast_3
def dkwX1_measuresLeast_1 : List UInt8 := [29, 184, 1, 3, 154, 0, 6, 167, 0, 88, 29, 27, 160, 0, 7, 3, 167, 0, 6, 19, 1, 125, 54, 4]
abbrev dktX1_measuresLeast_1 : List UInt8 := dkwX1_measuresLeast_1 ++ dktX1_measuresLeast_2
def dkwX1_measuresLeast_0 : List UInt8 := [4, 42, 180, 0, 102, 120, 4, 100, 61, 28, 158, 0, 121, 3, 62, 29, 42, 180, 0, 102, 162, 0, 105, 28]
abbrev dktX1_measuresLeast_0 : List UInt8 := dkwX1_measuresLeast_0 ++ dktX1_measuresLeast_1
theorem dksX1_measuresLeast_0 : cX1_measuresLeast.data.toList.drop 0 = dktX1_measuresLeast_0 := by decide +kernel
theorem dksX1_measuresLeast_1 : cX1_measuresLeast.data.toList.drop 24 = dktX1_measuresLeast_1 := dk_seg dksX1_measuresLeast_0 24 rfl rfl
theorem dksX1_measuresLeast_2 : cX1_measuresLeast.data.toList.drop 48 = dktX1_measuresLeast_2 := dk_seg dksX1_measuresLeast_1 24 rfl rfl
theorem dksX1_measuresLeast_3 : cX1_measuresLeast.data.toList.drop 70 = dktX1_measuresLeast_3 := dk_seg dksX1_measuresLeast_2 22 rfl rfl
theorem dksX1_measuresLeast_4 : cX1_measuresLeast.data.toList.drop 94 = dktX1_measuresLeast_4 := dk_seg dksX1_measuresLeast_3 24 rfl rfl
theorem dksX1_measuresLeast_5 : cX1_measuresLeast.data.toList.drop 118 = dktX1_measuresLeast_5 := dk_seg dksX1_measuresLeast_4 24 rfl rfl
theorem dX1_measuresLeast_0 : decode cX1_measuresLeast 0 = .ok (.iconst 1, 1) := dk_4 (dk_at dksX1_measuresLeast_0 0 rfl rfl)
theorem dX1_measuresLeast_1 : decode cX1_measuresLeast 1 = .ok (.aload_n 0, 1) := dk_42 (dk_at dksX1_measuresLeast_0 1 rfl rfl)
theorem dX1_measuresLeast_2 : decode cX1_measuresLeast 2 = .ok (.getfield 102, 3) := dk_180 0 102 (dk_at dksX1_measuresLeast_0 2 rfl rfl)
theorem dX1_measuresLeast_5 : decode cX1_measuresLeast 5 = .ok (.ishl, 1) := dk_120 (dk_at dksX1_measuresLeast_0 5 rfl rfl)
theorem dX1_measuresLeast_6 : decode cX1_measuresLeast 6 = .ok (.iconst 1, 1) := dk_4 (dk_at dksX1_measuresLeast_0 6 rfl rfl)
theorem dX1_measuresLeast_7 : decode cX1_measuresLeast 7 = .ok (.isub, 1) := dk_100 (dk_at dksX1_measuresLeast_0 7 rfl rfl)
theorem dX1_measuresLeast_8 : decode cX1_measuresLeast 8 = .ok (.istore_n 2, 1) := dk_61 (dk_at dksX1_measuresLeast_0 8 rfl rfl)
theorem dX1_measuresLeast_9 : decode cX1_measuresLeast 9 = .ok (.iload_n 2, 1) := dk_28 (dk_at dksX1_measuresLeast_0 9 rfl rfl)
theorem dX1_measuresLeast_10 : decode cX1_measuresLeast 10 = .ok (.ifCond .le 121, 3) := dk_158 0 121 (dk_at dksX1_measuresLeast_0 10 rfl rfl)
theorem dX1_measuresLeast_13 : decode cX1_measuresLeast 13 = .ok (.iconst 0, 1) := dk_3 (dk_at dksX1_measuresLeast_0 13 rfl rfl)
theorem dX1_measuresLeast_14 : decode cX1_measuresLeast 14 = .ok (.istore_n 3, 1) := dk_62 (dk_at dksX1_measuresLeast_0 14 rfl rfl)
theorem dX1_measuresLeast_15 : decode cX1_measuresLeast 15 = .ok (.iload_n 3, 1) := dk_29 (dk_at dksX1_measuresLeast_0 15 rfl rfl)
theorem dX1_measuresLeast_16 : decode cX1_measuresLeast 16 = .ok (.aload_n 0, 1) := dk_42 (dk_at dksX1_measuresLeast_0 16 rfl rfl)
theorem dX1_measuresLeast_17 : decode cX1_measuresLeast 17 = .ok (.getfield 102, 3) := dk_180 0 102 (dk_at dksX1_measuresLeast_0 17 rfl rfl)
theorem dX1_measuresLeast_20 : decode cX1_measuresLeast 20 = .ok (.if_icmp .ge 105, 3) := dk_162 0 105 (dk_at dksX1_measuresLeast_0 20 rfl rfl)
theorem dX1_measuresLeast_23 : decode cX1_measuresLeast 23 = .ok (.iload_n 2, 1) := dk_28 (dk_at dksX1_measuresLeast_0 23 rfl rfl)
theorem dX1_measuresLeast_24 : decode cX1_measuresLeast 24 = .ok (.iload_n 3, 1) := dk_29 (dk_at dksX1_measuresLeast_1 0 rfl rfl)
theorem dX1_measuresLeast_25 : decode cX1_measuresLeast 25 = .ok (.invokestatic 259, 3) := dk_184 1 3 (dk_at dksX1_measuresLeast_1 1 rfl rfl)
theorem dX1_measuresLeast_28 : decode cX1_measuresLeast 28 = .ok (.ifCond .ne 6, 3) := dk_154 0 6 (dk_at dksX1_measuresLeast_1 4 rfl rfl)
theorem dX1_measuresLeast_31 : decode cX1_measuresLeast 31 = .ok (.goto 88, 3) := dk_167 0 88 (dk_at dksX1_measuresLeast_1 7 rfl rfl)
theorem dX1_measuresLeast_34 : decode cX1_measuresLeast 34 = .ok (.iload_n 3, 1) := dk_29 (dk_at dksX1_measuresLeast_1 10 rfl rfl)
theorem dX1_measuresLeast_35 : decode cX1_measuresLeast 35 = .ok (.iload_n 1, 1) := dk_27 (dk_at dksX1_measuresLeast_1 11 rfl rfl)
theorem dX1_measuresLeast_36 : decode cX1_measuresLeast 36 = .ok (.if_icmp .ne 7, 3) := dk_160 0 7 (dk_at dksX1_measuresLeast_1 12 rfl rfl)
theorem dX1_measuresLeast_39 : decode cX1_measuresLeast 39 = .ok (.iconst 0, 1) := dk_3 (dk_at dksX1_measuresLeast_1 15 rfl rfl)
theorem dX1_measuresLeast_40 : decode cX1_measuresLeast 40 = .ok (.goto 6, 3) := dk_167 0 6 (dk_at dksX1_measuresLeast_1 16 rfl rfl)
theorem dX1_measuresLeast_43 : decode cX1_measuresLeast 43 = .ok (.ldc_w 381, 3) := dk_19 1 125 (dk_at dksX1_measuresLeast_1 19 rfl rfl)
theorem dX1_measuresLeast_46 : decode cX1_measuresLeast 46 = .ok (.istore 4, 2) := dk_54 4 (dk_at dksX1_measuresLeast_1 22 rfl rfl)
theorem dX1_measuresLeast_48 : decode cX1_measuresLeast 48 = .ok (.iconst 0, 1) := dk_3 (dk_at dksX1_measuresLeast_2 0 rfl rfl)
theorem dX1_measuresLeast_49 : decode cX1_measuresLeast 49 = .ok (.istore 5, 2) := dk_54 5 (dk_at dksX1_measuresLeast_2 1 rfl rfl)
theorem dX1_measuresLeast_51 : decode cX1_measuresLeast 51 = .ok (.iload 5, 2) := dk_21 5 (dk_at dksX1_measuresLeast_2 3 rfl rfl)
theorem dX1_measuresLeast_53 : decode cX1_measuresLeast 53 = .ok (.aload_n 0, 1) := dk_42 (dk_at dksX1_measuresLeast_2 5 rfl rfl)
theorem dX1_measuresLeast_54 : decode cX1_measuresLeast 54 = .ok (.getfield 102, 3) := dk_180 0 102 (dk_at dksX1_measuresLeast_2 6 rfl rfl)
theorem dX1_measuresLeast_57 : decode cX1_measuresLeast 57 = .ok (.if_icmp .ge 50, 3) := dk_162 0 50 (dk_at dksX1_measuresLeast_2 9 rfl rfl)
theorem dX1_measuresLeast_60 : decode cX1_measuresLeast 60 = .ok (.iload 4, 2) := dk_21 4 (dk_at dksX1_measuresLeast_2 12 rfl rfl)
theorem dX1_measuresLeast_62 : decode cX1_measuresLeast 62 = .ok (.ifCond .le 45, 3) := dk_158 0 45 (dk_at dksX1_measuresLeast_2 14 rfl rfl)
theorem dX1_measuresLeast_65 : decode cX1_measuresLeast 65 = .ok (.aload_n 0, 1) := dk_42 (dk_at dksX1_measuresLeast_2 17 rfl rfl)
theorem dX1_measuresLeast_66 : decode cX1_measuresLeast 66 = .ok (.iload_n 2, 1) := dk_28 (dk_at dksX1_measuresLeast_2 18 rfl rfl)
theorem dX1_measuresLeast_67 : decode cX1_measuresLeast 67 = .ok (.iload_n 3, 1) := dk_29 (dk_at dksX1_measuresLeast_2 19 rfl rfl)
theorem dX1_measuresLeast_68 : decode cX1_measuresLeast 68 = .ok (.iload 5, 2) := dk_21 5 (dk_at dksX1_measuresLeast_2 20 rfl rfl)
theorem dX1_measuresLeast_70 : decode cX1_measuresLeast 70 = .ok (.invokevirtual 361, 3) := dk_182 1 105 (dk_at dksX1_measuresLeast_3 0 rfl rfl)
theorem dX1_measuresLeast_73 : decode cX1_measuresLeast 73 = .ok (.ifCond .eq 28, 3) := dk_153 0 28 (dk_at dksX1_measuresLeast_3 3 rfl rfl)
theorem dX1_measuresLeast_76 : decode cX1_measuresLeast 76 = .ok (.iload 4, 2) := dk_21 4 (dk_at dksX1_measuresLeast_3 6 rfl rfl)
theorem dX1_measuresLeast_78 : decode cX1_measuresLeast 78 = .ok (.iconst 1, 1) := dk_4 (dk_at dksX1_measuresLeast_3 8 rfl rfl)
theorem dX1_measuresLeast_79 : decode cX1_measuresLeast 79 = .ok (.aload_n 0, 1) := dk_42 (dk_at dksX1_measuresLeast_3 9 rfl rfl)
theorem dX1_measuresLeast_80 : decode cX1_measuresLeast 80 = .ok (.getfield 67, 3) := dk_180 0 67 (dk_at dksX1_measuresLeast_3 10 rfl rfl)
theorem dX1_measuresLeast_83 : decode cX1_measuresLeast 83 = .ok (.iload_n 2, 1) := dk_28 (dk_at dksX1_measuresLeast_3 13 rfl rfl)
theorem dX1_measuresLeast_84 : decode cX1_measuresLeast 84 = .ok (.iconst 1, 1) := dk_4 (dk_at dksX1_measuresLeast_3 14 rfl rfl)
theorem dX1_measuresLeast_85 : decode cX1_measuresLeast 85 = .ok (.iload 5, 2) := dk_21 5 (dk_at dksX1_measuresLeast_3 15 rfl rfl)
theorem dX1_measuresLeast_87 : decode cX1_measuresLeast 87 = .ok (.ishl, 1) := dk_120 (dk_at dksX1_measuresLeast_3 17 rfl rfl)
theorem dX1_measuresLeast_88 : decode cX1_measuresLeast 88 = .ok (.ior, 1) := dk_128 (dk_at dksX1_measuresLeast_3 18 rfl rfl)
theorem dX1_measuresLeast_89 : decode cX1_measuresLeast 89 = .ok (.iload 5, 2) := dk_21 5 (dk_at dksX1_measuresLeast_3 19 rfl rfl)
theorem dX1_measuresLeast_91 : decode cX1_measuresLeast 91 = .ok (.invokestatic 364, 3) := dk_184 1 108 (dk_at dksX1_measuresLeast_3 21 rfl rfl)
theorem dX1_measuresLeast_94 : decode cX1_measuresLeast 94 = .ok (.iaload, 1) := dk_46 (dk_at dksX1_measuresLeast_4 0 rfl rfl)
theorem dX1_measuresLeast_95 : decode cX1_measuresLeast 95 = .ok (.iadd, 1) := dk_96 (dk_at dksX1_measuresLeast_4 1 rfl rfl)
theorem dX1_measuresLeast_96 : decode cX1_measuresLeast 96 = .ok (.invokestatic 122, 3) := dk_184 0 122 (dk_at dksX1_measuresLeast_4 2 rfl rfl)
theorem dX1_measuresLeast_99 : decode cX1_measuresLeast 99 = .ok (.istore 4, 2) := dk_54 4 (dk_at dksX1_measuresLeast_4 5 rfl rfl)
theorem dX1_measuresLeast_101 : decode cX1_measuresLeast 101 = .ok (.iinc 5 1, 3) := dk_132 5 1 (dk_at dksX1_measuresLeast_4 7 rfl rfl)
theorem dX1_measuresLeast_104 : decode cX1_measuresLeast 104 = .ok (.goto (-53), 3) := dk_167 255 203 (dk_at dksX1_measuresLeast_4 10 rfl rfl)
theorem dX1_measuresLeast_107 : decode cX1_measuresLeast 107 = .ok (.aload_n 0, 1) := dk_42 (dk_at dksX1_measuresLeast_4 13 rfl rfl)
theorem dX1_measuresLeast_108 : decode cX1_measuresLeast 108 = .ok (.getfield 67, 3) := dk_180 0 67 (dk_at dksX1_measuresLeast_4 14 rfl rfl)
theorem dX1_measuresLeast_111 : decode cX1_measuresLeast 111 = .ok (.iload_n 2, 1) := dk_28 (dk_at dksX1_measuresLeast_4 17 rfl rfl)
theorem dX1_measuresLeast_112 : decode cX1_measuresLeast 112 = .ok (.iload_n 3, 1) := dk_29 (dk_at dksX1_measuresLeast_4 18 rfl rfl)
theorem dX1_measuresLeast_113 : decode cX1_measuresLeast 113 = .ok (.invokestatic 364, 3) := dk_184 1 108 (dk_at dksX1_measuresLeast_4 19 rfl rfl)
theorem dX1_measuresLeast_116 : decode cX1_measuresLeast 116 = .ok (.iload 4, 2) := dk_21 4 (dk_at dksX1_measuresLeast_4 22 rfl rfl)
theorem dX1_measuresLeast_118 : decode cX1_measuresLeast 118 = .ok (.iastore, 1) := dk_79 (dk_at dksX1_measuresLeast_5 0 rfl rfl)
theorem dX1_measuresLeast_119 : decode cX1_measuresLeast 119 = .ok (.iinc 3 1, 3) := dk_132 3 1 (dk_at dksX1_measuresLeast_5 1 rfl rfl)
theorem dX1_measuresLeast_122 : decode cX1_measuresLeast 122 = .ok (.goto (-107), 3) := dk_167 255 149 (dk_at dksX1_measuresLeast_5 4 rfl rfl)
theorem dX1_measuresLeast_125 : decode cX1_measuresLeast 125 = .ok (.iinc 2 (-1), 3) := dk_132 2 255 (dk_at dksX1_measuresLeast_5 7 rfl rfl)
theorem dX1_measuresLeast_128 : decode cX1_measuresLeast 128 = .ok (.goto (-119), 3) := dk_167 255 137 (dk_at dksX1_measuresLeast_5 10 rfl rfl)
theorem dX1_measuresLeast_131 : decode cX1_measuresLeast 131 = .ok (.return_, 1) := dk_177 (dk_at dksX1_measuresLeast_5 13 rfl rfl)
abbrev cX1_bears : ByteArray := prog_1_method_70_code
def yX1_bears : MethodName := ⟨RX1, "bears", "(I)I"⟩
def dkwX1_bears_4 : List UInt8 := [182, 1, 53, 184, 1, 108, 46, 172]
abbrev dktX1_bears_4 : List UInt8 := dkwX1_bears_4 ++ []
def dkwX1_bears_3 : List UInt8 := [181, 1, 81, 42, 42, 182, 1, 50, 42, 182, 1, 53, 182, 1, 118, 42, 180, 0, 67, 42, 182, 1, 50, 42]
abbrev dktX1_bears_3 : List UInt8 := dkwX1_bears_3 ++ dktX1_bears_4
def dkwX1_bears_2 : List UInt8 := [167, 0, 4, 2, 126, 181, 1, 98, 132, 2, 1, 167, 255, 215, 42, 2, 3, 182, 1, 114, 42, 3]
abbrev dktX1_bears_2 : List UInt8 := dkwX1_bears_2 ++ dktX1_bears_3
def dkwX1_bears_1 : List UInt8 := [42, 89, 180, 1, 98, 42, 28, 182, 1, 10, 27, 184, 1, 3, 153, 0, 11, 4, 28, 120, 2, 130]
abbrev dktX1_bears_1 : List UInt8 := dkwX1_bears_1 ++ dktX1_bears_2
def dkwX1_bears_0 : List UInt8 := [42, 27, 182, 1, 13, 154, 0, 5, 2, 172, 42, 182, 1, 111, 3, 61, 28, 42, 180, 0, 102, 162, 0, 39]
abbrev dktX1_bears_0 : List UInt8 := dkwX1_bears_0 ++ dktX1_bears_1
theorem dksX1_bears_0 : cX1_bears.data.toList.drop 0 = dktX1_bears_0 := by decide +kernel
theorem dksX1_bears_1 : cX1_bears.data.toList.drop 24 = dktX1_bears_1 := dk_seg dksX1_bears_0 24 rfl rfl
theorem dksX1_bears_2 : cX1_bears.data.toList.drop 46 = dktX1_bears_2 := dk_seg dksX1_bears_1 22 rfl rfl
theorem dksX1_bears_3 : cX1_bears.data.toList.drop 68 = dktX1_bears_3 := dk_seg dksX1_bears_2 22 rfl rfl
theorem dksX1_bears_4 : cX1_bears.data.toList.drop 92 = dktX1_bears_4 := dk_seg dksX1_bears_3 24 rfl rfl
theorem dX1_bears_0 : decode cX1_bears 0 = .ok (.aload_n 0, 1) := dk_42 (dk_at dksX1_bears_0 0 rfl rfl)
theorem dX1_bears_1 : decode cX1_bears 1 = .ok (.iload_n 1, 1) := dk_27 (dk_at dksX1_bears_0 1 rfl rfl)
theorem dX1_bears_2 : decode cX1_bears 2 = .ok (.invokevirtual 269, 3) := dk_182 1 13 (dk_at dksX1_bears_0 2 rfl rfl)
theorem dX1_bears_5 : decode cX1_bears 5 = .ok (.ifCond .ne 5, 3) := dk_154 0 5 (dk_at dksX1_bears_0 5 rfl rfl)
theorem dX1_bears_8 : decode cX1_bears 8 = .ok (.iconst (-1), 1) := dk_2 (dk_at dksX1_bears_0 8 rfl rfl)
theorem dX1_bears_9 : decode cX1_bears 9 = .ok (.ireturn, 1) := dk_172 (dk_at dksX1_bears_0 9 rfl rfl)
theorem dX1_bears_10 : decode cX1_bears 10 = .ok (.aload_n 0, 1) := dk_42 (dk_at dksX1_bears_0 10 rfl rfl)
theorem dX1_bears_11 : decode cX1_bears 11 = .ok (.invokevirtual 367, 3) := dk_182 1 111 (dk_at dksX1_bears_0 11 rfl rfl)
theorem dX1_bears_14 : decode cX1_bears 14 = .ok (.iconst 0, 1) := dk_3 (dk_at dksX1_bears_0 14 rfl rfl)
theorem dX1_bears_15 : decode cX1_bears 15 = .ok (.istore_n 2, 1) := dk_61 (dk_at dksX1_bears_0 15 rfl rfl)
theorem dX1_bears_16 : decode cX1_bears 16 = .ok (.iload_n 2, 1) := dk_28 (dk_at dksX1_bears_0 16 rfl rfl)
theorem dX1_bears_17 : decode cX1_bears 17 = .ok (.aload_n 0, 1) := dk_42 (dk_at dksX1_bears_0 17 rfl rfl)
theorem dX1_bears_18 : decode cX1_bears 18 = .ok (.getfield 102, 3) := dk_180 0 102 (dk_at dksX1_bears_0 18 rfl rfl)
theorem dX1_bears_21 : decode cX1_bears 21 = .ok (.if_icmp .ge 39, 3) := dk_162 0 39 (dk_at dksX1_bears_0 21 rfl rfl)
theorem dX1_bears_24 : decode cX1_bears 24 = .ok (.aload_n 0, 1) := dk_42 (dk_at dksX1_bears_1 0 rfl rfl)
theorem dX1_bears_25 : decode cX1_bears 25 = .ok (.dup, 1) := dk_89 (dk_at dksX1_bears_1 1 rfl rfl)
theorem dX1_bears_26 : decode cX1_bears 26 = .ok (.getfield 354, 3) := dk_180 1 98 (dk_at dksX1_bears_1 2 rfl rfl)
theorem dX1_bears_29 : decode cX1_bears 29 = .ok (.aload_n 0, 1) := dk_42 (dk_at dksX1_bears_1 5 rfl rfl)
theorem dX1_bears_30 : decode cX1_bears 30 = .ok (.iload_n 2, 1) := dk_28 (dk_at dksX1_bears_1 6 rfl rfl)
theorem dX1_bears_31 : decode cX1_bears 31 = .ok (.invokevirtual 266, 3) := dk_182 1 10 (dk_at dksX1_bears_1 7 rfl rfl)
theorem dX1_bears_34 : decode cX1_bears 34 = .ok (.iload_n 1, 1) := dk_27 (dk_at dksX1_bears_1 10 rfl rfl)
theorem dX1_bears_35 : decode cX1_bears 35 = .ok (.invokestatic 259, 3) := dk_184 1 3 (dk_at dksX1_bears_1 11 rfl rfl)
theorem dX1_bears_38 : decode cX1_bears 38 = .ok (.ifCond .eq 11, 3) := dk_153 0 11 (dk_at dksX1_bears_1 14 rfl rfl)
theorem dX1_bears_41 : decode cX1_bears 41 = .ok (.iconst 1, 1) := dk_4 (dk_at dksX1_bears_1 17 rfl rfl)
theorem dX1_bears_42 : decode cX1_bears 42 = .ok (.iload_n 2, 1) := dk_28 (dk_at dksX1_bears_1 18 rfl rfl)
theorem dX1_bears_43 : decode cX1_bears 43 = .ok (.ishl, 1) := dk_120 (dk_at dksX1_bears_1 19 rfl rfl)
theorem dX1_bears_44 : decode cX1_bears 44 = .ok (.iconst (-1), 1) := dk_2 (dk_at dksX1_bears_1 20 rfl rfl)
theorem dX1_bears_45 : decode cX1_bears 45 = .ok (.ixor, 1) := dk_130 (dk_at dksX1_bears_1 21 rfl rfl)
theorem dX1_bears_46 : decode cX1_bears 46 = .ok (.goto 4, 3) := dk_167 0 4 (dk_at dksX1_bears_2 0 rfl rfl)
theorem dX1_bears_49 : decode cX1_bears 49 = .ok (.iconst (-1), 1) := dk_2 (dk_at dksX1_bears_2 3 rfl rfl)
theorem dX1_bears_50 : decode cX1_bears 50 = .ok (.iand, 1) := dk_126 (dk_at dksX1_bears_2 4 rfl rfl)
theorem dX1_bears_51 : decode cX1_bears 51 = .ok (.putfield 354, 3) := dk_181 1 98 (dk_at dksX1_bears_2 5 rfl rfl)
theorem dX1_bears_54 : decode cX1_bears 54 = .ok (.iinc 2 1, 3) := dk_132 2 1 (dk_at dksX1_bears_2 8 rfl rfl)
theorem dX1_bears_57 : decode cX1_bears 57 = .ok (.goto (-41), 3) := dk_167 255 215 (dk_at dksX1_bears_2 11 rfl rfl)
theorem dX1_bears_60 : decode cX1_bears 60 = .ok (.aload_n 0, 1) := dk_42 (dk_at dksX1_bears_2 14 rfl rfl)
theorem dX1_bears_61 : decode cX1_bears 61 = .ok (.iconst (-1), 1) := dk_2 (dk_at dksX1_bears_2 15 rfl rfl)
theorem dX1_bears_62 : decode cX1_bears 62 = .ok (.iconst 0, 1) := dk_3 (dk_at dksX1_bears_2 16 rfl rfl)
theorem dX1_bears_63 : decode cX1_bears 63 = .ok (.invokevirtual 370, 3) := dk_182 1 114 (dk_at dksX1_bears_2 17 rfl rfl)
theorem dX1_bears_66 : decode cX1_bears 66 = .ok (.aload_n 0, 1) := dk_42 (dk_at dksX1_bears_2 20 rfl rfl)
theorem dX1_bears_67 : decode cX1_bears 67 = .ok (.iconst 0, 1) := dk_3 (dk_at dksX1_bears_2 21 rfl rfl)
theorem dX1_bears_68 : decode cX1_bears 68 = .ok (.putfield 337, 3) := dk_181 1 81 (dk_at dksX1_bears_3 0 rfl rfl)
theorem dX1_bears_71 : decode cX1_bears 71 = .ok (.aload_n 0, 1) := dk_42 (dk_at dksX1_bears_3 3 rfl rfl)
theorem dX1_bears_72 : decode cX1_bears 72 = .ok (.aload_n 0, 1) := dk_42 (dk_at dksX1_bears_3 4 rfl rfl)
theorem dX1_bears_73 : decode cX1_bears 73 = .ok (.invokevirtual 306, 3) := dk_182 1 50 (dk_at dksX1_bears_3 5 rfl rfl)
theorem dX1_bears_76 : decode cX1_bears 76 = .ok (.aload_n 0, 1) := dk_42 (dk_at dksX1_bears_3 8 rfl rfl)
theorem dX1_bears_77 : decode cX1_bears 77 = .ok (.invokevirtual 309, 3) := dk_182 1 53 (dk_at dksX1_bears_3 9 rfl rfl)
theorem dX1_bears_80 : decode cX1_bears 80 = .ok (.invokevirtual 374, 3) := dk_182 1 118 (dk_at dksX1_bears_3 12 rfl rfl)
theorem dX1_bears_83 : decode cX1_bears 83 = .ok (.aload_n 0, 1) := dk_42 (dk_at dksX1_bears_3 15 rfl rfl)
theorem dX1_bears_84 : decode cX1_bears 84 = .ok (.getfield 67, 3) := dk_180 0 67 (dk_at dksX1_bears_3 16 rfl rfl)
theorem dX1_bears_87 : decode cX1_bears 87 = .ok (.aload_n 0, 1) := dk_42 (dk_at dksX1_bears_3 19 rfl rfl)
theorem dX1_bears_88 : decode cX1_bears 88 = .ok (.invokevirtual 306, 3) := dk_182 1 50 (dk_at dksX1_bears_3 20 rfl rfl)
theorem dX1_bears_91 : decode cX1_bears 91 = .ok (.aload_n 0, 1) := dk_42 (dk_at dksX1_bears_3 23 rfl rfl)
theorem dX1_bears_92 : decode cX1_bears 92 = .ok (.invokevirtual 309, 3) := dk_182 1 53 (dk_at dksX1_bears_4 0 rfl rfl)
theorem dX1_bears_95 : decode cX1_bears 95 = .ok (.invokestatic 364, 3) := dk_184 1 108 (dk_at dksX1_bears_4 3 rfl rfl)
theorem dX1_bears_98 : decode cX1_bears 98 = .ok (.iaload, 1) := dk_46 (dk_at dksX1_bears_4 6 rfl rfl)
theorem dX1_bears_99 : decode cX1_bears 99 = .ok (.ireturn, 1) := dk_172 (dk_at dksX1_bears_4 7 rfl rfl)
abbrev cX1_isGuest : ByteArray := prog_1_method_5_code
def yX1_isGuest : MethodName := ⟨RX1, "isGuest", "(I)Z"⟩
def dkwX1_isGuest_0 : List UInt8 := [27, 133, 9, 42, 180, 0, 110, 4, 100, 133, 184, 0, 106, 172]
abbrev dktX1_isGuest_0 : List UInt8 := dkwX1_isGuest_0 ++ []
theorem dksX1_isGuest_0 : cX1_isGuest.data.toList.drop 0 = dktX1_isGuest_0 := by decide +kernel
theorem dX1_isGuest_0 : decode cX1_isGuest 0 = .ok (.iload_n 1, 1) := dk_27 (dk_at dksX1_isGuest_0 0 rfl rfl)
theorem dX1_isGuest_1 : decode cX1_isGuest 1 = .ok (.i2l, 1) := dk_133 (dk_at dksX1_isGuest_0 1 rfl rfl)
theorem dX1_isGuest_2 : decode cX1_isGuest 2 = .ok (.lconst 0, 1) := dk_9 (dk_at dksX1_isGuest_0 2 rfl rfl)
theorem dX1_isGuest_3 : decode cX1_isGuest 3 = .ok (.aload_n 0, 1) := dk_42 (dk_at dksX1_isGuest_0 3 rfl rfl)
theorem dX1_isGuest_4 : decode cX1_isGuest 4 = .ok (.getfield 110, 3) := dk_180 0 110 (dk_at dksX1_isGuest_0 4 rfl rfl)
theorem dX1_isGuest_7 : decode cX1_isGuest 7 = .ok (.iconst 1, 1) := dk_4 (dk_at dksX1_isGuest_0 7 rfl rfl)
theorem dX1_isGuest_8 : decode cX1_isGuest 8 = .ok (.isub, 1) := dk_100 (dk_at dksX1_isGuest_0 8 rfl rfl)
theorem dX1_isGuest_9 : decode cX1_isGuest 9 = .ok (.i2l, 1) := dk_133 (dk_at dksX1_isGuest_0 9 rfl rfl)
theorem dX1_isGuest_10 : decode cX1_isGuest 10 = .ok (.invokestatic 106, 3) := dk_184 0 106 (dk_at dksX1_isGuest_0 10 rfl rfl)
theorem dX1_isGuest_13 : decode cX1_isGuest 13 = .ok (.ireturn, 1) := dk_172 (dk_at dksX1_isGuest_0 13 rfl rfl)
abbrev cX1_beside : ByteArray := prog_1_method_71_code
def yX1_beside : MethodName := ⟨RX1, "beside", "(I)I"⟩
def dkwX1_beside_0 : List UInt8 := [42, 27, 182, 0, 252, 153, 0, 11, 42, 27, 182, 1, 129, 167, 0, 4, 2, 172]
abbrev dktX1_beside_0 : List UInt8 := dkwX1_beside_0 ++ []
theorem dksX1_beside_0 : cX1_beside.data.toList.drop 0 = dktX1_beside_0 := by decide +kernel
theorem dX1_beside_0 : decode cX1_beside 0 = .ok (.aload_n 0, 1) := dk_42 (dk_at dksX1_beside_0 0 rfl rfl)
theorem dX1_beside_1 : decode cX1_beside 1 = .ok (.iload_n 1, 1) := dk_27 (dk_at dksX1_beside_0 1 rfl rfl)
theorem dX1_beside_2 : decode cX1_beside 2 = .ok (.invokevirtual 252, 3) := dk_182 0 252 (dk_at dksX1_beside_0 2 rfl rfl)
theorem dX1_beside_5 : decode cX1_beside 5 = .ok (.ifCond .eq 11, 3) := dk_153 0 11 (dk_at dksX1_beside_0 5 rfl rfl)
theorem dX1_beside_8 : decode cX1_beside 8 = .ok (.aload_n 0, 1) := dk_42 (dk_at dksX1_beside_0 8 rfl rfl)
theorem dX1_beside_9 : decode cX1_beside 9 = .ok (.iload_n 1, 1) := dk_27 (dk_at dksX1_beside_0 9 rfl rfl)
theorem dX1_beside_10 : decode cX1_beside 10 = .ok (.invokevirtual 385, 3) := dk_182 1 129 (dk_at dksX1_beside_0 10 rfl rfl)
theorem dX1_beside_13 : decode cX1_beside 13 = .ok (.goto 4, 3) := dk_167 0 4 (dk_at dksX1_beside_0 13 rfl rfl)
theorem dX1_beside_16 : decode cX1_beside 16 = .ok (.iconst (-1), 1) := dk_2 (dk_at dksX1_beside_0 16 rfl rfl)
theorem dX1_beside_17 : decode cX1_beside 17 = .ok (.ireturn, 1) := dk_172 (dk_at dksX1_beside_0 17 rfl rfl)
abbrev cX1_pairsOf : ByteArray := prog_1_method_75_code
def yX1_pairsOf : MethodName := ⟨RX1, "pairsOf", "(I)I"⟩
def dkwX1_pairsOf_1 : List UInt8 := [153, 0, 9, 4, 29, 120, 167, 0, 4, 3, 128, 61, 132, 3, 1, 167, 255, 221, 28, 172]
abbrev dktX1_pairsOf_1 : List UInt8 := dkwX1_pairsOf_1 ++ []
def dkwX1_pairsOf_0 : List UInt8 := [3, 61, 3, 62, 29, 42, 180, 0, 102, 162, 0, 33, 28, 29, 27, 159, 0, 18, 42, 27, 29, 182, 1, 34]
abbrev dktX1_pairsOf_0 : List UInt8 := dkwX1_pairsOf_0 ++ dktX1_pairsOf_1
theorem dksX1_pairsOf_0 : cX1_pairsOf.data.toList.drop 0 = dktX1_pairsOf_0 := by decide +kernel
theorem dksX1_pairsOf_1 : cX1_pairsOf.data.toList.drop 24 = dktX1_pairsOf_1 := dk_seg dksX1_pairsOf_0 24 rfl rfl
theorem dX1_pairsOf_0 : decode cX1_pairsOf 0 = .ok (.iconst 0, 1) := dk_3 (dk_at dksX1_pairsOf_0 0 rfl rfl)
theorem dX1_pairsOf_1 : decode cX1_pairsOf 1 = .ok (.istore_n 2, 1) := dk_61 (dk_at dksX1_pairsOf_0 1 rfl rfl)
theorem dX1_pairsOf_2 : decode cX1_pairsOf 2 = .ok (.iconst 0, 1) := dk_3 (dk_at dksX1_pairsOf_0 2 rfl rfl)
theorem dX1_pairsOf_3 : decode cX1_pairsOf 3 = .ok (.istore_n 3, 1) := dk_62 (dk_at dksX1_pairsOf_0 3 rfl rfl)
theorem dX1_pairsOf_4 : decode cX1_pairsOf 4 = .ok (.iload_n 3, 1) := dk_29 (dk_at dksX1_pairsOf_0 4 rfl rfl)
theorem dX1_pairsOf_5 : decode cX1_pairsOf 5 = .ok (.aload_n 0, 1) := dk_42 (dk_at dksX1_pairsOf_0 5 rfl rfl)
theorem dX1_pairsOf_6 : decode cX1_pairsOf 6 = .ok (.getfield 102, 3) := dk_180 0 102 (dk_at dksX1_pairsOf_0 6 rfl rfl)
theorem dX1_pairsOf_9 : decode cX1_pairsOf 9 = .ok (.if_icmp .ge 33, 3) := dk_162 0 33 (dk_at dksX1_pairsOf_0 9 rfl rfl)
theorem dX1_pairsOf_12 : decode cX1_pairsOf 12 = .ok (.iload_n 2, 1) := dk_28 (dk_at dksX1_pairsOf_0 12 rfl rfl)
theorem dX1_pairsOf_13 : decode cX1_pairsOf 13 = .ok (.iload_n 3, 1) := dk_29 (dk_at dksX1_pairsOf_0 13 rfl rfl)
theorem dX1_pairsOf_14 : decode cX1_pairsOf 14 = .ok (.iload_n 1, 1) := dk_27 (dk_at dksX1_pairsOf_0 14 rfl rfl)
theorem dX1_pairsOf_15 : decode cX1_pairsOf 15 = .ok (.if_icmp .eq 18, 3) := dk_159 0 18 (dk_at dksX1_pairsOf_0 15 rfl rfl)
theorem dX1_pairsOf_18 : decode cX1_pairsOf 18 = .ok (.aload_n 0, 1) := dk_42 (dk_at dksX1_pairsOf_0 18 rfl rfl)
theorem dX1_pairsOf_19 : decode cX1_pairsOf 19 = .ok (.iload_n 1, 1) := dk_27 (dk_at dksX1_pairsOf_0 19 rfl rfl)
theorem dX1_pairsOf_20 : decode cX1_pairsOf 20 = .ok (.iload_n 3, 1) := dk_29 (dk_at dksX1_pairsOf_0 20 rfl rfl)
theorem dX1_pairsOf_21 : decode cX1_pairsOf 21 = .ok (.invokevirtual 290, 3) := dk_182 1 34 (dk_at dksX1_pairsOf_0 21 rfl rfl)
theorem dX1_pairsOf_24 : decode cX1_pairsOf 24 = .ok (.ifCond .eq 9, 3) := dk_153 0 9 (dk_at dksX1_pairsOf_1 0 rfl rfl)
theorem dX1_pairsOf_27 : decode cX1_pairsOf 27 = .ok (.iconst 1, 1) := dk_4 (dk_at dksX1_pairsOf_1 3 rfl rfl)
theorem dX1_pairsOf_28 : decode cX1_pairsOf 28 = .ok (.iload_n 3, 1) := dk_29 (dk_at dksX1_pairsOf_1 4 rfl rfl)
theorem dX1_pairsOf_29 : decode cX1_pairsOf 29 = .ok (.ishl, 1) := dk_120 (dk_at dksX1_pairsOf_1 5 rfl rfl)
theorem dX1_pairsOf_30 : decode cX1_pairsOf 30 = .ok (.goto 4, 3) := dk_167 0 4 (dk_at dksX1_pairsOf_1 6 rfl rfl)
theorem dX1_pairsOf_33 : decode cX1_pairsOf 33 = .ok (.iconst 0, 1) := dk_3 (dk_at dksX1_pairsOf_1 9 rfl rfl)
theorem dX1_pairsOf_34 : decode cX1_pairsOf 34 = .ok (.ior, 1) := dk_128 (dk_at dksX1_pairsOf_1 10 rfl rfl)
theorem dX1_pairsOf_35 : decode cX1_pairsOf 35 = .ok (.istore_n 2, 1) := dk_61 (dk_at dksX1_pairsOf_1 11 rfl rfl)
theorem dX1_pairsOf_36 : decode cX1_pairsOf 36 = .ok (.iinc 3 1, 3) := dk_132 3 1 (dk_at dksX1_pairsOf_1 12 rfl rfl)
theorem dX1_pairsOf_39 : decode cX1_pairsOf 39 = .ok (.goto (-35), 3) := dk_167 255 221 (dk_at dksX1_pairsOf_1 15 rfl rfl)
theorem dX1_pairsOf_42 : decode cX1_pairsOf 42 = .ok (.iload_n 2, 1) := dk_28 (dk_at dksX1_pairsOf_1 18 rfl rfl)
theorem dX1_pairsOf_43 : decode cX1_pairsOf 43 = .ok (.ireturn, 1) := dk_172 (dk_at dksX1_pairsOf_1 19 rfl rfl)
abbrev cX1_parts : ByteArray := prog_1_method_73_code
def yX1_parts : MethodName := ⟨RX1, "parts", "()I"⟩
def dkwX1_parts_2 : List UInt8 := [132, 2, 1, 167, 255, 217, 42, 180, 1, 81, 172]
abbrev dktX1_parts_2 : List UInt8 := dkwX1_parts_2 ++ []
def dkwX1_parts_1 : List UInt8 := [153, 0, 6, 167, 0, 20, 27, 42, 28, 182, 1, 132, 128, 60, 42, 42, 28, 182, 1, 132, 182, 1, 84]
abbrev dktX1_parts_1 : List UInt8 := dkwX1_parts_1 ++ dktX1_parts_2
def dkwX1_parts_0 : List UInt8 := [42, 3, 181, 1, 81, 3, 60, 3, 61, 28, 42, 180, 0, 102, 162, 0, 37, 27, 28, 184, 1, 3]
abbrev dktX1_parts_0 : List UInt8 := dkwX1_parts_0 ++ dktX1_parts_1
theorem dksX1_parts_0 : cX1_parts.data.toList.drop 0 = dktX1_parts_0 := by decide +kernel
theorem dksX1_parts_1 : cX1_parts.data.toList.drop 22 = dktX1_parts_1 := dk_seg dksX1_parts_0 22 rfl rfl
theorem dksX1_parts_2 : cX1_parts.data.toList.drop 45 = dktX1_parts_2 := dk_seg dksX1_parts_1 23 rfl rfl
theorem dX1_parts_0 : decode cX1_parts 0 = .ok (.aload_n 0, 1) := dk_42 (dk_at dksX1_parts_0 0 rfl rfl)
theorem dX1_parts_1 : decode cX1_parts 1 = .ok (.iconst 0, 1) := dk_3 (dk_at dksX1_parts_0 1 rfl rfl)
theorem dX1_parts_2 : decode cX1_parts 2 = .ok (.putfield 337, 3) := dk_181 1 81 (dk_at dksX1_parts_0 2 rfl rfl)
theorem dX1_parts_5 : decode cX1_parts 5 = .ok (.iconst 0, 1) := dk_3 (dk_at dksX1_parts_0 5 rfl rfl)
theorem dX1_parts_6 : decode cX1_parts 6 = .ok (.istore_n 1, 1) := dk_60 (dk_at dksX1_parts_0 6 rfl rfl)
theorem dX1_parts_7 : decode cX1_parts 7 = .ok (.iconst 0, 1) := dk_3 (dk_at dksX1_parts_0 7 rfl rfl)
theorem dX1_parts_8 : decode cX1_parts 8 = .ok (.istore_n 2, 1) := dk_61 (dk_at dksX1_parts_0 8 rfl rfl)
theorem dX1_parts_9 : decode cX1_parts 9 = .ok (.iload_n 2, 1) := dk_28 (dk_at dksX1_parts_0 9 rfl rfl)
theorem dX1_parts_10 : decode cX1_parts 10 = .ok (.aload_n 0, 1) := dk_42 (dk_at dksX1_parts_0 10 rfl rfl)
theorem dX1_parts_11 : decode cX1_parts 11 = .ok (.getfield 102, 3) := dk_180 0 102 (dk_at dksX1_parts_0 11 rfl rfl)
theorem dX1_parts_14 : decode cX1_parts 14 = .ok (.if_icmp .ge 37, 3) := dk_162 0 37 (dk_at dksX1_parts_0 14 rfl rfl)
theorem dX1_parts_17 : decode cX1_parts 17 = .ok (.iload_n 1, 1) := dk_27 (dk_at dksX1_parts_0 17 rfl rfl)
theorem dX1_parts_18 : decode cX1_parts 18 = .ok (.iload_n 2, 1) := dk_28 (dk_at dksX1_parts_0 18 rfl rfl)
theorem dX1_parts_19 : decode cX1_parts 19 = .ok (.invokestatic 259, 3) := dk_184 1 3 (dk_at dksX1_parts_0 19 rfl rfl)
theorem dX1_parts_22 : decode cX1_parts 22 = .ok (.ifCond .eq 6, 3) := dk_153 0 6 (dk_at dksX1_parts_1 0 rfl rfl)
theorem dX1_parts_25 : decode cX1_parts 25 = .ok (.goto 20, 3) := dk_167 0 20 (dk_at dksX1_parts_1 3 rfl rfl)
theorem dX1_parts_28 : decode cX1_parts 28 = .ok (.iload_n 1, 1) := dk_27 (dk_at dksX1_parts_1 6 rfl rfl)
theorem dX1_parts_29 : decode cX1_parts 29 = .ok (.aload_n 0, 1) := dk_42 (dk_at dksX1_parts_1 7 rfl rfl)
theorem dX1_parts_30 : decode cX1_parts 30 = .ok (.iload_n 2, 1) := dk_28 (dk_at dksX1_parts_1 8 rfl rfl)
theorem dX1_parts_31 : decode cX1_parts 31 = .ok (.invokevirtual 388, 3) := dk_182 1 132 (dk_at dksX1_parts_1 9 rfl rfl)
theorem dX1_parts_34 : decode cX1_parts 34 = .ok (.ior, 1) := dk_128 (dk_at dksX1_parts_1 12 rfl rfl)
theorem dX1_parts_35 : decode cX1_parts 35 = .ok (.istore_n 1, 1) := dk_60 (dk_at dksX1_parts_1 13 rfl rfl)
theorem dX1_parts_36 : decode cX1_parts 36 = .ok (.aload_n 0, 1) := dk_42 (dk_at dksX1_parts_1 14 rfl rfl)
theorem dX1_parts_37 : decode cX1_parts 37 = .ok (.aload_n 0, 1) := dk_42 (dk_at dksX1_parts_1 15 rfl rfl)
theorem dX1_parts_38 : decode cX1_parts 38 = .ok (.iload_n 2, 1) := dk_28 (dk_at dksX1_parts_1 16 rfl rfl)
theorem dX1_parts_39 : decode cX1_parts 39 = .ok (.invokevirtual 388, 3) := dk_182 1 132 (dk_at dksX1_parts_1 17 rfl rfl)
theorem dX1_parts_42 : decode cX1_parts 42 = .ok (.invokevirtual 340, 3) := dk_182 1 84 (dk_at dksX1_parts_1 20 rfl rfl)
theorem dX1_parts_45 : decode cX1_parts 45 = .ok (.iinc 2 1, 3) := dk_132 2 1 (dk_at dksX1_parts_2 0 rfl rfl)
theorem dX1_parts_48 : decode cX1_parts 48 = .ok (.goto (-39), 3) := dk_167 255 217 (dk_at dksX1_parts_2 3 rfl rfl)
theorem dX1_parts_51 : decode cX1_parts 51 = .ok (.aload_n 0, 1) := dk_42 (dk_at dksX1_parts_2 6 rfl rfl)
theorem dX1_parts_52 : decode cX1_parts 52 = .ok (.getfield 337, 3) := dk_180 1 81 (dk_at dksX1_parts_2 7 rfl rfl)
theorem dX1_parts_55 : decode cX1_parts 55 = .ok (.ireturn, 1) := dk_172 (dk_at dksX1_parts_2 10 rfl rfl)
abbrev cX1_partOf : ByteArray := prog_1_method_72_code
def yX1_partOf : MethodName := ⟨RX1, "partOf", "(I)I"⟩
def dkwX1_partOf_2 : List UInt8 := [61, 132, 4, 1, 167, 255, 222, 132, 3, 1, 167, 255, 205, 28, 172]
abbrev dktX1_partOf_2 : List UInt8 := dkwX1_partOf_2 ++ []
def dkwX1_partOf_1 : List UInt8 := [162, 0, 31, 28, 28, 21, 4, 184, 1, 3, 153, 0, 12, 42, 21, 4, 182, 1, 129, 167, 0, 4, 3, 128]
abbrev dktX1_partOf_1 : List UInt8 := dkwX1_partOf_1 ++ dktX1_partOf_2
def dkwX1_partOf_0 : List UInt8 := [4, 27, 120, 61, 3, 62, 29, 42, 180, 0, 102, 162, 0, 49, 3, 54, 4, 21, 4, 42, 180, 0, 102]
abbrev dktX1_partOf_0 : List UInt8 := dkwX1_partOf_0 ++ dktX1_partOf_1
theorem dksX1_partOf_0 : cX1_partOf.data.toList.drop 0 = dktX1_partOf_0 := by decide +kernel
theorem dksX1_partOf_1 : cX1_partOf.data.toList.drop 23 = dktX1_partOf_1 := dk_seg dksX1_partOf_0 23 rfl rfl
theorem dksX1_partOf_2 : cX1_partOf.data.toList.drop 47 = dktX1_partOf_2 := dk_seg dksX1_partOf_1 24 rfl rfl
theorem dX1_partOf_0 : decode cX1_partOf 0 = .ok (.iconst 1, 1) := dk_4 (dk_at dksX1_partOf_0 0 rfl rfl)
theorem dX1_partOf_1 : decode cX1_partOf 1 = .ok (.iload_n 1, 1) := dk_27 (dk_at dksX1_partOf_0 1 rfl rfl)
theorem dX1_partOf_2 : decode cX1_partOf 2 = .ok (.ishl, 1) := dk_120 (dk_at dksX1_partOf_0 2 rfl rfl)
theorem dX1_partOf_3 : decode cX1_partOf 3 = .ok (.istore_n 2, 1) := dk_61 (dk_at dksX1_partOf_0 3 rfl rfl)
theorem dX1_partOf_4 : decode cX1_partOf 4 = .ok (.iconst 0, 1) := dk_3 (dk_at dksX1_partOf_0 4 rfl rfl)
theorem dX1_partOf_5 : decode cX1_partOf 5 = .ok (.istore_n 3, 1) := dk_62 (dk_at dksX1_partOf_0 5 rfl rfl)
theorem dX1_partOf_6 : decode cX1_partOf 6 = .ok (.iload_n 3, 1) := dk_29 (dk_at dksX1_partOf_0 6 rfl rfl)
theorem dX1_partOf_7 : decode cX1_partOf 7 = .ok (.aload_n 0, 1) := dk_42 (dk_at dksX1_partOf_0 7 rfl rfl)
theorem dX1_partOf_8 : decode cX1_partOf 8 = .ok (.getfield 102, 3) := dk_180 0 102 (dk_at dksX1_partOf_0 8 rfl rfl)
theorem dX1_partOf_11 : decode cX1_partOf 11 = .ok (.if_icmp .ge 49, 3) := dk_162 0 49 (dk_at dksX1_partOf_0 11 rfl rfl)
theorem dX1_partOf_14 : decode cX1_partOf 14 = .ok (.iconst 0, 1) := dk_3 (dk_at dksX1_partOf_0 14 rfl rfl)
theorem dX1_partOf_15 : decode cX1_partOf 15 = .ok (.istore 4, 2) := dk_54 4 (dk_at dksX1_partOf_0 15 rfl rfl)
theorem dX1_partOf_17 : decode cX1_partOf 17 = .ok (.iload 4, 2) := dk_21 4 (dk_at dksX1_partOf_0 17 rfl rfl)
theorem dX1_partOf_19 : decode cX1_partOf 19 = .ok (.aload_n 0, 1) := dk_42 (dk_at dksX1_partOf_0 19 rfl rfl)
theorem dX1_partOf_20 : decode cX1_partOf 20 = .ok (.getfield 102, 3) := dk_180 0 102 (dk_at dksX1_partOf_0 20 rfl rfl)
theorem dX1_partOf_23 : decode cX1_partOf 23 = .ok (.if_icmp .ge 31, 3) := dk_162 0 31 (dk_at dksX1_partOf_1 0 rfl rfl)
theorem dX1_partOf_26 : decode cX1_partOf 26 = .ok (.iload_n 2, 1) := dk_28 (dk_at dksX1_partOf_1 3 rfl rfl)
theorem dX1_partOf_27 : decode cX1_partOf 27 = .ok (.iload_n 2, 1) := dk_28 (dk_at dksX1_partOf_1 4 rfl rfl)
theorem dX1_partOf_28 : decode cX1_partOf 28 = .ok (.iload 4, 2) := dk_21 4 (dk_at dksX1_partOf_1 5 rfl rfl)
theorem dX1_partOf_30 : decode cX1_partOf 30 = .ok (.invokestatic 259, 3) := dk_184 1 3 (dk_at dksX1_partOf_1 7 rfl rfl)
theorem dX1_partOf_33 : decode cX1_partOf 33 = .ok (.ifCond .eq 12, 3) := dk_153 0 12 (dk_at dksX1_partOf_1 10 rfl rfl)
theorem dX1_partOf_36 : decode cX1_partOf 36 = .ok (.aload_n 0, 1) := dk_42 (dk_at dksX1_partOf_1 13 rfl rfl)
theorem dX1_partOf_37 : decode cX1_partOf 37 = .ok (.iload 4, 2) := dk_21 4 (dk_at dksX1_partOf_1 14 rfl rfl)
theorem dX1_partOf_39 : decode cX1_partOf 39 = .ok (.invokevirtual 385, 3) := dk_182 1 129 (dk_at dksX1_partOf_1 16 rfl rfl)
theorem dX1_partOf_42 : decode cX1_partOf 42 = .ok (.goto 4, 3) := dk_167 0 4 (dk_at dksX1_partOf_1 19 rfl rfl)
theorem dX1_partOf_45 : decode cX1_partOf 45 = .ok (.iconst 0, 1) := dk_3 (dk_at dksX1_partOf_1 22 rfl rfl)
theorem dX1_partOf_46 : decode cX1_partOf 46 = .ok (.ior, 1) := dk_128 (dk_at dksX1_partOf_1 23 rfl rfl)
theorem dX1_partOf_47 : decode cX1_partOf 47 = .ok (.istore_n 2, 1) := dk_61 (dk_at dksX1_partOf_2 0 rfl rfl)
theorem dX1_partOf_48 : decode cX1_partOf 48 = .ok (.iinc 4 1, 3) := dk_132 4 1 (dk_at dksX1_partOf_2 1 rfl rfl)
theorem dX1_partOf_51 : decode cX1_partOf 51 = .ok (.goto (-34), 3) := dk_167 255 222 (dk_at dksX1_partOf_2 4 rfl rfl)
theorem dX1_partOf_54 : decode cX1_partOf 54 = .ok (.iinc 3 1, 3) := dk_132 3 1 (dk_at dksX1_partOf_2 7 rfl rfl)
theorem dX1_partOf_57 : decode cX1_partOf 57 = .ok (.goto (-51), 3) := dk_167 255 205 (dk_at dksX1_partOf_2 10 rfl rfl)
theorem dX1_partOf_60 : decode cX1_partOf 60 = .ok (.iload_n 2, 1) := dk_28 (dk_at dksX1_partOf_2 13 rfl rfl)
theorem dX1_partOf_61 : decode cX1_partOf 61 = .ok (.ireturn, 1) := dk_172 (dk_at dksX1_partOf_2 14 rfl rfl)
abbrev cX1_rare : ByteArray := prog_1_method_74_code
def yX1_rare : MethodName := ⟨RX1, "rare", "()I"⟩
def dkwX1_rare_5 : List UInt8 := [172]
abbrev dktX1_rare_5 : List UInt8 := dkwX1_rare_5 ++ []
def dkwX1_rare_4 : List UInt8 := [132, 3, 1, 167, 255, 170, 27, 156, 0, 6, 16, 254, 172, 42, 3, 181, 1, 81, 42, 28, 182, 1, 84, 27]
abbrev dktX1_rare_4 : List UInt8 := dkwX1_rare_4 ++ dktX1_rare_5
def dkwX1_rare_3 : List UInt8 := [155, 0, 18, 21, 4, 184, 0, 237, 28, 184, 0, 237, 161, 0, 6, 167, 0, 8, 29, 60, 21, 4, 61]
abbrev dktX1_rare_3 : List UInt8 := dkwX1_rare_3 ++ dktX1_rare_4
def dkwX1_rare_2 : List UInt8 := [21, 5, 120, 167, 0, 4, 3, 128, 54, 4, 132, 5, 1, 167, 255, 217, 21, 4, 153, 0, 27, 27]
abbrev dktX1_rare_2 : List UInt8 := dkwX1_rare_2 ++ dktX1_rare_3
def dkwX1_rare_1 : List UInt8 := [180, 0, 102, 162, 0, 36, 21, 4, 42, 180, 0, 9, 21, 5, 46, 29, 184, 1, 3, 153, 0, 10, 4]
abbrev dktX1_rare_1 : List UInt8 := dkwX1_rare_1 ++ dktX1_rare_2
def dkwX1_rare_0 : List UInt8 := [16, 254, 60, 3, 61, 3, 62, 29, 16, 8, 162, 0, 86, 3, 54, 4, 3, 54, 5, 21, 5, 42]
abbrev dktX1_rare_0 : List UInt8 := dkwX1_rare_0 ++ dktX1_rare_1
theorem dksX1_rare_0 : cX1_rare.data.toList.drop 0 = dktX1_rare_0 := by decide +kernel
theorem dksX1_rare_1 : cX1_rare.data.toList.drop 22 = dktX1_rare_1 := dk_seg dksX1_rare_0 22 rfl rfl
theorem dksX1_rare_2 : cX1_rare.data.toList.drop 45 = dktX1_rare_2 := dk_seg dksX1_rare_1 23 rfl rfl
theorem dksX1_rare_3 : cX1_rare.data.toList.drop 67 = dktX1_rare_3 := dk_seg dksX1_rare_2 22 rfl rfl
theorem dksX1_rare_4 : cX1_rare.data.toList.drop 90 = dktX1_rare_4 := dk_seg dksX1_rare_3 23 rfl rfl
theorem dksX1_rare_5 : cX1_rare.data.toList.drop 114 = dktX1_rare_5 := dk_seg dksX1_rare_4 24 rfl rfl
theorem dX1_rare_0 : decode cX1_rare 0 = .ok (.bipush (-2), 2) := dk_16 254 (dk_at dksX1_rare_0 0 rfl rfl)
theorem dX1_rare_2 : decode cX1_rare 2 = .ok (.istore_n 1, 1) := dk_60 (dk_at dksX1_rare_0 2 rfl rfl)
theorem dX1_rare_3 : decode cX1_rare 3 = .ok (.iconst 0, 1) := dk_3 (dk_at dksX1_rare_0 3 rfl rfl)
theorem dX1_rare_4 : decode cX1_rare 4 = .ok (.istore_n 2, 1) := dk_61 (dk_at dksX1_rare_0 4 rfl rfl)
theorem dX1_rare_5 : decode cX1_rare 5 = .ok (.iconst 0, 1) := dk_3 (dk_at dksX1_rare_0 5 rfl rfl)
theorem dX1_rare_6 : decode cX1_rare 6 = .ok (.istore_n 3, 1) := dk_62 (dk_at dksX1_rare_0 6 rfl rfl)
theorem dX1_rare_7 : decode cX1_rare 7 = .ok (.iload_n 3, 1) := dk_29 (dk_at dksX1_rare_0 7 rfl rfl)
theorem dX1_rare_8 : decode cX1_rare 8 = .ok (.bipush 8, 2) := dk_16 8 (dk_at dksX1_rare_0 8 rfl rfl)
theorem dX1_rare_10 : decode cX1_rare 10 = .ok (.if_icmp .ge 86, 3) := dk_162 0 86 (dk_at dksX1_rare_0 10 rfl rfl)
theorem dX1_rare_13 : decode cX1_rare 13 = .ok (.iconst 0, 1) := dk_3 (dk_at dksX1_rare_0 13 rfl rfl)
theorem dX1_rare_14 : decode cX1_rare 14 = .ok (.istore 4, 2) := dk_54 4 (dk_at dksX1_rare_0 14 rfl rfl)
theorem dX1_rare_16 : decode cX1_rare 16 = .ok (.iconst 0, 1) := dk_3 (dk_at dksX1_rare_0 16 rfl rfl)
theorem dX1_rare_17 : decode cX1_rare 17 = .ok (.istore 5, 2) := dk_54 5 (dk_at dksX1_rare_0 17 rfl rfl)
theorem dX1_rare_19 : decode cX1_rare 19 = .ok (.iload 5, 2) := dk_21 5 (dk_at dksX1_rare_0 19 rfl rfl)
theorem dX1_rare_21 : decode cX1_rare 21 = .ok (.aload_n 0, 1) := dk_42 (dk_at dksX1_rare_0 21 rfl rfl)
theorem dX1_rare_22 : decode cX1_rare 22 = .ok (.getfield 102, 3) := dk_180 0 102 (dk_at dksX1_rare_1 0 rfl rfl)
theorem dX1_rare_25 : decode cX1_rare 25 = .ok (.if_icmp .ge 36, 3) := dk_162 0 36 (dk_at dksX1_rare_1 3 rfl rfl)
theorem dX1_rare_28 : decode cX1_rare 28 = .ok (.iload 4, 2) := dk_21 4 (dk_at dksX1_rare_1 6 rfl rfl)
theorem dX1_rare_30 : decode cX1_rare 30 = .ok (.aload_n 0, 1) := dk_42 (dk_at dksX1_rare_1 8 rfl rfl)
theorem dX1_rare_31 : decode cX1_rare 31 = .ok (.getfield 9, 3) := dk_180 0 9 (dk_at dksX1_rare_1 9 rfl rfl)
theorem dX1_rare_34 : decode cX1_rare 34 = .ok (.iload 5, 2) := dk_21 5 (dk_at dksX1_rare_1 12 rfl rfl)
theorem dX1_rare_36 : decode cX1_rare 36 = .ok (.iaload, 1) := dk_46 (dk_at dksX1_rare_1 14 rfl rfl)
theorem dX1_rare_37 : decode cX1_rare 37 = .ok (.iload_n 3, 1) := dk_29 (dk_at dksX1_rare_1 15 rfl rfl)
theorem dX1_rare_38 : decode cX1_rare 38 = .ok (.invokestatic 259, 3) := dk_184 1 3 (dk_at dksX1_rare_1 16 rfl rfl)
theorem dX1_rare_41 : decode cX1_rare 41 = .ok (.ifCond .eq 10, 3) := dk_153 0 10 (dk_at dksX1_rare_1 19 rfl rfl)
theorem dX1_rare_44 : decode cX1_rare 44 = .ok (.iconst 1, 1) := dk_4 (dk_at dksX1_rare_1 22 rfl rfl)
theorem dX1_rare_45 : decode cX1_rare 45 = .ok (.iload 5, 2) := dk_21 5 (dk_at dksX1_rare_2 0 rfl rfl)
theorem dX1_rare_47 : decode cX1_rare 47 = .ok (.ishl, 1) := dk_120 (dk_at dksX1_rare_2 2 rfl rfl)
theorem dX1_rare_48 : decode cX1_rare 48 = .ok (.goto 4, 3) := dk_167 0 4 (dk_at dksX1_rare_2 3 rfl rfl)
theorem dX1_rare_51 : decode cX1_rare 51 = .ok (.iconst 0, 1) := dk_3 (dk_at dksX1_rare_2 6 rfl rfl)
theorem dX1_rare_52 : decode cX1_rare 52 = .ok (.ior, 1) := dk_128 (dk_at dksX1_rare_2 7 rfl rfl)
theorem dX1_rare_53 : decode cX1_rare 53 = .ok (.istore 4, 2) := dk_54 4 (dk_at dksX1_rare_2 8 rfl rfl)
theorem dX1_rare_55 : decode cX1_rare 55 = .ok (.iinc 5 1, 3) := dk_132 5 1 (dk_at dksX1_rare_2 10 rfl rfl)
theorem dX1_rare_58 : decode cX1_rare 58 = .ok (.goto (-39), 3) := dk_167 255 217 (dk_at dksX1_rare_2 13 rfl rfl)
theorem dX1_rare_61 : decode cX1_rare 61 = .ok (.iload 4, 2) := dk_21 4 (dk_at dksX1_rare_2 16 rfl rfl)
theorem dX1_rare_63 : decode cX1_rare 63 = .ok (.ifCond .eq 27, 3) := dk_153 0 27 (dk_at dksX1_rare_2 18 rfl rfl)
theorem dX1_rare_66 : decode cX1_rare 66 = .ok (.iload_n 1, 1) := dk_27 (dk_at dksX1_rare_2 21 rfl rfl)
theorem dX1_rare_67 : decode cX1_rare 67 = .ok (.ifCond .lt 18, 3) := dk_155 0 18 (dk_at dksX1_rare_3 0 rfl rfl)
theorem dX1_rare_70 : decode cX1_rare 70 = .ok (.iload 4, 2) := dk_21 4 (dk_at dksX1_rare_3 3 rfl rfl)
theorem dX1_rare_72 : decode cX1_rare 72 = .ok (.invokestatic 237, 3) := dk_184 0 237 (dk_at dksX1_rare_3 5 rfl rfl)
theorem dX1_rare_75 : decode cX1_rare 75 = .ok (.iload_n 2, 1) := dk_28 (dk_at dksX1_rare_3 8 rfl rfl)
theorem dX1_rare_76 : decode cX1_rare 76 = .ok (.invokestatic 237, 3) := dk_184 0 237 (dk_at dksX1_rare_3 9 rfl rfl)
theorem dX1_rare_79 : decode cX1_rare 79 = .ok (.if_icmp .lt 6, 3) := dk_161 0 6 (dk_at dksX1_rare_3 12 rfl rfl)
theorem dX1_rare_82 : decode cX1_rare 82 = .ok (.goto 8, 3) := dk_167 0 8 (dk_at dksX1_rare_3 15 rfl rfl)
theorem dX1_rare_85 : decode cX1_rare 85 = .ok (.iload_n 3, 1) := dk_29 (dk_at dksX1_rare_3 18 rfl rfl)
theorem dX1_rare_86 : decode cX1_rare 86 = .ok (.istore_n 1, 1) := dk_60 (dk_at dksX1_rare_3 19 rfl rfl)
theorem dX1_rare_87 : decode cX1_rare 87 = .ok (.iload 4, 2) := dk_21 4 (dk_at dksX1_rare_3 20 rfl rfl)
theorem dX1_rare_89 : decode cX1_rare 89 = .ok (.istore_n 2, 1) := dk_61 (dk_at dksX1_rare_3 22 rfl rfl)
theorem dX1_rare_90 : decode cX1_rare 90 = .ok (.iinc 3 1, 3) := dk_132 3 1 (dk_at dksX1_rare_4 0 rfl rfl)
theorem dX1_rare_93 : decode cX1_rare 93 = .ok (.goto (-86), 3) := dk_167 255 170 (dk_at dksX1_rare_4 3 rfl rfl)
theorem dX1_rare_96 : decode cX1_rare 96 = .ok (.iload_n 1, 1) := dk_27 (dk_at dksX1_rare_4 6 rfl rfl)
theorem dX1_rare_97 : decode cX1_rare 97 = .ok (.ifCond .ge 6, 3) := dk_156 0 6 (dk_at dksX1_rare_4 7 rfl rfl)
theorem dX1_rare_100 : decode cX1_rare 100 = .ok (.bipush (-2), 2) := dk_16 254 (dk_at dksX1_rare_4 10 rfl rfl)
theorem dX1_rare_102 : decode cX1_rare 102 = .ok (.ireturn, 1) := dk_172 (dk_at dksX1_rare_4 12 rfl rfl)
theorem dX1_rare_103 : decode cX1_rare 103 = .ok (.aload_n 0, 1) := dk_42 (dk_at dksX1_rare_4 13 rfl rfl)
theorem dX1_rare_104 : decode cX1_rare 104 = .ok (.iconst 0, 1) := dk_3 (dk_at dksX1_rare_4 14 rfl rfl)
theorem dX1_rare_105 : decode cX1_rare 105 = .ok (.putfield 337, 3) := dk_181 1 81 (dk_at dksX1_rare_4 15 rfl rfl)
theorem dX1_rare_108 : decode cX1_rare 108 = .ok (.aload_n 0, 1) := dk_42 (dk_at dksX1_rare_4 18 rfl rfl)
theorem dX1_rare_109 : decode cX1_rare 109 = .ok (.iload_n 2, 1) := dk_28 (dk_at dksX1_rare_4 19 rfl rfl)
theorem dX1_rare_110 : decode cX1_rare 110 = .ok (.invokevirtual 340, 3) := dk_182 1 84 (dk_at dksX1_rare_4 20 rfl rfl)
theorem dX1_rare_113 : decode cX1_rare 113 = .ok (.iload_n 1, 1) := dk_27 (dk_at dksX1_rare_4 23 rfl rfl)
theorem dX1_rare_114 : decode cX1_rare 114 = .ok (.ireturn, 1) := dk_172 (dk_at dksX1_rare_5 0 rfl rfl)
abbrev cX1_round : ByteArray := prog_1_method_76_code
def yX1_round : MethodName := ⟨RX1, "round", "()I"⟩
def dkwX1_round_5 : List UInt8 := [172]
abbrev dktX1_round_5 : List UInt8 := dkwX1_round_5 ++ []
def dkwX1_round_4 : List UInt8 := [182, 1, 114, 42, 3, 181, 1, 81, 42, 27, 182, 1, 84, 42, 4, 27, 120, 27, 182, 1, 118, 28, 4, 96]
abbrev dktX1_round_4 : List UInt8 := dkwX1_round_4 ++ dktX1_round_5
def dkwX1_round_3 : List UInt8 := [184, 0, 246, 61, 132, 3, 1, 167, 255, 188, 27, 156, 0, 6, 16, 254, 172, 42, 42, 27, 182, 1, 129, 6]
abbrev dktX1_round_3 : List UInt8 := dkwX1_round_3 ++ dktX1_round_4
def dkwX1_round_2 : List UInt8 := [120, 29, 184, 1, 108, 46, 54, 4, 21, 4, 28, 164, 0, 7, 29, 167, 0, 4, 27, 60, 28, 21, 4]
abbrev dktX1_round_2 : List UInt8 := dkwX1_round_2 ++ dktX1_round_3
def dkwX1_round_1 : List UInt8 := [120, 46, 154, 0, 6, 167, 0, 46, 42, 42, 29, 182, 1, 129, 6, 182, 1, 114, 42, 180, 0, 67, 4, 29]
abbrev dktX1_round_1 : List UInt8 := dkwX1_round_1 ++ dktX1_round_2
def dkwX1_round_0 : List UInt8 := [42, 182, 1, 111, 2, 60, 3, 61, 3, 62, 29, 42, 180, 0, 102, 162, 0, 66, 42, 180, 0, 61, 4, 29]
abbrev dktX1_round_0 : List UInt8 := dkwX1_round_0 ++ dktX1_round_1
theorem dksX1_round_0 : cX1_round.data.toList.drop 0 = dktX1_round_0 := by decide +kernel
theorem dksX1_round_1 : cX1_round.data.toList.drop 24 = dktX1_round_1 := dk_seg dksX1_round_0 24 rfl rfl
theorem dksX1_round_2 : cX1_round.data.toList.drop 48 = dktX1_round_2 := dk_seg dksX1_round_1 24 rfl rfl
theorem dksX1_round_3 : cX1_round.data.toList.drop 71 = dktX1_round_3 := dk_seg dksX1_round_2 23 rfl rfl
theorem dksX1_round_4 : cX1_round.data.toList.drop 95 = dktX1_round_4 := dk_seg dksX1_round_3 24 rfl rfl
theorem dksX1_round_5 : cX1_round.data.toList.drop 119 = dktX1_round_5 := dk_seg dksX1_round_4 24 rfl rfl
theorem dX1_round_0 : decode cX1_round 0 = .ok (.aload_n 0, 1) := dk_42 (dk_at dksX1_round_0 0 rfl rfl)
theorem dX1_round_1 : decode cX1_round 1 = .ok (.invokevirtual 367, 3) := dk_182 1 111 (dk_at dksX1_round_0 1 rfl rfl)
theorem dX1_round_4 : decode cX1_round 4 = .ok (.iconst (-1), 1) := dk_2 (dk_at dksX1_round_0 4 rfl rfl)
theorem dX1_round_5 : decode cX1_round 5 = .ok (.istore_n 1, 1) := dk_60 (dk_at dksX1_round_0 5 rfl rfl)
theorem dX1_round_6 : decode cX1_round 6 = .ok (.iconst 0, 1) := dk_3 (dk_at dksX1_round_0 6 rfl rfl)
theorem dX1_round_7 : decode cX1_round 7 = .ok (.istore_n 2, 1) := dk_61 (dk_at dksX1_round_0 7 rfl rfl)
theorem dX1_round_8 : decode cX1_round 8 = .ok (.iconst 0, 1) := dk_3 (dk_at dksX1_round_0 8 rfl rfl)
theorem dX1_round_9 : decode cX1_round 9 = .ok (.istore_n 3, 1) := dk_62 (dk_at dksX1_round_0 9 rfl rfl)
theorem dX1_round_10 : decode cX1_round 10 = .ok (.iload_n 3, 1) := dk_29 (dk_at dksX1_round_0 10 rfl rfl)
theorem dX1_round_11 : decode cX1_round 11 = .ok (.aload_n 0, 1) := dk_42 (dk_at dksX1_round_0 11 rfl rfl)
theorem dX1_round_12 : decode cX1_round 12 = .ok (.getfield 102, 3) := dk_180 0 102 (dk_at dksX1_round_0 12 rfl rfl)
theorem dX1_round_15 : decode cX1_round 15 = .ok (.if_icmp .ge 66, 3) := dk_162 0 66 (dk_at dksX1_round_0 15 rfl rfl)
theorem dX1_round_18 : decode cX1_round 18 = .ok (.aload_n 0, 1) := dk_42 (dk_at dksX1_round_0 18 rfl rfl)
theorem dX1_round_19 : decode cX1_round 19 = .ok (.getfield 61, 3) := dk_180 0 61 (dk_at dksX1_round_0 19 rfl rfl)
theorem dX1_round_22 : decode cX1_round 22 = .ok (.iconst 1, 1) := dk_4 (dk_at dksX1_round_0 22 rfl rfl)
theorem dX1_round_23 : decode cX1_round 23 = .ok (.iload_n 3, 1) := dk_29 (dk_at dksX1_round_0 23 rfl rfl)
theorem dX1_round_24 : decode cX1_round 24 = .ok (.ishl, 1) := dk_120 (dk_at dksX1_round_1 0 rfl rfl)
theorem dX1_round_25 : decode cX1_round 25 = .ok (.iaload, 1) := dk_46 (dk_at dksX1_round_1 1 rfl rfl)
theorem dX1_round_26 : decode cX1_round 26 = .ok (.ifCond .ne 6, 3) := dk_154 0 6 (dk_at dksX1_round_1 2 rfl rfl)
theorem dX1_round_29 : decode cX1_round 29 = .ok (.goto 46, 3) := dk_167 0 46 (dk_at dksX1_round_1 5 rfl rfl)
theorem dX1_round_32 : decode cX1_round 32 = .ok (.aload_n 0, 1) := dk_42 (dk_at dksX1_round_1 8 rfl rfl)
theorem dX1_round_33 : decode cX1_round 33 = .ok (.aload_n 0, 1) := dk_42 (dk_at dksX1_round_1 9 rfl rfl)
theorem dX1_round_34 : decode cX1_round 34 = .ok (.iload_n 3, 1) := dk_29 (dk_at dksX1_round_1 10 rfl rfl)
theorem dX1_round_35 : decode cX1_round 35 = .ok (.invokevirtual 385, 3) := dk_182 1 129 (dk_at dksX1_round_1 11 rfl rfl)
theorem dX1_round_38 : decode cX1_round 38 = .ok (.iconst 3, 1) := dk_6 (dk_at dksX1_round_1 14 rfl rfl)
theorem dX1_round_39 : decode cX1_round 39 = .ok (.invokevirtual 370, 3) := dk_182 1 114 (dk_at dksX1_round_1 15 rfl rfl)
theorem dX1_round_42 : decode cX1_round 42 = .ok (.aload_n 0, 1) := dk_42 (dk_at dksX1_round_1 18 rfl rfl)
theorem dX1_round_43 : decode cX1_round 43 = .ok (.getfield 67, 3) := dk_180 0 67 (dk_at dksX1_round_1 19 rfl rfl)
theorem dX1_round_46 : decode cX1_round 46 = .ok (.iconst 1, 1) := dk_4 (dk_at dksX1_round_1 22 rfl rfl)
theorem dX1_round_47 : decode cX1_round 47 = .ok (.iload_n 3, 1) := dk_29 (dk_at dksX1_round_1 23 rfl rfl)
theorem dX1_round_48 : decode cX1_round 48 = .ok (.ishl, 1) := dk_120 (dk_at dksX1_round_2 0 rfl rfl)
theorem dX1_round_49 : decode cX1_round 49 = .ok (.iload_n 3, 1) := dk_29 (dk_at dksX1_round_2 1 rfl rfl)
theorem dX1_round_50 : decode cX1_round 50 = .ok (.invokestatic 364, 3) := dk_184 1 108 (dk_at dksX1_round_2 2 rfl rfl)
theorem dX1_round_53 : decode cX1_round 53 = .ok (.iaload, 1) := dk_46 (dk_at dksX1_round_2 5 rfl rfl)
theorem dX1_round_54 : decode cX1_round 54 = .ok (.istore 4, 2) := dk_54 4 (dk_at dksX1_round_2 6 rfl rfl)
theorem dX1_round_56 : decode cX1_round 56 = .ok (.iload 4, 2) := dk_21 4 (dk_at dksX1_round_2 8 rfl rfl)
theorem dX1_round_58 : decode cX1_round 58 = .ok (.iload_n 2, 1) := dk_28 (dk_at dksX1_round_2 10 rfl rfl)
theorem dX1_round_59 : decode cX1_round 59 = .ok (.if_icmp .le 7, 3) := dk_164 0 7 (dk_at dksX1_round_2 11 rfl rfl)
theorem dX1_round_62 : decode cX1_round 62 = .ok (.iload_n 3, 1) := dk_29 (dk_at dksX1_round_2 14 rfl rfl)
theorem dX1_round_63 : decode cX1_round 63 = .ok (.goto 4, 3) := dk_167 0 4 (dk_at dksX1_round_2 15 rfl rfl)
theorem dX1_round_66 : decode cX1_round 66 = .ok (.iload_n 1, 1) := dk_27 (dk_at dksX1_round_2 18 rfl rfl)
theorem dX1_round_67 : decode cX1_round 67 = .ok (.istore_n 1, 1) := dk_60 (dk_at dksX1_round_2 19 rfl rfl)
theorem dX1_round_68 : decode cX1_round 68 = .ok (.iload_n 2, 1) := dk_28 (dk_at dksX1_round_2 20 rfl rfl)
theorem dX1_round_69 : decode cX1_round 69 = .ok (.iload 4, 2) := dk_21 4 (dk_at dksX1_round_2 21 rfl rfl)
theorem dX1_round_71 : decode cX1_round 71 = .ok (.invokestatic 246, 3) := dk_184 0 246 (dk_at dksX1_round_3 0 rfl rfl)
theorem dX1_round_74 : decode cX1_round 74 = .ok (.istore_n 2, 1) := dk_61 (dk_at dksX1_round_3 3 rfl rfl)
theorem dX1_round_75 : decode cX1_round 75 = .ok (.iinc 3 1, 3) := dk_132 3 1 (dk_at dksX1_round_3 4 rfl rfl)
theorem dX1_round_78 : decode cX1_round 78 = .ok (.goto (-68), 3) := dk_167 255 188 (dk_at dksX1_round_3 7 rfl rfl)
theorem dX1_round_81 : decode cX1_round 81 = .ok (.iload_n 1, 1) := dk_27 (dk_at dksX1_round_3 10 rfl rfl)
theorem dX1_round_82 : decode cX1_round 82 = .ok (.ifCond .ge 6, 3) := dk_156 0 6 (dk_at dksX1_round_3 11 rfl rfl)
theorem dX1_round_85 : decode cX1_round 85 = .ok (.bipush (-2), 2) := dk_16 254 (dk_at dksX1_round_3 14 rfl rfl)
theorem dX1_round_87 : decode cX1_round 87 = .ok (.ireturn, 1) := dk_172 (dk_at dksX1_round_3 16 rfl rfl)
theorem dX1_round_88 : decode cX1_round 88 = .ok (.aload_n 0, 1) := dk_42 (dk_at dksX1_round_3 17 rfl rfl)
theorem dX1_round_89 : decode cX1_round 89 = .ok (.aload_n 0, 1) := dk_42 (dk_at dksX1_round_3 18 rfl rfl)
theorem dX1_round_90 : decode cX1_round 90 = .ok (.iload_n 1, 1) := dk_27 (dk_at dksX1_round_3 19 rfl rfl)
theorem dX1_round_91 : decode cX1_round 91 = .ok (.invokevirtual 385, 3) := dk_182 1 129 (dk_at dksX1_round_3 20 rfl rfl)
theorem dX1_round_94 : decode cX1_round 94 = .ok (.iconst 3, 1) := dk_6 (dk_at dksX1_round_3 23 rfl rfl)
theorem dX1_round_95 : decode cX1_round 95 = .ok (.invokevirtual 370, 3) := dk_182 1 114 (dk_at dksX1_round_4 0 rfl rfl)
theorem dX1_round_98 : decode cX1_round 98 = .ok (.aload_n 0, 1) := dk_42 (dk_at dksX1_round_4 3 rfl rfl)
theorem dX1_round_99 : decode cX1_round 99 = .ok (.iconst 0, 1) := dk_3 (dk_at dksX1_round_4 4 rfl rfl)
theorem dX1_round_100 : decode cX1_round 100 = .ok (.putfield 337, 3) := dk_181 1 81 (dk_at dksX1_round_4 5 rfl rfl)
theorem dX1_round_103 : decode cX1_round 103 = .ok (.aload_n 0, 1) := dk_42 (dk_at dksX1_round_4 8 rfl rfl)
theorem dX1_round_104 : decode cX1_round 104 = .ok (.iload_n 1, 1) := dk_27 (dk_at dksX1_round_4 9 rfl rfl)
theorem dX1_round_105 : decode cX1_round 105 = .ok (.invokevirtual 340, 3) := dk_182 1 84 (dk_at dksX1_round_4 10 rfl rfl)
theorem dX1_round_108 : decode cX1_round 108 = .ok (.aload_n 0, 1) := dk_42 (dk_at dksX1_round_4 13 rfl rfl)
theorem dX1_round_109 : decode cX1_round 109 = .ok (.iconst 1, 1) := dk_4 (dk_at dksX1_round_4 14 rfl rfl)
theorem dX1_round_110 : decode cX1_round 110 = .ok (.iload_n 1, 1) := dk_27 (dk_at dksX1_round_4 15 rfl rfl)
theorem dX1_round_111 : decode cX1_round 111 = .ok (.ishl, 1) := dk_120 (dk_at dksX1_round_4 16 rfl rfl)
theorem dX1_round_112 : decode cX1_round 112 = .ok (.iload_n 1, 1) := dk_27 (dk_at dksX1_round_4 17 rfl rfl)
theorem dX1_round_113 : decode cX1_round 113 = .ok (.invokevirtual 374, 3) := dk_182 1 118 (dk_at dksX1_round_4 18 rfl rfl)
theorem dX1_round_116 : decode cX1_round 116 = .ok (.iload_n 2, 1) := dk_28 (dk_at dksX1_round_4 21 rfl rfl)
theorem dX1_round_117 : decode cX1_round 117 = .ok (.iconst 1, 1) := dk_4 (dk_at dksX1_round_4 22 rfl rfl)
theorem dX1_round_118 : decode cX1_round 118 = .ok (.iadd, 1) := dk_96 (dk_at dksX1_round_4 23 rfl rfl)
theorem dX1_round_119 : decode cX1_round 119 = .ok (.ireturn, 1) := dk_172 (dk_at dksX1_round_5 0 rfl rfl)
abbrev cX1_shut : ByteArray := prog_1_method_78_code
def yX1_shut : MethodName := ⟨RX1, "shut", "(I)I"⟩
def dkwX1_shut_3 : List UInt8 := [180, 0, 102, 120, 4, 100, 28, 2, 130, 126, 172]
abbrev dktX1_shut_3 : List UInt8 := dkwX1_shut_3 ++ []
def dkwX1_shut_2 : List UInt8 := [29, 184, 0, 237, 27, 164, 0, 7, 29, 167, 0, 4, 3, 128, 61, 132, 3, 1, 167, 255, 218, 4, 42]
abbrev dktX1_shut_2 : List UInt8 := dkwX1_shut_2 ++ dktX1_shut_3
def dkwX1_shut_1 : List UInt8 := [3, 61, 3, 62, 29, 4, 42, 180, 0, 102, 120, 162, 0, 34, 28, 42, 180, 0, 64, 29, 46, 153, 0, 15]
abbrev dktX1_shut_1 : List UInt8 := dkwX1_shut_1 ++ dktX1_shut_2
def dkwX1_shut_0 : List UInt8 := [27, 133, 9, 20, 1, 18, 184, 0, 106, 154, 0, 5, 2, 172, 42, 182, 1, 111, 42, 3, 2, 182, 1, 135]
abbrev dktX1_shut_0 : List UInt8 := dkwX1_shut_0 ++ dktX1_shut_1
theorem dksX1_shut_0 : cX1_shut.data.toList.drop 0 = dktX1_shut_0 := by decide +kernel
theorem dksX1_shut_1 : cX1_shut.data.toList.drop 24 = dktX1_shut_1 := dk_seg dksX1_shut_0 24 rfl rfl
theorem dksX1_shut_2 : cX1_shut.data.toList.drop 48 = dktX1_shut_2 := dk_seg dksX1_shut_1 24 rfl rfl
theorem dksX1_shut_3 : cX1_shut.data.toList.drop 71 = dktX1_shut_3 := dk_seg dksX1_shut_2 23 rfl rfl
theorem dX1_shut_0 : decode cX1_shut 0 = .ok (.iload_n 1, 1) := dk_27 (dk_at dksX1_shut_0 0 rfl rfl)
theorem dX1_shut_1 : decode cX1_shut 1 = .ok (.i2l, 1) := dk_133 (dk_at dksX1_shut_0 1 rfl rfl)
theorem dX1_shut_2 : decode cX1_shut 2 = .ok (.lconst 0, 1) := dk_9 (dk_at dksX1_shut_0 2 rfl rfl)
theorem dX1_shut_3 : decode cX1_shut 3 = .ok (.ldc2_w 274, 3) := dk_20 1 18 (dk_at dksX1_shut_0 3 rfl rfl)
theorem dX1_shut_6 : decode cX1_shut 6 = .ok (.invokestatic 106, 3) := dk_184 0 106 (dk_at dksX1_shut_0 6 rfl rfl)
theorem dX1_shut_9 : decode cX1_shut 9 = .ok (.ifCond .ne 5, 3) := dk_154 0 5 (dk_at dksX1_shut_0 9 rfl rfl)
theorem dX1_shut_12 : decode cX1_shut 12 = .ok (.iconst (-1), 1) := dk_2 (dk_at dksX1_shut_0 12 rfl rfl)
theorem dX1_shut_13 : decode cX1_shut 13 = .ok (.ireturn, 1) := dk_172 (dk_at dksX1_shut_0 13 rfl rfl)
theorem dX1_shut_14 : decode cX1_shut 14 = .ok (.aload_n 0, 1) := dk_42 (dk_at dksX1_shut_0 14 rfl rfl)
theorem dX1_shut_15 : decode cX1_shut 15 = .ok (.invokevirtual 367, 3) := dk_182 1 111 (dk_at dksX1_shut_0 15 rfl rfl)
theorem dX1_shut_18 : decode cX1_shut 18 = .ok (.aload_n 0, 1) := dk_42 (dk_at dksX1_shut_0 18 rfl rfl)
theorem dX1_shut_19 : decode cX1_shut 19 = .ok (.iconst 0, 1) := dk_3 (dk_at dksX1_shut_0 19 rfl rfl)
theorem dX1_shut_20 : decode cX1_shut 20 = .ok (.iconst (-1), 1) := dk_2 (dk_at dksX1_shut_0 20 rfl rfl)
theorem dX1_shut_21 : decode cX1_shut 21 = .ok (.invokevirtual 391, 3) := dk_182 1 135 (dk_at dksX1_shut_0 21 rfl rfl)
theorem dX1_shut_24 : decode cX1_shut 24 = .ok (.iconst 0, 1) := dk_3 (dk_at dksX1_shut_1 0 rfl rfl)
theorem dX1_shut_25 : decode cX1_shut 25 = .ok (.istore_n 2, 1) := dk_61 (dk_at dksX1_shut_1 1 rfl rfl)
theorem dX1_shut_26 : decode cX1_shut 26 = .ok (.iconst 0, 1) := dk_3 (dk_at dksX1_shut_1 2 rfl rfl)
theorem dX1_shut_27 : decode cX1_shut 27 = .ok (.istore_n 3, 1) := dk_62 (dk_at dksX1_shut_1 3 rfl rfl)
theorem dX1_shut_28 : decode cX1_shut 28 = .ok (.iload_n 3, 1) := dk_29 (dk_at dksX1_shut_1 4 rfl rfl)
theorem dX1_shut_29 : decode cX1_shut 29 = .ok (.iconst 1, 1) := dk_4 (dk_at dksX1_shut_1 5 rfl rfl)
theorem dX1_shut_30 : decode cX1_shut 30 = .ok (.aload_n 0, 1) := dk_42 (dk_at dksX1_shut_1 6 rfl rfl)
theorem dX1_shut_31 : decode cX1_shut 31 = .ok (.getfield 102, 3) := dk_180 0 102 (dk_at dksX1_shut_1 7 rfl rfl)
theorem dX1_shut_34 : decode cX1_shut 34 = .ok (.ishl, 1) := dk_120 (dk_at dksX1_shut_1 10 rfl rfl)
theorem dX1_shut_35 : decode cX1_shut 35 = .ok (.if_icmp .ge 34, 3) := dk_162 0 34 (dk_at dksX1_shut_1 11 rfl rfl)
theorem dX1_shut_38 : decode cX1_shut 38 = .ok (.iload_n 2, 1) := dk_28 (dk_at dksX1_shut_1 14 rfl rfl)
theorem dX1_shut_39 : decode cX1_shut 39 = .ok (.aload_n 0, 1) := dk_42 (dk_at dksX1_shut_1 15 rfl rfl)
theorem dX1_shut_40 : decode cX1_shut 40 = .ok (.getfield 64, 3) := dk_180 0 64 (dk_at dksX1_shut_1 16 rfl rfl)
theorem dX1_shut_43 : decode cX1_shut 43 = .ok (.iload_n 3, 1) := dk_29 (dk_at dksX1_shut_1 19 rfl rfl)
theorem dX1_shut_44 : decode cX1_shut 44 = .ok (.iaload, 1) := dk_46 (dk_at dksX1_shut_1 20 rfl rfl)
theorem dX1_shut_45 : decode cX1_shut 45 = .ok (.ifCond .eq 15, 3) := dk_153 0 15 (dk_at dksX1_shut_1 21 rfl rfl)
theorem dX1_shut_48 : decode cX1_shut 48 = .ok (.iload_n 3, 1) := dk_29 (dk_at dksX1_shut_2 0 rfl rfl)
theorem dX1_shut_49 : decode cX1_shut 49 = .ok (.invokestatic 237, 3) := dk_184 0 237 (dk_at dksX1_shut_2 1 rfl rfl)
theorem dX1_shut_52 : decode cX1_shut 52 = .ok (.iload_n 1, 1) := dk_27 (dk_at dksX1_shut_2 4 rfl rfl)
theorem dX1_shut_53 : decode cX1_shut 53 = .ok (.if_icmp .le 7, 3) := dk_164 0 7 (dk_at dksX1_shut_2 5 rfl rfl)
theorem dX1_shut_56 : decode cX1_shut 56 = .ok (.iload_n 3, 1) := dk_29 (dk_at dksX1_shut_2 8 rfl rfl)
theorem dX1_shut_57 : decode cX1_shut 57 = .ok (.goto 4, 3) := dk_167 0 4 (dk_at dksX1_shut_2 9 rfl rfl)
theorem dX1_shut_60 : decode cX1_shut 60 = .ok (.iconst 0, 1) := dk_3 (dk_at dksX1_shut_2 12 rfl rfl)
theorem dX1_shut_61 : decode cX1_shut 61 = .ok (.ior, 1) := dk_128 (dk_at dksX1_shut_2 13 rfl rfl)
theorem dX1_shut_62 : decode cX1_shut 62 = .ok (.istore_n 2, 1) := dk_61 (dk_at dksX1_shut_2 14 rfl rfl)
theorem dX1_shut_63 : decode cX1_shut 63 = .ok (.iinc 3 1, 3) := dk_132 3 1 (dk_at dksX1_shut_2 15 rfl rfl)
theorem dX1_shut_66 : decode cX1_shut 66 = .ok (.goto (-38), 3) := dk_167 255 218 (dk_at dksX1_shut_2 18 rfl rfl)
theorem dX1_shut_69 : decode cX1_shut 69 = .ok (.iconst 1, 1) := dk_4 (dk_at dksX1_shut_2 21 rfl rfl)
theorem dX1_shut_70 : decode cX1_shut 70 = .ok (.aload_n 0, 1) := dk_42 (dk_at dksX1_shut_2 22 rfl rfl)
theorem dX1_shut_71 : decode cX1_shut 71 = .ok (.getfield 102, 3) := dk_180 0 102 (dk_at dksX1_shut_3 0 rfl rfl)
theorem dX1_shut_74 : decode cX1_shut 74 = .ok (.ishl, 1) := dk_120 (dk_at dksX1_shut_3 3 rfl rfl)
theorem dX1_shut_75 : decode cX1_shut 75 = .ok (.iconst 1, 1) := dk_4 (dk_at dksX1_shut_3 4 rfl rfl)
theorem dX1_shut_76 : decode cX1_shut 76 = .ok (.isub, 1) := dk_100 (dk_at dksX1_shut_3 5 rfl rfl)
theorem dX1_shut_77 : decode cX1_shut 77 = .ok (.iload_n 2, 1) := dk_28 (dk_at dksX1_shut_3 6 rfl rfl)
theorem dX1_shut_78 : decode cX1_shut 78 = .ok (.iconst (-1), 1) := dk_2 (dk_at dksX1_shut_3 7 rfl rfl)
theorem dX1_shut_79 : decode cX1_shut 79 = .ok (.ixor, 1) := dk_130 (dk_at dksX1_shut_3 8 rfl rfl)
theorem dX1_shut_80 : decode cX1_shut 80 = .ok (.iand, 1) := dk_126 (dk_at dksX1_shut_3 9 rfl rfl)
theorem dX1_shut_81 : decode cX1_shut 81 = .ok (.ireturn, 1) := dk_172 (dk_at dksX1_shut_3 10 rfl rfl)
abbrev cX1_reaches : ByteArray := prog_1_method_77_code
def yX1_reaches : MethodName := ⟨RX1, "reaches", "(II)V"⟩
def dkwX1_reaches_6 : List UInt8 := [167, 255, 214, 132, 4, 1, 167, 255, 169, 132, 3, 1, 167, 255, 150, 177]
abbrev dktX1_reaches_6 : List UInt8 := dkwX1_reaches_6 ++ []
def dkwX1_reaches_5 : List UInt8 := [153, 0, 21, 42, 180, 0, 64, 29, 4, 21, 5, 120, 128, 92, 46, 4, 21, 5, 120, 128, 79, 132, 5, 1]
abbrev dktX1_reaches_5 : List UInt8 := dkwX1_reaches_5 ++ dktX1_reaches_6
def dkwX1_reaches_4 : List UInt8 := [167, 0, 51, 3, 54, 5, 21, 5, 42, 180, 0, 102, 162, 0, 39, 42, 29, 21, 4, 21, 5, 182, 1, 105]
abbrev dktX1_reaches_4 : List UInt8 := dkwX1_reaches_4 ++ dktX1_reaches_5
def dkwX1_reaches_3 : List UInt8 := [180, 0, 64, 29, 46, 21, 4, 156, 0, 8, 16, 10, 167, 0, 5, 21, 4, 184, 1, 3, 154, 0, 6]
abbrev dktX1_reaches_3 : List UInt8 := dkwX1_reaches_3 ++ dktX1_reaches_4
def dkwX1_reaches_2 : List UInt8 := [4, 42, 180, 0, 102, 120, 162, 0, 102, 2, 54, 4, 21, 4, 42, 180, 0, 102, 162, 0, 84, 42]
abbrev dktX1_reaches_2 : List UInt8 := dkwX1_reaches_2 ++ dktX1_reaches_3
def dkwX1_reaches_1 : List UInt8 := [156, 0, 8, 16, 10, 167, 0, 4, 28, 120, 167, 0, 4, 3, 79, 132, 3, 1, 167, 255, 216, 3, 62, 29]
abbrev dktX1_reaches_1 : List UInt8 := dkwX1_reaches_1 ++ dktX1_reaches_2
def dkwX1_reaches_0 : List UInt8 := [3, 62, 29, 4, 42, 180, 0, 102, 120, 162, 0, 36, 42, 180, 0, 64, 29, 29, 27, 160, 0, 18, 4, 28]
abbrev dktX1_reaches_0 : List UInt8 := dkwX1_reaches_0 ++ dktX1_reaches_1
theorem dksX1_reaches_0 : cX1_reaches.data.toList.drop 0 = dktX1_reaches_0 := by decide +kernel
theorem dksX1_reaches_1 : cX1_reaches.data.toList.drop 24 = dktX1_reaches_1 := dk_seg dksX1_reaches_0 24 rfl rfl
theorem dksX1_reaches_2 : cX1_reaches.data.toList.drop 48 = dktX1_reaches_2 := dk_seg dksX1_reaches_1 24 rfl rfl
theorem dksX1_reaches_3 : cX1_reaches.data.toList.drop 70 = dktX1_reaches_3 := dk_seg dksX1_reaches_2 22 rfl rfl
theorem dksX1_reaches_4 : cX1_reaches.data.toList.drop 93 = dktX1_reaches_4 := dk_seg dksX1_reaches_3 23 rfl rfl
theorem dksX1_reaches_5 : cX1_reaches.data.toList.drop 117 = dktX1_reaches_5 := dk_seg dksX1_reaches_4 24 rfl rfl
theorem dksX1_reaches_6 : cX1_reaches.data.toList.drop 141 = dktX1_reaches_6 := dk_seg dksX1_reaches_5 24 rfl rfl
theorem dX1_reaches_0 : decode cX1_reaches 0 = .ok (.iconst 0, 1) := dk_3 (dk_at dksX1_reaches_0 0 rfl rfl)
theorem dX1_reaches_1 : decode cX1_reaches 1 = .ok (.istore_n 3, 1) := dk_62 (dk_at dksX1_reaches_0 1 rfl rfl)
theorem dX1_reaches_2 : decode cX1_reaches 2 = .ok (.iload_n 3, 1) := dk_29 (dk_at dksX1_reaches_0 2 rfl rfl)
theorem dX1_reaches_3 : decode cX1_reaches 3 = .ok (.iconst 1, 1) := dk_4 (dk_at dksX1_reaches_0 3 rfl rfl)
theorem dX1_reaches_4 : decode cX1_reaches 4 = .ok (.aload_n 0, 1) := dk_42 (dk_at dksX1_reaches_0 4 rfl rfl)
theorem dX1_reaches_5 : decode cX1_reaches 5 = .ok (.getfield 102, 3) := dk_180 0 102 (dk_at dksX1_reaches_0 5 rfl rfl)
theorem dX1_reaches_8 : decode cX1_reaches 8 = .ok (.ishl, 1) := dk_120 (dk_at dksX1_reaches_0 8 rfl rfl)
theorem dX1_reaches_9 : decode cX1_reaches 9 = .ok (.if_icmp .ge 36, 3) := dk_162 0 36 (dk_at dksX1_reaches_0 9 rfl rfl)
theorem dX1_reaches_12 : decode cX1_reaches 12 = .ok (.aload_n 0, 1) := dk_42 (dk_at dksX1_reaches_0 12 rfl rfl)
theorem dX1_reaches_13 : decode cX1_reaches 13 = .ok (.getfield 64, 3) := dk_180 0 64 (dk_at dksX1_reaches_0 13 rfl rfl)
theorem dX1_reaches_16 : decode cX1_reaches 16 = .ok (.iload_n 3, 1) := dk_29 (dk_at dksX1_reaches_0 16 rfl rfl)
theorem dX1_reaches_17 : decode cX1_reaches 17 = .ok (.iload_n 3, 1) := dk_29 (dk_at dksX1_reaches_0 17 rfl rfl)
theorem dX1_reaches_18 : decode cX1_reaches 18 = .ok (.iload_n 1, 1) := dk_27 (dk_at dksX1_reaches_0 18 rfl rfl)
theorem dX1_reaches_19 : decode cX1_reaches 19 = .ok (.if_icmp .ne 18, 3) := dk_160 0 18 (dk_at dksX1_reaches_0 19 rfl rfl)
theorem dX1_reaches_22 : decode cX1_reaches 22 = .ok (.iconst 1, 1) := dk_4 (dk_at dksX1_reaches_0 22 rfl rfl)
theorem dX1_reaches_23 : decode cX1_reaches 23 = .ok (.iload_n 2, 1) := dk_28 (dk_at dksX1_reaches_0 23 rfl rfl)
theorem dX1_reaches_24 : decode cX1_reaches 24 = .ok (.ifCond .ge 8, 3) := dk_156 0 8 (dk_at dksX1_reaches_1 0 rfl rfl)
theorem dX1_reaches_27 : decode cX1_reaches 27 = .ok (.bipush 10, 2) := dk_16 10 (dk_at dksX1_reaches_1 3 rfl rfl)
theorem dX1_reaches_29 : decode cX1_reaches 29 = .ok (.goto 4, 3) := dk_167 0 4 (dk_at dksX1_reaches_1 5 rfl rfl)
theorem dX1_reaches_32 : decode cX1_reaches 32 = .ok (.iload_n 2, 1) := dk_28 (dk_at dksX1_reaches_1 8 rfl rfl)
theorem dX1_reaches_33 : decode cX1_reaches 33 = .ok (.ishl, 1) := dk_120 (dk_at dksX1_reaches_1 9 rfl rfl)
theorem dX1_reaches_34 : decode cX1_reaches 34 = .ok (.goto 4, 3) := dk_167 0 4 (dk_at dksX1_reaches_1 10 rfl rfl)
theorem dX1_reaches_37 : decode cX1_reaches 37 = .ok (.iconst 0, 1) := dk_3 (dk_at dksX1_reaches_1 13 rfl rfl)
theorem dX1_reaches_38 : decode cX1_reaches 38 = .ok (.iastore, 1) := dk_79 (dk_at dksX1_reaches_1 14 rfl rfl)
theorem dX1_reaches_39 : decode cX1_reaches 39 = .ok (.iinc 3 1, 3) := dk_132 3 1 (dk_at dksX1_reaches_1 15 rfl rfl)
theorem dX1_reaches_42 : decode cX1_reaches 42 = .ok (.goto (-40), 3) := dk_167 255 216 (dk_at dksX1_reaches_1 18 rfl rfl)
theorem dX1_reaches_45 : decode cX1_reaches 45 = .ok (.iconst 0, 1) := dk_3 (dk_at dksX1_reaches_1 21 rfl rfl)
theorem dX1_reaches_46 : decode cX1_reaches 46 = .ok (.istore_n 3, 1) := dk_62 (dk_at dksX1_reaches_1 22 rfl rfl)
theorem dX1_reaches_47 : decode cX1_reaches 47 = .ok (.iload_n 3, 1) := dk_29 (dk_at dksX1_reaches_1 23 rfl rfl)
theorem dX1_reaches_48 : decode cX1_reaches 48 = .ok (.iconst 1, 1) := dk_4 (dk_at dksX1_reaches_2 0 rfl rfl)
theorem dX1_reaches_49 : decode cX1_reaches 49 = .ok (.aload_n 0, 1) := dk_42 (dk_at dksX1_reaches_2 1 rfl rfl)
theorem dX1_reaches_50 : decode cX1_reaches 50 = .ok (.getfield 102, 3) := dk_180 0 102 (dk_at dksX1_reaches_2 2 rfl rfl)
theorem dX1_reaches_53 : decode cX1_reaches 53 = .ok (.ishl, 1) := dk_120 (dk_at dksX1_reaches_2 5 rfl rfl)
theorem dX1_reaches_54 : decode cX1_reaches 54 = .ok (.if_icmp .ge 102, 3) := dk_162 0 102 (dk_at dksX1_reaches_2 6 rfl rfl)
theorem dX1_reaches_57 : decode cX1_reaches 57 = .ok (.iconst (-1), 1) := dk_2 (dk_at dksX1_reaches_2 9 rfl rfl)
theorem dX1_reaches_58 : decode cX1_reaches 58 = .ok (.istore 4, 2) := dk_54 4 (dk_at dksX1_reaches_2 10 rfl rfl)
theorem dX1_reaches_60 : decode cX1_reaches 60 = .ok (.iload 4, 2) := dk_21 4 (dk_at dksX1_reaches_2 12 rfl rfl)
theorem dX1_reaches_62 : decode cX1_reaches 62 = .ok (.aload_n 0, 1) := dk_42 (dk_at dksX1_reaches_2 14 rfl rfl)
theorem dX1_reaches_63 : decode cX1_reaches 63 = .ok (.getfield 102, 3) := dk_180 0 102 (dk_at dksX1_reaches_2 15 rfl rfl)
theorem dX1_reaches_66 : decode cX1_reaches 66 = .ok (.if_icmp .ge 84, 3) := dk_162 0 84 (dk_at dksX1_reaches_2 18 rfl rfl)
theorem dX1_reaches_69 : decode cX1_reaches 69 = .ok (.aload_n 0, 1) := dk_42 (dk_at dksX1_reaches_2 21 rfl rfl)
theorem dX1_reaches_70 : decode cX1_reaches 70 = .ok (.getfield 64, 3) := dk_180 0 64 (dk_at dksX1_reaches_3 0 rfl rfl)
theorem dX1_reaches_73 : decode cX1_reaches 73 = .ok (.iload_n 3, 1) := dk_29 (dk_at dksX1_reaches_3 3 rfl rfl)
theorem dX1_reaches_74 : decode cX1_reaches 74 = .ok (.iaload, 1) := dk_46 (dk_at dksX1_reaches_3 4 rfl rfl)
theorem dX1_reaches_75 : decode cX1_reaches 75 = .ok (.iload 4, 2) := dk_21 4 (dk_at dksX1_reaches_3 5 rfl rfl)
theorem dX1_reaches_77 : decode cX1_reaches 77 = .ok (.ifCond .ge 8, 3) := dk_156 0 8 (dk_at dksX1_reaches_3 7 rfl rfl)
theorem dX1_reaches_80 : decode cX1_reaches 80 = .ok (.bipush 10, 2) := dk_16 10 (dk_at dksX1_reaches_3 10 rfl rfl)
theorem dX1_reaches_82 : decode cX1_reaches 82 = .ok (.goto 5, 3) := dk_167 0 5 (dk_at dksX1_reaches_3 12 rfl rfl)
theorem dX1_reaches_85 : decode cX1_reaches 85 = .ok (.iload 4, 2) := dk_21 4 (dk_at dksX1_reaches_3 15 rfl rfl)
theorem dX1_reaches_87 : decode cX1_reaches 87 = .ok (.invokestatic 259, 3) := dk_184 1 3 (dk_at dksX1_reaches_3 17 rfl rfl)
theorem dX1_reaches_90 : decode cX1_reaches 90 = .ok (.ifCond .ne 6, 3) := dk_154 0 6 (dk_at dksX1_reaches_3 20 rfl rfl)
theorem dX1_reaches_93 : decode cX1_reaches 93 = .ok (.goto 51, 3) := dk_167 0 51 (dk_at dksX1_reaches_4 0 rfl rfl)
theorem dX1_reaches_96 : decode cX1_reaches 96 = .ok (.iconst 0, 1) := dk_3 (dk_at dksX1_reaches_4 3 rfl rfl)
theorem dX1_reaches_97 : decode cX1_reaches 97 = .ok (.istore 5, 2) := dk_54 5 (dk_at dksX1_reaches_4 4 rfl rfl)
theorem dX1_reaches_99 : decode cX1_reaches 99 = .ok (.iload 5, 2) := dk_21 5 (dk_at dksX1_reaches_4 6 rfl rfl)
theorem dX1_reaches_101 : decode cX1_reaches 101 = .ok (.aload_n 0, 1) := dk_42 (dk_at dksX1_reaches_4 8 rfl rfl)
theorem dX1_reaches_102 : decode cX1_reaches 102 = .ok (.getfield 102, 3) := dk_180 0 102 (dk_at dksX1_reaches_4 9 rfl rfl)
theorem dX1_reaches_105 : decode cX1_reaches 105 = .ok (.if_icmp .ge 39, 3) := dk_162 0 39 (dk_at dksX1_reaches_4 12 rfl rfl)
theorem dX1_reaches_108 : decode cX1_reaches 108 = .ok (.aload_n 0, 1) := dk_42 (dk_at dksX1_reaches_4 15 rfl rfl)
theorem dX1_reaches_109 : decode cX1_reaches 109 = .ok (.iload_n 3, 1) := dk_29 (dk_at dksX1_reaches_4 16 rfl rfl)
theorem dX1_reaches_110 : decode cX1_reaches 110 = .ok (.iload 4, 2) := dk_21 4 (dk_at dksX1_reaches_4 17 rfl rfl)
theorem dX1_reaches_112 : decode cX1_reaches 112 = .ok (.iload 5, 2) := dk_21 5 (dk_at dksX1_reaches_4 19 rfl rfl)
theorem dX1_reaches_114 : decode cX1_reaches 114 = .ok (.invokevirtual 361, 3) := dk_182 1 105 (dk_at dksX1_reaches_4 21 rfl rfl)
theorem dX1_reaches_117 : decode cX1_reaches 117 = .ok (.ifCond .eq 21, 3) := dk_153 0 21 (dk_at dksX1_reaches_5 0 rfl rfl)
theorem dX1_reaches_120 : decode cX1_reaches 120 = .ok (.aload_n 0, 1) := dk_42 (dk_at dksX1_reaches_5 3 rfl rfl)
theorem dX1_reaches_121 : decode cX1_reaches 121 = .ok (.getfield 64, 3) := dk_180 0 64 (dk_at dksX1_reaches_5 4 rfl rfl)
theorem dX1_reaches_124 : decode cX1_reaches 124 = .ok (.iload_n 3, 1) := dk_29 (dk_at dksX1_reaches_5 7 rfl rfl)
theorem dX1_reaches_125 : decode cX1_reaches 125 = .ok (.iconst 1, 1) := dk_4 (dk_at dksX1_reaches_5 8 rfl rfl)
theorem dX1_reaches_126 : decode cX1_reaches 126 = .ok (.iload 5, 2) := dk_21 5 (dk_at dksX1_reaches_5 9 rfl rfl)
theorem dX1_reaches_128 : decode cX1_reaches 128 = .ok (.ishl, 1) := dk_120 (dk_at dksX1_reaches_5 11 rfl rfl)
theorem dX1_reaches_129 : decode cX1_reaches 129 = .ok (.ior, 1) := dk_128 (dk_at dksX1_reaches_5 12 rfl rfl)
theorem dX1_reaches_130 : decode cX1_reaches 130 = .ok (.dup2, 1) := dk_92 (dk_at dksX1_reaches_5 13 rfl rfl)
theorem dX1_reaches_131 : decode cX1_reaches 131 = .ok (.iaload, 1) := dk_46 (dk_at dksX1_reaches_5 14 rfl rfl)
theorem dX1_reaches_132 : decode cX1_reaches 132 = .ok (.iconst 1, 1) := dk_4 (dk_at dksX1_reaches_5 15 rfl rfl)
theorem dX1_reaches_133 : decode cX1_reaches 133 = .ok (.iload 5, 2) := dk_21 5 (dk_at dksX1_reaches_5 16 rfl rfl)
theorem dX1_reaches_135 : decode cX1_reaches 135 = .ok (.ishl, 1) := dk_120 (dk_at dksX1_reaches_5 18 rfl rfl)
theorem dX1_reaches_136 : decode cX1_reaches 136 = .ok (.ior, 1) := dk_128 (dk_at dksX1_reaches_5 19 rfl rfl)
theorem dX1_reaches_137 : decode cX1_reaches 137 = .ok (.iastore, 1) := dk_79 (dk_at dksX1_reaches_5 20 rfl rfl)
theorem dX1_reaches_138 : decode cX1_reaches 138 = .ok (.iinc 5 1, 3) := dk_132 5 1 (dk_at dksX1_reaches_5 21 rfl rfl)
theorem dX1_reaches_141 : decode cX1_reaches 141 = .ok (.goto (-42), 3) := dk_167 255 214 (dk_at dksX1_reaches_6 0 rfl rfl)
theorem dX1_reaches_144 : decode cX1_reaches 144 = .ok (.iinc 4 1, 3) := dk_132 4 1 (dk_at dksX1_reaches_6 3 rfl rfl)
theorem dX1_reaches_147 : decode cX1_reaches 147 = .ok (.goto (-87), 3) := dk_167 255 169 (dk_at dksX1_reaches_6 6 rfl rfl)
theorem dX1_reaches_150 : decode cX1_reaches 150 = .ok (.iinc 3 1, 3) := dk_132 3 1 (dk_at dksX1_reaches_6 9 rfl rfl)
theorem dX1_reaches_153 : decode cX1_reaches 153 = .ok (.goto (-106), 3) := dk_167 255 150 (dk_at dksX1_reaches_6 12 rfl rfl)
theorem dX1_reaches_156 : decode cX1_reaches 156 = .ok (.return_, 1) := dk_177 (dk_at dksX1_reaches_6 15 rfl rfl)
abbrev cX1_best : ByteArray := prog_1_method_83_code
def yX1_best : MethodName := ⟨RX1, "best", "(II)I"⟩
def dkwX1_best_5 : List UInt8 := [167, 0, 4, 4, 172]
abbrev dktX1_best_5 : List UInt8 := dkwX1_best_5 ++ []
def dkwX1_best_4 : List UInt8 := [19, 1, 104, 79, 132, 3, 1, 167, 255, 175, 42, 27, 4, 182, 1, 149, 19, 1, 104, 160, 0, 8, 16, 254]
abbrev dktX1_best_4 : List UInt8 := dkwX1_best_4 ++ dktX1_best_5
def dkwX1_best_3 : List UInt8 := [167, 255, 231, 42, 180, 0, 77, 29, 42, 21, 4, 182, 1, 146, 28, 163, 0, 8, 21, 5, 167, 0, 6]
abbrev dktX1_best_3 : List UInt8 := dkwX1_best_3 ++ dktX1_best_4
def dkwX1_best_2 : List UInt8 := [180, 0, 110, 162, 0, 22, 21, 5, 42, 21, 6, 21, 4, 182, 1, 143, 96, 54, 5, 132, 6, 1]
abbrev dktX1_best_2 : List UInt8 := dkwX1_best_2 ++ dktX1_best_3
def dkwX1_best_1 : List UInt8 := [162, 0, 77, 29, 42, 182, 1, 50, 2, 130, 126, 54, 4, 3, 54, 5, 3, 54, 6, 21, 6, 42]
abbrev dktX1_best_1 : List UInt8 := dkwX1_best_1 ++ dktX1_best_2
def dkwX1_best_0 : List UInt8 := [42, 27, 28, 182, 1, 140, 154, 0, 5, 2, 172, 42, 182, 1, 111, 3, 62, 29, 4, 42, 180, 0, 102, 120]
abbrev dktX1_best_0 : List UInt8 := dkwX1_best_0 ++ dktX1_best_1
theorem dksX1_best_0 : cX1_best.data.toList.drop 0 = dktX1_best_0 := by decide +kernel
theorem dksX1_best_1 : cX1_best.data.toList.drop 24 = dktX1_best_1 := dk_seg dksX1_best_0 24 rfl rfl
theorem dksX1_best_2 : cX1_best.data.toList.drop 46 = dktX1_best_2 := dk_seg dksX1_best_1 22 rfl rfl
theorem dksX1_best_3 : cX1_best.data.toList.drop 68 = dktX1_best_3 := dk_seg dksX1_best_2 22 rfl rfl
theorem dksX1_best_4 : cX1_best.data.toList.drop 91 = dktX1_best_4 := dk_seg dksX1_best_3 23 rfl rfl
theorem dksX1_best_5 : cX1_best.data.toList.drop 115 = dktX1_best_5 := dk_seg dksX1_best_4 24 rfl rfl
theorem dX1_best_0 : decode cX1_best 0 = .ok (.aload_n 0, 1) := dk_42 (dk_at dksX1_best_0 0 rfl rfl)
theorem dX1_best_1 : decode cX1_best 1 = .ok (.iload_n 1, 1) := dk_27 (dk_at dksX1_best_0 1 rfl rfl)
theorem dX1_best_2 : decode cX1_best 2 = .ok (.iload_n 2, 1) := dk_28 (dk_at dksX1_best_0 2 rfl rfl)
theorem dX1_best_3 : decode cX1_best 3 = .ok (.invokevirtual 396, 3) := dk_182 1 140 (dk_at dksX1_best_0 3 rfl rfl)
theorem dX1_best_6 : decode cX1_best 6 = .ok (.ifCond .ne 5, 3) := dk_154 0 5 (dk_at dksX1_best_0 6 rfl rfl)
theorem dX1_best_9 : decode cX1_best 9 = .ok (.iconst (-1), 1) := dk_2 (dk_at dksX1_best_0 9 rfl rfl)
theorem dX1_best_10 : decode cX1_best 10 = .ok (.ireturn, 1) := dk_172 (dk_at dksX1_best_0 10 rfl rfl)
theorem dX1_best_11 : decode cX1_best 11 = .ok (.aload_n 0, 1) := dk_42 (dk_at dksX1_best_0 11 rfl rfl)
theorem dX1_best_12 : decode cX1_best 12 = .ok (.invokevirtual 367, 3) := dk_182 1 111 (dk_at dksX1_best_0 12 rfl rfl)
theorem dX1_best_15 : decode cX1_best 15 = .ok (.iconst 0, 1) := dk_3 (dk_at dksX1_best_0 15 rfl rfl)
theorem dX1_best_16 : decode cX1_best 16 = .ok (.istore_n 3, 1) := dk_62 (dk_at dksX1_best_0 16 rfl rfl)
theorem dX1_best_17 : decode cX1_best 17 = .ok (.iload_n 3, 1) := dk_29 (dk_at dksX1_best_0 17 rfl rfl)
theorem dX1_best_18 : decode cX1_best 18 = .ok (.iconst 1, 1) := dk_4 (dk_at dksX1_best_0 18 rfl rfl)
theorem dX1_best_19 : decode cX1_best 19 = .ok (.aload_n 0, 1) := dk_42 (dk_at dksX1_best_0 19 rfl rfl)
theorem dX1_best_20 : decode cX1_best 20 = .ok (.getfield 102, 3) := dk_180 0 102 (dk_at dksX1_best_0 20 rfl rfl)
theorem dX1_best_23 : decode cX1_best 23 = .ok (.ishl, 1) := dk_120 (dk_at dksX1_best_0 23 rfl rfl)
theorem dX1_best_24 : decode cX1_best 24 = .ok (.if_icmp .ge 77, 3) := dk_162 0 77 (dk_at dksX1_best_1 0 rfl rfl)
theorem dX1_best_27 : decode cX1_best 27 = .ok (.iload_n 3, 1) := dk_29 (dk_at dksX1_best_1 3 rfl rfl)
theorem dX1_best_28 : decode cX1_best 28 = .ok (.aload_n 0, 1) := dk_42 (dk_at dksX1_best_1 4 rfl rfl)
theorem dX1_best_29 : decode cX1_best 29 = .ok (.invokevirtual 306, 3) := dk_182 1 50 (dk_at dksX1_best_1 5 rfl rfl)
theorem dX1_best_32 : decode cX1_best 32 = .ok (.iconst (-1), 1) := dk_2 (dk_at dksX1_best_1 8 rfl rfl)
theorem dX1_best_33 : decode cX1_best 33 = .ok (.ixor, 1) := dk_130 (dk_at dksX1_best_1 9 rfl rfl)
theorem dX1_best_34 : decode cX1_best 34 = .ok (.iand, 1) := dk_126 (dk_at dksX1_best_1 10 rfl rfl)
theorem dX1_best_35 : decode cX1_best 35 = .ok (.istore 4, 2) := dk_54 4 (dk_at dksX1_best_1 11 rfl rfl)
theorem dX1_best_37 : decode cX1_best 37 = .ok (.iconst 0, 1) := dk_3 (dk_at dksX1_best_1 13 rfl rfl)
theorem dX1_best_38 : decode cX1_best 38 = .ok (.istore 5, 2) := dk_54 5 (dk_at dksX1_best_1 14 rfl rfl)
theorem dX1_best_40 : decode cX1_best 40 = .ok (.iconst 0, 1) := dk_3 (dk_at dksX1_best_1 16 rfl rfl)
theorem dX1_best_41 : decode cX1_best 41 = .ok (.istore 6, 2) := dk_54 6 (dk_at dksX1_best_1 17 rfl rfl)
theorem dX1_best_43 : decode cX1_best 43 = .ok (.iload 6, 2) := dk_21 6 (dk_at dksX1_best_1 19 rfl rfl)
theorem dX1_best_45 : decode cX1_best 45 = .ok (.aload_n 0, 1) := dk_42 (dk_at dksX1_best_1 21 rfl rfl)
theorem dX1_best_46 : decode cX1_best 46 = .ok (.getfield 110, 3) := dk_180 0 110 (dk_at dksX1_best_2 0 rfl rfl)
theorem dX1_best_49 : decode cX1_best 49 = .ok (.if_icmp .ge 22, 3) := dk_162 0 22 (dk_at dksX1_best_2 3 rfl rfl)
theorem dX1_best_52 : decode cX1_best 52 = .ok (.iload 5, 2) := dk_21 5 (dk_at dksX1_best_2 6 rfl rfl)
theorem dX1_best_54 : decode cX1_best 54 = .ok (.aload_n 0, 1) := dk_42 (dk_at dksX1_best_2 8 rfl rfl)
theorem dX1_best_55 : decode cX1_best 55 = .ok (.iload 6, 2) := dk_21 6 (dk_at dksX1_best_2 9 rfl rfl)
theorem dX1_best_57 : decode cX1_best 57 = .ok (.iload 4, 2) := dk_21 4 (dk_at dksX1_best_2 11 rfl rfl)
theorem dX1_best_59 : decode cX1_best 59 = .ok (.invokevirtual 399, 3) := dk_182 1 143 (dk_at dksX1_best_2 13 rfl rfl)
theorem dX1_best_62 : decode cX1_best 62 = .ok (.iadd, 1) := dk_96 (dk_at dksX1_best_2 16 rfl rfl)
theorem dX1_best_63 : decode cX1_best 63 = .ok (.istore 5, 2) := dk_54 5 (dk_at dksX1_best_2 17 rfl rfl)
theorem dX1_best_65 : decode cX1_best 65 = .ok (.iinc 6 1, 3) := dk_132 6 1 (dk_at dksX1_best_2 19 rfl rfl)
theorem dX1_best_68 : decode cX1_best 68 = .ok (.goto (-25), 3) := dk_167 255 231 (dk_at dksX1_best_3 0 rfl rfl)
theorem dX1_best_71 : decode cX1_best 71 = .ok (.aload_n 0, 1) := dk_42 (dk_at dksX1_best_3 3 rfl rfl)
theorem dX1_best_72 : decode cX1_best 72 = .ok (.getfield 77, 3) := dk_180 0 77 (dk_at dksX1_best_3 4 rfl rfl)
theorem dX1_best_75 : decode cX1_best 75 = .ok (.iload_n 3, 1) := dk_29 (dk_at dksX1_best_3 7 rfl rfl)
theorem dX1_best_76 : decode cX1_best 76 = .ok (.aload_n 0, 1) := dk_42 (dk_at dksX1_best_3 8 rfl rfl)
theorem dX1_best_77 : decode cX1_best 77 = .ok (.iload 4, 2) := dk_21 4 (dk_at dksX1_best_3 9 rfl rfl)
theorem dX1_best_79 : decode cX1_best 79 = .ok (.invokevirtual 402, 3) := dk_182 1 146 (dk_at dksX1_best_3 11 rfl rfl)
theorem dX1_best_82 : decode cX1_best 82 = .ok (.iload_n 2, 1) := dk_28 (dk_at dksX1_best_3 14 rfl rfl)
theorem dX1_best_83 : decode cX1_best 83 = .ok (.if_icmp .gt 8, 3) := dk_163 0 8 (dk_at dksX1_best_3 15 rfl rfl)
theorem dX1_best_86 : decode cX1_best 86 = .ok (.iload 5, 2) := dk_21 5 (dk_at dksX1_best_3 18 rfl rfl)
theorem dX1_best_88 : decode cX1_best 88 = .ok (.goto 6, 3) := dk_167 0 6 (dk_at dksX1_best_3 20 rfl rfl)
theorem dX1_best_91 : decode cX1_best 91 = .ok (.ldc_w 360, 3) := dk_19 1 104 (dk_at dksX1_best_4 0 rfl rfl)
theorem dX1_best_94 : decode cX1_best 94 = .ok (.iastore, 1) := dk_79 (dk_at dksX1_best_4 3 rfl rfl)
theorem dX1_best_95 : decode cX1_best 95 = .ok (.iinc 3 1, 3) := dk_132 3 1 (dk_at dksX1_best_4 4 rfl rfl)
theorem dX1_best_98 : decode cX1_best 98 = .ok (.goto (-81), 3) := dk_167 255 175 (dk_at dksX1_best_4 7 rfl rfl)
theorem dX1_best_101 : decode cX1_best 101 = .ok (.aload_n 0, 1) := dk_42 (dk_at dksX1_best_4 10 rfl rfl)
theorem dX1_best_102 : decode cX1_best 102 = .ok (.iload_n 1, 1) := dk_27 (dk_at dksX1_best_4 11 rfl rfl)
theorem dX1_best_103 : decode cX1_best 103 = .ok (.iconst 1, 1) := dk_4 (dk_at dksX1_best_4 12 rfl rfl)
theorem dX1_best_104 : decode cX1_best 104 = .ok (.invokevirtual 405, 3) := dk_182 1 149 (dk_at dksX1_best_4 13 rfl rfl)
theorem dX1_best_107 : decode cX1_best 107 = .ok (.ldc_w 360, 3) := dk_19 1 104 (dk_at dksX1_best_4 16 rfl rfl)
theorem dX1_best_110 : decode cX1_best 110 = .ok (.if_icmp .ne 8, 3) := dk_160 0 8 (dk_at dksX1_best_4 19 rfl rfl)
theorem dX1_best_113 : decode cX1_best 113 = .ok (.bipush (-2), 2) := dk_16 254 (dk_at dksX1_best_4 22 rfl rfl)
theorem dX1_best_115 : decode cX1_best 115 = .ok (.goto 4, 3) := dk_167 0 4 (dk_at dksX1_best_5 0 rfl rfl)
theorem dX1_best_118 : decode cX1_best 118 = .ok (.iconst 1, 1) := dk_4 (dk_at dksX1_best_5 3 rfl rfl)
theorem dX1_best_119 : decode cX1_best 119 = .ok (.ireturn, 1) := dk_172 (dk_at dksX1_best_5 4 rfl rfl)
abbrev cX1_isPurse : ByteArray := prog_1_method_81_code
def yX1_isPurse : MethodName := ⟨RX1, "isPurse", "(II)Z"⟩
def dkwX1_isPurse_1 : List UInt8 := [4, 167, 0, 4, 3, 172]
abbrev dktX1_isPurse_1 : List UInt8 := dkwX1_isPurse_1 ++ []
def dkwX1_isPurse_0 : List UInt8 := [27, 133, 9, 20, 1, 121, 184, 0, 106, 153, 0, 19, 28, 133, 9, 20, 1, 138, 184, 0, 106, 153, 0, 7]
abbrev dktX1_isPurse_0 : List UInt8 := dkwX1_isPurse_0 ++ dktX1_isPurse_1
theorem dksX1_isPurse_0 : cX1_isPurse.data.toList.drop 0 = dktX1_isPurse_0 := by decide +kernel
theorem dksX1_isPurse_1 : cX1_isPurse.data.toList.drop 24 = dktX1_isPurse_1 := dk_seg dksX1_isPurse_0 24 rfl rfl
theorem dX1_isPurse_0 : decode cX1_isPurse 0 = .ok (.iload_n 1, 1) := dk_27 (dk_at dksX1_isPurse_0 0 rfl rfl)
theorem dX1_isPurse_1 : decode cX1_isPurse 1 = .ok (.i2l, 1) := dk_133 (dk_at dksX1_isPurse_0 1 rfl rfl)
theorem dX1_isPurse_2 : decode cX1_isPurse 2 = .ok (.lconst 0, 1) := dk_9 (dk_at dksX1_isPurse_0 2 rfl rfl)
theorem dX1_isPurse_3 : decode cX1_isPurse 3 = .ok (.ldc2_w 377, 3) := dk_20 1 121 (dk_at dksX1_isPurse_0 3 rfl rfl)
theorem dX1_isPurse_6 : decode cX1_isPurse 6 = .ok (.invokestatic 106, 3) := dk_184 0 106 (dk_at dksX1_isPurse_0 6 rfl rfl)
theorem dX1_isPurse_9 : decode cX1_isPurse 9 = .ok (.ifCond .eq 19, 3) := dk_153 0 19 (dk_at dksX1_isPurse_0 9 rfl rfl)
theorem dX1_isPurse_12 : decode cX1_isPurse 12 = .ok (.iload_n 2, 1) := dk_28 (dk_at dksX1_isPurse_0 12 rfl rfl)
theorem dX1_isPurse_13 : decode cX1_isPurse 13 = .ok (.i2l, 1) := dk_133 (dk_at dksX1_isPurse_0 13 rfl rfl)
theorem dX1_isPurse_14 : decode cX1_isPurse 14 = .ok (.lconst 0, 1) := dk_9 (dk_at dksX1_isPurse_0 14 rfl rfl)
theorem dX1_isPurse_15 : decode cX1_isPurse 15 = .ok (.ldc2_w 394, 3) := dk_20 1 138 (dk_at dksX1_isPurse_0 15 rfl rfl)
theorem dX1_isPurse_18 : decode cX1_isPurse 18 = .ok (.invokestatic 106, 3) := dk_184 0 106 (dk_at dksX1_isPurse_0 18 rfl rfl)
theorem dX1_isPurse_21 : decode cX1_isPurse 21 = .ok (.ifCond .eq 7, 3) := dk_153 0 7 (dk_at dksX1_isPurse_0 21 rfl rfl)
theorem dX1_isPurse_24 : decode cX1_isPurse 24 = .ok (.iconst 1, 1) := dk_4 (dk_at dksX1_isPurse_1 0 rfl rfl)
theorem dX1_isPurse_25 : decode cX1_isPurse 25 = .ok (.goto 4, 3) := dk_167 0 4 (dk_at dksX1_isPurse_1 1 rfl rfl)
theorem dX1_isPurse_28 : decode cX1_isPurse 28 = .ok (.iconst 0, 1) := dk_3 (dk_at dksX1_isPurse_1 4 rfl rfl)
theorem dX1_isPurse_29 : decode cX1_isPurse 29 = .ok (.ireturn, 1) := dk_172 (dk_at dksX1_isPurse_1 5 rfl rfl)
abbrev cX1_joyIn : ByteArray := prog_1_method_82_code
def yX1_joyIn : MethodName := ⟨RX1, "joyIn", "(II)I"⟩
def dkwX1_joyIn_1 : List UInt8 := [42, 27, 21, 4, 182, 0, 249, 167, 0, 4, 3, 96, 62, 132, 4, 1, 167, 255, 221, 29, 172]
abbrev dktX1_joyIn_1 : List UInt8 := dkwX1_joyIn_1 ++ []
def dkwX1_joyIn_0 : List UInt8 := [3, 62, 3, 54, 4, 21, 4, 42, 180, 0, 102, 162, 0, 32, 29, 28, 21, 4, 184, 1, 3, 153, 0, 13]
abbrev dktX1_joyIn_0 : List UInt8 := dkwX1_joyIn_0 ++ dktX1_joyIn_1
theorem dksX1_joyIn_0 : cX1_joyIn.data.toList.drop 0 = dktX1_joyIn_0 := by decide +kernel
theorem dksX1_joyIn_1 : cX1_joyIn.data.toList.drop 24 = dktX1_joyIn_1 := dk_seg dksX1_joyIn_0 24 rfl rfl
theorem dX1_joyIn_0 : decode cX1_joyIn 0 = .ok (.iconst 0, 1) := dk_3 (dk_at dksX1_joyIn_0 0 rfl rfl)
theorem dX1_joyIn_1 : decode cX1_joyIn 1 = .ok (.istore_n 3, 1) := dk_62 (dk_at dksX1_joyIn_0 1 rfl rfl)
theorem dX1_joyIn_2 : decode cX1_joyIn 2 = .ok (.iconst 0, 1) := dk_3 (dk_at dksX1_joyIn_0 2 rfl rfl)
theorem dX1_joyIn_3 : decode cX1_joyIn 3 = .ok (.istore 4, 2) := dk_54 4 (dk_at dksX1_joyIn_0 3 rfl rfl)
theorem dX1_joyIn_5 : decode cX1_joyIn 5 = .ok (.iload 4, 2) := dk_21 4 (dk_at dksX1_joyIn_0 5 rfl rfl)
theorem dX1_joyIn_7 : decode cX1_joyIn 7 = .ok (.aload_n 0, 1) := dk_42 (dk_at dksX1_joyIn_0 7 rfl rfl)
theorem dX1_joyIn_8 : decode cX1_joyIn 8 = .ok (.getfield 102, 3) := dk_180 0 102 (dk_at dksX1_joyIn_0 8 rfl rfl)
theorem dX1_joyIn_11 : decode cX1_joyIn 11 = .ok (.if_icmp .ge 32, 3) := dk_162 0 32 (dk_at dksX1_joyIn_0 11 rfl rfl)
theorem dX1_joyIn_14 : decode cX1_joyIn 14 = .ok (.iload_n 3, 1) := dk_29 (dk_at dksX1_joyIn_0 14 rfl rfl)
theorem dX1_joyIn_15 : decode cX1_joyIn 15 = .ok (.iload_n 2, 1) := dk_28 (dk_at dksX1_joyIn_0 15 rfl rfl)
theorem dX1_joyIn_16 : decode cX1_joyIn 16 = .ok (.iload 4, 2) := dk_21 4 (dk_at dksX1_joyIn_0 16 rfl rfl)
theorem dX1_joyIn_18 : decode cX1_joyIn 18 = .ok (.invokestatic 259, 3) := dk_184 1 3 (dk_at dksX1_joyIn_0 18 rfl rfl)
theorem dX1_joyIn_21 : decode cX1_joyIn 21 = .ok (.ifCond .eq 13, 3) := dk_153 0 13 (dk_at dksX1_joyIn_0 21 rfl rfl)
theorem dX1_joyIn_24 : decode cX1_joyIn 24 = .ok (.aload_n 0, 1) := dk_42 (dk_at dksX1_joyIn_1 0 rfl rfl)
theorem dX1_joyIn_25 : decode cX1_joyIn 25 = .ok (.iload_n 1, 1) := dk_27 (dk_at dksX1_joyIn_1 1 rfl rfl)
theorem dX1_joyIn_26 : decode cX1_joyIn 26 = .ok (.iload 4, 2) := dk_21 4 (dk_at dksX1_joyIn_1 2 rfl rfl)
theorem dX1_joyIn_28 : decode cX1_joyIn 28 = .ok (.invokevirtual 249, 3) := dk_182 0 249 (dk_at dksX1_joyIn_1 4 rfl rfl)
theorem dX1_joyIn_31 : decode cX1_joyIn 31 = .ok (.goto 4, 3) := dk_167 0 4 (dk_at dksX1_joyIn_1 7 rfl rfl)
theorem dX1_joyIn_34 : decode cX1_joyIn 34 = .ok (.iconst 0, 1) := dk_3 (dk_at dksX1_joyIn_1 10 rfl rfl)
theorem dX1_joyIn_35 : decode cX1_joyIn 35 = .ok (.iadd, 1) := dk_96 (dk_at dksX1_joyIn_1 11 rfl rfl)
theorem dX1_joyIn_36 : decode cX1_joyIn 36 = .ok (.istore_n 3, 1) := dk_62 (dk_at dksX1_joyIn_1 12 rfl rfl)
theorem dX1_joyIn_37 : decode cX1_joyIn 37 = .ok (.iinc 4 1, 3) := dk_132 4 1 (dk_at dksX1_joyIn_1 13 rfl rfl)
theorem dX1_joyIn_40 : decode cX1_joyIn 40 = .ok (.goto (-35), 3) := dk_167 255 221 (dk_at dksX1_joyIn_1 16 rfl rfl)
theorem dX1_joyIn_43 : decode cX1_joyIn 43 = .ok (.iload_n 3, 1) := dk_29 (dk_at dksX1_joyIn_1 19 rfl rfl)
theorem dX1_joyIn_44 : decode cX1_joyIn 44 = .ok (.ireturn, 1) := dk_172 (dk_at dksX1_joyIn_1 20 rfl rfl)
abbrev cX1_joyOf : ByteArray := prog_1_method_24_code
def yX1_joyOf : MethodName := ⟨RX1, "joyOf", "(II)I"⟩
def dkwX1_joyOf_2 : List UInt8 := [172]
abbrev dktX1_joyOf_2 : List UInt8 := dkwX1_joyOf_2 ++ []
def dkwX1_joyOf_1 : List UInt8 := [167, 0, 24, 17, 252, 25, 17, 3, 231, 42, 180, 0, 233, 27, 28, 182, 0, 242, 184, 0, 122, 184, 0, 246]
abbrev dktX1_joyOf_1 : List UInt8 := dkwX1_joyOf_1 ++ dktX1_joyOf_2
def dkwX1_joyOf_0 : List UInt8 := [42, 180, 0, 233, 199, 0, 22, 42, 180, 0, 19, 27, 46, 42, 180, 0, 9, 28, 46, 126, 184, 0, 237]
abbrev dktX1_joyOf_0 : List UInt8 := dkwX1_joyOf_0 ++ dktX1_joyOf_1
theorem dksX1_joyOf_0 : cX1_joyOf.data.toList.drop 0 = dktX1_joyOf_0 := by decide +kernel
theorem dksX1_joyOf_1 : cX1_joyOf.data.toList.drop 23 = dktX1_joyOf_1 := dk_seg dksX1_joyOf_0 23 rfl rfl
theorem dksX1_joyOf_2 : cX1_joyOf.data.toList.drop 47 = dktX1_joyOf_2 := dk_seg dksX1_joyOf_1 24 rfl rfl
theorem dX1_joyOf_0 : decode cX1_joyOf 0 = .ok (.aload_n 0, 1) := dk_42 (dk_at dksX1_joyOf_0 0 rfl rfl)
theorem dX1_joyOf_1 : decode cX1_joyOf 1 = .ok (.getfield 233, 3) := dk_180 0 233 (dk_at dksX1_joyOf_0 1 rfl rfl)
theorem dX1_joyOf_4 : decode cX1_joyOf 4 = .ok (.ifnonnull 22, 3) := dk_199 0 22 (dk_at dksX1_joyOf_0 4 rfl rfl)
theorem dX1_joyOf_7 : decode cX1_joyOf 7 = .ok (.aload_n 0, 1) := dk_42 (dk_at dksX1_joyOf_0 7 rfl rfl)
theorem dX1_joyOf_8 : decode cX1_joyOf 8 = .ok (.getfield 19, 3) := dk_180 0 19 (dk_at dksX1_joyOf_0 8 rfl rfl)
theorem dX1_joyOf_11 : decode cX1_joyOf 11 = .ok (.iload_n 1, 1) := dk_27 (dk_at dksX1_joyOf_0 11 rfl rfl)
theorem dX1_joyOf_12 : decode cX1_joyOf 12 = .ok (.iaload, 1) := dk_46 (dk_at dksX1_joyOf_0 12 rfl rfl)
theorem dX1_joyOf_13 : decode cX1_joyOf 13 = .ok (.aload_n 0, 1) := dk_42 (dk_at dksX1_joyOf_0 13 rfl rfl)
theorem dX1_joyOf_14 : decode cX1_joyOf 14 = .ok (.getfield 9, 3) := dk_180 0 9 (dk_at dksX1_joyOf_0 14 rfl rfl)
theorem dX1_joyOf_17 : decode cX1_joyOf 17 = .ok (.iload_n 2, 1) := dk_28 (dk_at dksX1_joyOf_0 17 rfl rfl)
theorem dX1_joyOf_18 : decode cX1_joyOf 18 = .ok (.iaload, 1) := dk_46 (dk_at dksX1_joyOf_0 18 rfl rfl)
theorem dX1_joyOf_19 : decode cX1_joyOf 19 = .ok (.iand, 1) := dk_126 (dk_at dksX1_joyOf_0 19 rfl rfl)
theorem dX1_joyOf_20 : decode cX1_joyOf 20 = .ok (.invokestatic 237, 3) := dk_184 0 237 (dk_at dksX1_joyOf_0 20 rfl rfl)
theorem dX1_joyOf_23 : decode cX1_joyOf 23 = .ok (.goto 24, 3) := dk_167 0 24 (dk_at dksX1_joyOf_1 0 rfl rfl)
theorem dX1_joyOf_26 : decode cX1_joyOf 26 = .ok (.sipush (-999), 3) := dk_17 252 25 (dk_at dksX1_joyOf_1 3 rfl rfl)
theorem dX1_joyOf_29 : decode cX1_joyOf 29 = .ok (.sipush 999, 3) := dk_17 3 231 (dk_at dksX1_joyOf_1 6 rfl rfl)
theorem dX1_joyOf_32 : decode cX1_joyOf 32 = .ok (.aload_n 0, 1) := dk_42 (dk_at dksX1_joyOf_1 9 rfl rfl)
theorem dX1_joyOf_33 : decode cX1_joyOf 33 = .ok (.getfield 233, 3) := dk_180 0 233 (dk_at dksX1_joyOf_1 10 rfl rfl)
theorem dX1_joyOf_36 : decode cX1_joyOf 36 = .ok (.iload_n 1, 1) := dk_27 (dk_at dksX1_joyOf_1 13 rfl rfl)
theorem dX1_joyOf_37 : decode cX1_joyOf 37 = .ok (.iload_n 2, 1) := dk_28 (dk_at dksX1_joyOf_1 14 rfl rfl)
theorem dX1_joyOf_38 : decode cX1_joyOf 38 = .ok (.invokevirtual 242, 3) := dk_182 0 242 (dk_at dksX1_joyOf_1 15 rfl rfl)
theorem dX1_joyOf_41 : decode cX1_joyOf 41 = .ok (.invokestatic 122, 3) := dk_184 0 122 (dk_at dksX1_joyOf_1 18 rfl rfl)
theorem dX1_joyOf_44 : decode cX1_joyOf 44 = .ok (.invokestatic 246, 3) := dk_184 0 246 (dk_at dksX1_joyOf_1 21 rfl rfl)
theorem dX1_joyOf_47 : decode cX1_joyOf 47 = .ok (.ireturn, 1) := dk_172 (dk_at dksX1_joyOf_2 0 rfl rfl)
abbrev cX1_costOf : ByteArray := prog_1_method_79_code
def yX1_costOf : MethodName := ⟨RX1, "costOf", "(I)I"⟩
def dkwX1_costOf_1 : List UInt8 := [180, 0, 13, 29, 46, 167, 0, 4, 3, 96, 61, 132, 3, 1, 167, 255, 224, 28, 172]
abbrev dktX1_costOf_1 : List UInt8 := dkwX1_costOf_1 ++ []
def dkwX1_costOf_0 : List UInt8 := [3, 61, 3, 62, 29, 42, 180, 0, 102, 162, 0, 30, 28, 27, 29, 184, 1, 3, 153, 0, 12, 42]
abbrev dktX1_costOf_0 : List UInt8 := dkwX1_costOf_0 ++ dktX1_costOf_1
theorem dksX1_costOf_0 : cX1_costOf.data.toList.drop 0 = dktX1_costOf_0 := by decide +kernel
theorem dksX1_costOf_1 : cX1_costOf.data.toList.drop 22 = dktX1_costOf_1 := dk_seg dksX1_costOf_0 22 rfl rfl
theorem dX1_costOf_0 : decode cX1_costOf 0 = .ok (.iconst 0, 1) := dk_3 (dk_at dksX1_costOf_0 0 rfl rfl)
theorem dX1_costOf_1 : decode cX1_costOf 1 = .ok (.istore_n 2, 1) := dk_61 (dk_at dksX1_costOf_0 1 rfl rfl)
theorem dX1_costOf_2 : decode cX1_costOf 2 = .ok (.iconst 0, 1) := dk_3 (dk_at dksX1_costOf_0 2 rfl rfl)
theorem dX1_costOf_3 : decode cX1_costOf 3 = .ok (.istore_n 3, 1) := dk_62 (dk_at dksX1_costOf_0 3 rfl rfl)
theorem dX1_costOf_4 : decode cX1_costOf 4 = .ok (.iload_n 3, 1) := dk_29 (dk_at dksX1_costOf_0 4 rfl rfl)
theorem dX1_costOf_5 : decode cX1_costOf 5 = .ok (.aload_n 0, 1) := dk_42 (dk_at dksX1_costOf_0 5 rfl rfl)
theorem dX1_costOf_6 : decode cX1_costOf 6 = .ok (.getfield 102, 3) := dk_180 0 102 (dk_at dksX1_costOf_0 6 rfl rfl)
theorem dX1_costOf_9 : decode cX1_costOf 9 = .ok (.if_icmp .ge 30, 3) := dk_162 0 30 (dk_at dksX1_costOf_0 9 rfl rfl)
theorem dX1_costOf_12 : decode cX1_costOf 12 = .ok (.iload_n 2, 1) := dk_28 (dk_at dksX1_costOf_0 12 rfl rfl)
theorem dX1_costOf_13 : decode cX1_costOf 13 = .ok (.iload_n 1, 1) := dk_27 (dk_at dksX1_costOf_0 13 rfl rfl)
theorem dX1_costOf_14 : decode cX1_costOf 14 = .ok (.iload_n 3, 1) := dk_29 (dk_at dksX1_costOf_0 14 rfl rfl)
theorem dX1_costOf_15 : decode cX1_costOf 15 = .ok (.invokestatic 259, 3) := dk_184 1 3 (dk_at dksX1_costOf_0 15 rfl rfl)
theorem dX1_costOf_18 : decode cX1_costOf 18 = .ok (.ifCond .eq 12, 3) := dk_153 0 12 (dk_at dksX1_costOf_0 18 rfl rfl)
theorem dX1_costOf_21 : decode cX1_costOf 21 = .ok (.aload_n 0, 1) := dk_42 (dk_at dksX1_costOf_0 21 rfl rfl)
theorem dX1_costOf_22 : decode cX1_costOf 22 = .ok (.getfield 13, 3) := dk_180 0 13 (dk_at dksX1_costOf_1 0 rfl rfl)
theorem dX1_costOf_25 : decode cX1_costOf 25 = .ok (.iload_n 3, 1) := dk_29 (dk_at dksX1_costOf_1 3 rfl rfl)
theorem dX1_costOf_26 : decode cX1_costOf 26 = .ok (.iaload, 1) := dk_46 (dk_at dksX1_costOf_1 4 rfl rfl)
theorem dX1_costOf_27 : decode cX1_costOf 27 = .ok (.goto 4, 3) := dk_167 0 4 (dk_at dksX1_costOf_1 5 rfl rfl)
theorem dX1_costOf_30 : decode cX1_costOf 30 = .ok (.iconst 0, 1) := dk_3 (dk_at dksX1_costOf_1 8 rfl rfl)
theorem dX1_costOf_31 : decode cX1_costOf 31 = .ok (.iadd, 1) := dk_96 (dk_at dksX1_costOf_1 9 rfl rfl)
theorem dX1_costOf_32 : decode cX1_costOf 32 = .ok (.istore_n 2, 1) := dk_61 (dk_at dksX1_costOf_1 10 rfl rfl)
theorem dX1_costOf_33 : decode cX1_costOf 33 = .ok (.iinc 3 1, 3) := dk_132 3 1 (dk_at dksX1_costOf_1 11 rfl rfl)
theorem dX1_costOf_36 : decode cX1_costOf 36 = .ok (.goto (-32), 3) := dk_167 255 224 (dk_at dksX1_costOf_1 14 rfl rfl)
theorem dX1_costOf_39 : decode cX1_costOf 39 = .ok (.iload_n 2, 1) := dk_28 (dk_at dksX1_costOf_1 17 rfl rfl)
theorem dX1_costOf_40 : decode cX1_costOf 40 = .ok (.ireturn, 1) := dk_172 (dk_at dksX1_costOf_1 18 rfl rfl)
abbrev cX1_bestSet : ByteArray := prog_1_method_80_code
def yX1_bestSet : MethodName := ⟨RX1, "bestSet", "(IZ)I"⟩
def dkwX1_bestSet_14 : List UInt8 := [182, 1, 84, 29, 4, 21, 7, 120, 128, 62, 21, 7, 54, 5, 132, 6, 1, 167, 255, 190, 21, 4, 172]
abbrev dktX1_bestSet_14 : List UInt8 := dkwX1_bestSet_14 ++ []
def dkwX1_bestSet_13 : List UInt8 := [4, 21, 7, 120, 128, 21, 7, 184, 1, 108, 46, 154, 0, 9, 132, 7, 1, 167, 255, 222, 42, 21, 7]
abbrev dktX1_bestSet_13 : List UInt8 := dkwX1_bestSet_13 ++ dktX1_bestSet_14
def dkwX1_bestSet_12 : List UInt8 := [27, 162, 0, 66, 3, 54, 7, 42, 29, 21, 5, 21, 7, 182, 1, 105, 153, 0, 22, 42, 180, 0, 67, 29]
abbrev dktX1_bestSet_12 : List UInt8 := dkwX1_bestSet_12 ++ dktX1_bestSet_13
def dkwX1_bestSet_11 : List UInt8 := [181, 1, 81, 28, 153, 0, 9, 42, 21, 4, 182, 1, 84, 42, 182, 1, 53, 54, 5, 3, 54, 6, 21, 6]
abbrev dktX1_bestSet_11 : List UInt8 := dkwX1_bestSet_11 ++ dktX1_bestSet_12
def dkwX1_bestSet_10 : List UInt8 := [21, 5, 21, 6, 184, 1, 108, 21, 8, 79, 132, 6, 1, 167, 255, 113, 132, 5, 255, 167, 255, 99, 42, 3]
abbrev dktX1_bestSet_10 : List UInt8 := dkwX1_bestSet_10 ++ dktX1_bestSet_11
def dkwX1_bestSet_9 : List UInt8 := [4, 21, 9, 120, 128, 21, 9, 184, 1, 108, 46, 128, 54, 8, 132, 9, 1, 167, 255, 204, 42, 180, 0, 67]
abbrev dktX1_bestSet_9 : List UInt8 := dkwX1_bestSet_9 ++ dktX1_bestSet_10
def dkwX1_bestSet_8 : List UInt8 := [154, 0, 44, 42, 21, 5, 21, 6, 21, 9, 182, 1, 105, 153, 0, 25, 21, 8, 42, 180, 0, 67, 21, 5]
abbrev dktX1_bestSet_8 : List UInt8 := dkwX1_bestSet_8 ++ dktX1_bestSet_9
def dkwX1_bestSet_7 : List UInt8 := [160, 0, 7, 4, 167, 0, 4, 3, 54, 8, 3, 54, 9, 21, 9, 42, 180, 0, 102, 162, 0, 49, 21, 7]
abbrev dktX1_bestSet_7 : List UInt8 := dkwX1_bestSet_7 ++ dktX1_bestSet_8
def dkwX1_bestSet_6 : List UInt8 := [160, 0, 7, 4, 167, 0, 4, 3, 54, 7, 21, 7, 153, 0, 19, 42, 180, 0, 77, 21, 5, 46, 21, 4]
abbrev dktX1_bestSet_6 : List UInt8 := dkwX1_bestSet_6 ++ dktX1_bestSet_7
def dkwX1_bestSet_5 : List UInt8 := [21, 6, 182, 1, 101, 154, 0, 6, 167, 0, 120, 21, 5, 184, 0, 237, 42, 180, 1, 47, 27, 96]
abbrev dktX1_bestSet_5 : List UInt8 := dkwX1_bestSet_5 ++ dktX1_bestSet_6
def dkwX1_bestSet_4 : List UInt8 := [4, 100, 54, 5, 21, 5, 155, 0, 158, 2, 54, 6, 21, 6, 42, 180, 0, 102, 162, 0, 140, 42, 21, 5]
abbrev dktX1_bestSet_4 : List UInt8 := dkwX1_bestSet_4 ++ dktX1_bestSet_5
def dkwX1_bestSet_3 : List UInt8 := [132, 5, 1, 167, 255, 204, 21, 4, 19, 1, 104, 160, 0, 7, 19, 1, 104, 172, 4, 42, 180, 0, 102, 120]
abbrev dktX1_bestSet_3 : List UInt8 := dkwX1_bestSet_3 ++ dktX1_bestSet_4
def dkwX1_bestSet_2 : List UInt8 := [42, 180, 1, 47, 27, 96, 160, 0, 17, 21, 4, 42, 180, 0, 77, 21, 5, 46, 184, 0, 246, 54, 4]
abbrev dktX1_bestSet_2 : List UInt8 := dkwX1_bestSet_2 ++ dktX1_bestSet_3
def dkwX1_bestSet_1 : List UInt8 := [4, 42, 180, 0, 102, 120, 162, 0, 47, 42, 180, 0, 64, 21, 5, 46, 153, 0, 31, 21, 5, 184, 0, 237]
abbrev dktX1_bestSet_1 : List UInt8 := dkwX1_bestSet_1 ++ dktX1_bestSet_2
def dkwX1_bestSet_0 : List UInt8 := [42, 182, 1, 50, 62, 42, 29, 42, 182, 1, 53, 182, 1, 135, 19, 1, 104, 54, 4, 3, 54, 5, 21, 5]
abbrev dktX1_bestSet_0 : List UInt8 := dkwX1_bestSet_0 ++ dktX1_bestSet_1
theorem dksX1_bestSet_0 : cX1_bestSet.data.toList.drop 0 = dktX1_bestSet_0 := by decide +kernel
theorem dksX1_bestSet_1 : cX1_bestSet.data.toList.drop 24 = dktX1_bestSet_1 := dk_seg dksX1_bestSet_0 24 rfl rfl
theorem dksX1_bestSet_2 : cX1_bestSet.data.toList.drop 48 = dktX1_bestSet_2 := dk_seg dksX1_bestSet_1 24 rfl rfl
theorem dksX1_bestSet_3 : cX1_bestSet.data.toList.drop 71 = dktX1_bestSet_3 := dk_seg dksX1_bestSet_2 23 rfl rfl
theorem dksX1_bestSet_4 : cX1_bestSet.data.toList.drop 95 = dktX1_bestSet_4 := dk_seg dksX1_bestSet_3 24 rfl rfl
theorem dksX1_bestSet_5 : cX1_bestSet.data.toList.drop 119 = dktX1_bestSet_5 := dk_seg dksX1_bestSet_4 24 rfl rfl
theorem dksX1_bestSet_6 : cX1_bestSet.data.toList.drop 141 = dktX1_bestSet_6 := dk_seg dksX1_bestSet_5 22 rfl rfl
theorem dksX1_bestSet_7 : cX1_bestSet.data.toList.drop 165 = dktX1_bestSet_7 := dk_seg dksX1_bestSet_6 24 rfl rfl
theorem dksX1_bestSet_8 : cX1_bestSet.data.toList.drop 189 = dktX1_bestSet_8 := dk_seg dksX1_bestSet_7 24 rfl rfl
theorem dksX1_bestSet_9 : cX1_bestSet.data.toList.drop 213 = dktX1_bestSet_9 := dk_seg dksX1_bestSet_8 24 rfl rfl
theorem dksX1_bestSet_10 : cX1_bestSet.data.toList.drop 237 = dktX1_bestSet_10 := dk_seg dksX1_bestSet_9 24 rfl rfl
theorem dksX1_bestSet_11 : cX1_bestSet.data.toList.drop 261 = dktX1_bestSet_11 := dk_seg dksX1_bestSet_10 24 rfl rfl
theorem dksX1_bestSet_12 : cX1_bestSet.data.toList.drop 285 = dktX1_bestSet_12 := dk_seg dksX1_bestSet_11 24 rfl rfl
theorem dksX1_bestSet_13 : cX1_bestSet.data.toList.drop 309 = dktX1_bestSet_13 := dk_seg dksX1_bestSet_12 24 rfl rfl
theorem dksX1_bestSet_14 : cX1_bestSet.data.toList.drop 332 = dktX1_bestSet_14 := dk_seg dksX1_bestSet_13 23 rfl rfl
theorem dX1_bestSet_0 : decode cX1_bestSet 0 = .ok (.aload_n 0, 1) := dk_42 (dk_at dksX1_bestSet_0 0 rfl rfl)
theorem dX1_bestSet_1 : decode cX1_bestSet 1 = .ok (.invokevirtual 306, 3) := dk_182 1 50 (dk_at dksX1_bestSet_0 1 rfl rfl)
theorem dX1_bestSet_4 : decode cX1_bestSet 4 = .ok (.istore_n 3, 1) := dk_62 (dk_at dksX1_bestSet_0 4 rfl rfl)
theorem dX1_bestSet_5 : decode cX1_bestSet 5 = .ok (.aload_n 0, 1) := dk_42 (dk_at dksX1_bestSet_0 5 rfl rfl)
theorem dX1_bestSet_6 : decode cX1_bestSet 6 = .ok (.iload_n 3, 1) := dk_29 (dk_at dksX1_bestSet_0 6 rfl rfl)
theorem dX1_bestSet_7 : decode cX1_bestSet 7 = .ok (.aload_n 0, 1) := dk_42 (dk_at dksX1_bestSet_0 7 rfl rfl)
theorem dX1_bestSet_8 : decode cX1_bestSet 8 = .ok (.invokevirtual 309, 3) := dk_182 1 53 (dk_at dksX1_bestSet_0 8 rfl rfl)
theorem dX1_bestSet_11 : decode cX1_bestSet 11 = .ok (.invokevirtual 391, 3) := dk_182 1 135 (dk_at dksX1_bestSet_0 11 rfl rfl)
theorem dX1_bestSet_14 : decode cX1_bestSet 14 = .ok (.ldc_w 360, 3) := dk_19 1 104 (dk_at dksX1_bestSet_0 14 rfl rfl)
theorem dX1_bestSet_17 : decode cX1_bestSet 17 = .ok (.istore 4, 2) := dk_54 4 (dk_at dksX1_bestSet_0 17 rfl rfl)
theorem dX1_bestSet_19 : decode cX1_bestSet 19 = .ok (.iconst 0, 1) := dk_3 (dk_at dksX1_bestSet_0 19 rfl rfl)
theorem dX1_bestSet_20 : decode cX1_bestSet 20 = .ok (.istore 5, 2) := dk_54 5 (dk_at dksX1_bestSet_0 20 rfl rfl)
theorem dX1_bestSet_22 : decode cX1_bestSet 22 = .ok (.iload 5, 2) := dk_21 5 (dk_at dksX1_bestSet_0 22 rfl rfl)
theorem dX1_bestSet_24 : decode cX1_bestSet 24 = .ok (.iconst 1, 1) := dk_4 (dk_at dksX1_bestSet_1 0 rfl rfl)
theorem dX1_bestSet_25 : decode cX1_bestSet 25 = .ok (.aload_n 0, 1) := dk_42 (dk_at dksX1_bestSet_1 1 rfl rfl)
theorem dX1_bestSet_26 : decode cX1_bestSet 26 = .ok (.getfield 102, 3) := dk_180 0 102 (dk_at dksX1_bestSet_1 2 rfl rfl)
theorem dX1_bestSet_29 : decode cX1_bestSet 29 = .ok (.ishl, 1) := dk_120 (dk_at dksX1_bestSet_1 5 rfl rfl)
theorem dX1_bestSet_30 : decode cX1_bestSet 30 = .ok (.if_icmp .ge 47, 3) := dk_162 0 47 (dk_at dksX1_bestSet_1 6 rfl rfl)
theorem dX1_bestSet_33 : decode cX1_bestSet 33 = .ok (.aload_n 0, 1) := dk_42 (dk_at dksX1_bestSet_1 9 rfl rfl)
theorem dX1_bestSet_34 : decode cX1_bestSet 34 = .ok (.getfield 64, 3) := dk_180 0 64 (dk_at dksX1_bestSet_1 10 rfl rfl)
theorem dX1_bestSet_37 : decode cX1_bestSet 37 = .ok (.iload 5, 2) := dk_21 5 (dk_at dksX1_bestSet_1 13 rfl rfl)
theorem dX1_bestSet_39 : decode cX1_bestSet 39 = .ok (.iaload, 1) := dk_46 (dk_at dksX1_bestSet_1 15 rfl rfl)
theorem dX1_bestSet_40 : decode cX1_bestSet 40 = .ok (.ifCond .eq 31, 3) := dk_153 0 31 (dk_at dksX1_bestSet_1 16 rfl rfl)
theorem dX1_bestSet_43 : decode cX1_bestSet 43 = .ok (.iload 5, 2) := dk_21 5 (dk_at dksX1_bestSet_1 19 rfl rfl)
theorem dX1_bestSet_45 : decode cX1_bestSet 45 = .ok (.invokestatic 237, 3) := dk_184 0 237 (dk_at dksX1_bestSet_1 21 rfl rfl)
theorem dX1_bestSet_48 : decode cX1_bestSet 48 = .ok (.aload_n 0, 1) := dk_42 (dk_at dksX1_bestSet_2 0 rfl rfl)
theorem dX1_bestSet_49 : decode cX1_bestSet 49 = .ok (.getfield 303, 3) := dk_180 1 47 (dk_at dksX1_bestSet_2 1 rfl rfl)
theorem dX1_bestSet_52 : decode cX1_bestSet 52 = .ok (.iload_n 1, 1) := dk_27 (dk_at dksX1_bestSet_2 4 rfl rfl)
theorem dX1_bestSet_53 : decode cX1_bestSet 53 = .ok (.iadd, 1) := dk_96 (dk_at dksX1_bestSet_2 5 rfl rfl)
theorem dX1_bestSet_54 : decode cX1_bestSet 54 = .ok (.if_icmp .ne 17, 3) := dk_160 0 17 (dk_at dksX1_bestSet_2 6 rfl rfl)
theorem dX1_bestSet_57 : decode cX1_bestSet 57 = .ok (.iload 4, 2) := dk_21 4 (dk_at dksX1_bestSet_2 9 rfl rfl)
theorem dX1_bestSet_59 : decode cX1_bestSet 59 = .ok (.aload_n 0, 1) := dk_42 (dk_at dksX1_bestSet_2 11 rfl rfl)
theorem dX1_bestSet_60 : decode cX1_bestSet 60 = .ok (.getfield 77, 3) := dk_180 0 77 (dk_at dksX1_bestSet_2 12 rfl rfl)
theorem dX1_bestSet_63 : decode cX1_bestSet 63 = .ok (.iload 5, 2) := dk_21 5 (dk_at dksX1_bestSet_2 15 rfl rfl)
theorem dX1_bestSet_65 : decode cX1_bestSet 65 = .ok (.iaload, 1) := dk_46 (dk_at dksX1_bestSet_2 17 rfl rfl)
theorem dX1_bestSet_66 : decode cX1_bestSet 66 = .ok (.invokestatic 246, 3) := dk_184 0 246 (dk_at dksX1_bestSet_2 18 rfl rfl)
theorem dX1_bestSet_69 : decode cX1_bestSet 69 = .ok (.istore 4, 2) := dk_54 4 (dk_at dksX1_bestSet_2 21 rfl rfl)
theorem dX1_bestSet_71 : decode cX1_bestSet 71 = .ok (.iinc 5 1, 3) := dk_132 5 1 (dk_at dksX1_bestSet_3 0 rfl rfl)
theorem dX1_bestSet_74 : decode cX1_bestSet 74 = .ok (.goto (-52), 3) := dk_167 255 204 (dk_at dksX1_bestSet_3 3 rfl rfl)
theorem dX1_bestSet_77 : decode cX1_bestSet 77 = .ok (.iload 4, 2) := dk_21 4 (dk_at dksX1_bestSet_3 6 rfl rfl)
theorem dX1_bestSet_79 : decode cX1_bestSet 79 = .ok (.ldc_w 360, 3) := dk_19 1 104 (dk_at dksX1_bestSet_3 8 rfl rfl)
theorem dX1_bestSet_82 : decode cX1_bestSet 82 = .ok (.if_icmp .ne 7, 3) := dk_160 0 7 (dk_at dksX1_bestSet_3 11 rfl rfl)
theorem dX1_bestSet_85 : decode cX1_bestSet 85 = .ok (.ldc_w 360, 3) := dk_19 1 104 (dk_at dksX1_bestSet_3 14 rfl rfl)
theorem dX1_bestSet_88 : decode cX1_bestSet 88 = .ok (.ireturn, 1) := dk_172 (dk_at dksX1_bestSet_3 17 rfl rfl)
theorem dX1_bestSet_89 : decode cX1_bestSet 89 = .ok (.iconst 1, 1) := dk_4 (dk_at dksX1_bestSet_3 18 rfl rfl)
theorem dX1_bestSet_90 : decode cX1_bestSet 90 = .ok (.aload_n 0, 1) := dk_42 (dk_at dksX1_bestSet_3 19 rfl rfl)
theorem dX1_bestSet_91 : decode cX1_bestSet 91 = .ok (.getfield 102, 3) := dk_180 0 102 (dk_at dksX1_bestSet_3 20 rfl rfl)
theorem dX1_bestSet_94 : decode cX1_bestSet 94 = .ok (.ishl, 1) := dk_120 (dk_at dksX1_bestSet_3 23 rfl rfl)
theorem dX1_bestSet_95 : decode cX1_bestSet 95 = .ok (.iconst 1, 1) := dk_4 (dk_at dksX1_bestSet_4 0 rfl rfl)
theorem dX1_bestSet_96 : decode cX1_bestSet 96 = .ok (.isub, 1) := dk_100 (dk_at dksX1_bestSet_4 1 rfl rfl)
theorem dX1_bestSet_97 : decode cX1_bestSet 97 = .ok (.istore 5, 2) := dk_54 5 (dk_at dksX1_bestSet_4 2 rfl rfl)
theorem dX1_bestSet_99 : decode cX1_bestSet 99 = .ok (.iload 5, 2) := dk_21 5 (dk_at dksX1_bestSet_4 4 rfl rfl)
theorem dX1_bestSet_101 : decode cX1_bestSet 101 = .ok (.ifCond .lt 158, 3) := dk_155 0 158 (dk_at dksX1_bestSet_4 6 rfl rfl)
theorem dX1_bestSet_104 : decode cX1_bestSet 104 = .ok (.iconst (-1), 1) := dk_2 (dk_at dksX1_bestSet_4 9 rfl rfl)
theorem dX1_bestSet_105 : decode cX1_bestSet 105 = .ok (.istore 6, 2) := dk_54 6 (dk_at dksX1_bestSet_4 10 rfl rfl)
theorem dX1_bestSet_107 : decode cX1_bestSet 107 = .ok (.iload 6, 2) := dk_21 6 (dk_at dksX1_bestSet_4 12 rfl rfl)
theorem dX1_bestSet_109 : decode cX1_bestSet 109 = .ok (.aload_n 0, 1) := dk_42 (dk_at dksX1_bestSet_4 14 rfl rfl)
theorem dX1_bestSet_110 : decode cX1_bestSet 110 = .ok (.getfield 102, 3) := dk_180 0 102 (dk_at dksX1_bestSet_4 15 rfl rfl)
theorem dX1_bestSet_113 : decode cX1_bestSet 113 = .ok (.if_icmp .ge 140, 3) := dk_162 0 140 (dk_at dksX1_bestSet_4 18 rfl rfl)
theorem dX1_bestSet_116 : decode cX1_bestSet 116 = .ok (.aload_n 0, 1) := dk_42 (dk_at dksX1_bestSet_4 21 rfl rfl)
theorem dX1_bestSet_117 : decode cX1_bestSet 117 = .ok (.iload 5, 2) := dk_21 5 (dk_at dksX1_bestSet_4 22 rfl rfl)
theorem dX1_bestSet_119 : decode cX1_bestSet 119 = .ok (.iload 6, 2) := dk_21 6 (dk_at dksX1_bestSet_5 0 rfl rfl)
theorem dX1_bestSet_121 : decode cX1_bestSet 121 = .ok (.invokevirtual 357, 3) := dk_182 1 101 (dk_at dksX1_bestSet_5 2 rfl rfl)
theorem dX1_bestSet_124 : decode cX1_bestSet 124 = .ok (.ifCond .ne 6, 3) := dk_154 0 6 (dk_at dksX1_bestSet_5 5 rfl rfl)
theorem dX1_bestSet_127 : decode cX1_bestSet 127 = .ok (.goto 120, 3) := dk_167 0 120 (dk_at dksX1_bestSet_5 8 rfl rfl)
theorem dX1_bestSet_130 : decode cX1_bestSet 130 = .ok (.iload 5, 2) := dk_21 5 (dk_at dksX1_bestSet_5 11 rfl rfl)
theorem dX1_bestSet_132 : decode cX1_bestSet 132 = .ok (.invokestatic 237, 3) := dk_184 0 237 (dk_at dksX1_bestSet_5 13 rfl rfl)
theorem dX1_bestSet_135 : decode cX1_bestSet 135 = .ok (.aload_n 0, 1) := dk_42 (dk_at dksX1_bestSet_5 16 rfl rfl)
theorem dX1_bestSet_136 : decode cX1_bestSet 136 = .ok (.getfield 303, 3) := dk_180 1 47 (dk_at dksX1_bestSet_5 17 rfl rfl)
theorem dX1_bestSet_139 : decode cX1_bestSet 139 = .ok (.iload_n 1, 1) := dk_27 (dk_at dksX1_bestSet_5 20 rfl rfl)
theorem dX1_bestSet_140 : decode cX1_bestSet 140 = .ok (.iadd, 1) := dk_96 (dk_at dksX1_bestSet_5 21 rfl rfl)
theorem dX1_bestSet_141 : decode cX1_bestSet 141 = .ok (.if_icmp .ne 7, 3) := dk_160 0 7 (dk_at dksX1_bestSet_6 0 rfl rfl)
theorem dX1_bestSet_144 : decode cX1_bestSet 144 = .ok (.iconst 1, 1) := dk_4 (dk_at dksX1_bestSet_6 3 rfl rfl)
theorem dX1_bestSet_145 : decode cX1_bestSet 145 = .ok (.goto 4, 3) := dk_167 0 4 (dk_at dksX1_bestSet_6 4 rfl rfl)
theorem dX1_bestSet_148 : decode cX1_bestSet 148 = .ok (.iconst 0, 1) := dk_3 (dk_at dksX1_bestSet_6 7 rfl rfl)
theorem dX1_bestSet_149 : decode cX1_bestSet 149 = .ok (.istore 7, 2) := dk_54 7 (dk_at dksX1_bestSet_6 8 rfl rfl)
theorem dX1_bestSet_151 : decode cX1_bestSet 151 = .ok (.iload 7, 2) := dk_21 7 (dk_at dksX1_bestSet_6 10 rfl rfl)
theorem dX1_bestSet_153 : decode cX1_bestSet 153 = .ok (.ifCond .eq 19, 3) := dk_153 0 19 (dk_at dksX1_bestSet_6 12 rfl rfl)
theorem dX1_bestSet_156 : decode cX1_bestSet 156 = .ok (.aload_n 0, 1) := dk_42 (dk_at dksX1_bestSet_6 15 rfl rfl)
theorem dX1_bestSet_157 : decode cX1_bestSet 157 = .ok (.getfield 77, 3) := dk_180 0 77 (dk_at dksX1_bestSet_6 16 rfl rfl)
theorem dX1_bestSet_160 : decode cX1_bestSet 160 = .ok (.iload 5, 2) := dk_21 5 (dk_at dksX1_bestSet_6 19 rfl rfl)
theorem dX1_bestSet_162 : decode cX1_bestSet 162 = .ok (.iaload, 1) := dk_46 (dk_at dksX1_bestSet_6 21 rfl rfl)
theorem dX1_bestSet_163 : decode cX1_bestSet 163 = .ok (.iload 4, 2) := dk_21 4 (dk_at dksX1_bestSet_6 22 rfl rfl)
theorem dX1_bestSet_165 : decode cX1_bestSet 165 = .ok (.if_icmp .ne 7, 3) := dk_160 0 7 (dk_at dksX1_bestSet_7 0 rfl rfl)
theorem dX1_bestSet_168 : decode cX1_bestSet 168 = .ok (.iconst 1, 1) := dk_4 (dk_at dksX1_bestSet_7 3 rfl rfl)
theorem dX1_bestSet_169 : decode cX1_bestSet 169 = .ok (.goto 4, 3) := dk_167 0 4 (dk_at dksX1_bestSet_7 4 rfl rfl)
theorem dX1_bestSet_172 : decode cX1_bestSet 172 = .ok (.iconst 0, 1) := dk_3 (dk_at dksX1_bestSet_7 7 rfl rfl)
theorem dX1_bestSet_173 : decode cX1_bestSet 173 = .ok (.istore 8, 2) := dk_54 8 (dk_at dksX1_bestSet_7 8 rfl rfl)
theorem dX1_bestSet_175 : decode cX1_bestSet 175 = .ok (.iconst 0, 1) := dk_3 (dk_at dksX1_bestSet_7 10 rfl rfl)
theorem dX1_bestSet_176 : decode cX1_bestSet 176 = .ok (.istore 9, 2) := dk_54 9 (dk_at dksX1_bestSet_7 11 rfl rfl)
theorem dX1_bestSet_178 : decode cX1_bestSet 178 = .ok (.iload 9, 2) := dk_21 9 (dk_at dksX1_bestSet_7 13 rfl rfl)
theorem dX1_bestSet_180 : decode cX1_bestSet 180 = .ok (.aload_n 0, 1) := dk_42 (dk_at dksX1_bestSet_7 15 rfl rfl)
theorem dX1_bestSet_181 : decode cX1_bestSet 181 = .ok (.getfield 102, 3) := dk_180 0 102 (dk_at dksX1_bestSet_7 16 rfl rfl)
theorem dX1_bestSet_184 : decode cX1_bestSet 184 = .ok (.if_icmp .ge 49, 3) := dk_162 0 49 (dk_at dksX1_bestSet_7 19 rfl rfl)
theorem dX1_bestSet_187 : decode cX1_bestSet 187 = .ok (.iload 7, 2) := dk_21 7 (dk_at dksX1_bestSet_7 22 rfl rfl)
theorem dX1_bestSet_189 : decode cX1_bestSet 189 = .ok (.ifCond .ne 44, 3) := dk_154 0 44 (dk_at dksX1_bestSet_8 0 rfl rfl)
theorem dX1_bestSet_192 : decode cX1_bestSet 192 = .ok (.aload_n 0, 1) := dk_42 (dk_at dksX1_bestSet_8 3 rfl rfl)
theorem dX1_bestSet_193 : decode cX1_bestSet 193 = .ok (.iload 5, 2) := dk_21 5 (dk_at dksX1_bestSet_8 4 rfl rfl)
theorem dX1_bestSet_195 : decode cX1_bestSet 195 = .ok (.iload 6, 2) := dk_21 6 (dk_at dksX1_bestSet_8 6 rfl rfl)
theorem dX1_bestSet_197 : decode cX1_bestSet 197 = .ok (.iload 9, 2) := dk_21 9 (dk_at dksX1_bestSet_8 8 rfl rfl)
theorem dX1_bestSet_199 : decode cX1_bestSet 199 = .ok (.invokevirtual 361, 3) := dk_182 1 105 (dk_at dksX1_bestSet_8 10 rfl rfl)
theorem dX1_bestSet_202 : decode cX1_bestSet 202 = .ok (.ifCond .eq 25, 3) := dk_153 0 25 (dk_at dksX1_bestSet_8 13 rfl rfl)
theorem dX1_bestSet_205 : decode cX1_bestSet 205 = .ok (.iload 8, 2) := dk_21 8 (dk_at dksX1_bestSet_8 16 rfl rfl)
theorem dX1_bestSet_207 : decode cX1_bestSet 207 = .ok (.aload_n 0, 1) := dk_42 (dk_at dksX1_bestSet_8 18 rfl rfl)
theorem dX1_bestSet_208 : decode cX1_bestSet 208 = .ok (.getfield 67, 3) := dk_180 0 67 (dk_at dksX1_bestSet_8 19 rfl rfl)
theorem dX1_bestSet_211 : decode cX1_bestSet 211 = .ok (.iload 5, 2) := dk_21 5 (dk_at dksX1_bestSet_8 22 rfl rfl)
theorem dX1_bestSet_213 : decode cX1_bestSet 213 = .ok (.iconst 1, 1) := dk_4 (dk_at dksX1_bestSet_9 0 rfl rfl)
theorem dX1_bestSet_214 : decode cX1_bestSet 214 = .ok (.iload 9, 2) := dk_21 9 (dk_at dksX1_bestSet_9 1 rfl rfl)
theorem dX1_bestSet_216 : decode cX1_bestSet 216 = .ok (.ishl, 1) := dk_120 (dk_at dksX1_bestSet_9 3 rfl rfl)
theorem dX1_bestSet_217 : decode cX1_bestSet 217 = .ok (.ior, 1) := dk_128 (dk_at dksX1_bestSet_9 4 rfl rfl)
theorem dX1_bestSet_218 : decode cX1_bestSet 218 = .ok (.iload 9, 2) := dk_21 9 (dk_at dksX1_bestSet_9 5 rfl rfl)
theorem dX1_bestSet_220 : decode cX1_bestSet 220 = .ok (.invokestatic 364, 3) := dk_184 1 108 (dk_at dksX1_bestSet_9 7 rfl rfl)
theorem dX1_bestSet_223 : decode cX1_bestSet 223 = .ok (.iaload, 1) := dk_46 (dk_at dksX1_bestSet_9 10 rfl rfl)
theorem dX1_bestSet_224 : decode cX1_bestSet 224 = .ok (.ior, 1) := dk_128 (dk_at dksX1_bestSet_9 11 rfl rfl)
theorem dX1_bestSet_225 : decode cX1_bestSet 225 = .ok (.istore 8, 2) := dk_54 8 (dk_at dksX1_bestSet_9 12 rfl rfl)
theorem dX1_bestSet_227 : decode cX1_bestSet 227 = .ok (.iinc 9 1, 3) := dk_132 9 1 (dk_at dksX1_bestSet_9 14 rfl rfl)
theorem dX1_bestSet_230 : decode cX1_bestSet 230 = .ok (.goto (-52), 3) := dk_167 255 204 (dk_at dksX1_bestSet_9 17 rfl rfl)
theorem dX1_bestSet_233 : decode cX1_bestSet 233 = .ok (.aload_n 0, 1) := dk_42 (dk_at dksX1_bestSet_9 20 rfl rfl)
theorem dX1_bestSet_234 : decode cX1_bestSet 234 = .ok (.getfield 67, 3) := dk_180 0 67 (dk_at dksX1_bestSet_9 21 rfl rfl)
theorem dX1_bestSet_237 : decode cX1_bestSet 237 = .ok (.iload 5, 2) := dk_21 5 (dk_at dksX1_bestSet_10 0 rfl rfl)
theorem dX1_bestSet_239 : decode cX1_bestSet 239 = .ok (.iload 6, 2) := dk_21 6 (dk_at dksX1_bestSet_10 2 rfl rfl)
theorem dX1_bestSet_241 : decode cX1_bestSet 241 = .ok (.invokestatic 364, 3) := dk_184 1 108 (dk_at dksX1_bestSet_10 4 rfl rfl)
theorem dX1_bestSet_244 : decode cX1_bestSet 244 = .ok (.iload 8, 2) := dk_21 8 (dk_at dksX1_bestSet_10 7 rfl rfl)
theorem dX1_bestSet_246 : decode cX1_bestSet 246 = .ok (.iastore, 1) := dk_79 (dk_at dksX1_bestSet_10 9 rfl rfl)
theorem dX1_bestSet_247 : decode cX1_bestSet 247 = .ok (.iinc 6 1, 3) := dk_132 6 1 (dk_at dksX1_bestSet_10 10 rfl rfl)
theorem dX1_bestSet_250 : decode cX1_bestSet 250 = .ok (.goto (-143), 3) := dk_167 255 113 (dk_at dksX1_bestSet_10 13 rfl rfl)
theorem dX1_bestSet_253 : decode cX1_bestSet 253 = .ok (.iinc 5 (-1), 3) := dk_132 5 255 (dk_at dksX1_bestSet_10 16 rfl rfl)
theorem dX1_bestSet_256 : decode cX1_bestSet 256 = .ok (.goto (-157), 3) := dk_167 255 99 (dk_at dksX1_bestSet_10 19 rfl rfl)
theorem dX1_bestSet_259 : decode cX1_bestSet 259 = .ok (.aload_n 0, 1) := dk_42 (dk_at dksX1_bestSet_10 22 rfl rfl)
theorem dX1_bestSet_260 : decode cX1_bestSet 260 = .ok (.iconst 0, 1) := dk_3 (dk_at dksX1_bestSet_10 23 rfl rfl)
theorem dX1_bestSet_261 : decode cX1_bestSet 261 = .ok (.putfield 337, 3) := dk_181 1 81 (dk_at dksX1_bestSet_11 0 rfl rfl)
theorem dX1_bestSet_264 : decode cX1_bestSet 264 = .ok (.iload_n 2, 1) := dk_28 (dk_at dksX1_bestSet_11 3 rfl rfl)
theorem dX1_bestSet_265 : decode cX1_bestSet 265 = .ok (.ifCond .eq 9, 3) := dk_153 0 9 (dk_at dksX1_bestSet_11 4 rfl rfl)
theorem dX1_bestSet_268 : decode cX1_bestSet 268 = .ok (.aload_n 0, 1) := dk_42 (dk_at dksX1_bestSet_11 7 rfl rfl)
theorem dX1_bestSet_269 : decode cX1_bestSet 269 = .ok (.iload 4, 2) := dk_21 4 (dk_at dksX1_bestSet_11 8 rfl rfl)
theorem dX1_bestSet_271 : decode cX1_bestSet 271 = .ok (.invokevirtual 340, 3) := dk_182 1 84 (dk_at dksX1_bestSet_11 10 rfl rfl)
theorem dX1_bestSet_274 : decode cX1_bestSet 274 = .ok (.aload_n 0, 1) := dk_42 (dk_at dksX1_bestSet_11 13 rfl rfl)
theorem dX1_bestSet_275 : decode cX1_bestSet 275 = .ok (.invokevirtual 309, 3) := dk_182 1 53 (dk_at dksX1_bestSet_11 14 rfl rfl)
theorem dX1_bestSet_278 : decode cX1_bestSet 278 = .ok (.istore 5, 2) := dk_54 5 (dk_at dksX1_bestSet_11 17 rfl rfl)
theorem dX1_bestSet_280 : decode cX1_bestSet 280 = .ok (.iconst 0, 1) := dk_3 (dk_at dksX1_bestSet_11 19 rfl rfl)
theorem dX1_bestSet_281 : decode cX1_bestSet 281 = .ok (.istore 6, 2) := dk_54 6 (dk_at dksX1_bestSet_11 20 rfl rfl)
theorem dX1_bestSet_283 : decode cX1_bestSet 283 = .ok (.iload 6, 2) := dk_21 6 (dk_at dksX1_bestSet_11 22 rfl rfl)
theorem dX1_bestSet_285 : decode cX1_bestSet 285 = .ok (.iload_n 1, 1) := dk_27 (dk_at dksX1_bestSet_12 0 rfl rfl)
theorem dX1_bestSet_286 : decode cX1_bestSet 286 = .ok (.if_icmp .ge 66, 3) := dk_162 0 66 (dk_at dksX1_bestSet_12 1 rfl rfl)
theorem dX1_bestSet_289 : decode cX1_bestSet 289 = .ok (.iconst 0, 1) := dk_3 (dk_at dksX1_bestSet_12 4 rfl rfl)
theorem dX1_bestSet_290 : decode cX1_bestSet 290 = .ok (.istore 7, 2) := dk_54 7 (dk_at dksX1_bestSet_12 5 rfl rfl)
theorem dX1_bestSet_292 : decode cX1_bestSet 292 = .ok (.aload_n 0, 1) := dk_42 (dk_at dksX1_bestSet_12 7 rfl rfl)
theorem dX1_bestSet_293 : decode cX1_bestSet 293 = .ok (.iload_n 3, 1) := dk_29 (dk_at dksX1_bestSet_12 8 rfl rfl)
theorem dX1_bestSet_294 : decode cX1_bestSet 294 = .ok (.iload 5, 2) := dk_21 5 (dk_at dksX1_bestSet_12 9 rfl rfl)
theorem dX1_bestSet_296 : decode cX1_bestSet 296 = .ok (.iload 7, 2) := dk_21 7 (dk_at dksX1_bestSet_12 11 rfl rfl)
theorem dX1_bestSet_298 : decode cX1_bestSet 298 = .ok (.invokevirtual 361, 3) := dk_182 1 105 (dk_at dksX1_bestSet_12 13 rfl rfl)
theorem dX1_bestSet_301 : decode cX1_bestSet 301 = .ok (.ifCond .eq 22, 3) := dk_153 0 22 (dk_at dksX1_bestSet_12 16 rfl rfl)
theorem dX1_bestSet_304 : decode cX1_bestSet 304 = .ok (.aload_n 0, 1) := dk_42 (dk_at dksX1_bestSet_12 19 rfl rfl)
theorem dX1_bestSet_305 : decode cX1_bestSet 305 = .ok (.getfield 67, 3) := dk_180 0 67 (dk_at dksX1_bestSet_12 20 rfl rfl)
theorem dX1_bestSet_308 : decode cX1_bestSet 308 = .ok (.iload_n 3, 1) := dk_29 (dk_at dksX1_bestSet_12 23 rfl rfl)
theorem dX1_bestSet_309 : decode cX1_bestSet 309 = .ok (.iconst 1, 1) := dk_4 (dk_at dksX1_bestSet_13 0 rfl rfl)
theorem dX1_bestSet_310 : decode cX1_bestSet 310 = .ok (.iload 7, 2) := dk_21 7 (dk_at dksX1_bestSet_13 1 rfl rfl)
theorem dX1_bestSet_312 : decode cX1_bestSet 312 = .ok (.ishl, 1) := dk_120 (dk_at dksX1_bestSet_13 3 rfl rfl)
theorem dX1_bestSet_313 : decode cX1_bestSet 313 = .ok (.ior, 1) := dk_128 (dk_at dksX1_bestSet_13 4 rfl rfl)
theorem dX1_bestSet_314 : decode cX1_bestSet 314 = .ok (.iload 7, 2) := dk_21 7 (dk_at dksX1_bestSet_13 5 rfl rfl)
theorem dX1_bestSet_316 : decode cX1_bestSet 316 = .ok (.invokestatic 364, 3) := dk_184 1 108 (dk_at dksX1_bestSet_13 7 rfl rfl)
theorem dX1_bestSet_319 : decode cX1_bestSet 319 = .ok (.iaload, 1) := dk_46 (dk_at dksX1_bestSet_13 10 rfl rfl)
theorem dX1_bestSet_320 : decode cX1_bestSet 320 = .ok (.ifCond .ne 9, 3) := dk_154 0 9 (dk_at dksX1_bestSet_13 11 rfl rfl)
theorem dX1_bestSet_323 : decode cX1_bestSet 323 = .ok (.iinc 7 1, 3) := dk_132 7 1 (dk_at dksX1_bestSet_13 14 rfl rfl)
theorem dX1_bestSet_326 : decode cX1_bestSet 326 = .ok (.goto (-34), 3) := dk_167 255 222 (dk_at dksX1_bestSet_13 17 rfl rfl)
theorem dX1_bestSet_329 : decode cX1_bestSet 329 = .ok (.aload_n 0, 1) := dk_42 (dk_at dksX1_bestSet_13 20 rfl rfl)
theorem dX1_bestSet_330 : decode cX1_bestSet 330 = .ok (.iload 7, 2) := dk_21 7 (dk_at dksX1_bestSet_13 21 rfl rfl)
theorem dX1_bestSet_332 : decode cX1_bestSet 332 = .ok (.invokevirtual 340, 3) := dk_182 1 84 (dk_at dksX1_bestSet_14 0 rfl rfl)
theorem dX1_bestSet_335 : decode cX1_bestSet 335 = .ok (.iload_n 3, 1) := dk_29 (dk_at dksX1_bestSet_14 3 rfl rfl)
theorem dX1_bestSet_336 : decode cX1_bestSet 336 = .ok (.iconst 1, 1) := dk_4 (dk_at dksX1_bestSet_14 4 rfl rfl)
theorem dX1_bestSet_337 : decode cX1_bestSet 337 = .ok (.iload 7, 2) := dk_21 7 (dk_at dksX1_bestSet_14 5 rfl rfl)
theorem dX1_bestSet_339 : decode cX1_bestSet 339 = .ok (.ishl, 1) := dk_120 (dk_at dksX1_bestSet_14 7 rfl rfl)
theorem dX1_bestSet_340 : decode cX1_bestSet 340 = .ok (.ior, 1) := dk_128 (dk_at dksX1_bestSet_14 8 rfl rfl)
theorem dX1_bestSet_341 : decode cX1_bestSet 341 = .ok (.istore_n 3, 1) := dk_62 (dk_at dksX1_bestSet_14 9 rfl rfl)
theorem dX1_bestSet_342 : decode cX1_bestSet 342 = .ok (.iload 7, 2) := dk_21 7 (dk_at dksX1_bestSet_14 10 rfl rfl)
theorem dX1_bestSet_344 : decode cX1_bestSet 344 = .ok (.istore 5, 2) := dk_54 5 (dk_at dksX1_bestSet_14 12 rfl rfl)
theorem dX1_bestSet_346 : decode cX1_bestSet 346 = .ok (.iinc 6 1, 3) := dk_132 6 1 (dk_at dksX1_bestSet_14 14 rfl rfl)
theorem dX1_bestSet_349 : decode cX1_bestSet 349 = .ok (.goto (-66), 3) := dk_167 255 190 (dk_at dksX1_bestSet_14 17 rfl rfl)
theorem dX1_bestSet_352 : decode cX1_bestSet 352 = .ok (.iload 4, 2) := dk_21 4 (dk_at dksX1_bestSet_14 20 rfl rfl)
theorem dX1_bestSet_354 : decode cX1_bestSet 354 = .ok (.ireturn, 1) := dk_172 (dk_at dksX1_bestSet_14 22 rfl rfl)
abbrev cX1_fair : ByteArray := prog_1_method_84_code
def yX1_fair : MethodName := ⟨RX1, "fair", "(II)I"⟩
def dkwX1_fair_5 : List UInt8 := [4, 182, 1, 149, 19, 1, 104, 160, 0, 8, 16, 254, 167, 0, 4, 4, 172]
abbrev dktX1_fair_5 : List UInt8 := dkwX1_fair_5 ++ []
def dkwX1_fair_4 : List UInt8 := [182, 1, 146, 28, 163, 0, 8, 21, 5, 167, 0, 6, 19, 1, 104, 79, 132, 3, 1, 167, 255, 171, 42, 27]
abbrev dktX1_fair_4 : List UInt8 := dkwX1_fair_4 ++ dktX1_fair_5
def dkwX1_fair_3 : List UInt8 := [21, 4, 182, 1, 143, 184, 0, 122, 54, 5, 132, 6, 1, 167, 255, 229, 42, 180, 0, 77, 29, 42, 21, 4]
abbrev dktX1_fair_3 : List UInt8 := dkwX1_fair_3 ++ dktX1_fair_4
def dkwX1_fair_2 : List UInt8 := [54, 4, 19, 1, 125, 54, 5, 3, 54, 6, 21, 6, 42, 180, 0, 110, 162, 0, 24, 21, 5, 42, 21, 6]
abbrev dktX1_fair_2 : List UInt8 := dkwX1_fair_2 ++ dktX1_fair_3
def dkwX1_fair_1 : List UInt8 := [182, 1, 111, 3, 62, 29, 4, 42, 180, 0, 102, 120, 162, 0, 81, 29, 42, 182, 1, 50, 2, 130, 126]
abbrev dktX1_fair_1 : List UInt8 := dkwX1_fair_1 ++ dktX1_fair_2
def dkwX1_fair_0 : List UInt8 := [42, 27, 28, 182, 1, 140, 154, 0, 5, 2, 172, 42, 180, 0, 110, 154, 0, 6, 16, 254, 172, 42]
abbrev dktX1_fair_0 : List UInt8 := dkwX1_fair_0 ++ dktX1_fair_1
theorem dksX1_fair_0 : cX1_fair.data.toList.drop 0 = dktX1_fair_0 := by decide +kernel
theorem dksX1_fair_1 : cX1_fair.data.toList.drop 22 = dktX1_fair_1 := dk_seg dksX1_fair_0 22 rfl rfl
theorem dksX1_fair_2 : cX1_fair.data.toList.drop 45 = dktX1_fair_2 := dk_seg dksX1_fair_1 23 rfl rfl
theorem dksX1_fair_3 : cX1_fair.data.toList.drop 69 = dktX1_fair_3 := dk_seg dksX1_fair_2 24 rfl rfl
theorem dksX1_fair_4 : cX1_fair.data.toList.drop 93 = dktX1_fair_4 := dk_seg dksX1_fair_3 24 rfl rfl
theorem dksX1_fair_5 : cX1_fair.data.toList.drop 117 = dktX1_fair_5 := dk_seg dksX1_fair_4 24 rfl rfl
theorem dX1_fair_0 : decode cX1_fair 0 = .ok (.aload_n 0, 1) := dk_42 (dk_at dksX1_fair_0 0 rfl rfl)
theorem dX1_fair_1 : decode cX1_fair 1 = .ok (.iload_n 1, 1) := dk_27 (dk_at dksX1_fair_0 1 rfl rfl)
theorem dX1_fair_2 : decode cX1_fair 2 = .ok (.iload_n 2, 1) := dk_28 (dk_at dksX1_fair_0 2 rfl rfl)
theorem dX1_fair_3 : decode cX1_fair 3 = .ok (.invokevirtual 396, 3) := dk_182 1 140 (dk_at dksX1_fair_0 3 rfl rfl)
theorem dX1_fair_6 : decode cX1_fair 6 = .ok (.ifCond .ne 5, 3) := dk_154 0 5 (dk_at dksX1_fair_0 6 rfl rfl)
theorem dX1_fair_9 : decode cX1_fair 9 = .ok (.iconst (-1), 1) := dk_2 (dk_at dksX1_fair_0 9 rfl rfl)
theorem dX1_fair_10 : decode cX1_fair 10 = .ok (.ireturn, 1) := dk_172 (dk_at dksX1_fair_0 10 rfl rfl)
theorem dX1_fair_11 : decode cX1_fair 11 = .ok (.aload_n 0, 1) := dk_42 (dk_at dksX1_fair_0 11 rfl rfl)
theorem dX1_fair_12 : decode cX1_fair 12 = .ok (.getfield 110, 3) := dk_180 0 110 (dk_at dksX1_fair_0 12 rfl rfl)
theorem dX1_fair_15 : decode cX1_fair 15 = .ok (.ifCond .ne 6, 3) := dk_154 0 6 (dk_at dksX1_fair_0 15 rfl rfl)
theorem dX1_fair_18 : decode cX1_fair 18 = .ok (.bipush (-2), 2) := dk_16 254 (dk_at dksX1_fair_0 18 rfl rfl)
theorem dX1_fair_20 : decode cX1_fair 20 = .ok (.ireturn, 1) := dk_172 (dk_at dksX1_fair_0 20 rfl rfl)
theorem dX1_fair_21 : decode cX1_fair 21 = .ok (.aload_n 0, 1) := dk_42 (dk_at dksX1_fair_0 21 rfl rfl)
theorem dX1_fair_22 : decode cX1_fair 22 = .ok (.invokevirtual 367, 3) := dk_182 1 111 (dk_at dksX1_fair_1 0 rfl rfl)
theorem dX1_fair_25 : decode cX1_fair 25 = .ok (.iconst 0, 1) := dk_3 (dk_at dksX1_fair_1 3 rfl rfl)
theorem dX1_fair_26 : decode cX1_fair 26 = .ok (.istore_n 3, 1) := dk_62 (dk_at dksX1_fair_1 4 rfl rfl)
theorem dX1_fair_27 : decode cX1_fair 27 = .ok (.iload_n 3, 1) := dk_29 (dk_at dksX1_fair_1 5 rfl rfl)
theorem dX1_fair_28 : decode cX1_fair 28 = .ok (.iconst 1, 1) := dk_4 (dk_at dksX1_fair_1 6 rfl rfl)
theorem dX1_fair_29 : decode cX1_fair 29 = .ok (.aload_n 0, 1) := dk_42 (dk_at dksX1_fair_1 7 rfl rfl)
theorem dX1_fair_30 : decode cX1_fair 30 = .ok (.getfield 102, 3) := dk_180 0 102 (dk_at dksX1_fair_1 8 rfl rfl)
theorem dX1_fair_33 : decode cX1_fair 33 = .ok (.ishl, 1) := dk_120 (dk_at dksX1_fair_1 11 rfl rfl)
theorem dX1_fair_34 : decode cX1_fair 34 = .ok (.if_icmp .ge 81, 3) := dk_162 0 81 (dk_at dksX1_fair_1 12 rfl rfl)
theorem dX1_fair_37 : decode cX1_fair 37 = .ok (.iload_n 3, 1) := dk_29 (dk_at dksX1_fair_1 15 rfl rfl)
theorem dX1_fair_38 : decode cX1_fair 38 = .ok (.aload_n 0, 1) := dk_42 (dk_at dksX1_fair_1 16 rfl rfl)
theorem dX1_fair_39 : decode cX1_fair 39 = .ok (.invokevirtual 306, 3) := dk_182 1 50 (dk_at dksX1_fair_1 17 rfl rfl)
theorem dX1_fair_42 : decode cX1_fair 42 = .ok (.iconst (-1), 1) := dk_2 (dk_at dksX1_fair_1 20 rfl rfl)
theorem dX1_fair_43 : decode cX1_fair 43 = .ok (.ixor, 1) := dk_130 (dk_at dksX1_fair_1 21 rfl rfl)
theorem dX1_fair_44 : decode cX1_fair 44 = .ok (.iand, 1) := dk_126 (dk_at dksX1_fair_1 22 rfl rfl)
theorem dX1_fair_45 : decode cX1_fair 45 = .ok (.istore 4, 2) := dk_54 4 (dk_at dksX1_fair_2 0 rfl rfl)
theorem dX1_fair_47 : decode cX1_fair 47 = .ok (.ldc_w 381, 3) := dk_19 1 125 (dk_at dksX1_fair_2 2 rfl rfl)
theorem dX1_fair_50 : decode cX1_fair 50 = .ok (.istore 5, 2) := dk_54 5 (dk_at dksX1_fair_2 5 rfl rfl)
theorem dX1_fair_52 : decode cX1_fair 52 = .ok (.iconst 0, 1) := dk_3 (dk_at dksX1_fair_2 7 rfl rfl)
theorem dX1_fair_53 : decode cX1_fair 53 = .ok (.istore 6, 2) := dk_54 6 (dk_at dksX1_fair_2 8 rfl rfl)
theorem dX1_fair_55 : decode cX1_fair 55 = .ok (.iload 6, 2) := dk_21 6 (dk_at dksX1_fair_2 10 rfl rfl)
theorem dX1_fair_57 : decode cX1_fair 57 = .ok (.aload_n 0, 1) := dk_42 (dk_at dksX1_fair_2 12 rfl rfl)
theorem dX1_fair_58 : decode cX1_fair 58 = .ok (.getfield 110, 3) := dk_180 0 110 (dk_at dksX1_fair_2 13 rfl rfl)
theorem dX1_fair_61 : decode cX1_fair 61 = .ok (.if_icmp .ge 24, 3) := dk_162 0 24 (dk_at dksX1_fair_2 16 rfl rfl)
theorem dX1_fair_64 : decode cX1_fair 64 = .ok (.iload 5, 2) := dk_21 5 (dk_at dksX1_fair_2 19 rfl rfl)
theorem dX1_fair_66 : decode cX1_fair 66 = .ok (.aload_n 0, 1) := dk_42 (dk_at dksX1_fair_2 21 rfl rfl)
theorem dX1_fair_67 : decode cX1_fair 67 = .ok (.iload 6, 2) := dk_21 6 (dk_at dksX1_fair_2 22 rfl rfl)
theorem dX1_fair_69 : decode cX1_fair 69 = .ok (.iload 4, 2) := dk_21 4 (dk_at dksX1_fair_3 0 rfl rfl)
theorem dX1_fair_71 : decode cX1_fair 71 = .ok (.invokevirtual 399, 3) := dk_182 1 143 (dk_at dksX1_fair_3 2 rfl rfl)
theorem dX1_fair_74 : decode cX1_fair 74 = .ok (.invokestatic 122, 3) := dk_184 0 122 (dk_at dksX1_fair_3 5 rfl rfl)
theorem dX1_fair_77 : decode cX1_fair 77 = .ok (.istore 5, 2) := dk_54 5 (dk_at dksX1_fair_3 8 rfl rfl)
theorem dX1_fair_79 : decode cX1_fair 79 = .ok (.iinc 6 1, 3) := dk_132 6 1 (dk_at dksX1_fair_3 10 rfl rfl)
theorem dX1_fair_82 : decode cX1_fair 82 = .ok (.goto (-27), 3) := dk_167 255 229 (dk_at dksX1_fair_3 13 rfl rfl)
theorem dX1_fair_85 : decode cX1_fair 85 = .ok (.aload_n 0, 1) := dk_42 (dk_at dksX1_fair_3 16 rfl rfl)
theorem dX1_fair_86 : decode cX1_fair 86 = .ok (.getfield 77, 3) := dk_180 0 77 (dk_at dksX1_fair_3 17 rfl rfl)
theorem dX1_fair_89 : decode cX1_fair 89 = .ok (.iload_n 3, 1) := dk_29 (dk_at dksX1_fair_3 20 rfl rfl)
theorem dX1_fair_90 : decode cX1_fair 90 = .ok (.aload_n 0, 1) := dk_42 (dk_at dksX1_fair_3 21 rfl rfl)
theorem dX1_fair_91 : decode cX1_fair 91 = .ok (.iload 4, 2) := dk_21 4 (dk_at dksX1_fair_3 22 rfl rfl)
theorem dX1_fair_93 : decode cX1_fair 93 = .ok (.invokevirtual 402, 3) := dk_182 1 146 (dk_at dksX1_fair_4 0 rfl rfl)
theorem dX1_fair_96 : decode cX1_fair 96 = .ok (.iload_n 2, 1) := dk_28 (dk_at dksX1_fair_4 3 rfl rfl)
theorem dX1_fair_97 : decode cX1_fair 97 = .ok (.if_icmp .gt 8, 3) := dk_163 0 8 (dk_at dksX1_fair_4 4 rfl rfl)
theorem dX1_fair_100 : decode cX1_fair 100 = .ok (.iload 5, 2) := dk_21 5 (dk_at dksX1_fair_4 7 rfl rfl)
theorem dX1_fair_102 : decode cX1_fair 102 = .ok (.goto 6, 3) := dk_167 0 6 (dk_at dksX1_fair_4 9 rfl rfl)
theorem dX1_fair_105 : decode cX1_fair 105 = .ok (.ldc_w 360, 3) := dk_19 1 104 (dk_at dksX1_fair_4 12 rfl rfl)
theorem dX1_fair_108 : decode cX1_fair 108 = .ok (.iastore, 1) := dk_79 (dk_at dksX1_fair_4 15 rfl rfl)
theorem dX1_fair_109 : decode cX1_fair 109 = .ok (.iinc 3 1, 3) := dk_132 3 1 (dk_at dksX1_fair_4 16 rfl rfl)
theorem dX1_fair_112 : decode cX1_fair 112 = .ok (.goto (-85), 3) := dk_167 255 171 (dk_at dksX1_fair_4 19 rfl rfl)
theorem dX1_fair_115 : decode cX1_fair 115 = .ok (.aload_n 0, 1) := dk_42 (dk_at dksX1_fair_4 22 rfl rfl)
theorem dX1_fair_116 : decode cX1_fair 116 = .ok (.iload_n 1, 1) := dk_27 (dk_at dksX1_fair_4 23 rfl rfl)
theorem dX1_fair_117 : decode cX1_fair 117 = .ok (.iconst 1, 1) := dk_4 (dk_at dksX1_fair_5 0 rfl rfl)
theorem dX1_fair_118 : decode cX1_fair 118 = .ok (.invokevirtual 405, 3) := dk_182 1 149 (dk_at dksX1_fair_5 1 rfl rfl)
theorem dX1_fair_121 : decode cX1_fair 121 = .ok (.ldc_w 360, 3) := dk_19 1 104 (dk_at dksX1_fair_5 4 rfl rfl)
theorem dX1_fair_124 : decode cX1_fair 124 = .ok (.if_icmp .ne 8, 3) := dk_160 0 8 (dk_at dksX1_fair_5 7 rfl rfl)
theorem dX1_fair_127 : decode cX1_fair 127 = .ok (.bipush (-2), 2) := dk_16 254 (dk_at dksX1_fair_5 10 rfl rfl)
theorem dX1_fair_129 : decode cX1_fair 129 = .ok (.goto 4, 3) := dk_167 0 4 (dk_at dksX1_fair_5 12 rfl rfl)
theorem dX1_fair_132 : decode cX1_fair 132 = .ok (.iconst 1, 1) := dk_4 (dk_at dksX1_fair_5 15 rfl rfl)
theorem dX1_fair_133 : decode cX1_fair 133 = .ok (.ireturn, 1) := dk_172 (dk_at dksX1_fair_5 16 rfl rfl)
abbrev cX1_cheap : ByteArray := prog_1_method_85_code
def yX1_cheap : MethodName := ⟨RX1, "cheap", "(I)I"⟩
def dkwX1_cheap_5 : List UInt8 := [167, 0, 5, 28, 116, 172]
abbrev dktX1_cheap_5 : List UInt8 := dkwX1_cheap_5 ++ []
def dkwX1_cheap_4 : List UInt8 := [132, 2, 1, 167, 255, 224, 42, 27, 3, 182, 1, 149, 61, 28, 19, 1, 104, 160, 0, 8, 16, 254]
abbrev dktX1_cheap_4 : List UInt8 := dkwX1_cheap_4 ++ dktX1_cheap_5
def dkwX1_cheap_3 : List UInt8 := [162, 0, 28, 42, 180, 0, 77, 28, 42, 28, 42, 182, 1, 50, 2, 130, 126, 182, 1, 146, 116, 79]
abbrev dktX1_cheap_3 : List UInt8 := dkwX1_cheap_3 ++ dktX1_cheap_4
def dkwX1_cheap_2 : List UInt8 := [28, 120, 2, 130, 126, 181, 1, 98, 132, 2, 1, 167, 255, 219, 3, 61, 28, 4, 42, 180, 0, 102, 120]
abbrev dktX1_cheap_2 : List UInt8 := dkwX1_cheap_2 ++ dktX1_cheap_3
def dkwX1_cheap_1 : List UInt8 := [180, 0, 102, 162, 0, 35, 42, 89, 180, 1, 98, 42, 28, 182, 1, 10, 154, 0, 7, 2, 167, 0, 8, 4]
abbrev dktX1_cheap_1 : List UInt8 := dkwX1_cheap_1 ++ dktX1_cheap_2
def dkwX1_cheap_0 : List UInt8 := [27, 133, 9, 20, 1, 121, 184, 0, 106, 154, 0, 5, 2, 172, 42, 182, 1, 111, 3, 61, 28, 42]
abbrev dktX1_cheap_0 : List UInt8 := dkwX1_cheap_0 ++ dktX1_cheap_1
theorem dksX1_cheap_0 : cX1_cheap.data.toList.drop 0 = dktX1_cheap_0 := by decide +kernel
theorem dksX1_cheap_1 : cX1_cheap.data.toList.drop 22 = dktX1_cheap_1 := dk_seg dksX1_cheap_0 22 rfl rfl
theorem dksX1_cheap_2 : cX1_cheap.data.toList.drop 46 = dktX1_cheap_2 := dk_seg dksX1_cheap_1 24 rfl rfl
theorem dksX1_cheap_3 : cX1_cheap.data.toList.drop 69 = dktX1_cheap_3 := dk_seg dksX1_cheap_2 23 rfl rfl
theorem dksX1_cheap_4 : cX1_cheap.data.toList.drop 91 = dktX1_cheap_4 := dk_seg dksX1_cheap_3 22 rfl rfl
theorem dksX1_cheap_5 : cX1_cheap.data.toList.drop 113 = dktX1_cheap_5 := dk_seg dksX1_cheap_4 22 rfl rfl
theorem dX1_cheap_0 : decode cX1_cheap 0 = .ok (.iload_n 1, 1) := dk_27 (dk_at dksX1_cheap_0 0 rfl rfl)
theorem dX1_cheap_1 : decode cX1_cheap 1 = .ok (.i2l, 1) := dk_133 (dk_at dksX1_cheap_0 1 rfl rfl)
theorem dX1_cheap_2 : decode cX1_cheap 2 = .ok (.lconst 0, 1) := dk_9 (dk_at dksX1_cheap_0 2 rfl rfl)
theorem dX1_cheap_3 : decode cX1_cheap 3 = .ok (.ldc2_w 377, 3) := dk_20 1 121 (dk_at dksX1_cheap_0 3 rfl rfl)
theorem dX1_cheap_6 : decode cX1_cheap 6 = .ok (.invokestatic 106, 3) := dk_184 0 106 (dk_at dksX1_cheap_0 6 rfl rfl)
theorem dX1_cheap_9 : decode cX1_cheap 9 = .ok (.ifCond .ne 5, 3) := dk_154 0 5 (dk_at dksX1_cheap_0 9 rfl rfl)
theorem dX1_cheap_12 : decode cX1_cheap 12 = .ok (.iconst (-1), 1) := dk_2 (dk_at dksX1_cheap_0 12 rfl rfl)
theorem dX1_cheap_13 : decode cX1_cheap 13 = .ok (.ireturn, 1) := dk_172 (dk_at dksX1_cheap_0 13 rfl rfl)
theorem dX1_cheap_14 : decode cX1_cheap 14 = .ok (.aload_n 0, 1) := dk_42 (dk_at dksX1_cheap_0 14 rfl rfl)
theorem dX1_cheap_15 : decode cX1_cheap 15 = .ok (.invokevirtual 367, 3) := dk_182 1 111 (dk_at dksX1_cheap_0 15 rfl rfl)
theorem dX1_cheap_18 : decode cX1_cheap 18 = .ok (.iconst 0, 1) := dk_3 (dk_at dksX1_cheap_0 18 rfl rfl)
theorem dX1_cheap_19 : decode cX1_cheap 19 = .ok (.istore_n 2, 1) := dk_61 (dk_at dksX1_cheap_0 19 rfl rfl)
theorem dX1_cheap_20 : decode cX1_cheap 20 = .ok (.iload_n 2, 1) := dk_28 (dk_at dksX1_cheap_0 20 rfl rfl)
theorem dX1_cheap_21 : decode cX1_cheap 21 = .ok (.aload_n 0, 1) := dk_42 (dk_at dksX1_cheap_0 21 rfl rfl)
theorem dX1_cheap_22 : decode cX1_cheap 22 = .ok (.getfield 102, 3) := dk_180 0 102 (dk_at dksX1_cheap_1 0 rfl rfl)
theorem dX1_cheap_25 : decode cX1_cheap 25 = .ok (.if_icmp .ge 35, 3) := dk_162 0 35 (dk_at dksX1_cheap_1 3 rfl rfl)
theorem dX1_cheap_28 : decode cX1_cheap 28 = .ok (.aload_n 0, 1) := dk_42 (dk_at dksX1_cheap_1 6 rfl rfl)
theorem dX1_cheap_29 : decode cX1_cheap 29 = .ok (.dup, 1) := dk_89 (dk_at dksX1_cheap_1 7 rfl rfl)
theorem dX1_cheap_30 : decode cX1_cheap 30 = .ok (.getfield 354, 3) := dk_180 1 98 (dk_at dksX1_cheap_1 8 rfl rfl)
theorem dX1_cheap_33 : decode cX1_cheap 33 = .ok (.aload_n 0, 1) := dk_42 (dk_at dksX1_cheap_1 11 rfl rfl)
theorem dX1_cheap_34 : decode cX1_cheap 34 = .ok (.iload_n 2, 1) := dk_28 (dk_at dksX1_cheap_1 12 rfl rfl)
theorem dX1_cheap_35 : decode cX1_cheap 35 = .ok (.invokevirtual 266, 3) := dk_182 1 10 (dk_at dksX1_cheap_1 13 rfl rfl)
theorem dX1_cheap_38 : decode cX1_cheap 38 = .ok (.ifCond .ne 7, 3) := dk_154 0 7 (dk_at dksX1_cheap_1 16 rfl rfl)
theorem dX1_cheap_41 : decode cX1_cheap 41 = .ok (.iconst (-1), 1) := dk_2 (dk_at dksX1_cheap_1 19 rfl rfl)
theorem dX1_cheap_42 : decode cX1_cheap 42 = .ok (.goto 8, 3) := dk_167 0 8 (dk_at dksX1_cheap_1 20 rfl rfl)
theorem dX1_cheap_45 : decode cX1_cheap 45 = .ok (.iconst 1, 1) := dk_4 (dk_at dksX1_cheap_1 23 rfl rfl)
theorem dX1_cheap_46 : decode cX1_cheap 46 = .ok (.iload_n 2, 1) := dk_28 (dk_at dksX1_cheap_2 0 rfl rfl)
theorem dX1_cheap_47 : decode cX1_cheap 47 = .ok (.ishl, 1) := dk_120 (dk_at dksX1_cheap_2 1 rfl rfl)
theorem dX1_cheap_48 : decode cX1_cheap 48 = .ok (.iconst (-1), 1) := dk_2 (dk_at dksX1_cheap_2 2 rfl rfl)
theorem dX1_cheap_49 : decode cX1_cheap 49 = .ok (.ixor, 1) := dk_130 (dk_at dksX1_cheap_2 3 rfl rfl)
theorem dX1_cheap_50 : decode cX1_cheap 50 = .ok (.iand, 1) := dk_126 (dk_at dksX1_cheap_2 4 rfl rfl)
theorem dX1_cheap_51 : decode cX1_cheap 51 = .ok (.putfield 354, 3) := dk_181 1 98 (dk_at dksX1_cheap_2 5 rfl rfl)
theorem dX1_cheap_54 : decode cX1_cheap 54 = .ok (.iinc 2 1, 3) := dk_132 2 1 (dk_at dksX1_cheap_2 8 rfl rfl)
theorem dX1_cheap_57 : decode cX1_cheap 57 = .ok (.goto (-37), 3) := dk_167 255 219 (dk_at dksX1_cheap_2 11 rfl rfl)
theorem dX1_cheap_60 : decode cX1_cheap 60 = .ok (.iconst 0, 1) := dk_3 (dk_at dksX1_cheap_2 14 rfl rfl)
theorem dX1_cheap_61 : decode cX1_cheap 61 = .ok (.istore_n 2, 1) := dk_61 (dk_at dksX1_cheap_2 15 rfl rfl)
theorem dX1_cheap_62 : decode cX1_cheap 62 = .ok (.iload_n 2, 1) := dk_28 (dk_at dksX1_cheap_2 16 rfl rfl)
theorem dX1_cheap_63 : decode cX1_cheap 63 = .ok (.iconst 1, 1) := dk_4 (dk_at dksX1_cheap_2 17 rfl rfl)
theorem dX1_cheap_64 : decode cX1_cheap 64 = .ok (.aload_n 0, 1) := dk_42 (dk_at dksX1_cheap_2 18 rfl rfl)
theorem dX1_cheap_65 : decode cX1_cheap 65 = .ok (.getfield 102, 3) := dk_180 0 102 (dk_at dksX1_cheap_2 19 rfl rfl)
theorem dX1_cheap_68 : decode cX1_cheap 68 = .ok (.ishl, 1) := dk_120 (dk_at dksX1_cheap_2 22 rfl rfl)
theorem dX1_cheap_69 : decode cX1_cheap 69 = .ok (.if_icmp .ge 28, 3) := dk_162 0 28 (dk_at dksX1_cheap_3 0 rfl rfl)
theorem dX1_cheap_72 : decode cX1_cheap 72 = .ok (.aload_n 0, 1) := dk_42 (dk_at dksX1_cheap_3 3 rfl rfl)
theorem dX1_cheap_73 : decode cX1_cheap 73 = .ok (.getfield 77, 3) := dk_180 0 77 (dk_at dksX1_cheap_3 4 rfl rfl)
theorem dX1_cheap_76 : decode cX1_cheap 76 = .ok (.iload_n 2, 1) := dk_28 (dk_at dksX1_cheap_3 7 rfl rfl)
theorem dX1_cheap_77 : decode cX1_cheap 77 = .ok (.aload_n 0, 1) := dk_42 (dk_at dksX1_cheap_3 8 rfl rfl)
theorem dX1_cheap_78 : decode cX1_cheap 78 = .ok (.iload_n 2, 1) := dk_28 (dk_at dksX1_cheap_3 9 rfl rfl)
theorem dX1_cheap_79 : decode cX1_cheap 79 = .ok (.aload_n 0, 1) := dk_42 (dk_at dksX1_cheap_3 10 rfl rfl)
theorem dX1_cheap_80 : decode cX1_cheap 80 = .ok (.invokevirtual 306, 3) := dk_182 1 50 (dk_at dksX1_cheap_3 11 rfl rfl)
theorem dX1_cheap_83 : decode cX1_cheap 83 = .ok (.iconst (-1), 1) := dk_2 (dk_at dksX1_cheap_3 14 rfl rfl)
theorem dX1_cheap_84 : decode cX1_cheap 84 = .ok (.ixor, 1) := dk_130 (dk_at dksX1_cheap_3 15 rfl rfl)
theorem dX1_cheap_85 : decode cX1_cheap 85 = .ok (.iand, 1) := dk_126 (dk_at dksX1_cheap_3 16 rfl rfl)
theorem dX1_cheap_86 : decode cX1_cheap 86 = .ok (.invokevirtual 402, 3) := dk_182 1 146 (dk_at dksX1_cheap_3 17 rfl rfl)
theorem dX1_cheap_89 : decode cX1_cheap 89 = .ok (.ineg, 1) := dk_116 (dk_at dksX1_cheap_3 20 rfl rfl)
theorem dX1_cheap_90 : decode cX1_cheap 90 = .ok (.iastore, 1) := dk_79 (dk_at dksX1_cheap_3 21 rfl rfl)
theorem dX1_cheap_91 : decode cX1_cheap 91 = .ok (.iinc 2 1, 3) := dk_132 2 1 (dk_at dksX1_cheap_4 0 rfl rfl)
theorem dX1_cheap_94 : decode cX1_cheap 94 = .ok (.goto (-32), 3) := dk_167 255 224 (dk_at dksX1_cheap_4 3 rfl rfl)
theorem dX1_cheap_97 : decode cX1_cheap 97 = .ok (.aload_n 0, 1) := dk_42 (dk_at dksX1_cheap_4 6 rfl rfl)
theorem dX1_cheap_98 : decode cX1_cheap 98 = .ok (.iload_n 1, 1) := dk_27 (dk_at dksX1_cheap_4 7 rfl rfl)
theorem dX1_cheap_99 : decode cX1_cheap 99 = .ok (.iconst 0, 1) := dk_3 (dk_at dksX1_cheap_4 8 rfl rfl)
theorem dX1_cheap_100 : decode cX1_cheap 100 = .ok (.invokevirtual 405, 3) := dk_182 1 149 (dk_at dksX1_cheap_4 9 rfl rfl)
theorem dX1_cheap_103 : decode cX1_cheap 103 = .ok (.istore_n 2, 1) := dk_61 (dk_at dksX1_cheap_4 12 rfl rfl)
theorem dX1_cheap_104 : decode cX1_cheap 104 = .ok (.iload_n 2, 1) := dk_28 (dk_at dksX1_cheap_4 13 rfl rfl)
theorem dX1_cheap_105 : decode cX1_cheap 105 = .ok (.ldc_w 360, 3) := dk_19 1 104 (dk_at dksX1_cheap_4 14 rfl rfl)
theorem dX1_cheap_108 : decode cX1_cheap 108 = .ok (.if_icmp .ne 8, 3) := dk_160 0 8 (dk_at dksX1_cheap_4 17 rfl rfl)
theorem dX1_cheap_111 : decode cX1_cheap 111 = .ok (.bipush (-2), 2) := dk_16 254 (dk_at dksX1_cheap_4 20 rfl rfl)
theorem dX1_cheap_113 : decode cX1_cheap 113 = .ok (.goto 5, 3) := dk_167 0 5 (dk_at dksX1_cheap_5 0 rfl rfl)
theorem dX1_cheap_116 : decode cX1_cheap 116 = .ok (.iload_n 2, 1) := dk_28 (dk_at dksX1_cheap_5 3 rfl rfl)
theorem dX1_cheap_117 : decode cX1_cheap 117 = .ok (.ineg, 1) := dk_116 (dk_at dksX1_cheap_5 4 rfl rfl)
theorem dX1_cheap_118 : decode cX1_cheap 118 = .ok (.ireturn, 1) := dk_172 (dk_at dksX1_cheap_5 5 rfl rfl)
abbrev cX1_dear : ByteArray := prog_1_method_86_code
def yX1_dear : MethodName := ⟨RX1, "dear", "(I)I"⟩
def dkwX1_dear_3 : List UInt8 := [167, 0, 4, 28, 172]
abbrev dktX1_dear_3 : List UInt8 := dkwX1_dear_3 ++ []
def dkwX1_dear_2 : List UInt8 := [79, 132, 2, 1, 167, 255, 225, 42, 27, 3, 182, 1, 149, 61, 28, 19, 1, 104, 160, 0, 8, 16, 254]
abbrev dktX1_dear_2 : List UInt8 := dkwX1_dear_2 ++ dktX1_dear_3
def dkwX1_dear_1 : List UInt8 := [180, 0, 102, 120, 162, 0, 27, 42, 180, 0, 77, 28, 42, 28, 42, 182, 1, 50, 2, 130, 126, 182, 1, 146]
abbrev dktX1_dear_1 : List UInt8 := dkwX1_dear_1 ++ dktX1_dear_2
def dkwX1_dear_0 : List UInt8 := [27, 133, 9, 20, 1, 121, 184, 0, 106, 154, 0, 5, 2, 172, 42, 182, 1, 111, 3, 61, 28, 4, 42]
abbrev dktX1_dear_0 : List UInt8 := dkwX1_dear_0 ++ dktX1_dear_1
theorem dksX1_dear_0 : cX1_dear.data.toList.drop 0 = dktX1_dear_0 := by decide +kernel
theorem dksX1_dear_1 : cX1_dear.data.toList.drop 23 = dktX1_dear_1 := dk_seg dksX1_dear_0 23 rfl rfl
theorem dksX1_dear_2 : cX1_dear.data.toList.drop 47 = dktX1_dear_2 := dk_seg dksX1_dear_1 24 rfl rfl
theorem dksX1_dear_3 : cX1_dear.data.toList.drop 70 = dktX1_dear_3 := dk_seg dksX1_dear_2 23 rfl rfl
theorem dX1_dear_0 : decode cX1_dear 0 = .ok (.iload_n 1, 1) := dk_27 (dk_at dksX1_dear_0 0 rfl rfl)
theorem dX1_dear_1 : decode cX1_dear 1 = .ok (.i2l, 1) := dk_133 (dk_at dksX1_dear_0 1 rfl rfl)
theorem dX1_dear_2 : decode cX1_dear 2 = .ok (.lconst 0, 1) := dk_9 (dk_at dksX1_dear_0 2 rfl rfl)
theorem dX1_dear_3 : decode cX1_dear 3 = .ok (.ldc2_w 377, 3) := dk_20 1 121 (dk_at dksX1_dear_0 3 rfl rfl)
theorem dX1_dear_6 : decode cX1_dear 6 = .ok (.invokestatic 106, 3) := dk_184 0 106 (dk_at dksX1_dear_0 6 rfl rfl)
theorem dX1_dear_9 : decode cX1_dear 9 = .ok (.ifCond .ne 5, 3) := dk_154 0 5 (dk_at dksX1_dear_0 9 rfl rfl)
theorem dX1_dear_12 : decode cX1_dear 12 = .ok (.iconst (-1), 1) := dk_2 (dk_at dksX1_dear_0 12 rfl rfl)
theorem dX1_dear_13 : decode cX1_dear 13 = .ok (.ireturn, 1) := dk_172 (dk_at dksX1_dear_0 13 rfl rfl)
theorem dX1_dear_14 : decode cX1_dear 14 = .ok (.aload_n 0, 1) := dk_42 (dk_at dksX1_dear_0 14 rfl rfl)
theorem dX1_dear_15 : decode cX1_dear 15 = .ok (.invokevirtual 367, 3) := dk_182 1 111 (dk_at dksX1_dear_0 15 rfl rfl)
theorem dX1_dear_18 : decode cX1_dear 18 = .ok (.iconst 0, 1) := dk_3 (dk_at dksX1_dear_0 18 rfl rfl)
theorem dX1_dear_19 : decode cX1_dear 19 = .ok (.istore_n 2, 1) := dk_61 (dk_at dksX1_dear_0 19 rfl rfl)
theorem dX1_dear_20 : decode cX1_dear 20 = .ok (.iload_n 2, 1) := dk_28 (dk_at dksX1_dear_0 20 rfl rfl)
theorem dX1_dear_21 : decode cX1_dear 21 = .ok (.iconst 1, 1) := dk_4 (dk_at dksX1_dear_0 21 rfl rfl)
theorem dX1_dear_22 : decode cX1_dear 22 = .ok (.aload_n 0, 1) := dk_42 (dk_at dksX1_dear_0 22 rfl rfl)
theorem dX1_dear_23 : decode cX1_dear 23 = .ok (.getfield 102, 3) := dk_180 0 102 (dk_at dksX1_dear_1 0 rfl rfl)
theorem dX1_dear_26 : decode cX1_dear 26 = .ok (.ishl, 1) := dk_120 (dk_at dksX1_dear_1 3 rfl rfl)
theorem dX1_dear_27 : decode cX1_dear 27 = .ok (.if_icmp .ge 27, 3) := dk_162 0 27 (dk_at dksX1_dear_1 4 rfl rfl)
theorem dX1_dear_30 : decode cX1_dear 30 = .ok (.aload_n 0, 1) := dk_42 (dk_at dksX1_dear_1 7 rfl rfl)
theorem dX1_dear_31 : decode cX1_dear 31 = .ok (.getfield 77, 3) := dk_180 0 77 (dk_at dksX1_dear_1 8 rfl rfl)
theorem dX1_dear_34 : decode cX1_dear 34 = .ok (.iload_n 2, 1) := dk_28 (dk_at dksX1_dear_1 11 rfl rfl)
theorem dX1_dear_35 : decode cX1_dear 35 = .ok (.aload_n 0, 1) := dk_42 (dk_at dksX1_dear_1 12 rfl rfl)
theorem dX1_dear_36 : decode cX1_dear 36 = .ok (.iload_n 2, 1) := dk_28 (dk_at dksX1_dear_1 13 rfl rfl)
theorem dX1_dear_37 : decode cX1_dear 37 = .ok (.aload_n 0, 1) := dk_42 (dk_at dksX1_dear_1 14 rfl rfl)
theorem dX1_dear_38 : decode cX1_dear 38 = .ok (.invokevirtual 306, 3) := dk_182 1 50 (dk_at dksX1_dear_1 15 rfl rfl)
theorem dX1_dear_41 : decode cX1_dear 41 = .ok (.iconst (-1), 1) := dk_2 (dk_at dksX1_dear_1 18 rfl rfl)
theorem dX1_dear_42 : decode cX1_dear 42 = .ok (.ixor, 1) := dk_130 (dk_at dksX1_dear_1 19 rfl rfl)
theorem dX1_dear_43 : decode cX1_dear 43 = .ok (.iand, 1) := dk_126 (dk_at dksX1_dear_1 20 rfl rfl)
theorem dX1_dear_44 : decode cX1_dear 44 = .ok (.invokevirtual 402, 3) := dk_182 1 146 (dk_at dksX1_dear_1 21 rfl rfl)
theorem dX1_dear_47 : decode cX1_dear 47 = .ok (.iastore, 1) := dk_79 (dk_at dksX1_dear_2 0 rfl rfl)
theorem dX1_dear_48 : decode cX1_dear 48 = .ok (.iinc 2 1, 3) := dk_132 2 1 (dk_at dksX1_dear_2 1 rfl rfl)
theorem dX1_dear_51 : decode cX1_dear 51 = .ok (.goto (-31), 3) := dk_167 255 225 (dk_at dksX1_dear_2 4 rfl rfl)
theorem dX1_dear_54 : decode cX1_dear 54 = .ok (.aload_n 0, 1) := dk_42 (dk_at dksX1_dear_2 7 rfl rfl)
theorem dX1_dear_55 : decode cX1_dear 55 = .ok (.iload_n 1, 1) := dk_27 (dk_at dksX1_dear_2 8 rfl rfl)
theorem dX1_dear_56 : decode cX1_dear 56 = .ok (.iconst 0, 1) := dk_3 (dk_at dksX1_dear_2 9 rfl rfl)
theorem dX1_dear_57 : decode cX1_dear 57 = .ok (.invokevirtual 405, 3) := dk_182 1 149 (dk_at dksX1_dear_2 10 rfl rfl)
theorem dX1_dear_60 : decode cX1_dear 60 = .ok (.istore_n 2, 1) := dk_61 (dk_at dksX1_dear_2 13 rfl rfl)
theorem dX1_dear_61 : decode cX1_dear 61 = .ok (.iload_n 2, 1) := dk_28 (dk_at dksX1_dear_2 14 rfl rfl)
theorem dX1_dear_62 : decode cX1_dear 62 = .ok (.ldc_w 360, 3) := dk_19 1 104 (dk_at dksX1_dear_2 15 rfl rfl)
theorem dX1_dear_65 : decode cX1_dear 65 = .ok (.if_icmp .ne 8, 3) := dk_160 0 8 (dk_at dksX1_dear_2 18 rfl rfl)
theorem dX1_dear_68 : decode cX1_dear 68 = .ok (.bipush (-2), 2) := dk_16 254 (dk_at dksX1_dear_2 21 rfl rfl)
theorem dX1_dear_70 : decode cX1_dear 70 = .ok (.goto 4, 3) := dk_167 0 4 (dk_at dksX1_dear_3 0 rfl rfl)
theorem dX1_dear_73 : decode cX1_dear 73 = .ok (.iload_n 2, 1) := dk_28 (dk_at dksX1_dear_3 3 rfl rfl)
theorem dX1_dear_74 : decode cX1_dear 74 = .ok (.ireturn, 1) := dk_172 (dk_at dksX1_dear_3 4 rfl rfl)
abbrev cX1_game : ByteArray := prog_1_method_88_code
def yX1_game : MethodName := ⟨RX1, "game", "()I"⟩
def dkwX1_game_7 : List UInt8 := [3, 172]
abbrev dktX1_game_7 : List UInt8 := dkwX1_game_7 ++ []
def dkwX1_game_6 : List UInt8 := [42, 42, 180, 0, 70, 29, 46, 182, 1, 84, 42, 180, 0, 67, 29, 46, 4, 160, 0, 7, 4, 167, 0, 4]
abbrev dktX1_game_6 : List UInt8 := dkwX1_game_6 ++ dktX1_game_7
def dkwX1_game_5 : List UInt8 := [3, 181, 1, 81, 42, 42, 180, 0, 67, 29, 46, 4, 160, 0, 8, 21, 4, 167, 0, 4, 2, 182, 1, 84]
abbrev dktX1_game_5 : List UInt8 := dkwX1_game_5 ++ dktX1_game_6
def dkwX1_game_4 : List UInt8 := [180, 0, 70, 29, 46, 160, 0, 8, 21, 5, 167, 0, 5, 21, 4, 54, 4, 132, 5, 255, 167, 255, 178, 42]
abbrev dktX1_game_4 : List UInt8 := dkwX1_game_4 ++ dktX1_game_5
def dkwX1_game_3 : List UInt8 := [21, 6, 46, 42, 180, 0, 67, 29, 46, 159, 0, 26, 4, 42, 180, 0, 70, 21, 6, 46, 96, 42]
abbrev dktX1_game_3 : List UInt8 := dkwX1_game_3 ++ dktX1_game_4
def dkwX1_game_2 : List UInt8 := [154, 0, 6, 167, 0, 59, 27, 4, 21, 5, 120, 128, 21, 5, 184, 1, 108, 54, 6, 42, 180, 0, 67]
abbrev dktX1_game_2 : List UInt8 := dkwX1_game_2 ++ dktX1_game_3
def dkwX1_game_1 : List UInt8 := [2, 54, 4, 42, 180, 0, 102, 4, 100, 54, 5, 21, 5, 155, 0, 79, 42, 27, 28, 21, 5, 182, 1, 105]
abbrev dktX1_game_1 : List UInt8 := dkwX1_game_1 ++ dktX1_game_2
def dkwX1_game_0 : List UInt8 := [42, 182, 1, 111, 42, 182, 1, 152, 42, 182, 1, 50, 60, 42, 182, 1, 53, 61, 27, 28, 184, 1, 108, 62]
abbrev dktX1_game_0 : List UInt8 := dkwX1_game_0 ++ dktX1_game_1
theorem dksX1_game_0 : cX1_game.data.toList.drop 0 = dktX1_game_0 := by decide +kernel
theorem dksX1_game_1 : cX1_game.data.toList.drop 24 = dktX1_game_1 := dk_seg dksX1_game_0 24 rfl rfl
theorem dksX1_game_2 : cX1_game.data.toList.drop 48 = dktX1_game_2 := dk_seg dksX1_game_1 24 rfl rfl
theorem dksX1_game_3 : cX1_game.data.toList.drop 71 = dktX1_game_3 := dk_seg dksX1_game_2 23 rfl rfl
theorem dksX1_game_4 : cX1_game.data.toList.drop 93 = dktX1_game_4 := dk_seg dksX1_game_3 22 rfl rfl
theorem dksX1_game_5 : cX1_game.data.toList.drop 117 = dktX1_game_5 := dk_seg dksX1_game_4 24 rfl rfl
theorem dksX1_game_6 : cX1_game.data.toList.drop 141 = dktX1_game_6 := dk_seg dksX1_game_5 24 rfl rfl
theorem dksX1_game_7 : cX1_game.data.toList.drop 165 = dktX1_game_7 := dk_seg dksX1_game_6 24 rfl rfl
theorem dX1_game_0 : decode cX1_game 0 = .ok (.aload_n 0, 1) := dk_42 (dk_at dksX1_game_0 0 rfl rfl)
theorem dX1_game_1 : decode cX1_game 1 = .ok (.invokevirtual 367, 3) := dk_182 1 111 (dk_at dksX1_game_0 1 rfl rfl)
theorem dX1_game_4 : decode cX1_game 4 = .ok (.aload_n 0, 1) := dk_42 (dk_at dksX1_game_0 4 rfl rfl)
theorem dX1_game_5 : decode cX1_game 5 = .ok (.invokevirtual 408, 3) := dk_182 1 152 (dk_at dksX1_game_0 5 rfl rfl)
theorem dX1_game_8 : decode cX1_game 8 = .ok (.aload_n 0, 1) := dk_42 (dk_at dksX1_game_0 8 rfl rfl)
theorem dX1_game_9 : decode cX1_game 9 = .ok (.invokevirtual 306, 3) := dk_182 1 50 (dk_at dksX1_game_0 9 rfl rfl)
theorem dX1_game_12 : decode cX1_game 12 = .ok (.istore_n 1, 1) := dk_60 (dk_at dksX1_game_0 12 rfl rfl)
theorem dX1_game_13 : decode cX1_game 13 = .ok (.aload_n 0, 1) := dk_42 (dk_at dksX1_game_0 13 rfl rfl)
theorem dX1_game_14 : decode cX1_game 14 = .ok (.invokevirtual 309, 3) := dk_182 1 53 (dk_at dksX1_game_0 14 rfl rfl)
theorem dX1_game_17 : decode cX1_game 17 = .ok (.istore_n 2, 1) := dk_61 (dk_at dksX1_game_0 17 rfl rfl)
theorem dX1_game_18 : decode cX1_game 18 = .ok (.iload_n 1, 1) := dk_27 (dk_at dksX1_game_0 18 rfl rfl)
theorem dX1_game_19 : decode cX1_game 19 = .ok (.iload_n 2, 1) := dk_28 (dk_at dksX1_game_0 19 rfl rfl)
theorem dX1_game_20 : decode cX1_game 20 = .ok (.invokestatic 364, 3) := dk_184 1 108 (dk_at dksX1_game_0 20 rfl rfl)
theorem dX1_game_23 : decode cX1_game 23 = .ok (.istore_n 3, 1) := dk_62 (dk_at dksX1_game_0 23 rfl rfl)
theorem dX1_game_24 : decode cX1_game 24 = .ok (.iconst (-1), 1) := dk_2 (dk_at dksX1_game_1 0 rfl rfl)
theorem dX1_game_25 : decode cX1_game 25 = .ok (.istore 4, 2) := dk_54 4 (dk_at dksX1_game_1 1 rfl rfl)
theorem dX1_game_27 : decode cX1_game 27 = .ok (.aload_n 0, 1) := dk_42 (dk_at dksX1_game_1 3 rfl rfl)
theorem dX1_game_28 : decode cX1_game 28 = .ok (.getfield 102, 3) := dk_180 0 102 (dk_at dksX1_game_1 4 rfl rfl)
theorem dX1_game_31 : decode cX1_game 31 = .ok (.iconst 1, 1) := dk_4 (dk_at dksX1_game_1 7 rfl rfl)
theorem dX1_game_32 : decode cX1_game 32 = .ok (.isub, 1) := dk_100 (dk_at dksX1_game_1 8 rfl rfl)
theorem dX1_game_33 : decode cX1_game 33 = .ok (.istore 5, 2) := dk_54 5 (dk_at dksX1_game_1 9 rfl rfl)
theorem dX1_game_35 : decode cX1_game 35 = .ok (.iload 5, 2) := dk_21 5 (dk_at dksX1_game_1 11 rfl rfl)
theorem dX1_game_37 : decode cX1_game 37 = .ok (.ifCond .lt 79, 3) := dk_155 0 79 (dk_at dksX1_game_1 13 rfl rfl)
theorem dX1_game_40 : decode cX1_game 40 = .ok (.aload_n 0, 1) := dk_42 (dk_at dksX1_game_1 16 rfl rfl)
theorem dX1_game_41 : decode cX1_game 41 = .ok (.iload_n 1, 1) := dk_27 (dk_at dksX1_game_1 17 rfl rfl)
theorem dX1_game_42 : decode cX1_game 42 = .ok (.iload_n 2, 1) := dk_28 (dk_at dksX1_game_1 18 rfl rfl)
theorem dX1_game_43 : decode cX1_game 43 = .ok (.iload 5, 2) := dk_21 5 (dk_at dksX1_game_1 19 rfl rfl)
theorem dX1_game_45 : decode cX1_game 45 = .ok (.invokevirtual 361, 3) := dk_182 1 105 (dk_at dksX1_game_1 21 rfl rfl)
theorem dX1_game_48 : decode cX1_game 48 = .ok (.ifCond .ne 6, 3) := dk_154 0 6 (dk_at dksX1_game_2 0 rfl rfl)
theorem dX1_game_51 : decode cX1_game 51 = .ok (.goto 59, 3) := dk_167 0 59 (dk_at dksX1_game_2 3 rfl rfl)
theorem dX1_game_54 : decode cX1_game 54 = .ok (.iload_n 1, 1) := dk_27 (dk_at dksX1_game_2 6 rfl rfl)
theorem dX1_game_55 : decode cX1_game 55 = .ok (.iconst 1, 1) := dk_4 (dk_at dksX1_game_2 7 rfl rfl)
theorem dX1_game_56 : decode cX1_game 56 = .ok (.iload 5, 2) := dk_21 5 (dk_at dksX1_game_2 8 rfl rfl)
theorem dX1_game_58 : decode cX1_game 58 = .ok (.ishl, 1) := dk_120 (dk_at dksX1_game_2 10 rfl rfl)
theorem dX1_game_59 : decode cX1_game 59 = .ok (.ior, 1) := dk_128 (dk_at dksX1_game_2 11 rfl rfl)
theorem dX1_game_60 : decode cX1_game 60 = .ok (.iload 5, 2) := dk_21 5 (dk_at dksX1_game_2 12 rfl rfl)
theorem dX1_game_62 : decode cX1_game 62 = .ok (.invokestatic 364, 3) := dk_184 1 108 (dk_at dksX1_game_2 14 rfl rfl)
theorem dX1_game_65 : decode cX1_game 65 = .ok (.istore 6, 2) := dk_54 6 (dk_at dksX1_game_2 17 rfl rfl)
theorem dX1_game_67 : decode cX1_game 67 = .ok (.aload_n 0, 1) := dk_42 (dk_at dksX1_game_2 19 rfl rfl)
theorem dX1_game_68 : decode cX1_game 68 = .ok (.getfield 67, 3) := dk_180 0 67 (dk_at dksX1_game_2 20 rfl rfl)
theorem dX1_game_71 : decode cX1_game 71 = .ok (.iload 6, 2) := dk_21 6 (dk_at dksX1_game_3 0 rfl rfl)
theorem dX1_game_73 : decode cX1_game 73 = .ok (.iaload, 1) := dk_46 (dk_at dksX1_game_3 2 rfl rfl)
theorem dX1_game_74 : decode cX1_game 74 = .ok (.aload_n 0, 1) := dk_42 (dk_at dksX1_game_3 3 rfl rfl)
theorem dX1_game_75 : decode cX1_game 75 = .ok (.getfield 67, 3) := dk_180 0 67 (dk_at dksX1_game_3 4 rfl rfl)
theorem dX1_game_78 : decode cX1_game 78 = .ok (.iload_n 3, 1) := dk_29 (dk_at dksX1_game_3 7 rfl rfl)
theorem dX1_game_79 : decode cX1_game 79 = .ok (.iaload, 1) := dk_46 (dk_at dksX1_game_3 8 rfl rfl)
theorem dX1_game_80 : decode cX1_game 80 = .ok (.if_icmp .eq 26, 3) := dk_159 0 26 (dk_at dksX1_game_3 9 rfl rfl)
theorem dX1_game_83 : decode cX1_game 83 = .ok (.iconst 1, 1) := dk_4 (dk_at dksX1_game_3 12 rfl rfl)
theorem dX1_game_84 : decode cX1_game 84 = .ok (.aload_n 0, 1) := dk_42 (dk_at dksX1_game_3 13 rfl rfl)
theorem dX1_game_85 : decode cX1_game 85 = .ok (.getfield 70, 3) := dk_180 0 70 (dk_at dksX1_game_3 14 rfl rfl)
theorem dX1_game_88 : decode cX1_game 88 = .ok (.iload 6, 2) := dk_21 6 (dk_at dksX1_game_3 17 rfl rfl)
theorem dX1_game_90 : decode cX1_game 90 = .ok (.iaload, 1) := dk_46 (dk_at dksX1_game_3 19 rfl rfl)
theorem dX1_game_91 : decode cX1_game 91 = .ok (.iadd, 1) := dk_96 (dk_at dksX1_game_3 20 rfl rfl)
theorem dX1_game_92 : decode cX1_game 92 = .ok (.aload_n 0, 1) := dk_42 (dk_at dksX1_game_3 21 rfl rfl)
theorem dX1_game_93 : decode cX1_game 93 = .ok (.getfield 70, 3) := dk_180 0 70 (dk_at dksX1_game_4 0 rfl rfl)
theorem dX1_game_96 : decode cX1_game 96 = .ok (.iload_n 3, 1) := dk_29 (dk_at dksX1_game_4 3 rfl rfl)
theorem dX1_game_97 : decode cX1_game 97 = .ok (.iaload, 1) := dk_46 (dk_at dksX1_game_4 4 rfl rfl)
theorem dX1_game_98 : decode cX1_game 98 = .ok (.if_icmp .ne 8, 3) := dk_160 0 8 (dk_at dksX1_game_4 5 rfl rfl)
theorem dX1_game_101 : decode cX1_game 101 = .ok (.iload 5, 2) := dk_21 5 (dk_at dksX1_game_4 8 rfl rfl)
theorem dX1_game_103 : decode cX1_game 103 = .ok (.goto 5, 3) := dk_167 0 5 (dk_at dksX1_game_4 10 rfl rfl)
theorem dX1_game_106 : decode cX1_game 106 = .ok (.iload 4, 2) := dk_21 4 (dk_at dksX1_game_4 13 rfl rfl)
theorem dX1_game_108 : decode cX1_game 108 = .ok (.istore 4, 2) := dk_54 4 (dk_at dksX1_game_4 15 rfl rfl)
theorem dX1_game_110 : decode cX1_game 110 = .ok (.iinc 5 (-1), 3) := dk_132 5 255 (dk_at dksX1_game_4 17 rfl rfl)
theorem dX1_game_113 : decode cX1_game 113 = .ok (.goto (-78), 3) := dk_167 255 178 (dk_at dksX1_game_4 20 rfl rfl)
theorem dX1_game_116 : decode cX1_game 116 = .ok (.aload_n 0, 1) := dk_42 (dk_at dksX1_game_4 23 rfl rfl)
theorem dX1_game_117 : decode cX1_game 117 = .ok (.iconst 0, 1) := dk_3 (dk_at dksX1_game_5 0 rfl rfl)
theorem dX1_game_118 : decode cX1_game 118 = .ok (.putfield 337, 3) := dk_181 1 81 (dk_at dksX1_game_5 1 rfl rfl)
theorem dX1_game_121 : decode cX1_game 121 = .ok (.aload_n 0, 1) := dk_42 (dk_at dksX1_game_5 4 rfl rfl)
theorem dX1_game_122 : decode cX1_game 122 = .ok (.aload_n 0, 1) := dk_42 (dk_at dksX1_game_5 5 rfl rfl)
theorem dX1_game_123 : decode cX1_game 123 = .ok (.getfield 67, 3) := dk_180 0 67 (dk_at dksX1_game_5 6 rfl rfl)
theorem dX1_game_126 : decode cX1_game 126 = .ok (.iload_n 3, 1) := dk_29 (dk_at dksX1_game_5 9 rfl rfl)
theorem dX1_game_127 : decode cX1_game 127 = .ok (.iaload, 1) := dk_46 (dk_at dksX1_game_5 10 rfl rfl)
theorem dX1_game_128 : decode cX1_game 128 = .ok (.iconst 1, 1) := dk_4 (dk_at dksX1_game_5 11 rfl rfl)
theorem dX1_game_129 : decode cX1_game 129 = .ok (.if_icmp .ne 8, 3) := dk_160 0 8 (dk_at dksX1_game_5 12 rfl rfl)
theorem dX1_game_132 : decode cX1_game 132 = .ok (.iload 4, 2) := dk_21 4 (dk_at dksX1_game_5 15 rfl rfl)
theorem dX1_game_134 : decode cX1_game 134 = .ok (.goto 4, 3) := dk_167 0 4 (dk_at dksX1_game_5 17 rfl rfl)
theorem dX1_game_137 : decode cX1_game 137 = .ok (.iconst (-1), 1) := dk_2 (dk_at dksX1_game_5 20 rfl rfl)
theorem dX1_game_138 : decode cX1_game 138 = .ok (.invokevirtual 340, 3) := dk_182 1 84 (dk_at dksX1_game_5 21 rfl rfl)
theorem dX1_game_141 : decode cX1_game 141 = .ok (.aload_n 0, 1) := dk_42 (dk_at dksX1_game_6 0 rfl rfl)
theorem dX1_game_142 : decode cX1_game 142 = .ok (.aload_n 0, 1) := dk_42 (dk_at dksX1_game_6 1 rfl rfl)
theorem dX1_game_143 : decode cX1_game 143 = .ok (.getfield 70, 3) := dk_180 0 70 (dk_at dksX1_game_6 2 rfl rfl)
theorem dX1_game_146 : decode cX1_game 146 = .ok (.iload_n 3, 1) := dk_29 (dk_at dksX1_game_6 5 rfl rfl)
theorem dX1_game_147 : decode cX1_game 147 = .ok (.iaload, 1) := dk_46 (dk_at dksX1_game_6 6 rfl rfl)
theorem dX1_game_148 : decode cX1_game 148 = .ok (.invokevirtual 340, 3) := dk_182 1 84 (dk_at dksX1_game_6 7 rfl rfl)
theorem dX1_game_151 : decode cX1_game 151 = .ok (.aload_n 0, 1) := dk_42 (dk_at dksX1_game_6 10 rfl rfl)
theorem dX1_game_152 : decode cX1_game 152 = .ok (.getfield 67, 3) := dk_180 0 67 (dk_at dksX1_game_6 11 rfl rfl)
theorem dX1_game_155 : decode cX1_game 155 = .ok (.iload_n 3, 1) := dk_29 (dk_at dksX1_game_6 14 rfl rfl)
theorem dX1_game_156 : decode cX1_game 156 = .ok (.iaload, 1) := dk_46 (dk_at dksX1_game_6 15 rfl rfl)
theorem dX1_game_157 : decode cX1_game 157 = .ok (.iconst 1, 1) := dk_4 (dk_at dksX1_game_6 16 rfl rfl)
theorem dX1_game_158 : decode cX1_game 158 = .ok (.if_icmp .ne 7, 3) := dk_160 0 7 (dk_at dksX1_game_6 17 rfl rfl)
theorem dX1_game_161 : decode cX1_game 161 = .ok (.iconst 1, 1) := dk_4 (dk_at dksX1_game_6 20 rfl rfl)
theorem dX1_game_162 : decode cX1_game 162 = .ok (.goto 4, 3) := dk_167 0 4 (dk_at dksX1_game_6 21 rfl rfl)
theorem dX1_game_165 : decode cX1_game 165 = .ok (.iconst 0, 1) := dk_3 (dk_at dksX1_game_7 0 rfl rfl)
theorem dX1_game_166 : decode cX1_game 166 = .ok (.ireturn, 1) := dk_172 (dk_at dksX1_game_7 1 rfl rfl)
abbrev cX1_plays : ByteArray := prog_1_method_87_code
def yX1_plays : MethodName := ⟨RX1, "plays", "()V"⟩
def dkwX1_plays_9 : List UInt8 := [132, 1, 255, 167, 255, 52, 177]
abbrev dktX1_plays_9 : List UInt8 := dkwX1_plays_9 ++ []
def dkwX1_plays_8 : List UInt8 := [167, 0, 4, 5, 79, 42, 180, 0, 70, 27, 28, 184, 1, 108, 29, 79, 132, 2, 1, 167, 255, 64]
abbrev dktX1_plays_8 : List UInt8 := dkwX1_plays_8 ++ dktX1_plays_9
def dkwX1_plays_7 : List UInt8 := [3, 54, 4, 132, 5, 1, 167, 255, 129, 42, 180, 0, 67, 27, 28, 184, 1, 108, 21, 4, 153, 0, 7, 4]
abbrev dktX1_plays_7 : List UInt8 := dkwX1_plays_7 ++ dktX1_plays_8
def dkwX1_plays_6 : List UInt8 := [153, 0, 8, 21, 8, 167, 0, 4, 29, 62, 21, 4, 154, 0, 8, 21, 7, 153, 0, 7, 4, 167, 0, 4]
abbrev dktX1_plays_6 : List UInt8 := dkwX1_plays_6 ++ dktX1_plays_7
def dkwX1_plays_5 : List UInt8 := [153, 0, 12, 29, 21, 8, 184, 0, 122, 167, 0, 23, 29, 21, 8, 184, 0, 246, 167, 0, 14, 21, 7]
abbrev dktX1_plays_5 : List UInt8 := dkwX1_plays_5 ++ dktX1_plays_6
def dkwX1_plays_4 : List UInt8 := [3, 54, 7, 4, 42, 180, 0, 70, 21, 6, 46, 96, 54, 8, 21, 7, 21, 4, 160, 0, 26, 21, 7]
abbrev dktX1_plays_4 : List UInt8 := dkwX1_plays_4 ++ dktX1_plays_5
def dkwX1_plays_3 : List UInt8 := [120, 128, 21, 5, 184, 1, 108, 54, 6, 42, 180, 0, 67, 21, 6, 46, 5, 160, 0, 7, 4, 167, 0, 4]
abbrev dktX1_plays_3 : List UInt8 := dkwX1_plays_3 ++ dktX1_plays_4
def dkwX1_plays_2 : List UInt8 := [180, 0, 102, 162, 0, 124, 42, 27, 28, 21, 5, 182, 1, 105, 154, 0, 6, 167, 0, 104, 27, 4, 21, 5]
abbrev dktX1_plays_2 : List UInt8 := dkwX1_plays_2 ++ dktX1_plays_3
def dkwX1_plays_1 : List UInt8 := [27, 28, 182, 1, 101, 154, 0, 6, 167, 0, 172, 3, 62, 3, 54, 4, 3, 54, 5, 21, 5, 42]
abbrev dktX1_plays_1 : List UInt8 := dkwX1_plays_1 ++ dktX1_plays_2
def dkwX1_plays_0 : List UInt8 := [4, 42, 180, 0, 102, 120, 4, 100, 60, 27, 155, 0, 206, 2, 61, 28, 42, 180, 0, 102, 162, 0, 190, 42]
abbrev dktX1_plays_0 : List UInt8 := dkwX1_plays_0 ++ dktX1_plays_1
theorem dksX1_plays_0 : cX1_plays.data.toList.drop 0 = dktX1_plays_0 := by decide +kernel
theorem dksX1_plays_1 : cX1_plays.data.toList.drop 24 = dktX1_plays_1 := dk_seg dksX1_plays_0 24 rfl rfl
theorem dksX1_plays_2 : cX1_plays.data.toList.drop 46 = dktX1_plays_2 := dk_seg dksX1_plays_1 22 rfl rfl
theorem dksX1_plays_3 : cX1_plays.data.toList.drop 70 = dktX1_plays_3 := dk_seg dksX1_plays_2 24 rfl rfl
theorem dksX1_plays_4 : cX1_plays.data.toList.drop 94 = dktX1_plays_4 := dk_seg dksX1_plays_3 24 rfl rfl
theorem dksX1_plays_5 : cX1_plays.data.toList.drop 117 = dktX1_plays_5 := dk_seg dksX1_plays_4 23 rfl rfl
theorem dksX1_plays_6 : cX1_plays.data.toList.drop 140 = dktX1_plays_6 := dk_seg dksX1_plays_5 23 rfl rfl
theorem dksX1_plays_7 : cX1_plays.data.toList.drop 164 = dktX1_plays_7 := dk_seg dksX1_plays_6 24 rfl rfl
theorem dksX1_plays_8 : cX1_plays.data.toList.drop 188 = dktX1_plays_8 := dk_seg dksX1_plays_7 24 rfl rfl
theorem dksX1_plays_9 : cX1_plays.data.toList.drop 210 = dktX1_plays_9 := dk_seg dksX1_plays_8 22 rfl rfl
theorem dX1_plays_0 : decode cX1_plays 0 = .ok (.iconst 1, 1) := dk_4 (dk_at dksX1_plays_0 0 rfl rfl)
theorem dX1_plays_1 : decode cX1_plays 1 = .ok (.aload_n 0, 1) := dk_42 (dk_at dksX1_plays_0 1 rfl rfl)
theorem dX1_plays_2 : decode cX1_plays 2 = .ok (.getfield 102, 3) := dk_180 0 102 (dk_at dksX1_plays_0 2 rfl rfl)
theorem dX1_plays_5 : decode cX1_plays 5 = .ok (.ishl, 1) := dk_120 (dk_at dksX1_plays_0 5 rfl rfl)
theorem dX1_plays_6 : decode cX1_plays 6 = .ok (.iconst 1, 1) := dk_4 (dk_at dksX1_plays_0 6 rfl rfl)
theorem dX1_plays_7 : decode cX1_plays 7 = .ok (.isub, 1) := dk_100 (dk_at dksX1_plays_0 7 rfl rfl)
theorem dX1_plays_8 : decode cX1_plays 8 = .ok (.istore_n 1, 1) := dk_60 (dk_at dksX1_plays_0 8 rfl rfl)
theorem dX1_plays_9 : decode cX1_plays 9 = .ok (.iload_n 1, 1) := dk_27 (dk_at dksX1_plays_0 9 rfl rfl)
theorem dX1_plays_10 : decode cX1_plays 10 = .ok (.ifCond .lt 206, 3) := dk_155 0 206 (dk_at dksX1_plays_0 10 rfl rfl)
theorem dX1_plays_13 : decode cX1_plays 13 = .ok (.iconst (-1), 1) := dk_2 (dk_at dksX1_plays_0 13 rfl rfl)
theorem dX1_plays_14 : decode cX1_plays 14 = .ok (.istore_n 2, 1) := dk_61 (dk_at dksX1_plays_0 14 rfl rfl)
theorem dX1_plays_15 : decode cX1_plays 15 = .ok (.iload_n 2, 1) := dk_28 (dk_at dksX1_plays_0 15 rfl rfl)
theorem dX1_plays_16 : decode cX1_plays 16 = .ok (.aload_n 0, 1) := dk_42 (dk_at dksX1_plays_0 16 rfl rfl)
theorem dX1_plays_17 : decode cX1_plays 17 = .ok (.getfield 102, 3) := dk_180 0 102 (dk_at dksX1_plays_0 17 rfl rfl)
theorem dX1_plays_20 : decode cX1_plays 20 = .ok (.if_icmp .ge 190, 3) := dk_162 0 190 (dk_at dksX1_plays_0 20 rfl rfl)
theorem dX1_plays_23 : decode cX1_plays 23 = .ok (.aload_n 0, 1) := dk_42 (dk_at dksX1_plays_0 23 rfl rfl)
theorem dX1_plays_24 : decode cX1_plays 24 = .ok (.iload_n 1, 1) := dk_27 (dk_at dksX1_plays_1 0 rfl rfl)
theorem dX1_plays_25 : decode cX1_plays 25 = .ok (.iload_n 2, 1) := dk_28 (dk_at dksX1_plays_1 1 rfl rfl)
theorem dX1_plays_26 : decode cX1_plays 26 = .ok (.invokevirtual 357, 3) := dk_182 1 101 (dk_at dksX1_plays_1 2 rfl rfl)
theorem dX1_plays_29 : decode cX1_plays 29 = .ok (.ifCond .ne 6, 3) := dk_154 0 6 (dk_at dksX1_plays_1 5 rfl rfl)
theorem dX1_plays_32 : decode cX1_plays 32 = .ok (.goto 172, 3) := dk_167 0 172 (dk_at dksX1_plays_1 8 rfl rfl)
theorem dX1_plays_35 : decode cX1_plays 35 = .ok (.iconst 0, 1) := dk_3 (dk_at dksX1_plays_1 11 rfl rfl)
theorem dX1_plays_36 : decode cX1_plays 36 = .ok (.istore_n 3, 1) := dk_62 (dk_at dksX1_plays_1 12 rfl rfl)
theorem dX1_plays_37 : decode cX1_plays 37 = .ok (.iconst 0, 1) := dk_3 (dk_at dksX1_plays_1 13 rfl rfl)
theorem dX1_plays_38 : decode cX1_plays 38 = .ok (.istore 4, 2) := dk_54 4 (dk_at dksX1_plays_1 14 rfl rfl)
theorem dX1_plays_40 : decode cX1_plays 40 = .ok (.iconst 0, 1) := dk_3 (dk_at dksX1_plays_1 16 rfl rfl)
theorem dX1_plays_41 : decode cX1_plays 41 = .ok (.istore 5, 2) := dk_54 5 (dk_at dksX1_plays_1 17 rfl rfl)
theorem dX1_plays_43 : decode cX1_plays 43 = .ok (.iload 5, 2) := dk_21 5 (dk_at dksX1_plays_1 19 rfl rfl)
theorem dX1_plays_45 : decode cX1_plays 45 = .ok (.aload_n 0, 1) := dk_42 (dk_at dksX1_plays_1 21 rfl rfl)
theorem dX1_plays_46 : decode cX1_plays 46 = .ok (.getfield 102, 3) := dk_180 0 102 (dk_at dksX1_plays_2 0 rfl rfl)
theorem dX1_plays_49 : decode cX1_plays 49 = .ok (.if_icmp .ge 124, 3) := dk_162 0 124 (dk_at dksX1_plays_2 3 rfl rfl)
theorem dX1_plays_52 : decode cX1_plays 52 = .ok (.aload_n 0, 1) := dk_42 (dk_at dksX1_plays_2 6 rfl rfl)
theorem dX1_plays_53 : decode cX1_plays 53 = .ok (.iload_n 1, 1) := dk_27 (dk_at dksX1_plays_2 7 rfl rfl)
theorem dX1_plays_54 : decode cX1_plays 54 = .ok (.iload_n 2, 1) := dk_28 (dk_at dksX1_plays_2 8 rfl rfl)
theorem dX1_plays_55 : decode cX1_plays 55 = .ok (.iload 5, 2) := dk_21 5 (dk_at dksX1_plays_2 9 rfl rfl)
theorem dX1_plays_57 : decode cX1_plays 57 = .ok (.invokevirtual 361, 3) := dk_182 1 105 (dk_at dksX1_plays_2 11 rfl rfl)
theorem dX1_plays_60 : decode cX1_plays 60 = .ok (.ifCond .ne 6, 3) := dk_154 0 6 (dk_at dksX1_plays_2 14 rfl rfl)
theorem dX1_plays_63 : decode cX1_plays 63 = .ok (.goto 104, 3) := dk_167 0 104 (dk_at dksX1_plays_2 17 rfl rfl)
theorem dX1_plays_66 : decode cX1_plays 66 = .ok (.iload_n 1, 1) := dk_27 (dk_at dksX1_plays_2 20 rfl rfl)
theorem dX1_plays_67 : decode cX1_plays 67 = .ok (.iconst 1, 1) := dk_4 (dk_at dksX1_plays_2 21 rfl rfl)
theorem dX1_plays_68 : decode cX1_plays 68 = .ok (.iload 5, 2) := dk_21 5 (dk_at dksX1_plays_2 22 rfl rfl)
theorem dX1_plays_70 : decode cX1_plays 70 = .ok (.ishl, 1) := dk_120 (dk_at dksX1_plays_3 0 rfl rfl)
theorem dX1_plays_71 : decode cX1_plays 71 = .ok (.ior, 1) := dk_128 (dk_at dksX1_plays_3 1 rfl rfl)
theorem dX1_plays_72 : decode cX1_plays 72 = .ok (.iload 5, 2) := dk_21 5 (dk_at dksX1_plays_3 2 rfl rfl)
theorem dX1_plays_74 : decode cX1_plays 74 = .ok (.invokestatic 364, 3) := dk_184 1 108 (dk_at dksX1_plays_3 4 rfl rfl)
theorem dX1_plays_77 : decode cX1_plays 77 = .ok (.istore 6, 2) := dk_54 6 (dk_at dksX1_plays_3 7 rfl rfl)
theorem dX1_plays_79 : decode cX1_plays 79 = .ok (.aload_n 0, 1) := dk_42 (dk_at dksX1_plays_3 9 rfl rfl)
theorem dX1_plays_80 : decode cX1_plays 80 = .ok (.getfield 67, 3) := dk_180 0 67 (dk_at dksX1_plays_3 10 rfl rfl)
theorem dX1_plays_83 : decode cX1_plays 83 = .ok (.iload 6, 2) := dk_21 6 (dk_at dksX1_plays_3 13 rfl rfl)
theorem dX1_plays_85 : decode cX1_plays 85 = .ok (.iaload, 1) := dk_46 (dk_at dksX1_plays_3 15 rfl rfl)
theorem dX1_plays_86 : decode cX1_plays 86 = .ok (.iconst 2, 1) := dk_5 (dk_at dksX1_plays_3 16 rfl rfl)
theorem dX1_plays_87 : decode cX1_plays 87 = .ok (.if_icmp .ne 7, 3) := dk_160 0 7 (dk_at dksX1_plays_3 17 rfl rfl)
theorem dX1_plays_90 : decode cX1_plays 90 = .ok (.iconst 1, 1) := dk_4 (dk_at dksX1_plays_3 20 rfl rfl)
theorem dX1_plays_91 : decode cX1_plays 91 = .ok (.goto 4, 3) := dk_167 0 4 (dk_at dksX1_plays_3 21 rfl rfl)
theorem dX1_plays_94 : decode cX1_plays 94 = .ok (.iconst 0, 1) := dk_3 (dk_at dksX1_plays_4 0 rfl rfl)
theorem dX1_plays_95 : decode cX1_plays 95 = .ok (.istore 7, 2) := dk_54 7 (dk_at dksX1_plays_4 1 rfl rfl)
theorem dX1_plays_97 : decode cX1_plays 97 = .ok (.iconst 1, 1) := dk_4 (dk_at dksX1_plays_4 3 rfl rfl)
theorem dX1_plays_98 : decode cX1_plays 98 = .ok (.aload_n 0, 1) := dk_42 (dk_at dksX1_plays_4 4 rfl rfl)
theorem dX1_plays_99 : decode cX1_plays 99 = .ok (.getfield 70, 3) := dk_180 0 70 (dk_at dksX1_plays_4 5 rfl rfl)
theorem dX1_plays_102 : decode cX1_plays 102 = .ok (.iload 6, 2) := dk_21 6 (dk_at dksX1_plays_4 8 rfl rfl)
theorem dX1_plays_104 : decode cX1_plays 104 = .ok (.iaload, 1) := dk_46 (dk_at dksX1_plays_4 10 rfl rfl)
theorem dX1_plays_105 : decode cX1_plays 105 = .ok (.iadd, 1) := dk_96 (dk_at dksX1_plays_4 11 rfl rfl)
theorem dX1_plays_106 : decode cX1_plays 106 = .ok (.istore 8, 2) := dk_54 8 (dk_at dksX1_plays_4 12 rfl rfl)
theorem dX1_plays_108 : decode cX1_plays 108 = .ok (.iload 7, 2) := dk_21 7 (dk_at dksX1_plays_4 14 rfl rfl)
theorem dX1_plays_110 : decode cX1_plays 110 = .ok (.iload 4, 2) := dk_21 4 (dk_at dksX1_plays_4 16 rfl rfl)
theorem dX1_plays_112 : decode cX1_plays 112 = .ok (.if_icmp .ne 26, 3) := dk_160 0 26 (dk_at dksX1_plays_4 18 rfl rfl)
theorem dX1_plays_115 : decode cX1_plays 115 = .ok (.iload 7, 2) := dk_21 7 (dk_at dksX1_plays_4 21 rfl rfl)
theorem dX1_plays_117 : decode cX1_plays 117 = .ok (.ifCond .eq 12, 3) := dk_153 0 12 (dk_at dksX1_plays_5 0 rfl rfl)
theorem dX1_plays_120 : decode cX1_plays 120 = .ok (.iload_n 3, 1) := dk_29 (dk_at dksX1_plays_5 3 rfl rfl)
theorem dX1_plays_121 : decode cX1_plays 121 = .ok (.iload 8, 2) := dk_21 8 (dk_at dksX1_plays_5 4 rfl rfl)
theorem dX1_plays_123 : decode cX1_plays 123 = .ok (.invokestatic 122, 3) := dk_184 0 122 (dk_at dksX1_plays_5 6 rfl rfl)
theorem dX1_plays_126 : decode cX1_plays 126 = .ok (.goto 23, 3) := dk_167 0 23 (dk_at dksX1_plays_5 9 rfl rfl)
theorem dX1_plays_129 : decode cX1_plays 129 = .ok (.iload_n 3, 1) := dk_29 (dk_at dksX1_plays_5 12 rfl rfl)
theorem dX1_plays_130 : decode cX1_plays 130 = .ok (.iload 8, 2) := dk_21 8 (dk_at dksX1_plays_5 13 rfl rfl)
theorem dX1_plays_132 : decode cX1_plays 132 = .ok (.invokestatic 246, 3) := dk_184 0 246 (dk_at dksX1_plays_5 15 rfl rfl)
theorem dX1_plays_135 : decode cX1_plays 135 = .ok (.goto 14, 3) := dk_167 0 14 (dk_at dksX1_plays_5 18 rfl rfl)
theorem dX1_plays_138 : decode cX1_plays 138 = .ok (.iload 7, 2) := dk_21 7 (dk_at dksX1_plays_5 21 rfl rfl)
theorem dX1_plays_140 : decode cX1_plays 140 = .ok (.ifCond .eq 8, 3) := dk_153 0 8 (dk_at dksX1_plays_6 0 rfl rfl)
theorem dX1_plays_143 : decode cX1_plays 143 = .ok (.iload 8, 2) := dk_21 8 (dk_at dksX1_plays_6 3 rfl rfl)
theorem dX1_plays_145 : decode cX1_plays 145 = .ok (.goto 4, 3) := dk_167 0 4 (dk_at dksX1_plays_6 5 rfl rfl)
theorem dX1_plays_148 : decode cX1_plays 148 = .ok (.iload_n 3, 1) := dk_29 (dk_at dksX1_plays_6 8 rfl rfl)
theorem dX1_plays_149 : decode cX1_plays 149 = .ok (.istore_n 3, 1) := dk_62 (dk_at dksX1_plays_6 9 rfl rfl)
theorem dX1_plays_150 : decode cX1_plays 150 = .ok (.iload 4, 2) := dk_21 4 (dk_at dksX1_plays_6 10 rfl rfl)
theorem dX1_plays_152 : decode cX1_plays 152 = .ok (.ifCond .ne 8, 3) := dk_154 0 8 (dk_at dksX1_plays_6 12 rfl rfl)
theorem dX1_plays_155 : decode cX1_plays 155 = .ok (.iload 7, 2) := dk_21 7 (dk_at dksX1_plays_6 15 rfl rfl)
theorem dX1_plays_157 : decode cX1_plays 157 = .ok (.ifCond .eq 7, 3) := dk_153 0 7 (dk_at dksX1_plays_6 17 rfl rfl)
theorem dX1_plays_160 : decode cX1_plays 160 = .ok (.iconst 1, 1) := dk_4 (dk_at dksX1_plays_6 20 rfl rfl)
theorem dX1_plays_161 : decode cX1_plays 161 = .ok (.goto 4, 3) := dk_167 0 4 (dk_at dksX1_plays_6 21 rfl rfl)
theorem dX1_plays_164 : decode cX1_plays 164 = .ok (.iconst 0, 1) := dk_3 (dk_at dksX1_plays_7 0 rfl rfl)
theorem dX1_plays_165 : decode cX1_plays 165 = .ok (.istore 4, 2) := dk_54 4 (dk_at dksX1_plays_7 1 rfl rfl)
theorem dX1_plays_167 : decode cX1_plays 167 = .ok (.iinc 5 1, 3) := dk_132 5 1 (dk_at dksX1_plays_7 3 rfl rfl)
theorem dX1_plays_170 : decode cX1_plays 170 = .ok (.goto (-127), 3) := dk_167 255 129 (dk_at dksX1_plays_7 6 rfl rfl)
theorem dX1_plays_173 : decode cX1_plays 173 = .ok (.aload_n 0, 1) := dk_42 (dk_at dksX1_plays_7 9 rfl rfl)
theorem dX1_plays_174 : decode cX1_plays 174 = .ok (.getfield 67, 3) := dk_180 0 67 (dk_at dksX1_plays_7 10 rfl rfl)
theorem dX1_plays_177 : decode cX1_plays 177 = .ok (.iload_n 1, 1) := dk_27 (dk_at dksX1_plays_7 13 rfl rfl)
theorem dX1_plays_178 : decode cX1_plays 178 = .ok (.iload_n 2, 1) := dk_28 (dk_at dksX1_plays_7 14 rfl rfl)
theorem dX1_plays_179 : decode cX1_plays 179 = .ok (.invokestatic 364, 3) := dk_184 1 108 (dk_at dksX1_plays_7 15 rfl rfl)
theorem dX1_plays_182 : decode cX1_plays 182 = .ok (.iload 4, 2) := dk_21 4 (dk_at dksX1_plays_7 18 rfl rfl)
theorem dX1_plays_184 : decode cX1_plays 184 = .ok (.ifCond .eq 7, 3) := dk_153 0 7 (dk_at dksX1_plays_7 20 rfl rfl)
theorem dX1_plays_187 : decode cX1_plays 187 = .ok (.iconst 1, 1) := dk_4 (dk_at dksX1_plays_7 23 rfl rfl)
theorem dX1_plays_188 : decode cX1_plays 188 = .ok (.goto 4, 3) := dk_167 0 4 (dk_at dksX1_plays_8 0 rfl rfl)
theorem dX1_plays_191 : decode cX1_plays 191 = .ok (.iconst 2, 1) := dk_5 (dk_at dksX1_plays_8 3 rfl rfl)
theorem dX1_plays_192 : decode cX1_plays 192 = .ok (.iastore, 1) := dk_79 (dk_at dksX1_plays_8 4 rfl rfl)
theorem dX1_plays_193 : decode cX1_plays 193 = .ok (.aload_n 0, 1) := dk_42 (dk_at dksX1_plays_8 5 rfl rfl)
theorem dX1_plays_194 : decode cX1_plays 194 = .ok (.getfield 70, 3) := dk_180 0 70 (dk_at dksX1_plays_8 6 rfl rfl)
theorem dX1_plays_197 : decode cX1_plays 197 = .ok (.iload_n 1, 1) := dk_27 (dk_at dksX1_plays_8 9 rfl rfl)
theorem dX1_plays_198 : decode cX1_plays 198 = .ok (.iload_n 2, 1) := dk_28 (dk_at dksX1_plays_8 10 rfl rfl)
theorem dX1_plays_199 : decode cX1_plays 199 = .ok (.invokestatic 364, 3) := dk_184 1 108 (dk_at dksX1_plays_8 11 rfl rfl)
theorem dX1_plays_202 : decode cX1_plays 202 = .ok (.iload_n 3, 1) := dk_29 (dk_at dksX1_plays_8 14 rfl rfl)
theorem dX1_plays_203 : decode cX1_plays 203 = .ok (.iastore, 1) := dk_79 (dk_at dksX1_plays_8 15 rfl rfl)
theorem dX1_plays_204 : decode cX1_plays 204 = .ok (.iinc 2 1, 3) := dk_132 2 1 (dk_at dksX1_plays_8 16 rfl rfl)
theorem dX1_plays_207 : decode cX1_plays 207 = .ok (.goto (-192), 3) := dk_167 255 64 (dk_at dksX1_plays_8 19 rfl rfl)
theorem dX1_plays_210 : decode cX1_plays 210 = .ok (.iinc 1 (-1), 3) := dk_132 1 255 (dk_at dksX1_plays_9 0 rfl rfl)
theorem dX1_plays_213 : decode cX1_plays 213 = .ok (.goto (-204), 3) := dk_167 255 52 (dk_at dksX1_plays_9 3 rfl rfl)
theorem dX1_plays_216 : decode cX1_plays 216 = .ok (.return_, 1) := dk_177 (dk_at dksX1_plays_9 6 rfl rfl)
abbrev cX1_greedy : ByteArray := prog_1_method_91_code
def yX1_greedy : MethodName := ⟨RX1, "greedy", "()I"⟩
def dkwX1_greedy_4 : List UInt8 := [180, 0, 80, 27, 46, 172]
abbrev dktX1_greedy_4 : List UInt8 := dkwX1_greedy_4 ++ []
def dkwX1_greedy_3 : List UInt8 := [182, 1, 53, 184, 1, 108, 104, 60, 42, 3, 181, 1, 81, 42, 42, 180, 0, 83, 27, 46, 182, 1, 84, 42]
abbrev dktX1_greedy_3 : List UInt8 := dkwX1_greedy_3 ++ dktX1_greedy_4
def dkwX1_greedy_2 : List UInt8 := [28, 4, 182, 1, 158, 132, 2, 1, 167, 255, 219, 132, 1, 255, 167, 255, 207, 5, 42, 182, 1, 50, 42]
abbrev dktX1_greedy_2 : List UInt8 := dkwX1_greedy_2 ++ dktX1_greedy_3
def dkwX1_greedy_1 : List UInt8 := [162, 0, 35, 42, 27, 28, 182, 1, 101, 154, 0, 6, 167, 0, 17, 42, 27, 28, 3, 182, 1, 158, 42, 27]
abbrev dktX1_greedy_1 : List UInt8 := dkwX1_greedy_1 ++ dktX1_greedy_2
def dkwX1_greedy_0 : List UInt8 := [42, 182, 1, 111, 4, 42, 180, 0, 102, 120, 4, 100, 60, 27, 155, 0, 51, 2, 61, 28, 42, 180, 0, 102]
abbrev dktX1_greedy_0 : List UInt8 := dkwX1_greedy_0 ++ dktX1_greedy_1
theorem dksX1_greedy_0 : cX1_greedy.data.toList.drop 0 = dktX1_greedy_0 := by decide +kernel
theorem dksX1_greedy_1 : cX1_greedy.data.toList.drop 24 = dktX1_greedy_1 := dk_seg dksX1_greedy_0 24 rfl rfl
theorem dksX1_greedy_2 : cX1_greedy.data.toList.drop 48 = dktX1_greedy_2 := dk_seg dksX1_greedy_1 24 rfl rfl
theorem dksX1_greedy_3 : cX1_greedy.data.toList.drop 71 = dktX1_greedy_3 := dk_seg dksX1_greedy_2 23 rfl rfl
theorem dksX1_greedy_4 : cX1_greedy.data.toList.drop 95 = dktX1_greedy_4 := dk_seg dksX1_greedy_3 24 rfl rfl
theorem dX1_greedy_0 : decode cX1_greedy 0 = .ok (.aload_n 0, 1) := dk_42 (dk_at dksX1_greedy_0 0 rfl rfl)
theorem dX1_greedy_1 : decode cX1_greedy 1 = .ok (.invokevirtual 367, 3) := dk_182 1 111 (dk_at dksX1_greedy_0 1 rfl rfl)
theorem dX1_greedy_4 : decode cX1_greedy 4 = .ok (.iconst 1, 1) := dk_4 (dk_at dksX1_greedy_0 4 rfl rfl)
theorem dX1_greedy_5 : decode cX1_greedy 5 = .ok (.aload_n 0, 1) := dk_42 (dk_at dksX1_greedy_0 5 rfl rfl)
theorem dX1_greedy_6 : decode cX1_greedy 6 = .ok (.getfield 102, 3) := dk_180 0 102 (dk_at dksX1_greedy_0 6 rfl rfl)
theorem dX1_greedy_9 : decode cX1_greedy 9 = .ok (.ishl, 1) := dk_120 (dk_at dksX1_greedy_0 9 rfl rfl)
theorem dX1_greedy_10 : decode cX1_greedy 10 = .ok (.iconst 1, 1) := dk_4 (dk_at dksX1_greedy_0 10 rfl rfl)
theorem dX1_greedy_11 : decode cX1_greedy 11 = .ok (.isub, 1) := dk_100 (dk_at dksX1_greedy_0 11 rfl rfl)
theorem dX1_greedy_12 : decode cX1_greedy 12 = .ok (.istore_n 1, 1) := dk_60 (dk_at dksX1_greedy_0 12 rfl rfl)
theorem dX1_greedy_13 : decode cX1_greedy 13 = .ok (.iload_n 1, 1) := dk_27 (dk_at dksX1_greedy_0 13 rfl rfl)
theorem dX1_greedy_14 : decode cX1_greedy 14 = .ok (.ifCond .lt 51, 3) := dk_155 0 51 (dk_at dksX1_greedy_0 14 rfl rfl)
theorem dX1_greedy_17 : decode cX1_greedy 17 = .ok (.iconst (-1), 1) := dk_2 (dk_at dksX1_greedy_0 17 rfl rfl)
theorem dX1_greedy_18 : decode cX1_greedy 18 = .ok (.istore_n 2, 1) := dk_61 (dk_at dksX1_greedy_0 18 rfl rfl)
theorem dX1_greedy_19 : decode cX1_greedy 19 = .ok (.iload_n 2, 1) := dk_28 (dk_at dksX1_greedy_0 19 rfl rfl)
theorem dX1_greedy_20 : decode cX1_greedy 20 = .ok (.aload_n 0, 1) := dk_42 (dk_at dksX1_greedy_0 20 rfl rfl)
theorem dX1_greedy_21 : decode cX1_greedy 21 = .ok (.getfield 102, 3) := dk_180 0 102 (dk_at dksX1_greedy_0 21 rfl rfl)
theorem dX1_greedy_24 : decode cX1_greedy 24 = .ok (.if_icmp .ge 35, 3) := dk_162 0 35 (dk_at dksX1_greedy_1 0 rfl rfl)
theorem dX1_greedy_27 : decode cX1_greedy 27 = .ok (.aload_n 0, 1) := dk_42 (dk_at dksX1_greedy_1 3 rfl rfl)
theorem dX1_greedy_28 : decode cX1_greedy 28 = .ok (.iload_n 1, 1) := dk_27 (dk_at dksX1_greedy_1 4 rfl rfl)
theorem dX1_greedy_29 : decode cX1_greedy 29 = .ok (.iload_n 2, 1) := dk_28 (dk_at dksX1_greedy_1 5 rfl rfl)
theorem dX1_greedy_30 : decode cX1_greedy 30 = .ok (.invokevirtual 357, 3) := dk_182 1 101 (dk_at dksX1_greedy_1 6 rfl rfl)
theorem dX1_greedy_33 : decode cX1_greedy 33 = .ok (.ifCond .ne 6, 3) := dk_154 0 6 (dk_at dksX1_greedy_1 9 rfl rfl)
theorem dX1_greedy_36 : decode cX1_greedy 36 = .ok (.goto 17, 3) := dk_167 0 17 (dk_at dksX1_greedy_1 12 rfl rfl)
theorem dX1_greedy_39 : decode cX1_greedy 39 = .ok (.aload_n 0, 1) := dk_42 (dk_at dksX1_greedy_1 15 rfl rfl)
theorem dX1_greedy_40 : decode cX1_greedy 40 = .ok (.iload_n 1, 1) := dk_27 (dk_at dksX1_greedy_1 16 rfl rfl)
theorem dX1_greedy_41 : decode cX1_greedy 41 = .ok (.iload_n 2, 1) := dk_28 (dk_at dksX1_greedy_1 17 rfl rfl)
theorem dX1_greedy_42 : decode cX1_greedy 42 = .ok (.iconst 0, 1) := dk_3 (dk_at dksX1_greedy_1 18 rfl rfl)
theorem dX1_greedy_43 : decode cX1_greedy 43 = .ok (.invokevirtual 414, 3) := dk_182 1 158 (dk_at dksX1_greedy_1 19 rfl rfl)
theorem dX1_greedy_46 : decode cX1_greedy 46 = .ok (.aload_n 0, 1) := dk_42 (dk_at dksX1_greedy_1 22 rfl rfl)
theorem dX1_greedy_47 : decode cX1_greedy 47 = .ok (.iload_n 1, 1) := dk_27 (dk_at dksX1_greedy_1 23 rfl rfl)
theorem dX1_greedy_48 : decode cX1_greedy 48 = .ok (.iload_n 2, 1) := dk_28 (dk_at dksX1_greedy_2 0 rfl rfl)
theorem dX1_greedy_49 : decode cX1_greedy 49 = .ok (.iconst 1, 1) := dk_4 (dk_at dksX1_greedy_2 1 rfl rfl)
theorem dX1_greedy_50 : decode cX1_greedy 50 = .ok (.invokevirtual 414, 3) := dk_182 1 158 (dk_at dksX1_greedy_2 2 rfl rfl)
theorem dX1_greedy_53 : decode cX1_greedy 53 = .ok (.iinc 2 1, 3) := dk_132 2 1 (dk_at dksX1_greedy_2 5 rfl rfl)
theorem dX1_greedy_56 : decode cX1_greedy 56 = .ok (.goto (-37), 3) := dk_167 255 219 (dk_at dksX1_greedy_2 8 rfl rfl)
theorem dX1_greedy_59 : decode cX1_greedy 59 = .ok (.iinc 1 (-1), 3) := dk_132 1 255 (dk_at dksX1_greedy_2 11 rfl rfl)
theorem dX1_greedy_62 : decode cX1_greedy 62 = .ok (.goto (-49), 3) := dk_167 255 207 (dk_at dksX1_greedy_2 14 rfl rfl)
theorem dX1_greedy_65 : decode cX1_greedy 65 = .ok (.iconst 2, 1) := dk_5 (dk_at dksX1_greedy_2 17 rfl rfl)
theorem dX1_greedy_66 : decode cX1_greedy 66 = .ok (.aload_n 0, 1) := dk_42 (dk_at dksX1_greedy_2 18 rfl rfl)
theorem dX1_greedy_67 : decode cX1_greedy 67 = .ok (.invokevirtual 306, 3) := dk_182 1 50 (dk_at dksX1_greedy_2 19 rfl rfl)
theorem dX1_greedy_70 : decode cX1_greedy 70 = .ok (.aload_n 0, 1) := dk_42 (dk_at dksX1_greedy_2 22 rfl rfl)
theorem dX1_greedy_71 : decode cX1_greedy 71 = .ok (.invokevirtual 309, 3) := dk_182 1 53 (dk_at dksX1_greedy_3 0 rfl rfl)
theorem dX1_greedy_74 : decode cX1_greedy 74 = .ok (.invokestatic 364, 3) := dk_184 1 108 (dk_at dksX1_greedy_3 3 rfl rfl)
theorem dX1_greedy_77 : decode cX1_greedy 77 = .ok (.imul, 1) := dk_104 (dk_at dksX1_greedy_3 6 rfl rfl)
theorem dX1_greedy_78 : decode cX1_greedy 78 = .ok (.istore_n 1, 1) := dk_60 (dk_at dksX1_greedy_3 7 rfl rfl)
theorem dX1_greedy_79 : decode cX1_greedy 79 = .ok (.aload_n 0, 1) := dk_42 (dk_at dksX1_greedy_3 8 rfl rfl)
theorem dX1_greedy_80 : decode cX1_greedy 80 = .ok (.iconst 0, 1) := dk_3 (dk_at dksX1_greedy_3 9 rfl rfl)
theorem dX1_greedy_81 : decode cX1_greedy 81 = .ok (.putfield 337, 3) := dk_181 1 81 (dk_at dksX1_greedy_3 10 rfl rfl)
theorem dX1_greedy_84 : decode cX1_greedy 84 = .ok (.aload_n 0, 1) := dk_42 (dk_at dksX1_greedy_3 13 rfl rfl)
theorem dX1_greedy_85 : decode cX1_greedy 85 = .ok (.aload_n 0, 1) := dk_42 (dk_at dksX1_greedy_3 14 rfl rfl)
theorem dX1_greedy_86 : decode cX1_greedy 86 = .ok (.getfield 83, 3) := dk_180 0 83 (dk_at dksX1_greedy_3 15 rfl rfl)
theorem dX1_greedy_89 : decode cX1_greedy 89 = .ok (.iload_n 1, 1) := dk_27 (dk_at dksX1_greedy_3 18 rfl rfl)
theorem dX1_greedy_90 : decode cX1_greedy 90 = .ok (.iaload, 1) := dk_46 (dk_at dksX1_greedy_3 19 rfl rfl)
theorem dX1_greedy_91 : decode cX1_greedy 91 = .ok (.invokevirtual 340, 3) := dk_182 1 84 (dk_at dksX1_greedy_3 20 rfl rfl)
theorem dX1_greedy_94 : decode cX1_greedy 94 = .ok (.aload_n 0, 1) := dk_42 (dk_at dksX1_greedy_3 23 rfl rfl)
theorem dX1_greedy_95 : decode cX1_greedy 95 = .ok (.getfield 80, 3) := dk_180 0 80 (dk_at dksX1_greedy_4 0 rfl rfl)
theorem dX1_greedy_98 : decode cX1_greedy 98 = .ok (.iload_n 1, 1) := dk_27 (dk_at dksX1_greedy_4 3 rfl rfl)
theorem dX1_greedy_99 : decode cX1_greedy 99 = .ok (.iaload, 1) := dk_46 (dk_at dksX1_greedy_4 4 rfl rfl)
theorem dX1_greedy_100 : decode cX1_greedy 100 = .ok (.ireturn, 1) := dk_172 (dk_at dksX1_greedy_4 5 rfl rfl)
abbrev cX1_playsGreedy : ByteArray := prog_1_method_90_code
def yX1_playsGreedy : MethodName := ⟨RX1, "playsGreedy", "(III)V"⟩
def dkwX1_playsGreedy_10 : List UInt8 := [180, 0, 83, 21, 4, 21, 6, 79, 177]
abbrev dktX1_playsGreedy_10 : List UInt8 := dkwX1_playsGreedy_10 ++ []
def dkwX1_playsGreedy_9 : List UInt8 := [21, 8, 46, 184, 0, 246, 54, 5, 132, 7, 1, 167, 255, 141, 42, 180, 0, 80, 21, 4, 21, 5, 79, 42]
abbrev dktX1_playsGreedy_9 : List UInt8 := dkwX1_playsGreedy_9 ++ dktX1_playsGreedy_10
def dkwX1_playsGreedy_8 : List UInt8 := [184, 0, 246, 54, 6, 167, 0, 12, 21, 5, 154, 0, 7, 21, 9, 54, 6, 21, 5, 42, 180, 0, 80]
abbrev dktX1_playsGreedy_8 : List UInt8 := dkwX1_playsGreedy_8 ++ dktX1_playsGreedy_9
def dkwX1_playsGreedy_7 : List UInt8 := [160, 0, 31, 21, 5, 4, 160, 0, 13, 21, 6, 21, 9, 184, 0, 122, 167, 0, 10, 21, 6, 21, 9]
abbrev dktX1_playsGreedy_7 : List UInt8 := dkwX1_playsGreedy_7 ++ dktX1_playsGreedy_8
def dkwX1_playsGreedy_6 : List UInt8 := [54, 8, 4, 42, 180, 0, 83, 21, 8, 46, 96, 54, 9, 42, 180, 0, 80, 21, 8, 46, 21, 5]
abbrev dktX1_playsGreedy_6 : List UInt8 := dkwX1_playsGreedy_6 ++ dktX1_playsGreedy_7
def dkwX1_playsGreedy_5 : List UInt8 := [21, 7, 182, 1, 105, 154, 0, 6, 167, 0, 92, 5, 27, 4, 21, 7, 120, 128, 21, 7, 184, 1, 108, 104]
abbrev dktX1_playsGreedy_5 : List UInt8 := dkwX1_playsGreedy_5 ++ dktX1_playsGreedy_6
def dkwX1_playsGreedy_4 : List UInt8 := [96, 79, 177, 3, 54, 5, 3, 54, 6, 3, 54, 7, 21, 7, 42, 180, 0, 102, 162, 0, 112, 42, 27, 28]
abbrev dktX1_playsGreedy_4 : List UInt8 := dkwX1_playsGreedy_4 ++ dktX1_playsGreedy_5
def dkwX1_playsGreedy_3 : List UInt8 := [79, 42, 180, 0, 83, 21, 4, 21, 5, 156, 0, 7, 3, 167, 0, 12, 4, 42, 180, 0, 83, 21, 6, 46]
abbrev dktX1_playsGreedy_3 : List UInt8 := dkwX1_playsGreedy_3 ++ dktX1_playsGreedy_4
def dkwX1_playsGreedy_2 : List UInt8 := [54, 6, 42, 180, 0, 80, 21, 4, 21, 5, 156, 0, 7, 4, 167, 0, 10, 42, 180, 0, 80, 21, 6, 46]
abbrev dktX1_playsGreedy_2 : List UInt8 := dkwX1_playsGreedy_2 ++ dktX1_playsGreedy_3
def dkwX1_playsGreedy_1 : List UInt8 := [21, 5, 156, 0, 7, 3, 167, 0, 18, 5, 27, 4, 21, 5, 120, 128, 21, 5, 184, 1, 108, 104, 4, 96]
abbrev dktX1_playsGreedy_1 : List UInt8 := dkwX1_playsGreedy_1 ++ dktX1_playsGreedy_2
def dkwX1_playsGreedy_0 : List UInt8 := [5, 27, 28, 184, 1, 108, 104, 29, 96, 54, 4, 29, 154, 0, 86, 42, 27, 28, 182, 1, 155, 54, 5]
abbrev dktX1_playsGreedy_0 : List UInt8 := dkwX1_playsGreedy_0 ++ dktX1_playsGreedy_1
theorem dksX1_playsGreedy_0 : cX1_playsGreedy.data.toList.drop 0 = dktX1_playsGreedy_0 := by decide +kernel
theorem dksX1_playsGreedy_1 : cX1_playsGreedy.data.toList.drop 23 = dktX1_playsGreedy_1 := dk_seg dksX1_playsGreedy_0 23 rfl rfl
theorem dksX1_playsGreedy_2 : cX1_playsGreedy.data.toList.drop 47 = dktX1_playsGreedy_2 := dk_seg dksX1_playsGreedy_1 24 rfl rfl
theorem dksX1_playsGreedy_3 : cX1_playsGreedy.data.toList.drop 71 = dktX1_playsGreedy_3 := dk_seg dksX1_playsGreedy_2 24 rfl rfl
theorem dksX1_playsGreedy_4 : cX1_playsGreedy.data.toList.drop 95 = dktX1_playsGreedy_4 := dk_seg dksX1_playsGreedy_3 24 rfl rfl
theorem dksX1_playsGreedy_5 : cX1_playsGreedy.data.toList.drop 119 = dktX1_playsGreedy_5 := dk_seg dksX1_playsGreedy_4 24 rfl rfl
theorem dksX1_playsGreedy_6 : cX1_playsGreedy.data.toList.drop 143 = dktX1_playsGreedy_6 := dk_seg dksX1_playsGreedy_5 24 rfl rfl
theorem dksX1_playsGreedy_7 : cX1_playsGreedy.data.toList.drop 165 = dktX1_playsGreedy_7 := dk_seg dksX1_playsGreedy_6 22 rfl rfl
theorem dksX1_playsGreedy_8 : cX1_playsGreedy.data.toList.drop 188 = dktX1_playsGreedy_8 := dk_seg dksX1_playsGreedy_7 23 rfl rfl
theorem dksX1_playsGreedy_9 : cX1_playsGreedy.data.toList.drop 211 = dktX1_playsGreedy_9 := dk_seg dksX1_playsGreedy_8 23 rfl rfl
theorem dksX1_playsGreedy_10 : cX1_playsGreedy.data.toList.drop 235 = dktX1_playsGreedy_10 := dk_seg dksX1_playsGreedy_9 24 rfl rfl
theorem dX1_playsGreedy_0 : decode cX1_playsGreedy 0 = .ok (.iconst 2, 1) := dk_5 (dk_at dksX1_playsGreedy_0 0 rfl rfl)
theorem dX1_playsGreedy_1 : decode cX1_playsGreedy 1 = .ok (.iload_n 1, 1) := dk_27 (dk_at dksX1_playsGreedy_0 1 rfl rfl)
theorem dX1_playsGreedy_2 : decode cX1_playsGreedy 2 = .ok (.iload_n 2, 1) := dk_28 (dk_at dksX1_playsGreedy_0 2 rfl rfl)
theorem dX1_playsGreedy_3 : decode cX1_playsGreedy 3 = .ok (.invokestatic 364, 3) := dk_184 1 108 (dk_at dksX1_playsGreedy_0 3 rfl rfl)
theorem dX1_playsGreedy_6 : decode cX1_playsGreedy 6 = .ok (.imul, 1) := dk_104 (dk_at dksX1_playsGreedy_0 6 rfl rfl)
theorem dX1_playsGreedy_7 : decode cX1_playsGreedy 7 = .ok (.iload_n 3, 1) := dk_29 (dk_at dksX1_playsGreedy_0 7 rfl rfl)
theorem dX1_playsGreedy_8 : decode cX1_playsGreedy 8 = .ok (.iadd, 1) := dk_96 (dk_at dksX1_playsGreedy_0 8 rfl rfl)
theorem dX1_playsGreedy_9 : decode cX1_playsGreedy 9 = .ok (.istore 4, 2) := dk_54 4 (dk_at dksX1_playsGreedy_0 9 rfl rfl)
theorem dX1_playsGreedy_11 : decode cX1_playsGreedy 11 = .ok (.iload_n 3, 1) := dk_29 (dk_at dksX1_playsGreedy_0 11 rfl rfl)
theorem dX1_playsGreedy_12 : decode cX1_playsGreedy 12 = .ok (.ifCond .ne 86, 3) := dk_154 0 86 (dk_at dksX1_playsGreedy_0 12 rfl rfl)
theorem dX1_playsGreedy_15 : decode cX1_playsGreedy 15 = .ok (.aload_n 0, 1) := dk_42 (dk_at dksX1_playsGreedy_0 15 rfl rfl)
theorem dX1_playsGreedy_16 : decode cX1_playsGreedy 16 = .ok (.iload_n 1, 1) := dk_27 (dk_at dksX1_playsGreedy_0 16 rfl rfl)
theorem dX1_playsGreedy_17 : decode cX1_playsGreedy 17 = .ok (.iload_n 2, 1) := dk_28 (dk_at dksX1_playsGreedy_0 17 rfl rfl)
theorem dX1_playsGreedy_18 : decode cX1_playsGreedy 18 = .ok (.invokevirtual 411, 3) := dk_182 1 155 (dk_at dksX1_playsGreedy_0 18 rfl rfl)
theorem dX1_playsGreedy_21 : decode cX1_playsGreedy 21 = .ok (.istore 5, 2) := dk_54 5 (dk_at dksX1_playsGreedy_0 21 rfl rfl)
theorem dX1_playsGreedy_23 : decode cX1_playsGreedy 23 = .ok (.iload 5, 2) := dk_21 5 (dk_at dksX1_playsGreedy_1 0 rfl rfl)
theorem dX1_playsGreedy_25 : decode cX1_playsGreedy 25 = .ok (.ifCond .ge 7, 3) := dk_156 0 7 (dk_at dksX1_playsGreedy_1 2 rfl rfl)
theorem dX1_playsGreedy_28 : decode cX1_playsGreedy 28 = .ok (.iconst 0, 1) := dk_3 (dk_at dksX1_playsGreedy_1 5 rfl rfl)
theorem dX1_playsGreedy_29 : decode cX1_playsGreedy 29 = .ok (.goto 18, 3) := dk_167 0 18 (dk_at dksX1_playsGreedy_1 6 rfl rfl)
theorem dX1_playsGreedy_32 : decode cX1_playsGreedy 32 = .ok (.iconst 2, 1) := dk_5 (dk_at dksX1_playsGreedy_1 9 rfl rfl)
theorem dX1_playsGreedy_33 : decode cX1_playsGreedy 33 = .ok (.iload_n 1, 1) := dk_27 (dk_at dksX1_playsGreedy_1 10 rfl rfl)
theorem dX1_playsGreedy_34 : decode cX1_playsGreedy 34 = .ok (.iconst 1, 1) := dk_4 (dk_at dksX1_playsGreedy_1 11 rfl rfl)
theorem dX1_playsGreedy_35 : decode cX1_playsGreedy 35 = .ok (.iload 5, 2) := dk_21 5 (dk_at dksX1_playsGreedy_1 12 rfl rfl)
theorem dX1_playsGreedy_37 : decode cX1_playsGreedy 37 = .ok (.ishl, 1) := dk_120 (dk_at dksX1_playsGreedy_1 14 rfl rfl)
theorem dX1_playsGreedy_38 : decode cX1_playsGreedy 38 = .ok (.ior, 1) := dk_128 (dk_at dksX1_playsGreedy_1 15 rfl rfl)
theorem dX1_playsGreedy_39 : decode cX1_playsGreedy 39 = .ok (.iload 5, 2) := dk_21 5 (dk_at dksX1_playsGreedy_1 16 rfl rfl)
theorem dX1_playsGreedy_41 : decode cX1_playsGreedy 41 = .ok (.invokestatic 364, 3) := dk_184 1 108 (dk_at dksX1_playsGreedy_1 18 rfl rfl)
theorem dX1_playsGreedy_44 : decode cX1_playsGreedy 44 = .ok (.imul, 1) := dk_104 (dk_at dksX1_playsGreedy_1 21 rfl rfl)
theorem dX1_playsGreedy_45 : decode cX1_playsGreedy 45 = .ok (.iconst 1, 1) := dk_4 (dk_at dksX1_playsGreedy_1 22 rfl rfl)
theorem dX1_playsGreedy_46 : decode cX1_playsGreedy 46 = .ok (.iadd, 1) := dk_96 (dk_at dksX1_playsGreedy_1 23 rfl rfl)
theorem dX1_playsGreedy_47 : decode cX1_playsGreedy 47 = .ok (.istore 6, 2) := dk_54 6 (dk_at dksX1_playsGreedy_2 0 rfl rfl)
theorem dX1_playsGreedy_49 : decode cX1_playsGreedy 49 = .ok (.aload_n 0, 1) := dk_42 (dk_at dksX1_playsGreedy_2 2 rfl rfl)
theorem dX1_playsGreedy_50 : decode cX1_playsGreedy 50 = .ok (.getfield 80, 3) := dk_180 0 80 (dk_at dksX1_playsGreedy_2 3 rfl rfl)
theorem dX1_playsGreedy_53 : decode cX1_playsGreedy 53 = .ok (.iload 4, 2) := dk_21 4 (dk_at dksX1_playsGreedy_2 6 rfl rfl)
theorem dX1_playsGreedy_55 : decode cX1_playsGreedy 55 = .ok (.iload 5, 2) := dk_21 5 (dk_at dksX1_playsGreedy_2 8 rfl rfl)
theorem dX1_playsGreedy_57 : decode cX1_playsGreedy 57 = .ok (.ifCond .ge 7, 3) := dk_156 0 7 (dk_at dksX1_playsGreedy_2 10 rfl rfl)
theorem dX1_playsGreedy_60 : decode cX1_playsGreedy 60 = .ok (.iconst 1, 1) := dk_4 (dk_at dksX1_playsGreedy_2 13 rfl rfl)
theorem dX1_playsGreedy_61 : decode cX1_playsGreedy 61 = .ok (.goto 10, 3) := dk_167 0 10 (dk_at dksX1_playsGreedy_2 14 rfl rfl)
theorem dX1_playsGreedy_64 : decode cX1_playsGreedy 64 = .ok (.aload_n 0, 1) := dk_42 (dk_at dksX1_playsGreedy_2 17 rfl rfl)
theorem dX1_playsGreedy_65 : decode cX1_playsGreedy 65 = .ok (.getfield 80, 3) := dk_180 0 80 (dk_at dksX1_playsGreedy_2 18 rfl rfl)
theorem dX1_playsGreedy_68 : decode cX1_playsGreedy 68 = .ok (.iload 6, 2) := dk_21 6 (dk_at dksX1_playsGreedy_2 21 rfl rfl)
theorem dX1_playsGreedy_70 : decode cX1_playsGreedy 70 = .ok (.iaload, 1) := dk_46 (dk_at dksX1_playsGreedy_2 23 rfl rfl)
theorem dX1_playsGreedy_71 : decode cX1_playsGreedy 71 = .ok (.iastore, 1) := dk_79 (dk_at dksX1_playsGreedy_3 0 rfl rfl)
theorem dX1_playsGreedy_72 : decode cX1_playsGreedy 72 = .ok (.aload_n 0, 1) := dk_42 (dk_at dksX1_playsGreedy_3 1 rfl rfl)
theorem dX1_playsGreedy_73 : decode cX1_playsGreedy 73 = .ok (.getfield 83, 3) := dk_180 0 83 (dk_at dksX1_playsGreedy_3 2 rfl rfl)
theorem dX1_playsGreedy_76 : decode cX1_playsGreedy 76 = .ok (.iload 4, 2) := dk_21 4 (dk_at dksX1_playsGreedy_3 5 rfl rfl)
theorem dX1_playsGreedy_78 : decode cX1_playsGreedy 78 = .ok (.iload 5, 2) := dk_21 5 (dk_at dksX1_playsGreedy_3 7 rfl rfl)
theorem dX1_playsGreedy_80 : decode cX1_playsGreedy 80 = .ok (.ifCond .ge 7, 3) := dk_156 0 7 (dk_at dksX1_playsGreedy_3 9 rfl rfl)
theorem dX1_playsGreedy_83 : decode cX1_playsGreedy 83 = .ok (.iconst 0, 1) := dk_3 (dk_at dksX1_playsGreedy_3 12 rfl rfl)
theorem dX1_playsGreedy_84 : decode cX1_playsGreedy 84 = .ok (.goto 12, 3) := dk_167 0 12 (dk_at dksX1_playsGreedy_3 13 rfl rfl)
theorem dX1_playsGreedy_87 : decode cX1_playsGreedy 87 = .ok (.iconst 1, 1) := dk_4 (dk_at dksX1_playsGreedy_3 16 rfl rfl)
theorem dX1_playsGreedy_88 : decode cX1_playsGreedy 88 = .ok (.aload_n 0, 1) := dk_42 (dk_at dksX1_playsGreedy_3 17 rfl rfl)
theorem dX1_playsGreedy_89 : decode cX1_playsGreedy 89 = .ok (.getfield 83, 3) := dk_180 0 83 (dk_at dksX1_playsGreedy_3 18 rfl rfl)
theorem dX1_playsGreedy_92 : decode cX1_playsGreedy 92 = .ok (.iload 6, 2) := dk_21 6 (dk_at dksX1_playsGreedy_3 21 rfl rfl)
theorem dX1_playsGreedy_94 : decode cX1_playsGreedy 94 = .ok (.iaload, 1) := dk_46 (dk_at dksX1_playsGreedy_3 23 rfl rfl)
theorem dX1_playsGreedy_95 : decode cX1_playsGreedy 95 = .ok (.iadd, 1) := dk_96 (dk_at dksX1_playsGreedy_4 0 rfl rfl)
theorem dX1_playsGreedy_96 : decode cX1_playsGreedy 96 = .ok (.iastore, 1) := dk_79 (dk_at dksX1_playsGreedy_4 1 rfl rfl)
theorem dX1_playsGreedy_97 : decode cX1_playsGreedy 97 = .ok (.return_, 1) := dk_177 (dk_at dksX1_playsGreedy_4 2 rfl rfl)
theorem dX1_playsGreedy_98 : decode cX1_playsGreedy 98 = .ok (.iconst 0, 1) := dk_3 (dk_at dksX1_playsGreedy_4 3 rfl rfl)
theorem dX1_playsGreedy_99 : decode cX1_playsGreedy 99 = .ok (.istore 5, 2) := dk_54 5 (dk_at dksX1_playsGreedy_4 4 rfl rfl)
theorem dX1_playsGreedy_101 : decode cX1_playsGreedy 101 = .ok (.iconst 0, 1) := dk_3 (dk_at dksX1_playsGreedy_4 6 rfl rfl)
theorem dX1_playsGreedy_102 : decode cX1_playsGreedy 102 = .ok (.istore 6, 2) := dk_54 6 (dk_at dksX1_playsGreedy_4 7 rfl rfl)
theorem dX1_playsGreedy_104 : decode cX1_playsGreedy 104 = .ok (.iconst 0, 1) := dk_3 (dk_at dksX1_playsGreedy_4 9 rfl rfl)
theorem dX1_playsGreedy_105 : decode cX1_playsGreedy 105 = .ok (.istore 7, 2) := dk_54 7 (dk_at dksX1_playsGreedy_4 10 rfl rfl)
theorem dX1_playsGreedy_107 : decode cX1_playsGreedy 107 = .ok (.iload 7, 2) := dk_21 7 (dk_at dksX1_playsGreedy_4 12 rfl rfl)
theorem dX1_playsGreedy_109 : decode cX1_playsGreedy 109 = .ok (.aload_n 0, 1) := dk_42 (dk_at dksX1_playsGreedy_4 14 rfl rfl)
theorem dX1_playsGreedy_110 : decode cX1_playsGreedy 110 = .ok (.getfield 102, 3) := dk_180 0 102 (dk_at dksX1_playsGreedy_4 15 rfl rfl)
theorem dX1_playsGreedy_113 : decode cX1_playsGreedy 113 = .ok (.if_icmp .ge 112, 3) := dk_162 0 112 (dk_at dksX1_playsGreedy_4 18 rfl rfl)
theorem dX1_playsGreedy_116 : decode cX1_playsGreedy 116 = .ok (.aload_n 0, 1) := dk_42 (dk_at dksX1_playsGreedy_4 21 rfl rfl)
theorem dX1_playsGreedy_117 : decode cX1_playsGreedy 117 = .ok (.iload_n 1, 1) := dk_27 (dk_at dksX1_playsGreedy_4 22 rfl rfl)
theorem dX1_playsGreedy_118 : decode cX1_playsGreedy 118 = .ok (.iload_n 2, 1) := dk_28 (dk_at dksX1_playsGreedy_4 23 rfl rfl)
theorem dX1_playsGreedy_119 : decode cX1_playsGreedy 119 = .ok (.iload 7, 2) := dk_21 7 (dk_at dksX1_playsGreedy_5 0 rfl rfl)
theorem dX1_playsGreedy_121 : decode cX1_playsGreedy 121 = .ok (.invokevirtual 361, 3) := dk_182 1 105 (dk_at dksX1_playsGreedy_5 2 rfl rfl)
theorem dX1_playsGreedy_124 : decode cX1_playsGreedy 124 = .ok (.ifCond .ne 6, 3) := dk_154 0 6 (dk_at dksX1_playsGreedy_5 5 rfl rfl)
theorem dX1_playsGreedy_127 : decode cX1_playsGreedy 127 = .ok (.goto 92, 3) := dk_167 0 92 (dk_at dksX1_playsGreedy_5 8 rfl rfl)
theorem dX1_playsGreedy_130 : decode cX1_playsGreedy 130 = .ok (.iconst 2, 1) := dk_5 (dk_at dksX1_playsGreedy_5 11 rfl rfl)
theorem dX1_playsGreedy_131 : decode cX1_playsGreedy 131 = .ok (.iload_n 1, 1) := dk_27 (dk_at dksX1_playsGreedy_5 12 rfl rfl)
theorem dX1_playsGreedy_132 : decode cX1_playsGreedy 132 = .ok (.iconst 1, 1) := dk_4 (dk_at dksX1_playsGreedy_5 13 rfl rfl)
theorem dX1_playsGreedy_133 : decode cX1_playsGreedy 133 = .ok (.iload 7, 2) := dk_21 7 (dk_at dksX1_playsGreedy_5 14 rfl rfl)
theorem dX1_playsGreedy_135 : decode cX1_playsGreedy 135 = .ok (.ishl, 1) := dk_120 (dk_at dksX1_playsGreedy_5 16 rfl rfl)
theorem dX1_playsGreedy_136 : decode cX1_playsGreedy 136 = .ok (.ior, 1) := dk_128 (dk_at dksX1_playsGreedy_5 17 rfl rfl)
theorem dX1_playsGreedy_137 : decode cX1_playsGreedy 137 = .ok (.iload 7, 2) := dk_21 7 (dk_at dksX1_playsGreedy_5 18 rfl rfl)
theorem dX1_playsGreedy_139 : decode cX1_playsGreedy 139 = .ok (.invokestatic 364, 3) := dk_184 1 108 (dk_at dksX1_playsGreedy_5 20 rfl rfl)
theorem dX1_playsGreedy_142 : decode cX1_playsGreedy 142 = .ok (.imul, 1) := dk_104 (dk_at dksX1_playsGreedy_5 23 rfl rfl)
theorem dX1_playsGreedy_143 : decode cX1_playsGreedy 143 = .ok (.istore 8, 2) := dk_54 8 (dk_at dksX1_playsGreedy_6 0 rfl rfl)
theorem dX1_playsGreedy_145 : decode cX1_playsGreedy 145 = .ok (.iconst 1, 1) := dk_4 (dk_at dksX1_playsGreedy_6 2 rfl rfl)
theorem dX1_playsGreedy_146 : decode cX1_playsGreedy 146 = .ok (.aload_n 0, 1) := dk_42 (dk_at dksX1_playsGreedy_6 3 rfl rfl)
theorem dX1_playsGreedy_147 : decode cX1_playsGreedy 147 = .ok (.getfield 83, 3) := dk_180 0 83 (dk_at dksX1_playsGreedy_6 4 rfl rfl)
theorem dX1_playsGreedy_150 : decode cX1_playsGreedy 150 = .ok (.iload 8, 2) := dk_21 8 (dk_at dksX1_playsGreedy_6 7 rfl rfl)
theorem dX1_playsGreedy_152 : decode cX1_playsGreedy 152 = .ok (.iaload, 1) := dk_46 (dk_at dksX1_playsGreedy_6 9 rfl rfl)
theorem dX1_playsGreedy_153 : decode cX1_playsGreedy 153 = .ok (.iadd, 1) := dk_96 (dk_at dksX1_playsGreedy_6 10 rfl rfl)
theorem dX1_playsGreedy_154 : decode cX1_playsGreedy 154 = .ok (.istore 9, 2) := dk_54 9 (dk_at dksX1_playsGreedy_6 11 rfl rfl)
theorem dX1_playsGreedy_156 : decode cX1_playsGreedy 156 = .ok (.aload_n 0, 1) := dk_42 (dk_at dksX1_playsGreedy_6 13 rfl rfl)
theorem dX1_playsGreedy_157 : decode cX1_playsGreedy 157 = .ok (.getfield 80, 3) := dk_180 0 80 (dk_at dksX1_playsGreedy_6 14 rfl rfl)
theorem dX1_playsGreedy_160 : decode cX1_playsGreedy 160 = .ok (.iload 8, 2) := dk_21 8 (dk_at dksX1_playsGreedy_6 17 rfl rfl)
theorem dX1_playsGreedy_162 : decode cX1_playsGreedy 162 = .ok (.iaload, 1) := dk_46 (dk_at dksX1_playsGreedy_6 19 rfl rfl)
theorem dX1_playsGreedy_163 : decode cX1_playsGreedy 163 = .ok (.iload 5, 2) := dk_21 5 (dk_at dksX1_playsGreedy_6 20 rfl rfl)
theorem dX1_playsGreedy_165 : decode cX1_playsGreedy 165 = .ok (.if_icmp .ne 31, 3) := dk_160 0 31 (dk_at dksX1_playsGreedy_7 0 rfl rfl)
theorem dX1_playsGreedy_168 : decode cX1_playsGreedy 168 = .ok (.iload 5, 2) := dk_21 5 (dk_at dksX1_playsGreedy_7 3 rfl rfl)
theorem dX1_playsGreedy_170 : decode cX1_playsGreedy 170 = .ok (.iconst 1, 1) := dk_4 (dk_at dksX1_playsGreedy_7 5 rfl rfl)
theorem dX1_playsGreedy_171 : decode cX1_playsGreedy 171 = .ok (.if_icmp .ne 13, 3) := dk_160 0 13 (dk_at dksX1_playsGreedy_7 6 rfl rfl)
theorem dX1_playsGreedy_174 : decode cX1_playsGreedy 174 = .ok (.iload 6, 2) := dk_21 6 (dk_at dksX1_playsGreedy_7 9 rfl rfl)
theorem dX1_playsGreedy_176 : decode cX1_playsGreedy 176 = .ok (.iload 9, 2) := dk_21 9 (dk_at dksX1_playsGreedy_7 11 rfl rfl)
theorem dX1_playsGreedy_178 : decode cX1_playsGreedy 178 = .ok (.invokestatic 122, 3) := dk_184 0 122 (dk_at dksX1_playsGreedy_7 13 rfl rfl)
theorem dX1_playsGreedy_181 : decode cX1_playsGreedy 181 = .ok (.goto 10, 3) := dk_167 0 10 (dk_at dksX1_playsGreedy_7 16 rfl rfl)
theorem dX1_playsGreedy_184 : decode cX1_playsGreedy 184 = .ok (.iload 6, 2) := dk_21 6 (dk_at dksX1_playsGreedy_7 19 rfl rfl)
theorem dX1_playsGreedy_186 : decode cX1_playsGreedy 186 = .ok (.iload 9, 2) := dk_21 9 (dk_at dksX1_playsGreedy_7 21 rfl rfl)
theorem dX1_playsGreedy_188 : decode cX1_playsGreedy 188 = .ok (.invokestatic 246, 3) := dk_184 0 246 (dk_at dksX1_playsGreedy_8 0 rfl rfl)
theorem dX1_playsGreedy_191 : decode cX1_playsGreedy 191 = .ok (.istore 6, 2) := dk_54 6 (dk_at dksX1_playsGreedy_8 3 rfl rfl)
theorem dX1_playsGreedy_193 : decode cX1_playsGreedy 193 = .ok (.goto 12, 3) := dk_167 0 12 (dk_at dksX1_playsGreedy_8 5 rfl rfl)
theorem dX1_playsGreedy_196 : decode cX1_playsGreedy 196 = .ok (.iload 5, 2) := dk_21 5 (dk_at dksX1_playsGreedy_8 8 rfl rfl)
theorem dX1_playsGreedy_198 : decode cX1_playsGreedy 198 = .ok (.ifCond .ne 7, 3) := dk_154 0 7 (dk_at dksX1_playsGreedy_8 10 rfl rfl)
theorem dX1_playsGreedy_201 : decode cX1_playsGreedy 201 = .ok (.iload 9, 2) := dk_21 9 (dk_at dksX1_playsGreedy_8 13 rfl rfl)
theorem dX1_playsGreedy_203 : decode cX1_playsGreedy 203 = .ok (.istore 6, 2) := dk_54 6 (dk_at dksX1_playsGreedy_8 15 rfl rfl)
theorem dX1_playsGreedy_205 : decode cX1_playsGreedy 205 = .ok (.iload 5, 2) := dk_21 5 (dk_at dksX1_playsGreedy_8 17 rfl rfl)
theorem dX1_playsGreedy_207 : decode cX1_playsGreedy 207 = .ok (.aload_n 0, 1) := dk_42 (dk_at dksX1_playsGreedy_8 19 rfl rfl)
theorem dX1_playsGreedy_208 : decode cX1_playsGreedy 208 = .ok (.getfield 80, 3) := dk_180 0 80 (dk_at dksX1_playsGreedy_8 20 rfl rfl)
theorem dX1_playsGreedy_211 : decode cX1_playsGreedy 211 = .ok (.iload 8, 2) := dk_21 8 (dk_at dksX1_playsGreedy_9 0 rfl rfl)
theorem dX1_playsGreedy_213 : decode cX1_playsGreedy 213 = .ok (.iaload, 1) := dk_46 (dk_at dksX1_playsGreedy_9 2 rfl rfl)
theorem dX1_playsGreedy_214 : decode cX1_playsGreedy 214 = .ok (.invokestatic 246, 3) := dk_184 0 246 (dk_at dksX1_playsGreedy_9 3 rfl rfl)
theorem dX1_playsGreedy_217 : decode cX1_playsGreedy 217 = .ok (.istore 5, 2) := dk_54 5 (dk_at dksX1_playsGreedy_9 6 rfl rfl)
theorem dX1_playsGreedy_219 : decode cX1_playsGreedy 219 = .ok (.iinc 7 1, 3) := dk_132 7 1 (dk_at dksX1_playsGreedy_9 8 rfl rfl)
theorem dX1_playsGreedy_222 : decode cX1_playsGreedy 222 = .ok (.goto (-115), 3) := dk_167 255 141 (dk_at dksX1_playsGreedy_9 11 rfl rfl)
theorem dX1_playsGreedy_225 : decode cX1_playsGreedy 225 = .ok (.aload_n 0, 1) := dk_42 (dk_at dksX1_playsGreedy_9 14 rfl rfl)
theorem dX1_playsGreedy_226 : decode cX1_playsGreedy 226 = .ok (.getfield 80, 3) := dk_180 0 80 (dk_at dksX1_playsGreedy_9 15 rfl rfl)
theorem dX1_playsGreedy_229 : decode cX1_playsGreedy 229 = .ok (.iload 4, 2) := dk_21 4 (dk_at dksX1_playsGreedy_9 18 rfl rfl)
theorem dX1_playsGreedy_231 : decode cX1_playsGreedy 231 = .ok (.iload 5, 2) := dk_21 5 (dk_at dksX1_playsGreedy_9 20 rfl rfl)
theorem dX1_playsGreedy_233 : decode cX1_playsGreedy 233 = .ok (.iastore, 1) := dk_79 (dk_at dksX1_playsGreedy_9 22 rfl rfl)
theorem dX1_playsGreedy_234 : decode cX1_playsGreedy 234 = .ok (.aload_n 0, 1) := dk_42 (dk_at dksX1_playsGreedy_9 23 rfl rfl)
theorem dX1_playsGreedy_235 : decode cX1_playsGreedy 235 = .ok (.getfield 83, 3) := dk_180 0 83 (dk_at dksX1_playsGreedy_10 0 rfl rfl)
theorem dX1_playsGreedy_238 : decode cX1_playsGreedy 238 = .ok (.iload 4, 2) := dk_21 4 (dk_at dksX1_playsGreedy_10 3 rfl rfl)
theorem dX1_playsGreedy_240 : decode cX1_playsGreedy 240 = .ok (.iload 6, 2) := dk_21 6 (dk_at dksX1_playsGreedy_10 5 rfl rfl)
theorem dX1_playsGreedy_242 : decode cX1_playsGreedy 242 = .ok (.iastore, 1) := dk_79 (dk_at dksX1_playsGreedy_10 7 rfl rfl)
theorem dX1_playsGreedy_243 : decode cX1_playsGreedy 243 = .ok (.return_, 1) := dk_177 (dk_at dksX1_playsGreedy_10 8 rfl rfl)
abbrev cX1_gladdest : ByteArray := prog_1_method_89_code
def yX1_gladdest : MethodName := ⟨RX1, "gladdest", "(II)I"⟩
def dkwX1_gladdest_2 : List UInt8 := [167, 0, 4, 29, 62, 132, 4, 1, 167, 255, 208, 29, 172]
abbrev dktX1_gladdest_2 : List UInt8 := dkwX1_gladdest_2 ++ []
def dkwX1_gladdest_1 : List UInt8 := [153, 0, 26, 29, 155, 0, 17, 42, 21, 4, 182, 1, 7, 42, 29, 182, 1, 7, 164, 0, 8, 21, 4]
abbrev dktX1_gladdest_1 : List UInt8 := dkwX1_gladdest_1 ++ dktX1_gladdest_2
def dkwX1_gladdest_0 : List UInt8 := [2, 62, 3, 54, 4, 21, 4, 42, 180, 0, 102, 162, 0, 45, 42, 27, 28, 21, 4, 182, 1, 105]
abbrev dktX1_gladdest_0 : List UInt8 := dkwX1_gladdest_0 ++ dktX1_gladdest_1
theorem dksX1_gladdest_0 : cX1_gladdest.data.toList.drop 0 = dktX1_gladdest_0 := by decide +kernel
theorem dksX1_gladdest_1 : cX1_gladdest.data.toList.drop 22 = dktX1_gladdest_1 := dk_seg dksX1_gladdest_0 22 rfl rfl
theorem dksX1_gladdest_2 : cX1_gladdest.data.toList.drop 45 = dktX1_gladdest_2 := dk_seg dksX1_gladdest_1 23 rfl rfl
theorem dX1_gladdest_0 : decode cX1_gladdest 0 = .ok (.iconst (-1), 1) := dk_2 (dk_at dksX1_gladdest_0 0 rfl rfl)
theorem dX1_gladdest_1 : decode cX1_gladdest 1 = .ok (.istore_n 3, 1) := dk_62 (dk_at dksX1_gladdest_0 1 rfl rfl)
theorem dX1_gladdest_2 : decode cX1_gladdest 2 = .ok (.iconst 0, 1) := dk_3 (dk_at dksX1_gladdest_0 2 rfl rfl)
theorem dX1_gladdest_3 : decode cX1_gladdest 3 = .ok (.istore 4, 2) := dk_54 4 (dk_at dksX1_gladdest_0 3 rfl rfl)
theorem dX1_gladdest_5 : decode cX1_gladdest 5 = .ok (.iload 4, 2) := dk_21 4 (dk_at dksX1_gladdest_0 5 rfl rfl)
theorem dX1_gladdest_7 : decode cX1_gladdest 7 = .ok (.aload_n 0, 1) := dk_42 (dk_at dksX1_gladdest_0 7 rfl rfl)
theorem dX1_gladdest_8 : decode cX1_gladdest 8 = .ok (.getfield 102, 3) := dk_180 0 102 (dk_at dksX1_gladdest_0 8 rfl rfl)
theorem dX1_gladdest_11 : decode cX1_gladdest 11 = .ok (.if_icmp .ge 45, 3) := dk_162 0 45 (dk_at dksX1_gladdest_0 11 rfl rfl)
theorem dX1_gladdest_14 : decode cX1_gladdest 14 = .ok (.aload_n 0, 1) := dk_42 (dk_at dksX1_gladdest_0 14 rfl rfl)
theorem dX1_gladdest_15 : decode cX1_gladdest 15 = .ok (.iload_n 1, 1) := dk_27 (dk_at dksX1_gladdest_0 15 rfl rfl)
theorem dX1_gladdest_16 : decode cX1_gladdest 16 = .ok (.iload_n 2, 1) := dk_28 (dk_at dksX1_gladdest_0 16 rfl rfl)
theorem dX1_gladdest_17 : decode cX1_gladdest 17 = .ok (.iload 4, 2) := dk_21 4 (dk_at dksX1_gladdest_0 17 rfl rfl)
theorem dX1_gladdest_19 : decode cX1_gladdest 19 = .ok (.invokevirtual 361, 3) := dk_182 1 105 (dk_at dksX1_gladdest_0 19 rfl rfl)
theorem dX1_gladdest_22 : decode cX1_gladdest 22 = .ok (.ifCond .eq 26, 3) := dk_153 0 26 (dk_at dksX1_gladdest_1 0 rfl rfl)
theorem dX1_gladdest_25 : decode cX1_gladdest 25 = .ok (.iload_n 3, 1) := dk_29 (dk_at dksX1_gladdest_1 3 rfl rfl)
theorem dX1_gladdest_26 : decode cX1_gladdest 26 = .ok (.ifCond .lt 17, 3) := dk_155 0 17 (dk_at dksX1_gladdest_1 4 rfl rfl)
theorem dX1_gladdest_29 : decode cX1_gladdest 29 = .ok (.aload_n 0, 1) := dk_42 (dk_at dksX1_gladdest_1 7 rfl rfl)
theorem dX1_gladdest_30 : decode cX1_gladdest 30 = .ok (.iload 4, 2) := dk_21 4 (dk_at dksX1_gladdest_1 8 rfl rfl)
theorem dX1_gladdest_32 : decode cX1_gladdest 32 = .ok (.invokevirtual 263, 3) := dk_182 1 7 (dk_at dksX1_gladdest_1 10 rfl rfl)
theorem dX1_gladdest_35 : decode cX1_gladdest 35 = .ok (.aload_n 0, 1) := dk_42 (dk_at dksX1_gladdest_1 13 rfl rfl)
theorem dX1_gladdest_36 : decode cX1_gladdest 36 = .ok (.iload_n 3, 1) := dk_29 (dk_at dksX1_gladdest_1 14 rfl rfl)
theorem dX1_gladdest_37 : decode cX1_gladdest 37 = .ok (.invokevirtual 263, 3) := dk_182 1 7 (dk_at dksX1_gladdest_1 15 rfl rfl)
theorem dX1_gladdest_40 : decode cX1_gladdest 40 = .ok (.if_icmp .le 8, 3) := dk_164 0 8 (dk_at dksX1_gladdest_1 18 rfl rfl)
theorem dX1_gladdest_43 : decode cX1_gladdest 43 = .ok (.iload 4, 2) := dk_21 4 (dk_at dksX1_gladdest_1 21 rfl rfl)
theorem dX1_gladdest_45 : decode cX1_gladdest 45 = .ok (.goto 4, 3) := dk_167 0 4 (dk_at dksX1_gladdest_2 0 rfl rfl)
theorem dX1_gladdest_48 : decode cX1_gladdest 48 = .ok (.iload_n 3, 1) := dk_29 (dk_at dksX1_gladdest_2 3 rfl rfl)
theorem dX1_gladdest_49 : decode cX1_gladdest 49 = .ok (.istore_n 3, 1) := dk_62 (dk_at dksX1_gladdest_2 4 rfl rfl)
theorem dX1_gladdest_50 : decode cX1_gladdest 50 = .ok (.iinc 4 1, 3) := dk_132 4 1 (dk_at dksX1_gladdest_2 5 rfl rfl)
theorem dX1_gladdest_53 : decode cX1_gladdest 53 = .ok (.goto (-48), 3) := dk_167 255 208 (dk_at dksX1_gladdest_2 8 rfl rfl)
theorem dX1_gladdest_56 : decode cX1_gladdest 56 = .ok (.iload_n 3, 1) := dk_29 (dk_at dksX1_gladdest_2 11 rfl rfl)
theorem dX1_gladdest_57 : decode cX1_gladdest 57 = .ok (.ireturn, 1) := dk_172 (dk_at dksX1_gladdest_2 12 rfl rfl)
abbrev cX1_joyOfAll : ByteArray := prog_1_method_25_code
def yX1_joyOfAll : MethodName := ⟨RX1, "joyOfAll", "(I)I"⟩
def dkwX1_joyOfAll_1 : List UInt8 := [167, 255, 236, 28, 172]
abbrev dktX1_joyOfAll_1 : List UInt8 := dkwX1_joyOfAll_1 ++ []
def dkwX1_joyOfAll_0 : List UInt8 := [3, 61, 3, 62, 29, 42, 180, 0, 110, 162, 0, 18, 28, 42, 29, 27, 182, 0, 249, 96, 61, 132, 3, 1]
abbrev dktX1_joyOfAll_0 : List UInt8 := dkwX1_joyOfAll_0 ++ dktX1_joyOfAll_1
theorem dksX1_joyOfAll_0 : cX1_joyOfAll.data.toList.drop 0 = dktX1_joyOfAll_0 := by decide +kernel
theorem dksX1_joyOfAll_1 : cX1_joyOfAll.data.toList.drop 24 = dktX1_joyOfAll_1 := dk_seg dksX1_joyOfAll_0 24 rfl rfl
theorem dX1_joyOfAll_0 : decode cX1_joyOfAll 0 = .ok (.iconst 0, 1) := dk_3 (dk_at dksX1_joyOfAll_0 0 rfl rfl)
theorem dX1_joyOfAll_1 : decode cX1_joyOfAll 1 = .ok (.istore_n 2, 1) := dk_61 (dk_at dksX1_joyOfAll_0 1 rfl rfl)
theorem dX1_joyOfAll_2 : decode cX1_joyOfAll 2 = .ok (.iconst 0, 1) := dk_3 (dk_at dksX1_joyOfAll_0 2 rfl rfl)
theorem dX1_joyOfAll_3 : decode cX1_joyOfAll 3 = .ok (.istore_n 3, 1) := dk_62 (dk_at dksX1_joyOfAll_0 3 rfl rfl)
theorem dX1_joyOfAll_4 : decode cX1_joyOfAll 4 = .ok (.iload_n 3, 1) := dk_29 (dk_at dksX1_joyOfAll_0 4 rfl rfl)
theorem dX1_joyOfAll_5 : decode cX1_joyOfAll 5 = .ok (.aload_n 0, 1) := dk_42 (dk_at dksX1_joyOfAll_0 5 rfl rfl)
theorem dX1_joyOfAll_6 : decode cX1_joyOfAll 6 = .ok (.getfield 110, 3) := dk_180 0 110 (dk_at dksX1_joyOfAll_0 6 rfl rfl)
theorem dX1_joyOfAll_9 : decode cX1_joyOfAll 9 = .ok (.if_icmp .ge 18, 3) := dk_162 0 18 (dk_at dksX1_joyOfAll_0 9 rfl rfl)
theorem dX1_joyOfAll_12 : decode cX1_joyOfAll 12 = .ok (.iload_n 2, 1) := dk_28 (dk_at dksX1_joyOfAll_0 12 rfl rfl)
theorem dX1_joyOfAll_13 : decode cX1_joyOfAll 13 = .ok (.aload_n 0, 1) := dk_42 (dk_at dksX1_joyOfAll_0 13 rfl rfl)
theorem dX1_joyOfAll_14 : decode cX1_joyOfAll 14 = .ok (.iload_n 3, 1) := dk_29 (dk_at dksX1_joyOfAll_0 14 rfl rfl)
theorem dX1_joyOfAll_15 : decode cX1_joyOfAll 15 = .ok (.iload_n 1, 1) := dk_27 (dk_at dksX1_joyOfAll_0 15 rfl rfl)
theorem dX1_joyOfAll_16 : decode cX1_joyOfAll 16 = .ok (.invokevirtual 249, 3) := dk_182 0 249 (dk_at dksX1_joyOfAll_0 16 rfl rfl)
theorem dX1_joyOfAll_19 : decode cX1_joyOfAll 19 = .ok (.iadd, 1) := dk_96 (dk_at dksX1_joyOfAll_0 19 rfl rfl)
theorem dX1_joyOfAll_20 : decode cX1_joyOfAll 20 = .ok (.istore_n 2, 1) := dk_61 (dk_at dksX1_joyOfAll_0 20 rfl rfl)
theorem dX1_joyOfAll_21 : decode cX1_joyOfAll 21 = .ok (.iinc 3 1, 3) := dk_132 3 1 (dk_at dksX1_joyOfAll_0 21 rfl rfl)
theorem dX1_joyOfAll_24 : decode cX1_joyOfAll 24 = .ok (.goto (-20), 3) := dk_167 255 236 (dk_at dksX1_joyOfAll_1 0 rfl rfl)
theorem dX1_joyOfAll_27 : decode cX1_joyOfAll 27 = .ok (.iload_n 2, 1) := dk_28 (dk_at dksX1_joyOfAll_1 3 rfl rfl)
theorem dX1_joyOfAll_28 : decode cX1_joyOfAll 28 = .ok (.ireturn, 1) := dk_172 (dk_at dksX1_joyOfAll_1 4 rfl rfl)
abbrev cX1_mend : ByteArray := prog_1_method_92_code
def yX1_mend : MethodName := ⟨RX1, "mend", "(II)I"⟩
def dkwX1_mend_15 : List UInt8 := [132, 7, 1, 167, 255, 182, 21, 4, 172]
abbrev dktX1_mend_15 : List UInt8 := dkwX1_mend_15 ++ []
def dkwX1_mend_14 : List UInt8 := [167, 255, 216, 42, 21, 8, 182, 1, 84, 21, 5, 4, 21, 8, 120, 128, 54, 5, 21, 8, 54, 6]
abbrev dktX1_mend_14 : List UInt8 := dkwX1_mend_14 ++ dktX1_mend_15
def dkwX1_mend_13 : List UInt8 := [21, 8, 182, 1, 161, 42, 180, 0, 67, 21, 5, 21, 6, 184, 1, 108, 46, 159, 0, 9, 132, 8, 1]
abbrev dktX1_mend_13 : List UInt8 := dkwX1_mend_13 ++ dktX1_mend_14
def dkwX1_mend_12 : List UInt8 := [162, 0, 74, 3, 54, 8, 42, 21, 5, 21, 6, 21, 8, 182, 1, 105, 153, 0, 27, 42, 27, 21, 5]
abbrev dktX1_mend_12 : List UInt8 := dkwX1_mend_12 ++ dktX1_mend_13
def dkwX1_mend_11 : List UInt8 := [161, 0, 6, 16, 254, 172, 42, 3, 181, 1, 81, 3, 54, 5, 2, 54, 6, 3, 54, 7, 21, 7, 29]
abbrev dktX1_mend_11 : List UInt8 := dkwX1_mend_11 ++ dktX1_mend_12
def dkwX1_mend_10 : List UInt8 := [132, 4, 255, 167, 255, 121, 42, 180, 0, 67, 3, 2, 184, 1, 108, 46, 54, 4, 21, 4, 19, 1, 125]
abbrev dktX1_mend_10 : List UInt8 := dkwX1_mend_10 ++ dktX1_mend_11
def dkwX1_mend_9 : List UInt8 := [167, 255, 209, 42, 180, 0, 67, 21, 4, 21, 6, 184, 1, 108, 21, 7, 79, 132, 6, 1, 167, 255, 142]
abbrev dktX1_mend_9 : List UInt8 := dkwX1_mend_9 ++ dktX1_mend_10
def dkwX1_mend_8 : List UInt8 := [153, 0, 19, 21, 7, 42, 27, 21, 4, 21, 8, 182, 1, 161, 184, 0, 122, 54, 7, 132, 8, 1]
abbrev dktX1_mend_8 : List UInt8 := dkwX1_mend_8 ++ dktX1_mend_9
def dkwX1_mend_7 : List UInt8 := [180, 0, 102, 162, 0, 44, 21, 5, 29, 162, 0, 38, 42, 21, 4, 21, 6, 21, 8, 182, 1, 105]
abbrev dktX1_mend_7 : List UInt8 := dkwX1_mend_7 ++ dktX1_mend_8
def dkwX1_mend_6 : List UInt8 := [167, 0, 85, 21, 5, 29, 160, 0, 7, 3, 167, 0, 6, 19, 1, 125, 54, 7, 3, 54, 8, 21, 8, 42]
abbrev dktX1_mend_6 : List UInt8 := dkwX1_mend_6 ++ dktX1_mend_7
def dkwX1_mend_5 : List UInt8 := [180, 0, 102, 162, 0, 111, 21, 5, 29, 163, 0, 105, 42, 21, 4, 21, 6, 182, 1, 101, 154, 0, 6]
abbrev dktX1_mend_5 : List UInt8 := dkwX1_mend_5 ++ dktX1_mend_6
def dkwX1_mend_4 : List UInt8 := [4, 100, 54, 4, 21, 4, 155, 0, 136, 21, 4, 184, 0, 237, 54, 5, 2, 54, 6, 21, 6, 42]
abbrev dktX1_mend_4 : List UInt8 := dkwX1_mend_4 ++ dktX1_mend_5
def dkwX1_mend_3 : List UInt8 := [2, 126, 181, 1, 98, 132, 3, 1, 167, 255, 210, 42, 180, 0, 55, 27, 46, 62, 4, 42, 180, 0, 102, 120]
abbrev dktX1_mend_3 : List UInt8 := dkwX1_mend_3 ++ dktX1_mend_4
def dkwX1_mend_2 : List UInt8 := [155, 0, 24, 42, 180, 0, 9, 29, 46, 28, 184, 1, 3, 153, 0, 11, 4, 29, 120, 2, 130, 167, 0, 4]
abbrev dktX1_mend_2 : List UInt8 := dkwX1_mend_2 ++ dktX1_mend_3
def dkwX1_mend_1 : List UInt8 := [16, 253, 172, 42, 182, 1, 111, 3, 62, 29, 42, 180, 0, 102, 162, 0, 44, 42, 89, 180, 1, 98, 28]
abbrev dktX1_mend_1 : List UInt8 := dkwX1_mend_1 ++ dktX1_mend_2
def dkwX1_mend_0 : List UInt8 := [28, 133, 20, 1, 123, 20, 1, 25, 184, 0, 106, 154, 0, 5, 2, 172, 42, 27, 182, 1, 95, 154, 0, 6]
abbrev dktX1_mend_0 : List UInt8 := dkwX1_mend_0 ++ dktX1_mend_1
theorem dksX1_mend_0 : cX1_mend.data.toList.drop 0 = dktX1_mend_0 := by decide +kernel
theorem dksX1_mend_1 : cX1_mend.data.toList.drop 24 = dktX1_mend_1 := dk_seg dksX1_mend_0 24 rfl rfl
theorem dksX1_mend_2 : cX1_mend.data.toList.drop 47 = dktX1_mend_2 := dk_seg dksX1_mend_1 23 rfl rfl
theorem dksX1_mend_3 : cX1_mend.data.toList.drop 71 = dktX1_mend_3 := dk_seg dksX1_mend_2 24 rfl rfl
theorem dksX1_mend_4 : cX1_mend.data.toList.drop 95 = dktX1_mend_4 := dk_seg dksX1_mend_3 24 rfl rfl
theorem dksX1_mend_5 : cX1_mend.data.toList.drop 117 = dktX1_mend_5 := dk_seg dksX1_mend_4 22 rfl rfl
theorem dksX1_mend_6 : cX1_mend.data.toList.drop 140 = dktX1_mend_6 := dk_seg dksX1_mend_5 23 rfl rfl
theorem dksX1_mend_7 : cX1_mend.data.toList.drop 164 = dktX1_mend_7 := dk_seg dksX1_mend_6 24 rfl rfl
theorem dksX1_mend_8 : cX1_mend.data.toList.drop 186 = dktX1_mend_8 := dk_seg dksX1_mend_7 22 rfl rfl
theorem dksX1_mend_9 : cX1_mend.data.toList.drop 208 = dktX1_mend_9 := dk_seg dksX1_mend_8 22 rfl rfl
theorem dksX1_mend_10 : cX1_mend.data.toList.drop 231 = dktX1_mend_10 := dk_seg dksX1_mend_9 23 rfl rfl
theorem dksX1_mend_11 : cX1_mend.data.toList.drop 254 = dktX1_mend_11 := dk_seg dksX1_mend_10 23 rfl rfl
theorem dksX1_mend_12 : cX1_mend.data.toList.drop 277 = dktX1_mend_12 := dk_seg dksX1_mend_11 23 rfl rfl
theorem dksX1_mend_13 : cX1_mend.data.toList.drop 300 = dktX1_mend_13 := dk_seg dksX1_mend_12 23 rfl rfl
theorem dksX1_mend_14 : cX1_mend.data.toList.drop 323 = dktX1_mend_14 := dk_seg dksX1_mend_13 23 rfl rfl
theorem dksX1_mend_15 : cX1_mend.data.toList.drop 345 = dktX1_mend_15 := dk_seg dksX1_mend_14 22 rfl rfl
theorem dX1_mend_0 : decode cX1_mend 0 = .ok (.iload_n 2, 1) := dk_28 (dk_at dksX1_mend_0 0 rfl rfl)
theorem dX1_mend_1 : decode cX1_mend 1 = .ok (.i2l, 1) := dk_133 (dk_at dksX1_mend_0 1 rfl rfl)
theorem dX1_mend_2 : decode cX1_mend 2 = .ok (.ldc2_w 379, 3) := dk_20 1 123 (dk_at dksX1_mend_0 2 rfl rfl)
theorem dX1_mend_5 : decode cX1_mend 5 = .ok (.ldc2_w 281, 3) := dk_20 1 25 (dk_at dksX1_mend_0 5 rfl rfl)
theorem dX1_mend_8 : decode cX1_mend 8 = .ok (.invokestatic 106, 3) := dk_184 0 106 (dk_at dksX1_mend_0 8 rfl rfl)
theorem dX1_mend_11 : decode cX1_mend 11 = .ok (.ifCond .ne 5, 3) := dk_154 0 5 (dk_at dksX1_mend_0 11 rfl rfl)
theorem dX1_mend_14 : decode cX1_mend 14 = .ok (.iconst (-1), 1) := dk_2 (dk_at dksX1_mend_0 14 rfl rfl)
theorem dX1_mend_15 : decode cX1_mend 15 = .ok (.ireturn, 1) := dk_172 (dk_at dksX1_mend_0 15 rfl rfl)
theorem dX1_mend_16 : decode cX1_mend 16 = .ok (.aload_n 0, 1) := dk_42 (dk_at dksX1_mend_0 16 rfl rfl)
theorem dX1_mend_17 : decode cX1_mend 17 = .ok (.iload_n 1, 1) := dk_27 (dk_at dksX1_mend_0 17 rfl rfl)
theorem dX1_mend_18 : decode cX1_mend 18 = .ok (.invokevirtual 351, 3) := dk_182 1 95 (dk_at dksX1_mend_0 18 rfl rfl)
theorem dX1_mend_21 : decode cX1_mend 21 = .ok (.ifCond .ne 6, 3) := dk_154 0 6 (dk_at dksX1_mend_0 21 rfl rfl)
theorem dX1_mend_24 : decode cX1_mend 24 = .ok (.bipush (-3), 2) := dk_16 253 (dk_at dksX1_mend_1 0 rfl rfl)
theorem dX1_mend_26 : decode cX1_mend 26 = .ok (.ireturn, 1) := dk_172 (dk_at dksX1_mend_1 2 rfl rfl)
theorem dX1_mend_27 : decode cX1_mend 27 = .ok (.aload_n 0, 1) := dk_42 (dk_at dksX1_mend_1 3 rfl rfl)
theorem dX1_mend_28 : decode cX1_mend 28 = .ok (.invokevirtual 367, 3) := dk_182 1 111 (dk_at dksX1_mend_1 4 rfl rfl)
theorem dX1_mend_31 : decode cX1_mend 31 = .ok (.iconst 0, 1) := dk_3 (dk_at dksX1_mend_1 7 rfl rfl)
theorem dX1_mend_32 : decode cX1_mend 32 = .ok (.istore_n 3, 1) := dk_62 (dk_at dksX1_mend_1 8 rfl rfl)
theorem dX1_mend_33 : decode cX1_mend 33 = .ok (.iload_n 3, 1) := dk_29 (dk_at dksX1_mend_1 9 rfl rfl)
theorem dX1_mend_34 : decode cX1_mend 34 = .ok (.aload_n 0, 1) := dk_42 (dk_at dksX1_mend_1 10 rfl rfl)
theorem dX1_mend_35 : decode cX1_mend 35 = .ok (.getfield 102, 3) := dk_180 0 102 (dk_at dksX1_mend_1 11 rfl rfl)
theorem dX1_mend_38 : decode cX1_mend 38 = .ok (.if_icmp .ge 44, 3) := dk_162 0 44 (dk_at dksX1_mend_1 14 rfl rfl)
theorem dX1_mend_41 : decode cX1_mend 41 = .ok (.aload_n 0, 1) := dk_42 (dk_at dksX1_mend_1 17 rfl rfl)
theorem dX1_mend_42 : decode cX1_mend 42 = .ok (.dup, 1) := dk_89 (dk_at dksX1_mend_1 18 rfl rfl)
theorem dX1_mend_43 : decode cX1_mend 43 = .ok (.getfield 354, 3) := dk_180 1 98 (dk_at dksX1_mend_1 19 rfl rfl)
theorem dX1_mend_46 : decode cX1_mend 46 = .ok (.iload_n 2, 1) := dk_28 (dk_at dksX1_mend_1 22 rfl rfl)
theorem dX1_mend_47 : decode cX1_mend 47 = .ok (.ifCond .lt 24, 3) := dk_155 0 24 (dk_at dksX1_mend_2 0 rfl rfl)
theorem dX1_mend_50 : decode cX1_mend 50 = .ok (.aload_n 0, 1) := dk_42 (dk_at dksX1_mend_2 3 rfl rfl)
theorem dX1_mend_51 : decode cX1_mend 51 = .ok (.getfield 9, 3) := dk_180 0 9 (dk_at dksX1_mend_2 4 rfl rfl)
theorem dX1_mend_54 : decode cX1_mend 54 = .ok (.iload_n 3, 1) := dk_29 (dk_at dksX1_mend_2 7 rfl rfl)
theorem dX1_mend_55 : decode cX1_mend 55 = .ok (.iaload, 1) := dk_46 (dk_at dksX1_mend_2 8 rfl rfl)
theorem dX1_mend_56 : decode cX1_mend 56 = .ok (.iload_n 2, 1) := dk_28 (dk_at dksX1_mend_2 9 rfl rfl)
theorem dX1_mend_57 : decode cX1_mend 57 = .ok (.invokestatic 259, 3) := dk_184 1 3 (dk_at dksX1_mend_2 10 rfl rfl)
theorem dX1_mend_60 : decode cX1_mend 60 = .ok (.ifCond .eq 11, 3) := dk_153 0 11 (dk_at dksX1_mend_2 13 rfl rfl)
theorem dX1_mend_63 : decode cX1_mend 63 = .ok (.iconst 1, 1) := dk_4 (dk_at dksX1_mend_2 16 rfl rfl)
theorem dX1_mend_64 : decode cX1_mend 64 = .ok (.iload_n 3, 1) := dk_29 (dk_at dksX1_mend_2 17 rfl rfl)
theorem dX1_mend_65 : decode cX1_mend 65 = .ok (.ishl, 1) := dk_120 (dk_at dksX1_mend_2 18 rfl rfl)
theorem dX1_mend_66 : decode cX1_mend 66 = .ok (.iconst (-1), 1) := dk_2 (dk_at dksX1_mend_2 19 rfl rfl)
theorem dX1_mend_67 : decode cX1_mend 67 = .ok (.ixor, 1) := dk_130 (dk_at dksX1_mend_2 20 rfl rfl)
theorem dX1_mend_68 : decode cX1_mend 68 = .ok (.goto 4, 3) := dk_167 0 4 (dk_at dksX1_mend_2 21 rfl rfl)
theorem dX1_mend_71 : decode cX1_mend 71 = .ok (.iconst (-1), 1) := dk_2 (dk_at dksX1_mend_3 0 rfl rfl)
theorem dX1_mend_72 : decode cX1_mend 72 = .ok (.iand, 1) := dk_126 (dk_at dksX1_mend_3 1 rfl rfl)
theorem dX1_mend_73 : decode cX1_mend 73 = .ok (.putfield 354, 3) := dk_181 1 98 (dk_at dksX1_mend_3 2 rfl rfl)
theorem dX1_mend_76 : decode cX1_mend 76 = .ok (.iinc 3 1, 3) := dk_132 3 1 (dk_at dksX1_mend_3 5 rfl rfl)
theorem dX1_mend_79 : decode cX1_mend 79 = .ok (.goto (-46), 3) := dk_167 255 210 (dk_at dksX1_mend_3 8 rfl rfl)
theorem dX1_mend_82 : decode cX1_mend 82 = .ok (.aload_n 0, 1) := dk_42 (dk_at dksX1_mend_3 11 rfl rfl)
theorem dX1_mend_83 : decode cX1_mend 83 = .ok (.getfield 55, 3) := dk_180 0 55 (dk_at dksX1_mend_3 12 rfl rfl)
theorem dX1_mend_86 : decode cX1_mend 86 = .ok (.iload_n 1, 1) := dk_27 (dk_at dksX1_mend_3 15 rfl rfl)
theorem dX1_mend_87 : decode cX1_mend 87 = .ok (.iaload, 1) := dk_46 (dk_at dksX1_mend_3 16 rfl rfl)
theorem dX1_mend_88 : decode cX1_mend 88 = .ok (.istore_n 3, 1) := dk_62 (dk_at dksX1_mend_3 17 rfl rfl)
theorem dX1_mend_89 : decode cX1_mend 89 = .ok (.iconst 1, 1) := dk_4 (dk_at dksX1_mend_3 18 rfl rfl)
theorem dX1_mend_90 : decode cX1_mend 90 = .ok (.aload_n 0, 1) := dk_42 (dk_at dksX1_mend_3 19 rfl rfl)
theorem dX1_mend_91 : decode cX1_mend 91 = .ok (.getfield 102, 3) := dk_180 0 102 (dk_at dksX1_mend_3 20 rfl rfl)
theorem dX1_mend_94 : decode cX1_mend 94 = .ok (.ishl, 1) := dk_120 (dk_at dksX1_mend_3 23 rfl rfl)
theorem dX1_mend_95 : decode cX1_mend 95 = .ok (.iconst 1, 1) := dk_4 (dk_at dksX1_mend_4 0 rfl rfl)
theorem dX1_mend_96 : decode cX1_mend 96 = .ok (.isub, 1) := dk_100 (dk_at dksX1_mend_4 1 rfl rfl)
theorem dX1_mend_97 : decode cX1_mend 97 = .ok (.istore 4, 2) := dk_54 4 (dk_at dksX1_mend_4 2 rfl rfl)
theorem dX1_mend_99 : decode cX1_mend 99 = .ok (.iload 4, 2) := dk_21 4 (dk_at dksX1_mend_4 4 rfl rfl)
theorem dX1_mend_101 : decode cX1_mend 101 = .ok (.ifCond .lt 136, 3) := dk_155 0 136 (dk_at dksX1_mend_4 6 rfl rfl)
theorem dX1_mend_104 : decode cX1_mend 104 = .ok (.iload 4, 2) := dk_21 4 (dk_at dksX1_mend_4 9 rfl rfl)
theorem dX1_mend_106 : decode cX1_mend 106 = .ok (.invokestatic 237, 3) := dk_184 0 237 (dk_at dksX1_mend_4 11 rfl rfl)
theorem dX1_mend_109 : decode cX1_mend 109 = .ok (.istore 5, 2) := dk_54 5 (dk_at dksX1_mend_4 14 rfl rfl)
theorem dX1_mend_111 : decode cX1_mend 111 = .ok (.iconst (-1), 1) := dk_2 (dk_at dksX1_mend_4 16 rfl rfl)
theorem dX1_mend_112 : decode cX1_mend 112 = .ok (.istore 6, 2) := dk_54 6 (dk_at dksX1_mend_4 17 rfl rfl)
theorem dX1_mend_114 : decode cX1_mend 114 = .ok (.iload 6, 2) := dk_21 6 (dk_at dksX1_mend_4 19 rfl rfl)
theorem dX1_mend_116 : decode cX1_mend 116 = .ok (.aload_n 0, 1) := dk_42 (dk_at dksX1_mend_4 21 rfl rfl)
theorem dX1_mend_117 : decode cX1_mend 117 = .ok (.getfield 102, 3) := dk_180 0 102 (dk_at dksX1_mend_5 0 rfl rfl)
theorem dX1_mend_120 : decode cX1_mend 120 = .ok (.if_icmp .ge 111, 3) := dk_162 0 111 (dk_at dksX1_mend_5 3 rfl rfl)
theorem dX1_mend_123 : decode cX1_mend 123 = .ok (.iload 5, 2) := dk_21 5 (dk_at dksX1_mend_5 6 rfl rfl)
theorem dX1_mend_125 : decode cX1_mend 125 = .ok (.iload_n 3, 1) := dk_29 (dk_at dksX1_mend_5 8 rfl rfl)
theorem dX1_mend_126 : decode cX1_mend 126 = .ok (.if_icmp .gt 105, 3) := dk_163 0 105 (dk_at dksX1_mend_5 9 rfl rfl)
theorem dX1_mend_129 : decode cX1_mend 129 = .ok (.aload_n 0, 1) := dk_42 (dk_at dksX1_mend_5 12 rfl rfl)
theorem dX1_mend_130 : decode cX1_mend 130 = .ok (.iload 4, 2) := dk_21 4 (dk_at dksX1_mend_5 13 rfl rfl)
theorem dX1_mend_132 : decode cX1_mend 132 = .ok (.iload 6, 2) := dk_21 6 (dk_at dksX1_mend_5 15 rfl rfl)
theorem dX1_mend_134 : decode cX1_mend 134 = .ok (.invokevirtual 357, 3) := dk_182 1 101 (dk_at dksX1_mend_5 17 rfl rfl)
theorem dX1_mend_137 : decode cX1_mend 137 = .ok (.ifCond .ne 6, 3) := dk_154 0 6 (dk_at dksX1_mend_5 20 rfl rfl)
theorem dX1_mend_140 : decode cX1_mend 140 = .ok (.goto 85, 3) := dk_167 0 85 (dk_at dksX1_mend_6 0 rfl rfl)
theorem dX1_mend_143 : decode cX1_mend 143 = .ok (.iload 5, 2) := dk_21 5 (dk_at dksX1_mend_6 3 rfl rfl)
theorem dX1_mend_145 : decode cX1_mend 145 = .ok (.iload_n 3, 1) := dk_29 (dk_at dksX1_mend_6 5 rfl rfl)
theorem dX1_mend_146 : decode cX1_mend 146 = .ok (.if_icmp .ne 7, 3) := dk_160 0 7 (dk_at dksX1_mend_6 6 rfl rfl)
theorem dX1_mend_149 : decode cX1_mend 149 = .ok (.iconst 0, 1) := dk_3 (dk_at dksX1_mend_6 9 rfl rfl)
theorem dX1_mend_150 : decode cX1_mend 150 = .ok (.goto 6, 3) := dk_167 0 6 (dk_at dksX1_mend_6 10 rfl rfl)
theorem dX1_mend_153 : decode cX1_mend 153 = .ok (.ldc_w 381, 3) := dk_19 1 125 (dk_at dksX1_mend_6 13 rfl rfl)
theorem dX1_mend_156 : decode cX1_mend 156 = .ok (.istore 7, 2) := dk_54 7 (dk_at dksX1_mend_6 16 rfl rfl)
theorem dX1_mend_158 : decode cX1_mend 158 = .ok (.iconst 0, 1) := dk_3 (dk_at dksX1_mend_6 18 rfl rfl)
theorem dX1_mend_159 : decode cX1_mend 159 = .ok (.istore 8, 2) := dk_54 8 (dk_at dksX1_mend_6 19 rfl rfl)
theorem dX1_mend_161 : decode cX1_mend 161 = .ok (.iload 8, 2) := dk_21 8 (dk_at dksX1_mend_6 21 rfl rfl)
theorem dX1_mend_163 : decode cX1_mend 163 = .ok (.aload_n 0, 1) := dk_42 (dk_at dksX1_mend_6 23 rfl rfl)
theorem dX1_mend_164 : decode cX1_mend 164 = .ok (.getfield 102, 3) := dk_180 0 102 (dk_at dksX1_mend_7 0 rfl rfl)
theorem dX1_mend_167 : decode cX1_mend 167 = .ok (.if_icmp .ge 44, 3) := dk_162 0 44 (dk_at dksX1_mend_7 3 rfl rfl)
theorem dX1_mend_170 : decode cX1_mend 170 = .ok (.iload 5, 2) := dk_21 5 (dk_at dksX1_mend_7 6 rfl rfl)
theorem dX1_mend_172 : decode cX1_mend 172 = .ok (.iload_n 3, 1) := dk_29 (dk_at dksX1_mend_7 8 rfl rfl)
theorem dX1_mend_173 : decode cX1_mend 173 = .ok (.if_icmp .ge 38, 3) := dk_162 0 38 (dk_at dksX1_mend_7 9 rfl rfl)
theorem dX1_mend_176 : decode cX1_mend 176 = .ok (.aload_n 0, 1) := dk_42 (dk_at dksX1_mend_7 12 rfl rfl)
theorem dX1_mend_177 : decode cX1_mend 177 = .ok (.iload 4, 2) := dk_21 4 (dk_at dksX1_mend_7 13 rfl rfl)
theorem dX1_mend_179 : decode cX1_mend 179 = .ok (.iload 6, 2) := dk_21 6 (dk_at dksX1_mend_7 15 rfl rfl)
theorem dX1_mend_181 : decode cX1_mend 181 = .ok (.iload 8, 2) := dk_21 8 (dk_at dksX1_mend_7 17 rfl rfl)
theorem dX1_mend_183 : decode cX1_mend 183 = .ok (.invokevirtual 361, 3) := dk_182 1 105 (dk_at dksX1_mend_7 19 rfl rfl)
theorem dX1_mend_186 : decode cX1_mend 186 = .ok (.ifCond .eq 19, 3) := dk_153 0 19 (dk_at dksX1_mend_8 0 rfl rfl)
theorem dX1_mend_189 : decode cX1_mend 189 = .ok (.iload 7, 2) := dk_21 7 (dk_at dksX1_mend_8 3 rfl rfl)
theorem dX1_mend_191 : decode cX1_mend 191 = .ok (.aload_n 0, 1) := dk_42 (dk_at dksX1_mend_8 5 rfl rfl)
theorem dX1_mend_192 : decode cX1_mend 192 = .ok (.iload_n 1, 1) := dk_27 (dk_at dksX1_mend_8 6 rfl rfl)
theorem dX1_mend_193 : decode cX1_mend 193 = .ok (.iload 4, 2) := dk_21 4 (dk_at dksX1_mend_8 7 rfl rfl)
theorem dX1_mend_195 : decode cX1_mend 195 = .ok (.iload 8, 2) := dk_21 8 (dk_at dksX1_mend_8 9 rfl rfl)
theorem dX1_mend_197 : decode cX1_mend 197 = .ok (.invokevirtual 417, 3) := dk_182 1 161 (dk_at dksX1_mend_8 11 rfl rfl)
theorem dX1_mend_200 : decode cX1_mend 200 = .ok (.invokestatic 122, 3) := dk_184 0 122 (dk_at dksX1_mend_8 14 rfl rfl)
theorem dX1_mend_203 : decode cX1_mend 203 = .ok (.istore 7, 2) := dk_54 7 (dk_at dksX1_mend_8 17 rfl rfl)
theorem dX1_mend_205 : decode cX1_mend 205 = .ok (.iinc 8 1, 3) := dk_132 8 1 (dk_at dksX1_mend_8 19 rfl rfl)
theorem dX1_mend_208 : decode cX1_mend 208 = .ok (.goto (-47), 3) := dk_167 255 209 (dk_at dksX1_mend_9 0 rfl rfl)
theorem dX1_mend_211 : decode cX1_mend 211 = .ok (.aload_n 0, 1) := dk_42 (dk_at dksX1_mend_9 3 rfl rfl)
theorem dX1_mend_212 : decode cX1_mend 212 = .ok (.getfield 67, 3) := dk_180 0 67 (dk_at dksX1_mend_9 4 rfl rfl)
theorem dX1_mend_215 : decode cX1_mend 215 = .ok (.iload 4, 2) := dk_21 4 (dk_at dksX1_mend_9 7 rfl rfl)
theorem dX1_mend_217 : decode cX1_mend 217 = .ok (.iload 6, 2) := dk_21 6 (dk_at dksX1_mend_9 9 rfl rfl)
theorem dX1_mend_219 : decode cX1_mend 219 = .ok (.invokestatic 364, 3) := dk_184 1 108 (dk_at dksX1_mend_9 11 rfl rfl)
theorem dX1_mend_222 : decode cX1_mend 222 = .ok (.iload 7, 2) := dk_21 7 (dk_at dksX1_mend_9 14 rfl rfl)
theorem dX1_mend_224 : decode cX1_mend 224 = .ok (.iastore, 1) := dk_79 (dk_at dksX1_mend_9 16 rfl rfl)
theorem dX1_mend_225 : decode cX1_mend 225 = .ok (.iinc 6 1, 3) := dk_132 6 1 (dk_at dksX1_mend_9 17 rfl rfl)
theorem dX1_mend_228 : decode cX1_mend 228 = .ok (.goto (-114), 3) := dk_167 255 142 (dk_at dksX1_mend_9 20 rfl rfl)
theorem dX1_mend_231 : decode cX1_mend 231 = .ok (.iinc 4 (-1), 3) := dk_132 4 255 (dk_at dksX1_mend_10 0 rfl rfl)
theorem dX1_mend_234 : decode cX1_mend 234 = .ok (.goto (-135), 3) := dk_167 255 121 (dk_at dksX1_mend_10 3 rfl rfl)
theorem dX1_mend_237 : decode cX1_mend 237 = .ok (.aload_n 0, 1) := dk_42 (dk_at dksX1_mend_10 6 rfl rfl)
theorem dX1_mend_238 : decode cX1_mend 238 = .ok (.getfield 67, 3) := dk_180 0 67 (dk_at dksX1_mend_10 7 rfl rfl)
theorem dX1_mend_241 : decode cX1_mend 241 = .ok (.iconst 0, 1) := dk_3 (dk_at dksX1_mend_10 10 rfl rfl)
theorem dX1_mend_242 : decode cX1_mend 242 = .ok (.iconst (-1), 1) := dk_2 (dk_at dksX1_mend_10 11 rfl rfl)
theorem dX1_mend_243 : decode cX1_mend 243 = .ok (.invokestatic 364, 3) := dk_184 1 108 (dk_at dksX1_mend_10 12 rfl rfl)
theorem dX1_mend_246 : decode cX1_mend 246 = .ok (.iaload, 1) := dk_46 (dk_at dksX1_mend_10 15 rfl rfl)
theorem dX1_mend_247 : decode cX1_mend 247 = .ok (.istore 4, 2) := dk_54 4 (dk_at dksX1_mend_10 16 rfl rfl)
theorem dX1_mend_249 : decode cX1_mend 249 = .ok (.iload 4, 2) := dk_21 4 (dk_at dksX1_mend_10 18 rfl rfl)
theorem dX1_mend_251 : decode cX1_mend 251 = .ok (.ldc_w 381, 3) := dk_19 1 125 (dk_at dksX1_mend_10 20 rfl rfl)
theorem dX1_mend_254 : decode cX1_mend 254 = .ok (.if_icmp .lt 6, 3) := dk_161 0 6 (dk_at dksX1_mend_11 0 rfl rfl)
theorem dX1_mend_257 : decode cX1_mend 257 = .ok (.bipush (-2), 2) := dk_16 254 (dk_at dksX1_mend_11 3 rfl rfl)
theorem dX1_mend_259 : decode cX1_mend 259 = .ok (.ireturn, 1) := dk_172 (dk_at dksX1_mend_11 5 rfl rfl)
theorem dX1_mend_260 : decode cX1_mend 260 = .ok (.aload_n 0, 1) := dk_42 (dk_at dksX1_mend_11 6 rfl rfl)
theorem dX1_mend_261 : decode cX1_mend 261 = .ok (.iconst 0, 1) := dk_3 (dk_at dksX1_mend_11 7 rfl rfl)
theorem dX1_mend_262 : decode cX1_mend 262 = .ok (.putfield 337, 3) := dk_181 1 81 (dk_at dksX1_mend_11 8 rfl rfl)
theorem dX1_mend_265 : decode cX1_mend 265 = .ok (.iconst 0, 1) := dk_3 (dk_at dksX1_mend_11 11 rfl rfl)
theorem dX1_mend_266 : decode cX1_mend 266 = .ok (.istore 5, 2) := dk_54 5 (dk_at dksX1_mend_11 12 rfl rfl)
theorem dX1_mend_268 : decode cX1_mend 268 = .ok (.iconst (-1), 1) := dk_2 (dk_at dksX1_mend_11 14 rfl rfl)
theorem dX1_mend_269 : decode cX1_mend 269 = .ok (.istore 6, 2) := dk_54 6 (dk_at dksX1_mend_11 15 rfl rfl)
theorem dX1_mend_271 : decode cX1_mend 271 = .ok (.iconst 0, 1) := dk_3 (dk_at dksX1_mend_11 17 rfl rfl)
theorem dX1_mend_272 : decode cX1_mend 272 = .ok (.istore 7, 2) := dk_54 7 (dk_at dksX1_mend_11 18 rfl rfl)
theorem dX1_mend_274 : decode cX1_mend 274 = .ok (.iload 7, 2) := dk_21 7 (dk_at dksX1_mend_11 20 rfl rfl)
theorem dX1_mend_276 : decode cX1_mend 276 = .ok (.iload_n 3, 1) := dk_29 (dk_at dksX1_mend_11 22 rfl rfl)
theorem dX1_mend_277 : decode cX1_mend 277 = .ok (.if_icmp .ge 74, 3) := dk_162 0 74 (dk_at dksX1_mend_12 0 rfl rfl)
theorem dX1_mend_280 : decode cX1_mend 280 = .ok (.iconst 0, 1) := dk_3 (dk_at dksX1_mend_12 3 rfl rfl)
theorem dX1_mend_281 : decode cX1_mend 281 = .ok (.istore 8, 2) := dk_54 8 (dk_at dksX1_mend_12 4 rfl rfl)
theorem dX1_mend_283 : decode cX1_mend 283 = .ok (.aload_n 0, 1) := dk_42 (dk_at dksX1_mend_12 6 rfl rfl)
theorem dX1_mend_284 : decode cX1_mend 284 = .ok (.iload 5, 2) := dk_21 5 (dk_at dksX1_mend_12 7 rfl rfl)
theorem dX1_mend_286 : decode cX1_mend 286 = .ok (.iload 6, 2) := dk_21 6 (dk_at dksX1_mend_12 9 rfl rfl)
theorem dX1_mend_288 : decode cX1_mend 288 = .ok (.iload 8, 2) := dk_21 8 (dk_at dksX1_mend_12 11 rfl rfl)
theorem dX1_mend_290 : decode cX1_mend 290 = .ok (.invokevirtual 361, 3) := dk_182 1 105 (dk_at dksX1_mend_12 13 rfl rfl)
theorem dX1_mend_293 : decode cX1_mend 293 = .ok (.ifCond .eq 27, 3) := dk_153 0 27 (dk_at dksX1_mend_12 16 rfl rfl)
theorem dX1_mend_296 : decode cX1_mend 296 = .ok (.aload_n 0, 1) := dk_42 (dk_at dksX1_mend_12 19 rfl rfl)
theorem dX1_mend_297 : decode cX1_mend 297 = .ok (.iload_n 1, 1) := dk_27 (dk_at dksX1_mend_12 20 rfl rfl)
theorem dX1_mend_298 : decode cX1_mend 298 = .ok (.iload 5, 2) := dk_21 5 (dk_at dksX1_mend_12 21 rfl rfl)
theorem dX1_mend_300 : decode cX1_mend 300 = .ok (.iload 8, 2) := dk_21 8 (dk_at dksX1_mend_13 0 rfl rfl)
theorem dX1_mend_302 : decode cX1_mend 302 = .ok (.invokevirtual 417, 3) := dk_182 1 161 (dk_at dksX1_mend_13 2 rfl rfl)
theorem dX1_mend_305 : decode cX1_mend 305 = .ok (.aload_n 0, 1) := dk_42 (dk_at dksX1_mend_13 5 rfl rfl)
theorem dX1_mend_306 : decode cX1_mend 306 = .ok (.getfield 67, 3) := dk_180 0 67 (dk_at dksX1_mend_13 6 rfl rfl)
theorem dX1_mend_309 : decode cX1_mend 309 = .ok (.iload 5, 2) := dk_21 5 (dk_at dksX1_mend_13 9 rfl rfl)
theorem dX1_mend_311 : decode cX1_mend 311 = .ok (.iload 6, 2) := dk_21 6 (dk_at dksX1_mend_13 11 rfl rfl)
theorem dX1_mend_313 : decode cX1_mend 313 = .ok (.invokestatic 364, 3) := dk_184 1 108 (dk_at dksX1_mend_13 13 rfl rfl)
theorem dX1_mend_316 : decode cX1_mend 316 = .ok (.iaload, 1) := dk_46 (dk_at dksX1_mend_13 16 rfl rfl)
theorem dX1_mend_317 : decode cX1_mend 317 = .ok (.if_icmp .eq 9, 3) := dk_159 0 9 (dk_at dksX1_mend_13 17 rfl rfl)
theorem dX1_mend_320 : decode cX1_mend 320 = .ok (.iinc 8 1, 3) := dk_132 8 1 (dk_at dksX1_mend_13 20 rfl rfl)
theorem dX1_mend_323 : decode cX1_mend 323 = .ok (.goto (-40), 3) := dk_167 255 216 (dk_at dksX1_mend_14 0 rfl rfl)
theorem dX1_mend_326 : decode cX1_mend 326 = .ok (.aload_n 0, 1) := dk_42 (dk_at dksX1_mend_14 3 rfl rfl)
theorem dX1_mend_327 : decode cX1_mend 327 = .ok (.iload 8, 2) := dk_21 8 (dk_at dksX1_mend_14 4 rfl rfl)
theorem dX1_mend_329 : decode cX1_mend 329 = .ok (.invokevirtual 340, 3) := dk_182 1 84 (dk_at dksX1_mend_14 6 rfl rfl)
theorem dX1_mend_332 : decode cX1_mend 332 = .ok (.iload 5, 2) := dk_21 5 (dk_at dksX1_mend_14 9 rfl rfl)
theorem dX1_mend_334 : decode cX1_mend 334 = .ok (.iconst 1, 1) := dk_4 (dk_at dksX1_mend_14 11 rfl rfl)
theorem dX1_mend_335 : decode cX1_mend 335 = .ok (.iload 8, 2) := dk_21 8 (dk_at dksX1_mend_14 12 rfl rfl)
theorem dX1_mend_337 : decode cX1_mend 337 = .ok (.ishl, 1) := dk_120 (dk_at dksX1_mend_14 14 rfl rfl)
theorem dX1_mend_338 : decode cX1_mend 338 = .ok (.ior, 1) := dk_128 (dk_at dksX1_mend_14 15 rfl rfl)
theorem dX1_mend_339 : decode cX1_mend 339 = .ok (.istore 5, 2) := dk_54 5 (dk_at dksX1_mend_14 16 rfl rfl)
theorem dX1_mend_341 : decode cX1_mend 341 = .ok (.iload 8, 2) := dk_21 8 (dk_at dksX1_mend_14 18 rfl rfl)
theorem dX1_mend_343 : decode cX1_mend 343 = .ok (.istore 6, 2) := dk_54 6 (dk_at dksX1_mend_14 20 rfl rfl)
theorem dX1_mend_345 : decode cX1_mend 345 = .ok (.iinc 7 1, 3) := dk_132 7 1 (dk_at dksX1_mend_15 0 rfl rfl)
theorem dX1_mend_348 : decode cX1_mend 348 = .ok (.goto (-74), 3) := dk_167 255 182 (dk_at dksX1_mend_15 3 rfl rfl)
theorem dX1_mend_351 : decode cX1_mend 351 = .ok (.iload 4, 2) := dk_21 4 (dk_at dksX1_mend_15 6 rfl rfl)
theorem dX1_mend_353 : decode cX1_mend 353 = .ok (.ireturn, 1) := dk_172 (dk_at dksX1_mend_15 8 rfl rfl)
abbrev cX1_mendBy : ByteArray := prog_1_method_93_code
def yX1_mendBy : MethodName := ⟨RX1, "mendBy", "(III)I"⟩
def dkwX1_mendBy_1 : List UInt8 := [180, 0, 67, 28, 4, 29, 120, 128, 29, 184, 1, 108, 46, 96, 184, 0, 122, 172]
abbrev dktX1_mendBy_1 : List UInt8 := dkwX1_mendBy_1 ++ []
def dkwX1_mendBy_0 : List UInt8 := [19, 1, 125, 42, 27, 28, 184, 0, 237, 182, 1, 72, 29, 160, 0, 7, 3, 167, 0, 4, 4, 42]
abbrev dktX1_mendBy_0 : List UInt8 := dkwX1_mendBy_0 ++ dktX1_mendBy_1
theorem dksX1_mendBy_0 : cX1_mendBy.data.toList.drop 0 = dktX1_mendBy_0 := by decide +kernel
theorem dksX1_mendBy_1 : cX1_mendBy.data.toList.drop 22 = dktX1_mendBy_1 := dk_seg dksX1_mendBy_0 22 rfl rfl
theorem dX1_mendBy_0 : decode cX1_mendBy 0 = .ok (.ldc_w 381, 3) := dk_19 1 125 (dk_at dksX1_mendBy_0 0 rfl rfl)
theorem dX1_mendBy_3 : decode cX1_mendBy 3 = .ok (.aload_n 0, 1) := dk_42 (dk_at dksX1_mendBy_0 3 rfl rfl)
theorem dX1_mendBy_4 : decode cX1_mendBy 4 = .ok (.iload_n 1, 1) := dk_27 (dk_at dksX1_mendBy_0 4 rfl rfl)
theorem dX1_mendBy_5 : decode cX1_mendBy 5 = .ok (.iload_n 2, 1) := dk_28 (dk_at dksX1_mendBy_0 5 rfl rfl)
theorem dX1_mendBy_6 : decode cX1_mendBy 6 = .ok (.invokestatic 237, 3) := dk_184 0 237 (dk_at dksX1_mendBy_0 6 rfl rfl)
theorem dX1_mendBy_9 : decode cX1_mendBy 9 = .ok (.invokevirtual 328, 3) := dk_182 1 72 (dk_at dksX1_mendBy_0 9 rfl rfl)
theorem dX1_mendBy_12 : decode cX1_mendBy 12 = .ok (.iload_n 3, 1) := dk_29 (dk_at dksX1_mendBy_0 12 rfl rfl)
theorem dX1_mendBy_13 : decode cX1_mendBy 13 = .ok (.if_icmp .ne 7, 3) := dk_160 0 7 (dk_at dksX1_mendBy_0 13 rfl rfl)
theorem dX1_mendBy_16 : decode cX1_mendBy 16 = .ok (.iconst 0, 1) := dk_3 (dk_at dksX1_mendBy_0 16 rfl rfl)
theorem dX1_mendBy_17 : decode cX1_mendBy 17 = .ok (.goto 4, 3) := dk_167 0 4 (dk_at dksX1_mendBy_0 17 rfl rfl)
theorem dX1_mendBy_20 : decode cX1_mendBy 20 = .ok (.iconst 1, 1) := dk_4 (dk_at dksX1_mendBy_0 20 rfl rfl)
theorem dX1_mendBy_21 : decode cX1_mendBy 21 = .ok (.aload_n 0, 1) := dk_42 (dk_at dksX1_mendBy_0 21 rfl rfl)
theorem dX1_mendBy_22 : decode cX1_mendBy 22 = .ok (.getfield 67, 3) := dk_180 0 67 (dk_at dksX1_mendBy_1 0 rfl rfl)
theorem dX1_mendBy_25 : decode cX1_mendBy 25 = .ok (.iload_n 2, 1) := dk_28 (dk_at dksX1_mendBy_1 3 rfl rfl)
theorem dX1_mendBy_26 : decode cX1_mendBy 26 = .ok (.iconst 1, 1) := dk_4 (dk_at dksX1_mendBy_1 4 rfl rfl)
theorem dX1_mendBy_27 : decode cX1_mendBy 27 = .ok (.iload_n 3, 1) := dk_29 (dk_at dksX1_mendBy_1 5 rfl rfl)
theorem dX1_mendBy_28 : decode cX1_mendBy 28 = .ok (.ishl, 1) := dk_120 (dk_at dksX1_mendBy_1 6 rfl rfl)
theorem dX1_mendBy_29 : decode cX1_mendBy 29 = .ok (.ior, 1) := dk_128 (dk_at dksX1_mendBy_1 7 rfl rfl)
theorem dX1_mendBy_30 : decode cX1_mendBy 30 = .ok (.iload_n 3, 1) := dk_29 (dk_at dksX1_mendBy_1 8 rfl rfl)
theorem dX1_mendBy_31 : decode cX1_mendBy 31 = .ok (.invokestatic 364, 3) := dk_184 1 108 (dk_at dksX1_mendBy_1 9 rfl rfl)
theorem dX1_mendBy_34 : decode cX1_mendBy 34 = .ok (.iaload, 1) := dk_46 (dk_at dksX1_mendBy_1 12 rfl rfl)
theorem dX1_mendBy_35 : decode cX1_mendBy 35 = .ok (.iadd, 1) := dk_96 (dk_at dksX1_mendBy_1 13 rfl rfl)
theorem dX1_mendBy_36 : decode cX1_mendBy 36 = .ok (.invokestatic 122, 3) := dk_184 0 122 (dk_at dksX1_mendBy_1 14 rfl rfl)
theorem dX1_mendBy_39 : decode cX1_mendBy 39 = .ok (.ireturn, 1) := dk_172 (dk_at dksX1_mendBy_1 17 rfl rfl)
abbrev cX1_fills : ByteArray := prog_1_method_96_code
def yX1_fills : MethodName := ⟨RX1, "fills", "(I)J"⟩
def dkwX1_fills_6 : List UInt8 := [167, 255, 161, 32, 173]
abbrev dktX1_fills_6 : List UInt8 := dkwX1_fills_6 ++ []
def dkwX1_fills_5 : List UInt8 := [42, 21, 7, 182, 1, 84, 21, 4, 4, 21, 7, 120, 128, 54, 4, 21, 7, 54, 5, 132, 6, 1]
abbrev dktX1_fills_5 : List UInt8 := dkwX1_fills_5 ++ dktX1_fills_6
def dkwX1_fills_4 : List UInt8 := [21, 4, 4, 21, 7, 120, 128, 21, 7, 184, 1, 108, 47, 9, 148, 154, 0, 9, 132, 7, 1, 167, 255, 206]
abbrev dktX1_fills_4 : List UInt8 := dkwX1_fills_4 ++ dktX1_fills_5
def dkwX1_fills_3 : List UInt8 := [182, 1, 164, 153, 0, 38, 42, 21, 4, 21, 5, 21, 7, 182, 1, 105, 153, 0, 25, 42, 180, 0, 73]
abbrev dktX1_fills_3 : List UInt8 := dkwX1_fills_3 ++ dktX1_fills_4
def dkwX1_fills_2 : List UInt8 := [180, 0, 55, 27, 46, 162, 0, 90, 32, 9, 148, 158, 0, 84, 3, 54, 7, 42, 27, 21, 6, 21, 7]
abbrev dktX1_fills_2 : List UInt8 := dkwX1_fills_2 ++ dktX1_fills_3
def dkwX1_fills_1 : List UInt8 := [184, 1, 108, 47, 65, 42, 3, 181, 1, 81, 3, 54, 4, 2, 54, 5, 3, 54, 6, 21, 6, 42]
abbrev dktX1_fills_1 : List UInt8 := dkwX1_fills_1 ++ dktX1_fills_2
def dkwX1_fills_0 : List UInt8 := [42, 27, 182, 1, 69, 154, 0, 7, 20, 1, 167, 173, 42, 27, 182, 1, 169, 42, 180, 0, 73, 3, 2]
abbrev dktX1_fills_0 : List UInt8 := dkwX1_fills_0 ++ dktX1_fills_1
theorem dksX1_fills_0 : cX1_fills.data.toList.drop 0 = dktX1_fills_0 := by decide +kernel
theorem dksX1_fills_1 : cX1_fills.data.toList.drop 23 = dktX1_fills_1 := dk_seg dksX1_fills_0 23 rfl rfl
theorem dksX1_fills_2 : cX1_fills.data.toList.drop 45 = dktX1_fills_2 := dk_seg dksX1_fills_1 22 rfl rfl
theorem dksX1_fills_3 : cX1_fills.data.toList.drop 68 = dktX1_fills_3 := dk_seg dksX1_fills_2 23 rfl rfl
theorem dksX1_fills_4 : cX1_fills.data.toList.drop 91 = dktX1_fills_4 := dk_seg dksX1_fills_3 23 rfl rfl
theorem dksX1_fills_5 : cX1_fills.data.toList.drop 115 = dktX1_fills_5 := dk_seg dksX1_fills_4 24 rfl rfl
theorem dksX1_fills_6 : cX1_fills.data.toList.drop 137 = dktX1_fills_6 := dk_seg dksX1_fills_5 22 rfl rfl
theorem dX1_fills_0 : decode cX1_fills 0 = .ok (.aload_n 0, 1) := dk_42 (dk_at dksX1_fills_0 0 rfl rfl)
theorem dX1_fills_1 : decode cX1_fills 1 = .ok (.iload_n 1, 1) := dk_27 (dk_at dksX1_fills_0 1 rfl rfl)
theorem dX1_fills_2 : decode cX1_fills 2 = .ok (.invokevirtual 325, 3) := dk_182 1 69 (dk_at dksX1_fills_0 2 rfl rfl)
theorem dX1_fills_5 : decode cX1_fills 5 = .ok (.ifCond .ne 7, 3) := dk_154 0 7 (dk_at dksX1_fills_0 5 rfl rfl)
theorem dX1_fills_8 : decode cX1_fills 8 = .ok (.ldc2_w 423, 3) := dk_20 1 167 (dk_at dksX1_fills_0 8 rfl rfl)
theorem dX1_fills_11 : decode cX1_fills 11 = .ok (.lreturn, 1) := dk_173 (dk_at dksX1_fills_0 11 rfl rfl)
theorem dX1_fills_12 : decode cX1_fills 12 = .ok (.aload_n 0, 1) := dk_42 (dk_at dksX1_fills_0 12 rfl rfl)
theorem dX1_fills_13 : decode cX1_fills 13 = .ok (.iload_n 1, 1) := dk_27 (dk_at dksX1_fills_0 13 rfl rfl)
theorem dX1_fills_14 : decode cX1_fills 14 = .ok (.invokevirtual 425, 3) := dk_182 1 169 (dk_at dksX1_fills_0 14 rfl rfl)
theorem dX1_fills_17 : decode cX1_fills 17 = .ok (.aload_n 0, 1) := dk_42 (dk_at dksX1_fills_0 17 rfl rfl)
theorem dX1_fills_18 : decode cX1_fills 18 = .ok (.getfield 73, 3) := dk_180 0 73 (dk_at dksX1_fills_0 18 rfl rfl)
theorem dX1_fills_21 : decode cX1_fills 21 = .ok (.iconst 0, 1) := dk_3 (dk_at dksX1_fills_0 21 rfl rfl)
theorem dX1_fills_22 : decode cX1_fills 22 = .ok (.iconst (-1), 1) := dk_2 (dk_at dksX1_fills_0 22 rfl rfl)
theorem dX1_fills_23 : decode cX1_fills 23 = .ok (.invokestatic 364, 3) := dk_184 1 108 (dk_at dksX1_fills_1 0 rfl rfl)
theorem dX1_fills_26 : decode cX1_fills 26 = .ok (.laload, 1) := dk_47 (dk_at dksX1_fills_1 3 rfl rfl)
theorem dX1_fills_27 : decode cX1_fills 27 = .ok (.lstore_n 2, 1) := dk_65 (dk_at dksX1_fills_1 4 rfl rfl)
theorem dX1_fills_28 : decode cX1_fills 28 = .ok (.aload_n 0, 1) := dk_42 (dk_at dksX1_fills_1 5 rfl rfl)
theorem dX1_fills_29 : decode cX1_fills 29 = .ok (.iconst 0, 1) := dk_3 (dk_at dksX1_fills_1 6 rfl rfl)
theorem dX1_fills_30 : decode cX1_fills 30 = .ok (.putfield 337, 3) := dk_181 1 81 (dk_at dksX1_fills_1 7 rfl rfl)
theorem dX1_fills_33 : decode cX1_fills 33 = .ok (.iconst 0, 1) := dk_3 (dk_at dksX1_fills_1 10 rfl rfl)
theorem dX1_fills_34 : decode cX1_fills 34 = .ok (.istore 4, 2) := dk_54 4 (dk_at dksX1_fills_1 11 rfl rfl)
theorem dX1_fills_36 : decode cX1_fills 36 = .ok (.iconst (-1), 1) := dk_2 (dk_at dksX1_fills_1 13 rfl rfl)
theorem dX1_fills_37 : decode cX1_fills 37 = .ok (.istore 5, 2) := dk_54 5 (dk_at dksX1_fills_1 14 rfl rfl)
theorem dX1_fills_39 : decode cX1_fills 39 = .ok (.iconst 0, 1) := dk_3 (dk_at dksX1_fills_1 16 rfl rfl)
theorem dX1_fills_40 : decode cX1_fills 40 = .ok (.istore 6, 2) := dk_54 6 (dk_at dksX1_fills_1 17 rfl rfl)
theorem dX1_fills_42 : decode cX1_fills 42 = .ok (.iload 6, 2) := dk_21 6 (dk_at dksX1_fills_1 19 rfl rfl)
theorem dX1_fills_44 : decode cX1_fills 44 = .ok (.aload_n 0, 1) := dk_42 (dk_at dksX1_fills_1 21 rfl rfl)
theorem dX1_fills_45 : decode cX1_fills 45 = .ok (.getfield 55, 3) := dk_180 0 55 (dk_at dksX1_fills_2 0 rfl rfl)
theorem dX1_fills_48 : decode cX1_fills 48 = .ok (.iload_n 1, 1) := dk_27 (dk_at dksX1_fills_2 3 rfl rfl)
theorem dX1_fills_49 : decode cX1_fills 49 = .ok (.iaload, 1) := dk_46 (dk_at dksX1_fills_2 4 rfl rfl)
theorem dX1_fills_50 : decode cX1_fills 50 = .ok (.if_icmp .ge 90, 3) := dk_162 0 90 (dk_at dksX1_fills_2 5 rfl rfl)
theorem dX1_fills_53 : decode cX1_fills 53 = .ok (.lload_n 2, 1) := dk_32 (dk_at dksX1_fills_2 8 rfl rfl)
theorem dX1_fills_54 : decode cX1_fills 54 = .ok (.lconst 0, 1) := dk_9 (dk_at dksX1_fills_2 9 rfl rfl)
theorem dX1_fills_55 : decode cX1_fills 55 = .ok (.lcmp, 1) := dk_148 (dk_at dksX1_fills_2 10 rfl rfl)
theorem dX1_fills_56 : decode cX1_fills 56 = .ok (.ifCond .le 84, 3) := dk_158 0 84 (dk_at dksX1_fills_2 11 rfl rfl)
theorem dX1_fills_59 : decode cX1_fills 59 = .ok (.iconst 0, 1) := dk_3 (dk_at dksX1_fills_2 14 rfl rfl)
theorem dX1_fills_60 : decode cX1_fills 60 = .ok (.istore 7, 2) := dk_54 7 (dk_at dksX1_fills_2 15 rfl rfl)
theorem dX1_fills_62 : decode cX1_fills 62 = .ok (.aload_n 0, 1) := dk_42 (dk_at dksX1_fills_2 17 rfl rfl)
theorem dX1_fills_63 : decode cX1_fills 63 = .ok (.iload_n 1, 1) := dk_27 (dk_at dksX1_fills_2 18 rfl rfl)
theorem dX1_fills_64 : decode cX1_fills 64 = .ok (.iload 6, 2) := dk_21 6 (dk_at dksX1_fills_2 19 rfl rfl)
theorem dX1_fills_66 : decode cX1_fills 66 = .ok (.iload 7, 2) := dk_21 7 (dk_at dksX1_fills_2 21 rfl rfl)
theorem dX1_fills_68 : decode cX1_fills 68 = .ok (.invokevirtual 420, 3) := dk_182 1 164 (dk_at dksX1_fills_3 0 rfl rfl)
theorem dX1_fills_71 : decode cX1_fills 71 = .ok (.ifCond .eq 38, 3) := dk_153 0 38 (dk_at dksX1_fills_3 3 rfl rfl)
theorem dX1_fills_74 : decode cX1_fills 74 = .ok (.aload_n 0, 1) := dk_42 (dk_at dksX1_fills_3 6 rfl rfl)
theorem dX1_fills_75 : decode cX1_fills 75 = .ok (.iload 4, 2) := dk_21 4 (dk_at dksX1_fills_3 7 rfl rfl)
theorem dX1_fills_77 : decode cX1_fills 77 = .ok (.iload 5, 2) := dk_21 5 (dk_at dksX1_fills_3 9 rfl rfl)
theorem dX1_fills_79 : decode cX1_fills 79 = .ok (.iload 7, 2) := dk_21 7 (dk_at dksX1_fills_3 11 rfl rfl)
theorem dX1_fills_81 : decode cX1_fills 81 = .ok (.invokevirtual 361, 3) := dk_182 1 105 (dk_at dksX1_fills_3 13 rfl rfl)
theorem dX1_fills_84 : decode cX1_fills 84 = .ok (.ifCond .eq 25, 3) := dk_153 0 25 (dk_at dksX1_fills_3 16 rfl rfl)
theorem dX1_fills_87 : decode cX1_fills 87 = .ok (.aload_n 0, 1) := dk_42 (dk_at dksX1_fills_3 19 rfl rfl)
theorem dX1_fills_88 : decode cX1_fills 88 = .ok (.getfield 73, 3) := dk_180 0 73 (dk_at dksX1_fills_3 20 rfl rfl)
theorem dX1_fills_91 : decode cX1_fills 91 = .ok (.iload 4, 2) := dk_21 4 (dk_at dksX1_fills_4 0 rfl rfl)
theorem dX1_fills_93 : decode cX1_fills 93 = .ok (.iconst 1, 1) := dk_4 (dk_at dksX1_fills_4 2 rfl rfl)
theorem dX1_fills_94 : decode cX1_fills 94 = .ok (.iload 7, 2) := dk_21 7 (dk_at dksX1_fills_4 3 rfl rfl)
theorem dX1_fills_96 : decode cX1_fills 96 = .ok (.ishl, 1) := dk_120 (dk_at dksX1_fills_4 5 rfl rfl)
theorem dX1_fills_97 : decode cX1_fills 97 = .ok (.ior, 1) := dk_128 (dk_at dksX1_fills_4 6 rfl rfl)
theorem dX1_fills_98 : decode cX1_fills 98 = .ok (.iload 7, 2) := dk_21 7 (dk_at dksX1_fills_4 7 rfl rfl)
theorem dX1_fills_100 : decode cX1_fills 100 = .ok (.invokestatic 364, 3) := dk_184 1 108 (dk_at dksX1_fills_4 9 rfl rfl)
theorem dX1_fills_103 : decode cX1_fills 103 = .ok (.laload, 1) := dk_47 (dk_at dksX1_fills_4 12 rfl rfl)
theorem dX1_fills_104 : decode cX1_fills 104 = .ok (.lconst 0, 1) := dk_9 (dk_at dksX1_fills_4 13 rfl rfl)
theorem dX1_fills_105 : decode cX1_fills 105 = .ok (.lcmp, 1) := dk_148 (dk_at dksX1_fills_4 14 rfl rfl)
theorem dX1_fills_106 : decode cX1_fills 106 = .ok (.ifCond .ne 9, 3) := dk_154 0 9 (dk_at dksX1_fills_4 15 rfl rfl)
theorem dX1_fills_109 : decode cX1_fills 109 = .ok (.iinc 7 1, 3) := dk_132 7 1 (dk_at dksX1_fills_4 18 rfl rfl)
theorem dX1_fills_112 : decode cX1_fills 112 = .ok (.goto (-50), 3) := dk_167 255 206 (dk_at dksX1_fills_4 21 rfl rfl)
theorem dX1_fills_115 : decode cX1_fills 115 = .ok (.aload_n 0, 1) := dk_42 (dk_at dksX1_fills_5 0 rfl rfl)
theorem dX1_fills_116 : decode cX1_fills 116 = .ok (.iload 7, 2) := dk_21 7 (dk_at dksX1_fills_5 1 rfl rfl)
theorem dX1_fills_118 : decode cX1_fills 118 = .ok (.invokevirtual 340, 3) := dk_182 1 84 (dk_at dksX1_fills_5 3 rfl rfl)
theorem dX1_fills_121 : decode cX1_fills 121 = .ok (.iload 4, 2) := dk_21 4 (dk_at dksX1_fills_5 6 rfl rfl)
theorem dX1_fills_123 : decode cX1_fills 123 = .ok (.iconst 1, 1) := dk_4 (dk_at dksX1_fills_5 8 rfl rfl)
theorem dX1_fills_124 : decode cX1_fills 124 = .ok (.iload 7, 2) := dk_21 7 (dk_at dksX1_fills_5 9 rfl rfl)
theorem dX1_fills_126 : decode cX1_fills 126 = .ok (.ishl, 1) := dk_120 (dk_at dksX1_fills_5 11 rfl rfl)
theorem dX1_fills_127 : decode cX1_fills 127 = .ok (.ior, 1) := dk_128 (dk_at dksX1_fills_5 12 rfl rfl)
theorem dX1_fills_128 : decode cX1_fills 128 = .ok (.istore 4, 2) := dk_54 4 (dk_at dksX1_fills_5 13 rfl rfl)
theorem dX1_fills_130 : decode cX1_fills 130 = .ok (.iload 7, 2) := dk_21 7 (dk_at dksX1_fills_5 15 rfl rfl)
theorem dX1_fills_132 : decode cX1_fills 132 = .ok (.istore 5, 2) := dk_54 5 (dk_at dksX1_fills_5 17 rfl rfl)
theorem dX1_fills_134 : decode cX1_fills 134 = .ok (.iinc 6 1, 3) := dk_132 6 1 (dk_at dksX1_fills_5 19 rfl rfl)
theorem dX1_fills_137 : decode cX1_fills 137 = .ok (.goto (-95), 3) := dk_167 255 161 (dk_at dksX1_fills_6 0 rfl rfl)
theorem dX1_fills_140 : decode cX1_fills 140 = .ok (.lload_n 2, 1) := dk_32 (dk_at dksX1_fills_6 3 rfl rfl)
theorem dX1_fills_141 : decode cX1_fills 141 = .ok (.lreturn, 1) := dk_173 (dk_at dksX1_fills_6 4 rfl rfl)
abbrev cX1_countsFills : ByteArray := prog_1_method_94_code
def yX1_countsFills : MethodName := ⟨RX1, "countsFills", "(I)V"⟩
def dkwX1_countsFills_7 : List UInt8 := [167, 255, 111, 177]
abbrev dktX1_countsFills_7 : List UInt8 := dkwX1_countsFills_7 ++ []
def dkwX1_countsFills_6 : List UInt8 := [42, 180, 0, 73, 29, 21, 5, 184, 1, 108, 22, 6, 80, 132, 5, 1, 167, 255, 130, 132, 3, 255]
abbrev dktX1_countsFills_6 : List UInt8 := dkwX1_countsFills_6 ++ dktX1_countsFills_7
def dkwX1_countsFills_5 : List UInt8 := [180, 0, 73, 29, 4, 21, 8, 120, 128, 21, 8, 184, 1, 108, 47, 97, 55, 6, 132, 8, 1, 167, 255, 193]
abbrev dktX1_countsFills_5 : List UInt8 := dkwX1_countsFills_5 ++ dktX1_countsFills_6
def dkwX1_countsFills_4 : List UInt8 := [21, 8, 182, 1, 164, 153, 0, 36, 42, 29, 21, 5, 21, 8, 182, 1, 105, 153, 0, 24, 22, 6, 42]
abbrev dktX1_countsFills_4 : List UInt8 := dkwX1_countsFills_4 ++ dktX1_countsFills_5
def dkwX1_countsFills_3 : List UInt8 := [55, 6, 3, 54, 8, 21, 8, 42, 180, 0, 102, 162, 0, 60, 21, 4, 28, 162, 0, 54, 42, 27, 21, 4]
abbrev dktX1_countsFills_3 : List UInt8 := dkwX1_countsFills_3 ++ dktX1_countsFills_4
def dkwX1_countsFills_2 : List UInt8 := [42, 29, 21, 5, 182, 1, 101, 154, 0, 6, 167, 0, 98, 21, 4, 28, 160, 0, 7, 10, 167, 0, 4, 9]
abbrev dktX1_countsFills_2 : List UInt8 := dkwX1_countsFills_2 ++ dktX1_countsFills_3
def dkwX1_countsFills_1 : List UInt8 := [29, 184, 0, 237, 54, 4, 2, 54, 5, 21, 5, 42, 180, 0, 102, 162, 0, 123, 21, 4, 28, 163, 0, 117]
abbrev dktX1_countsFills_1 : List UInt8 := dkwX1_countsFills_1 ++ dktX1_countsFills_2
def dkwX1_countsFills_0 : List UInt8 := [42, 182, 1, 111, 42, 180, 0, 55, 27, 46, 61, 4, 42, 180, 0, 102, 120, 4, 100, 62, 29, 155, 0, 147]
abbrev dktX1_countsFills_0 : List UInt8 := dkwX1_countsFills_0 ++ dktX1_countsFills_1
theorem dksX1_countsFills_0 : cX1_countsFills.data.toList.drop 0 = dktX1_countsFills_0 := by decide +kernel
theorem dksX1_countsFills_1 : cX1_countsFills.data.toList.drop 24 = dktX1_countsFills_1 := dk_seg dksX1_countsFills_0 24 rfl rfl
theorem dksX1_countsFills_2 : cX1_countsFills.data.toList.drop 48 = dktX1_countsFills_2 := dk_seg dksX1_countsFills_1 24 rfl rfl
theorem dksX1_countsFills_3 : cX1_countsFills.data.toList.drop 72 = dktX1_countsFills_3 := dk_seg dksX1_countsFills_2 24 rfl rfl
theorem dksX1_countsFills_4 : cX1_countsFills.data.toList.drop 96 = dktX1_countsFills_4 := dk_seg dksX1_countsFills_3 24 rfl rfl
theorem dksX1_countsFills_5 : cX1_countsFills.data.toList.drop 119 = dktX1_countsFills_5 := dk_seg dksX1_countsFills_4 23 rfl rfl
theorem dksX1_countsFills_6 : cX1_countsFills.data.toList.drop 143 = dktX1_countsFills_6 := dk_seg dksX1_countsFills_5 24 rfl rfl
theorem dksX1_countsFills_7 : cX1_countsFills.data.toList.drop 165 = dktX1_countsFills_7 := dk_seg dksX1_countsFills_6 22 rfl rfl
theorem dX1_countsFills_0 : decode cX1_countsFills 0 = .ok (.aload_n 0, 1) := dk_42 (dk_at dksX1_countsFills_0 0 rfl rfl)
theorem dX1_countsFills_1 : decode cX1_countsFills 1 = .ok (.invokevirtual 367, 3) := dk_182 1 111 (dk_at dksX1_countsFills_0 1 rfl rfl)
theorem dX1_countsFills_4 : decode cX1_countsFills 4 = .ok (.aload_n 0, 1) := dk_42 (dk_at dksX1_countsFills_0 4 rfl rfl)
theorem dX1_countsFills_5 : decode cX1_countsFills 5 = .ok (.getfield 55, 3) := dk_180 0 55 (dk_at dksX1_countsFills_0 5 rfl rfl)
theorem dX1_countsFills_8 : decode cX1_countsFills 8 = .ok (.iload_n 1, 1) := dk_27 (dk_at dksX1_countsFills_0 8 rfl rfl)
theorem dX1_countsFills_9 : decode cX1_countsFills 9 = .ok (.iaload, 1) := dk_46 (dk_at dksX1_countsFills_0 9 rfl rfl)
theorem dX1_countsFills_10 : decode cX1_countsFills 10 = .ok (.istore_n 2, 1) := dk_61 (dk_at dksX1_countsFills_0 10 rfl rfl)
theorem dX1_countsFills_11 : decode cX1_countsFills 11 = .ok (.iconst 1, 1) := dk_4 (dk_at dksX1_countsFills_0 11 rfl rfl)
theorem dX1_countsFills_12 : decode cX1_countsFills 12 = .ok (.aload_n 0, 1) := dk_42 (dk_at dksX1_countsFills_0 12 rfl rfl)
theorem dX1_countsFills_13 : decode cX1_countsFills 13 = .ok (.getfield 102, 3) := dk_180 0 102 (dk_at dksX1_countsFills_0 13 rfl rfl)
theorem dX1_countsFills_16 : decode cX1_countsFills 16 = .ok (.ishl, 1) := dk_120 (dk_at dksX1_countsFills_0 16 rfl rfl)
theorem dX1_countsFills_17 : decode cX1_countsFills 17 = .ok (.iconst 1, 1) := dk_4 (dk_at dksX1_countsFills_0 17 rfl rfl)
theorem dX1_countsFills_18 : decode cX1_countsFills 18 = .ok (.isub, 1) := dk_100 (dk_at dksX1_countsFills_0 18 rfl rfl)
theorem dX1_countsFills_19 : decode cX1_countsFills 19 = .ok (.istore_n 3, 1) := dk_62 (dk_at dksX1_countsFills_0 19 rfl rfl)
theorem dX1_countsFills_20 : decode cX1_countsFills 20 = .ok (.iload_n 3, 1) := dk_29 (dk_at dksX1_countsFills_0 20 rfl rfl)
theorem dX1_countsFills_21 : decode cX1_countsFills 21 = .ok (.ifCond .lt 147, 3) := dk_155 0 147 (dk_at dksX1_countsFills_0 21 rfl rfl)
theorem dX1_countsFills_24 : decode cX1_countsFills 24 = .ok (.iload_n 3, 1) := dk_29 (dk_at dksX1_countsFills_1 0 rfl rfl)
theorem dX1_countsFills_25 : decode cX1_countsFills 25 = .ok (.invokestatic 237, 3) := dk_184 0 237 (dk_at dksX1_countsFills_1 1 rfl rfl)
theorem dX1_countsFills_28 : decode cX1_countsFills 28 = .ok (.istore 4, 2) := dk_54 4 (dk_at dksX1_countsFills_1 4 rfl rfl)
theorem dX1_countsFills_30 : decode cX1_countsFills 30 = .ok (.iconst (-1), 1) := dk_2 (dk_at dksX1_countsFills_1 6 rfl rfl)
theorem dX1_countsFills_31 : decode cX1_countsFills 31 = .ok (.istore 5, 2) := dk_54 5 (dk_at dksX1_countsFills_1 7 rfl rfl)
theorem dX1_countsFills_33 : decode cX1_countsFills 33 = .ok (.iload 5, 2) := dk_21 5 (dk_at dksX1_countsFills_1 9 rfl rfl)
theorem dX1_countsFills_35 : decode cX1_countsFills 35 = .ok (.aload_n 0, 1) := dk_42 (dk_at dksX1_countsFills_1 11 rfl rfl)
theorem dX1_countsFills_36 : decode cX1_countsFills 36 = .ok (.getfield 102, 3) := dk_180 0 102 (dk_at dksX1_countsFills_1 12 rfl rfl)
theorem dX1_countsFills_39 : decode cX1_countsFills 39 = .ok (.if_icmp .ge 123, 3) := dk_162 0 123 (dk_at dksX1_countsFills_1 15 rfl rfl)
theorem dX1_countsFills_42 : decode cX1_countsFills 42 = .ok (.iload 4, 2) := dk_21 4 (dk_at dksX1_countsFills_1 18 rfl rfl)
theorem dX1_countsFills_44 : decode cX1_countsFills 44 = .ok (.iload_n 2, 1) := dk_28 (dk_at dksX1_countsFills_1 20 rfl rfl)
theorem dX1_countsFills_45 : decode cX1_countsFills 45 = .ok (.if_icmp .gt 117, 3) := dk_163 0 117 (dk_at dksX1_countsFills_1 21 rfl rfl)
theorem dX1_countsFills_48 : decode cX1_countsFills 48 = .ok (.aload_n 0, 1) := dk_42 (dk_at dksX1_countsFills_2 0 rfl rfl)
theorem dX1_countsFills_49 : decode cX1_countsFills 49 = .ok (.iload_n 3, 1) := dk_29 (dk_at dksX1_countsFills_2 1 rfl rfl)
theorem dX1_countsFills_50 : decode cX1_countsFills 50 = .ok (.iload 5, 2) := dk_21 5 (dk_at dksX1_countsFills_2 2 rfl rfl)
theorem dX1_countsFills_52 : decode cX1_countsFills 52 = .ok (.invokevirtual 357, 3) := dk_182 1 101 (dk_at dksX1_countsFills_2 4 rfl rfl)
theorem dX1_countsFills_55 : decode cX1_countsFills 55 = .ok (.ifCond .ne 6, 3) := dk_154 0 6 (dk_at dksX1_countsFills_2 7 rfl rfl)
theorem dX1_countsFills_58 : decode cX1_countsFills 58 = .ok (.goto 98, 3) := dk_167 0 98 (dk_at dksX1_countsFills_2 10 rfl rfl)
theorem dX1_countsFills_61 : decode cX1_countsFills 61 = .ok (.iload 4, 2) := dk_21 4 (dk_at dksX1_countsFills_2 13 rfl rfl)
theorem dX1_countsFills_63 : decode cX1_countsFills 63 = .ok (.iload_n 2, 1) := dk_28 (dk_at dksX1_countsFills_2 15 rfl rfl)
theorem dX1_countsFills_64 : decode cX1_countsFills 64 = .ok (.if_icmp .ne 7, 3) := dk_160 0 7 (dk_at dksX1_countsFills_2 16 rfl rfl)
theorem dX1_countsFills_67 : decode cX1_countsFills 67 = .ok (.lconst 1, 1) := dk_10 (dk_at dksX1_countsFills_2 19 rfl rfl)
theorem dX1_countsFills_68 : decode cX1_countsFills 68 = .ok (.goto 4, 3) := dk_167 0 4 (dk_at dksX1_countsFills_2 20 rfl rfl)
theorem dX1_countsFills_71 : decode cX1_countsFills 71 = .ok (.lconst 0, 1) := dk_9 (dk_at dksX1_countsFills_2 23 rfl rfl)
theorem dX1_countsFills_72 : decode cX1_countsFills 72 = .ok (.lstore 6, 2) := dk_55 6 (dk_at dksX1_countsFills_3 0 rfl rfl)
theorem dX1_countsFills_74 : decode cX1_countsFills 74 = .ok (.iconst 0, 1) := dk_3 (dk_at dksX1_countsFills_3 2 rfl rfl)
theorem dX1_countsFills_75 : decode cX1_countsFills 75 = .ok (.istore 8, 2) := dk_54 8 (dk_at dksX1_countsFills_3 3 rfl rfl)
theorem dX1_countsFills_77 : decode cX1_countsFills 77 = .ok (.iload 8, 2) := dk_21 8 (dk_at dksX1_countsFills_3 5 rfl rfl)
theorem dX1_countsFills_79 : decode cX1_countsFills 79 = .ok (.aload_n 0, 1) := dk_42 (dk_at dksX1_countsFills_3 7 rfl rfl)
theorem dX1_countsFills_80 : decode cX1_countsFills 80 = .ok (.getfield 102, 3) := dk_180 0 102 (dk_at dksX1_countsFills_3 8 rfl rfl)
theorem dX1_countsFills_83 : decode cX1_countsFills 83 = .ok (.if_icmp .ge 60, 3) := dk_162 0 60 (dk_at dksX1_countsFills_3 11 rfl rfl)
theorem dX1_countsFills_86 : decode cX1_countsFills 86 = .ok (.iload 4, 2) := dk_21 4 (dk_at dksX1_countsFills_3 14 rfl rfl)
theorem dX1_countsFills_88 : decode cX1_countsFills 88 = .ok (.iload_n 2, 1) := dk_28 (dk_at dksX1_countsFills_3 16 rfl rfl)
theorem dX1_countsFills_89 : decode cX1_countsFills 89 = .ok (.if_icmp .ge 54, 3) := dk_162 0 54 (dk_at dksX1_countsFills_3 17 rfl rfl)
theorem dX1_countsFills_92 : decode cX1_countsFills 92 = .ok (.aload_n 0, 1) := dk_42 (dk_at dksX1_countsFills_3 20 rfl rfl)
theorem dX1_countsFills_93 : decode cX1_countsFills 93 = .ok (.iload_n 1, 1) := dk_27 (dk_at dksX1_countsFills_3 21 rfl rfl)
theorem dX1_countsFills_94 : decode cX1_countsFills 94 = .ok (.iload 4, 2) := dk_21 4 (dk_at dksX1_countsFills_3 22 rfl rfl)
theorem dX1_countsFills_96 : decode cX1_countsFills 96 = .ok (.iload 8, 2) := dk_21 8 (dk_at dksX1_countsFills_4 0 rfl rfl)
theorem dX1_countsFills_98 : decode cX1_countsFills 98 = .ok (.invokevirtual 420, 3) := dk_182 1 164 (dk_at dksX1_countsFills_4 2 rfl rfl)
theorem dX1_countsFills_101 : decode cX1_countsFills 101 = .ok (.ifCond .eq 36, 3) := dk_153 0 36 (dk_at dksX1_countsFills_4 5 rfl rfl)
theorem dX1_countsFills_104 : decode cX1_countsFills 104 = .ok (.aload_n 0, 1) := dk_42 (dk_at dksX1_countsFills_4 8 rfl rfl)
theorem dX1_countsFills_105 : decode cX1_countsFills 105 = .ok (.iload_n 3, 1) := dk_29 (dk_at dksX1_countsFills_4 9 rfl rfl)
theorem dX1_countsFills_106 : decode cX1_countsFills 106 = .ok (.iload 5, 2) := dk_21 5 (dk_at dksX1_countsFills_4 10 rfl rfl)
theorem dX1_countsFills_108 : decode cX1_countsFills 108 = .ok (.iload 8, 2) := dk_21 8 (dk_at dksX1_countsFills_4 12 rfl rfl)
theorem dX1_countsFills_110 : decode cX1_countsFills 110 = .ok (.invokevirtual 361, 3) := dk_182 1 105 (dk_at dksX1_countsFills_4 14 rfl rfl)
theorem dX1_countsFills_113 : decode cX1_countsFills 113 = .ok (.ifCond .eq 24, 3) := dk_153 0 24 (dk_at dksX1_countsFills_4 17 rfl rfl)
theorem dX1_countsFills_116 : decode cX1_countsFills 116 = .ok (.lload 6, 2) := dk_22 6 (dk_at dksX1_countsFills_4 20 rfl rfl)
theorem dX1_countsFills_118 : decode cX1_countsFills 118 = .ok (.aload_n 0, 1) := dk_42 (dk_at dksX1_countsFills_4 22 rfl rfl)
theorem dX1_countsFills_119 : decode cX1_countsFills 119 = .ok (.getfield 73, 3) := dk_180 0 73 (dk_at dksX1_countsFills_5 0 rfl rfl)
theorem dX1_countsFills_122 : decode cX1_countsFills 122 = .ok (.iload_n 3, 1) := dk_29 (dk_at dksX1_countsFills_5 3 rfl rfl)
theorem dX1_countsFills_123 : decode cX1_countsFills 123 = .ok (.iconst 1, 1) := dk_4 (dk_at dksX1_countsFills_5 4 rfl rfl)
theorem dX1_countsFills_124 : decode cX1_countsFills 124 = .ok (.iload 8, 2) := dk_21 8 (dk_at dksX1_countsFills_5 5 rfl rfl)
theorem dX1_countsFills_126 : decode cX1_countsFills 126 = .ok (.ishl, 1) := dk_120 (dk_at dksX1_countsFills_5 7 rfl rfl)
theorem dX1_countsFills_127 : decode cX1_countsFills 127 = .ok (.ior, 1) := dk_128 (dk_at dksX1_countsFills_5 8 rfl rfl)
theorem dX1_countsFills_128 : decode cX1_countsFills 128 = .ok (.iload 8, 2) := dk_21 8 (dk_at dksX1_countsFills_5 9 rfl rfl)
theorem dX1_countsFills_130 : decode cX1_countsFills 130 = .ok (.invokestatic 364, 3) := dk_184 1 108 (dk_at dksX1_countsFills_5 11 rfl rfl)
theorem dX1_countsFills_133 : decode cX1_countsFills 133 = .ok (.laload, 1) := dk_47 (dk_at dksX1_countsFills_5 14 rfl rfl)
theorem dX1_countsFills_134 : decode cX1_countsFills 134 = .ok (.ladd, 1) := dk_97 (dk_at dksX1_countsFills_5 15 rfl rfl)
theorem dX1_countsFills_135 : decode cX1_countsFills 135 = .ok (.lstore 6, 2) := dk_55 6 (dk_at dksX1_countsFills_5 16 rfl rfl)
theorem dX1_countsFills_137 : decode cX1_countsFills 137 = .ok (.iinc 8 1, 3) := dk_132 8 1 (dk_at dksX1_countsFills_5 18 rfl rfl)
theorem dX1_countsFills_140 : decode cX1_countsFills 140 = .ok (.goto (-63), 3) := dk_167 255 193 (dk_at dksX1_countsFills_5 21 rfl rfl)
theorem dX1_countsFills_143 : decode cX1_countsFills 143 = .ok (.aload_n 0, 1) := dk_42 (dk_at dksX1_countsFills_6 0 rfl rfl)
theorem dX1_countsFills_144 : decode cX1_countsFills 144 = .ok (.getfield 73, 3) := dk_180 0 73 (dk_at dksX1_countsFills_6 1 rfl rfl)
theorem dX1_countsFills_147 : decode cX1_countsFills 147 = .ok (.iload_n 3, 1) := dk_29 (dk_at dksX1_countsFills_6 4 rfl rfl)
theorem dX1_countsFills_148 : decode cX1_countsFills 148 = .ok (.iload 5, 2) := dk_21 5 (dk_at dksX1_countsFills_6 5 rfl rfl)
theorem dX1_countsFills_150 : decode cX1_countsFills 150 = .ok (.invokestatic 364, 3) := dk_184 1 108 (dk_at dksX1_countsFills_6 7 rfl rfl)
theorem dX1_countsFills_153 : decode cX1_countsFills 153 = .ok (.lload 6, 2) := dk_22 6 (dk_at dksX1_countsFills_6 10 rfl rfl)
theorem dX1_countsFills_155 : decode cX1_countsFills 155 = .ok (.lastore, 1) := dk_80 (dk_at dksX1_countsFills_6 12 rfl rfl)
theorem dX1_countsFills_156 : decode cX1_countsFills 156 = .ok (.iinc 5 1, 3) := dk_132 5 1 (dk_at dksX1_countsFills_6 13 rfl rfl)
theorem dX1_countsFills_159 : decode cX1_countsFills 159 = .ok (.goto (-126), 3) := dk_167 255 130 (dk_at dksX1_countsFills_6 16 rfl rfl)
theorem dX1_countsFills_162 : decode cX1_countsFills 162 = .ok (.iinc 3 (-1), 3) := dk_132 3 255 (dk_at dksX1_countsFills_6 19 rfl rfl)
theorem dX1_countsFills_165 : decode cX1_countsFills 165 = .ok (.goto (-145), 3) := dk_167 255 111 (dk_at dksX1_countsFills_7 0 rfl rfl)
theorem dX1_countsFills_168 : decode cX1_countsFills 168 = .ok (.return_, 1) := dk_177 (dk_at dksX1_countsFills_7 3 rfl rfl)
abbrev cX1_fits : ByteArray := prog_1_method_95_code
def yX1_fits : MethodName := ⟨RX1, "fits", "(III)Z"⟩
def dkwX1_fits_1 : List UInt8 := [167, 0, 4, 3, 172]
abbrev dktX1_fits_1 : List UInt8 := dkwX1_fits_1 ++ []
def dkwX1_fits_0 : List UInt8 := [42, 27, 28, 182, 1, 72, 16, 99, 159, 0, 13, 42, 27, 28, 182, 1, 72, 29, 160, 0, 7, 4]
abbrev dktX1_fits_0 : List UInt8 := dkwX1_fits_0 ++ dktX1_fits_1
theorem dksX1_fits_0 : cX1_fits.data.toList.drop 0 = dktX1_fits_0 := by decide +kernel
theorem dksX1_fits_1 : cX1_fits.data.toList.drop 22 = dktX1_fits_1 := dk_seg dksX1_fits_0 22 rfl rfl
theorem dX1_fits_0 : decode cX1_fits 0 = .ok (.aload_n 0, 1) := dk_42 (dk_at dksX1_fits_0 0 rfl rfl)
theorem dX1_fits_1 : decode cX1_fits 1 = .ok (.iload_n 1, 1) := dk_27 (dk_at dksX1_fits_0 1 rfl rfl)
theorem dX1_fits_2 : decode cX1_fits 2 = .ok (.iload_n 2, 1) := dk_28 (dk_at dksX1_fits_0 2 rfl rfl)
theorem dX1_fits_3 : decode cX1_fits 3 = .ok (.invokevirtual 328, 3) := dk_182 1 72 (dk_at dksX1_fits_0 3 rfl rfl)
theorem dX1_fits_6 : decode cX1_fits 6 = .ok (.bipush 99, 2) := dk_16 99 (dk_at dksX1_fits_0 6 rfl rfl)
theorem dX1_fits_8 : decode cX1_fits 8 = .ok (.if_icmp .eq 13, 3) := dk_159 0 13 (dk_at dksX1_fits_0 8 rfl rfl)
theorem dX1_fits_11 : decode cX1_fits 11 = .ok (.aload_n 0, 1) := dk_42 (dk_at dksX1_fits_0 11 rfl rfl)
theorem dX1_fits_12 : decode cX1_fits 12 = .ok (.iload_n 1, 1) := dk_27 (dk_at dksX1_fits_0 12 rfl rfl)
theorem dX1_fits_13 : decode cX1_fits 13 = .ok (.iload_n 2, 1) := dk_28 (dk_at dksX1_fits_0 13 rfl rfl)
theorem dX1_fits_14 : decode cX1_fits 14 = .ok (.invokevirtual 328, 3) := dk_182 1 72 (dk_at dksX1_fits_0 14 rfl rfl)
theorem dX1_fits_17 : decode cX1_fits 17 = .ok (.iload_n 3, 1) := dk_29 (dk_at dksX1_fits_0 17 rfl rfl)
theorem dX1_fits_18 : decode cX1_fits 18 = .ok (.if_icmp .ne 7, 3) := dk_160 0 7 (dk_at dksX1_fits_0 18 rfl rfl)
theorem dX1_fits_21 : decode cX1_fits 21 = .ok (.iconst 1, 1) := dk_4 (dk_at dksX1_fits_0 21 rfl rfl)
theorem dX1_fits_22 : decode cX1_fits 22 = .ok (.goto 4, 3) := dk_167 0 4 (dk_at dksX1_fits_1 0 rfl rfl)
theorem dX1_fits_25 : decode cX1_fits 25 = .ok (.iconst 0, 1) := dk_3 (dk_at dksX1_fits_1 3 rfl rfl)
theorem dX1_fits_26 : decode cX1_fits 26 = .ok (.ireturn, 1) := dk_172 (dk_at dksX1_fits_1 4 rfl rfl)
abbrev cX1_sure : ByteArray := prog_1_method_97_code
def yX1_sure : MethodName := ⟨RX1, "sure", "(II)I"⟩
def dkwX1_sure_7 : List UInt8 := [3, 172]
abbrev dktX1_sure_7 : List UInt8 := dkwX1_sure_7 ++ []
def dkwX1_sure_6 : List UInt8 := [132, 5, 1, 167, 255, 190, 132, 4, 1, 167, 255, 170, 29, 184, 0, 237, 4, 160, 0, 7, 29, 167, 0, 4]
abbrev dktX1_sure_6 : List UInt8 := dkwX1_sure_6 ++ dktX1_sure_7
def dkwX1_sure_5 : List UInt8 := [21, 4, 21, 5, 184, 1, 108, 47, 9, 148, 158, 0, 10, 4, 21, 5, 120, 167, 0, 4, 3, 128, 62]
abbrev dktX1_sure_5 : List UInt8 := dkwX1_sure_5 ++ dktX1_sure_6
def dkwX1_sure_4 : List UInt8 := [160, 0, 52, 29, 42, 180, 0, 64, 21, 4, 46, 21, 5, 184, 1, 3, 153, 0, 27, 42, 180, 0, 73]
abbrev dktX1_sure_4 : List UInt8 := dkwX1_sure_4 ++ dktX1_sure_5
def dkwX1_sure_3 : List UInt8 := [162, 0, 81, 3, 54, 5, 21, 5, 42, 180, 0, 102, 162, 0, 63, 21, 4, 184, 0, 237, 28, 4, 96]
abbrev dktX1_sure_3 : List UInt8 := dkwX1_sure_3 ++ dktX1_sure_4
def dkwX1_sure_2 : List UInt8 := [154, 0, 5, 3, 172, 42, 27, 182, 1, 172, 3, 62, 3, 54, 4, 21, 4, 4, 42, 180, 0, 102, 120]
abbrev dktX1_sure_2 : List UInt8 := dkwX1_sure_2 ++ dktX1_sure_3
def dkwX1_sure_1 : List UInt8 := [154, 0, 6, 16, 253, 172, 42, 27, 182, 1, 169, 42, 180, 0, 73, 3, 2, 184, 1, 108, 47, 9, 148]
abbrev dktX1_sure_1 : List UInt8 := dkwX1_sure_1 ++ dktX1_sure_2
def dkwX1_sure_0 : List UInt8 := [42, 27, 182, 1, 69, 153, 0, 21, 28, 133, 9, 42, 180, 0, 55, 27, 46, 4, 100, 133, 184, 0, 106]
abbrev dktX1_sure_0 : List UInt8 := dkwX1_sure_0 ++ dktX1_sure_1
theorem dksX1_sure_0 : cX1_sure.data.toList.drop 0 = dktX1_sure_0 := by decide +kernel
theorem dksX1_sure_1 : cX1_sure.data.toList.drop 23 = dktX1_sure_1 := dk_seg dksX1_sure_0 23 rfl rfl
theorem dksX1_sure_2 : cX1_sure.data.toList.drop 46 = dktX1_sure_2 := dk_seg dksX1_sure_1 23 rfl rfl
theorem dksX1_sure_3 : cX1_sure.data.toList.drop 69 = dktX1_sure_3 := dk_seg dksX1_sure_2 23 rfl rfl
theorem dksX1_sure_4 : cX1_sure.data.toList.drop 92 = dktX1_sure_4 := dk_seg dksX1_sure_3 23 rfl rfl
theorem dksX1_sure_5 : cX1_sure.data.toList.drop 115 = dktX1_sure_5 := dk_seg dksX1_sure_4 23 rfl rfl
theorem dksX1_sure_6 : cX1_sure.data.toList.drop 138 = dktX1_sure_6 := dk_seg dksX1_sure_5 23 rfl rfl
theorem dksX1_sure_7 : cX1_sure.data.toList.drop 162 = dktX1_sure_7 := dk_seg dksX1_sure_6 24 rfl rfl
theorem dX1_sure_0 : decode cX1_sure 0 = .ok (.aload_n 0, 1) := dk_42 (dk_at dksX1_sure_0 0 rfl rfl)
theorem dX1_sure_1 : decode cX1_sure 1 = .ok (.iload_n 1, 1) := dk_27 (dk_at dksX1_sure_0 1 rfl rfl)
theorem dX1_sure_2 : decode cX1_sure 2 = .ok (.invokevirtual 325, 3) := dk_182 1 69 (dk_at dksX1_sure_0 2 rfl rfl)
theorem dX1_sure_5 : decode cX1_sure 5 = .ok (.ifCond .eq 21, 3) := dk_153 0 21 (dk_at dksX1_sure_0 5 rfl rfl)
theorem dX1_sure_8 : decode cX1_sure 8 = .ok (.iload_n 2, 1) := dk_28 (dk_at dksX1_sure_0 8 rfl rfl)
theorem dX1_sure_9 : decode cX1_sure 9 = .ok (.i2l, 1) := dk_133 (dk_at dksX1_sure_0 9 rfl rfl)
theorem dX1_sure_10 : decode cX1_sure 10 = .ok (.lconst 0, 1) := dk_9 (dk_at dksX1_sure_0 10 rfl rfl)
theorem dX1_sure_11 : decode cX1_sure 11 = .ok (.aload_n 0, 1) := dk_42 (dk_at dksX1_sure_0 11 rfl rfl)
theorem dX1_sure_12 : decode cX1_sure 12 = .ok (.getfield 55, 3) := dk_180 0 55 (dk_at dksX1_sure_0 12 rfl rfl)
theorem dX1_sure_15 : decode cX1_sure 15 = .ok (.iload_n 1, 1) := dk_27 (dk_at dksX1_sure_0 15 rfl rfl)
theorem dX1_sure_16 : decode cX1_sure 16 = .ok (.iaload, 1) := dk_46 (dk_at dksX1_sure_0 16 rfl rfl)
theorem dX1_sure_17 : decode cX1_sure 17 = .ok (.iconst 1, 1) := dk_4 (dk_at dksX1_sure_0 17 rfl rfl)
theorem dX1_sure_18 : decode cX1_sure 18 = .ok (.isub, 1) := dk_100 (dk_at dksX1_sure_0 18 rfl rfl)
theorem dX1_sure_19 : decode cX1_sure 19 = .ok (.i2l, 1) := dk_133 (dk_at dksX1_sure_0 19 rfl rfl)
theorem dX1_sure_20 : decode cX1_sure 20 = .ok (.invokestatic 106, 3) := dk_184 0 106 (dk_at dksX1_sure_0 20 rfl rfl)
theorem dX1_sure_23 : decode cX1_sure 23 = .ok (.ifCond .ne 6, 3) := dk_154 0 6 (dk_at dksX1_sure_1 0 rfl rfl)
theorem dX1_sure_26 : decode cX1_sure 26 = .ok (.bipush (-3), 2) := dk_16 253 (dk_at dksX1_sure_1 3 rfl rfl)
theorem dX1_sure_28 : decode cX1_sure 28 = .ok (.ireturn, 1) := dk_172 (dk_at dksX1_sure_1 5 rfl rfl)
theorem dX1_sure_29 : decode cX1_sure 29 = .ok (.aload_n 0, 1) := dk_42 (dk_at dksX1_sure_1 6 rfl rfl)
theorem dX1_sure_30 : decode cX1_sure 30 = .ok (.iload_n 1, 1) := dk_27 (dk_at dksX1_sure_1 7 rfl rfl)
theorem dX1_sure_31 : decode cX1_sure 31 = .ok (.invokevirtual 425, 3) := dk_182 1 169 (dk_at dksX1_sure_1 8 rfl rfl)
theorem dX1_sure_34 : decode cX1_sure 34 = .ok (.aload_n 0, 1) := dk_42 (dk_at dksX1_sure_1 11 rfl rfl)
theorem dX1_sure_35 : decode cX1_sure 35 = .ok (.getfield 73, 3) := dk_180 0 73 (dk_at dksX1_sure_1 12 rfl rfl)
theorem dX1_sure_38 : decode cX1_sure 38 = .ok (.iconst 0, 1) := dk_3 (dk_at dksX1_sure_1 15 rfl rfl)
theorem dX1_sure_39 : decode cX1_sure 39 = .ok (.iconst (-1), 1) := dk_2 (dk_at dksX1_sure_1 16 rfl rfl)
theorem dX1_sure_40 : decode cX1_sure 40 = .ok (.invokestatic 364, 3) := dk_184 1 108 (dk_at dksX1_sure_1 17 rfl rfl)
theorem dX1_sure_43 : decode cX1_sure 43 = .ok (.laload, 1) := dk_47 (dk_at dksX1_sure_1 20 rfl rfl)
theorem dX1_sure_44 : decode cX1_sure 44 = .ok (.lconst 0, 1) := dk_9 (dk_at dksX1_sure_1 21 rfl rfl)
theorem dX1_sure_45 : decode cX1_sure 45 = .ok (.lcmp, 1) := dk_148 (dk_at dksX1_sure_1 22 rfl rfl)
theorem dX1_sure_46 : decode cX1_sure 46 = .ok (.ifCond .ne 5, 3) := dk_154 0 5 (dk_at dksX1_sure_2 0 rfl rfl)
theorem dX1_sure_49 : decode cX1_sure 49 = .ok (.iconst 0, 1) := dk_3 (dk_at dksX1_sure_2 3 rfl rfl)
theorem dX1_sure_50 : decode cX1_sure 50 = .ok (.ireturn, 1) := dk_172 (dk_at dksX1_sure_2 4 rfl rfl)
theorem dX1_sure_51 : decode cX1_sure 51 = .ok (.aload_n 0, 1) := dk_42 (dk_at dksX1_sure_2 5 rfl rfl)
theorem dX1_sure_52 : decode cX1_sure 52 = .ok (.iload_n 1, 1) := dk_27 (dk_at dksX1_sure_2 6 rfl rfl)
theorem dX1_sure_53 : decode cX1_sure 53 = .ok (.invokevirtual 428, 3) := dk_182 1 172 (dk_at dksX1_sure_2 7 rfl rfl)
theorem dX1_sure_56 : decode cX1_sure 56 = .ok (.iconst 0, 1) := dk_3 (dk_at dksX1_sure_2 10 rfl rfl)
theorem dX1_sure_57 : decode cX1_sure 57 = .ok (.istore_n 3, 1) := dk_62 (dk_at dksX1_sure_2 11 rfl rfl)
theorem dX1_sure_58 : decode cX1_sure 58 = .ok (.iconst 0, 1) := dk_3 (dk_at dksX1_sure_2 12 rfl rfl)
theorem dX1_sure_59 : decode cX1_sure 59 = .ok (.istore 4, 2) := dk_54 4 (dk_at dksX1_sure_2 13 rfl rfl)
theorem dX1_sure_61 : decode cX1_sure 61 = .ok (.iload 4, 2) := dk_21 4 (dk_at dksX1_sure_2 15 rfl rfl)
theorem dX1_sure_63 : decode cX1_sure 63 = .ok (.iconst 1, 1) := dk_4 (dk_at dksX1_sure_2 17 rfl rfl)
theorem dX1_sure_64 : decode cX1_sure 64 = .ok (.aload_n 0, 1) := dk_42 (dk_at dksX1_sure_2 18 rfl rfl)
theorem dX1_sure_65 : decode cX1_sure 65 = .ok (.getfield 102, 3) := dk_180 0 102 (dk_at dksX1_sure_2 19 rfl rfl)
theorem dX1_sure_68 : decode cX1_sure 68 = .ok (.ishl, 1) := dk_120 (dk_at dksX1_sure_2 22 rfl rfl)
theorem dX1_sure_69 : decode cX1_sure 69 = .ok (.if_icmp .ge 81, 3) := dk_162 0 81 (dk_at dksX1_sure_3 0 rfl rfl)
theorem dX1_sure_72 : decode cX1_sure 72 = .ok (.iconst 0, 1) := dk_3 (dk_at dksX1_sure_3 3 rfl rfl)
theorem dX1_sure_73 : decode cX1_sure 73 = .ok (.istore 5, 2) := dk_54 5 (dk_at dksX1_sure_3 4 rfl rfl)
theorem dX1_sure_75 : decode cX1_sure 75 = .ok (.iload 5, 2) := dk_21 5 (dk_at dksX1_sure_3 6 rfl rfl)
theorem dX1_sure_77 : decode cX1_sure 77 = .ok (.aload_n 0, 1) := dk_42 (dk_at dksX1_sure_3 8 rfl rfl)
theorem dX1_sure_78 : decode cX1_sure 78 = .ok (.getfield 102, 3) := dk_180 0 102 (dk_at dksX1_sure_3 9 rfl rfl)
theorem dX1_sure_81 : decode cX1_sure 81 = .ok (.if_icmp .ge 63, 3) := dk_162 0 63 (dk_at dksX1_sure_3 12 rfl rfl)
theorem dX1_sure_84 : decode cX1_sure 84 = .ok (.iload 4, 2) := dk_21 4 (dk_at dksX1_sure_3 15 rfl rfl)
theorem dX1_sure_86 : decode cX1_sure 86 = .ok (.invokestatic 237, 3) := dk_184 0 237 (dk_at dksX1_sure_3 17 rfl rfl)
theorem dX1_sure_89 : decode cX1_sure 89 = .ok (.iload_n 2, 1) := dk_28 (dk_at dksX1_sure_3 20 rfl rfl)
theorem dX1_sure_90 : decode cX1_sure 90 = .ok (.iconst 1, 1) := dk_4 (dk_at dksX1_sure_3 21 rfl rfl)
theorem dX1_sure_91 : decode cX1_sure 91 = .ok (.iadd, 1) := dk_96 (dk_at dksX1_sure_3 22 rfl rfl)
theorem dX1_sure_92 : decode cX1_sure 92 = .ok (.if_icmp .ne 52, 3) := dk_160 0 52 (dk_at dksX1_sure_4 0 rfl rfl)
theorem dX1_sure_95 : decode cX1_sure 95 = .ok (.iload_n 3, 1) := dk_29 (dk_at dksX1_sure_4 3 rfl rfl)
theorem dX1_sure_96 : decode cX1_sure 96 = .ok (.aload_n 0, 1) := dk_42 (dk_at dksX1_sure_4 4 rfl rfl)
theorem dX1_sure_97 : decode cX1_sure 97 = .ok (.getfield 64, 3) := dk_180 0 64 (dk_at dksX1_sure_4 5 rfl rfl)
theorem dX1_sure_100 : decode cX1_sure 100 = .ok (.iload 4, 2) := dk_21 4 (dk_at dksX1_sure_4 8 rfl rfl)
theorem dX1_sure_102 : decode cX1_sure 102 = .ok (.iaload, 1) := dk_46 (dk_at dksX1_sure_4 10 rfl rfl)
theorem dX1_sure_103 : decode cX1_sure 103 = .ok (.iload 5, 2) := dk_21 5 (dk_at dksX1_sure_4 11 rfl rfl)
theorem dX1_sure_105 : decode cX1_sure 105 = .ok (.invokestatic 259, 3) := dk_184 1 3 (dk_at dksX1_sure_4 13 rfl rfl)
theorem dX1_sure_108 : decode cX1_sure 108 = .ok (.ifCond .eq 27, 3) := dk_153 0 27 (dk_at dksX1_sure_4 16 rfl rfl)
theorem dX1_sure_111 : decode cX1_sure 111 = .ok (.aload_n 0, 1) := dk_42 (dk_at dksX1_sure_4 19 rfl rfl)
theorem dX1_sure_112 : decode cX1_sure 112 = .ok (.getfield 73, 3) := dk_180 0 73 (dk_at dksX1_sure_4 20 rfl rfl)
theorem dX1_sure_115 : decode cX1_sure 115 = .ok (.iload 4, 2) := dk_21 4 (dk_at dksX1_sure_5 0 rfl rfl)
theorem dX1_sure_117 : decode cX1_sure 117 = .ok (.iload 5, 2) := dk_21 5 (dk_at dksX1_sure_5 2 rfl rfl)
theorem dX1_sure_119 : decode cX1_sure 119 = .ok (.invokestatic 364, 3) := dk_184 1 108 (dk_at dksX1_sure_5 4 rfl rfl)
theorem dX1_sure_122 : decode cX1_sure 122 = .ok (.laload, 1) := dk_47 (dk_at dksX1_sure_5 7 rfl rfl)
theorem dX1_sure_123 : decode cX1_sure 123 = .ok (.lconst 0, 1) := dk_9 (dk_at dksX1_sure_5 8 rfl rfl)
theorem dX1_sure_124 : decode cX1_sure 124 = .ok (.lcmp, 1) := dk_148 (dk_at dksX1_sure_5 9 rfl rfl)
theorem dX1_sure_125 : decode cX1_sure 125 = .ok (.ifCond .le 10, 3) := dk_158 0 10 (dk_at dksX1_sure_5 10 rfl rfl)
theorem dX1_sure_128 : decode cX1_sure 128 = .ok (.iconst 1, 1) := dk_4 (dk_at dksX1_sure_5 13 rfl rfl)
theorem dX1_sure_129 : decode cX1_sure 129 = .ok (.iload 5, 2) := dk_21 5 (dk_at dksX1_sure_5 14 rfl rfl)
theorem dX1_sure_131 : decode cX1_sure 131 = .ok (.ishl, 1) := dk_120 (dk_at dksX1_sure_5 16 rfl rfl)
theorem dX1_sure_132 : decode cX1_sure 132 = .ok (.goto 4, 3) := dk_167 0 4 (dk_at dksX1_sure_5 17 rfl rfl)
theorem dX1_sure_135 : decode cX1_sure 135 = .ok (.iconst 0, 1) := dk_3 (dk_at dksX1_sure_5 20 rfl rfl)
theorem dX1_sure_136 : decode cX1_sure 136 = .ok (.ior, 1) := dk_128 (dk_at dksX1_sure_5 21 rfl rfl)
theorem dX1_sure_137 : decode cX1_sure 137 = .ok (.istore_n 3, 1) := dk_62 (dk_at dksX1_sure_5 22 rfl rfl)
theorem dX1_sure_138 : decode cX1_sure 138 = .ok (.iinc 5 1, 3) := dk_132 5 1 (dk_at dksX1_sure_6 0 rfl rfl)
theorem dX1_sure_141 : decode cX1_sure 141 = .ok (.goto (-66), 3) := dk_167 255 190 (dk_at dksX1_sure_6 3 rfl rfl)
theorem dX1_sure_144 : decode cX1_sure 144 = .ok (.iinc 4 1, 3) := dk_132 4 1 (dk_at dksX1_sure_6 6 rfl rfl)
theorem dX1_sure_147 : decode cX1_sure 147 = .ok (.goto (-86), 3) := dk_167 255 170 (dk_at dksX1_sure_6 9 rfl rfl)
theorem dX1_sure_150 : decode cX1_sure 150 = .ok (.iload_n 3, 1) := dk_29 (dk_at dksX1_sure_6 12 rfl rfl)
theorem dX1_sure_151 : decode cX1_sure 151 = .ok (.invokestatic 237, 3) := dk_184 0 237 (dk_at dksX1_sure_6 13 rfl rfl)
theorem dX1_sure_154 : decode cX1_sure 154 = .ok (.iconst 1, 1) := dk_4 (dk_at dksX1_sure_6 16 rfl rfl)
theorem dX1_sure_155 : decode cX1_sure 155 = .ok (.if_icmp .ne 7, 3) := dk_160 0 7 (dk_at dksX1_sure_6 17 rfl rfl)
theorem dX1_sure_158 : decode cX1_sure 158 = .ok (.iload_n 3, 1) := dk_29 (dk_at dksX1_sure_6 20 rfl rfl)
theorem dX1_sure_159 : decode cX1_sure 159 = .ok (.goto 4, 3) := dk_167 0 4 (dk_at dksX1_sure_6 21 rfl rfl)
theorem dX1_sure_162 : decode cX1_sure 162 = .ok (.iconst 0, 1) := dk_3 (dk_at dksX1_sure_7 0 rfl rfl)
theorem dX1_sure_163 : decode cX1_sure 163 = .ok (.ireturn, 1) := dk_172 (dk_at dksX1_sure_7 1 rfl rfl)
abbrev cX1_reachesBy : ByteArray := prog_1_method_98_code
def yX1_reachesBy : MethodName := ⟨RX1, "reachesBy", "(I)V"⟩
def dkwX1_reachesBy_7 : List UInt8 := [132, 2, 1, 167, 255, 124, 177]
abbrev dktX1_reachesBy_7 : List UInt8 := dkwX1_reachesBy_7 ++ []
def dkwX1_reachesBy_6 : List UInt8 := [21, 5, 120, 128, 92, 46, 4, 21, 5, 120, 128, 79, 132, 5, 1, 167, 255, 203, 132, 4, 1, 167, 255, 148]
abbrev dktX1_reachesBy_6 : List UInt8 := dkwX1_reachesBy_6 ++ dktX1_reachesBy_7
def dkwX1_reachesBy_5 : List UInt8 := [182, 1, 164, 153, 0, 33, 42, 28, 21, 4, 21, 5, 182, 1, 105, 153, 0, 21, 42, 180, 0, 64, 28, 4]
abbrev dktX1_reachesBy_5 : List UInt8 := dkwX1_reachesBy_5 ++ dktX1_reachesBy_6
def dkwX1_reachesBy_4 : List UInt8 := [154, 0, 6, 167, 0, 62, 3, 54, 5, 21, 5, 42, 180, 0, 102, 162, 0, 50, 42, 27, 29, 21, 5]
abbrev dktX1_reachesBy_4 : List UInt8 := dkwX1_reachesBy_4 ++ dktX1_reachesBy_5
def dkwX1_reachesBy_3 : List UInt8 := [162, 0, 95, 42, 180, 0, 64, 28, 46, 21, 4, 156, 0, 8, 16, 10, 167, 0, 5, 21, 4, 184, 1, 3]
abbrev dktX1_reachesBy_3 : List UInt8 := dkwX1_reachesBy_3 ++ dktX1_reachesBy_4
def dkwX1_reachesBy_2 : List UInt8 := [184, 0, 237, 62, 2, 54, 4, 21, 4, 42, 180, 0, 102, 162, 0, 105, 29, 42, 180, 0, 55, 27, 46]
abbrev dktX1_reachesBy_2 : List UInt8 := dkwX1_reachesBy_2 ++ dktX1_reachesBy_3
def dkwX1_reachesBy_1 : List UInt8 := [167, 0, 4, 3, 79, 132, 2, 1, 167, 255, 226, 3, 61, 28, 4, 42, 180, 0, 102, 120, 162, 0, 128, 28]
abbrev dktX1_reachesBy_1 : List UInt8 := dkwX1_reachesBy_1 ++ dktX1_reachesBy_2
def dkwX1_reachesBy_0 : List UInt8 := [3, 61, 28, 4, 42, 180, 0, 102, 120, 162, 0, 26, 42, 180, 0, 64, 28, 28, 154, 0, 9, 17, 4, 0]
abbrev dktX1_reachesBy_0 : List UInt8 := dkwX1_reachesBy_0 ++ dktX1_reachesBy_1
theorem dksX1_reachesBy_0 : cX1_reachesBy.data.toList.drop 0 = dktX1_reachesBy_0 := by decide +kernel
theorem dksX1_reachesBy_1 : cX1_reachesBy.data.toList.drop 24 = dktX1_reachesBy_1 := dk_seg dksX1_reachesBy_0 24 rfl rfl
theorem dksX1_reachesBy_2 : cX1_reachesBy.data.toList.drop 48 = dktX1_reachesBy_2 := dk_seg dksX1_reachesBy_1 24 rfl rfl
theorem dksX1_reachesBy_3 : cX1_reachesBy.data.toList.drop 71 = dktX1_reachesBy_3 := dk_seg dksX1_reachesBy_2 23 rfl rfl
theorem dksX1_reachesBy_4 : cX1_reachesBy.data.toList.drop 95 = dktX1_reachesBy_4 := dk_seg dksX1_reachesBy_3 24 rfl rfl
theorem dksX1_reachesBy_5 : cX1_reachesBy.data.toList.drop 118 = dktX1_reachesBy_5 := dk_seg dksX1_reachesBy_4 23 rfl rfl
theorem dksX1_reachesBy_6 : cX1_reachesBy.data.toList.drop 142 = dktX1_reachesBy_6 := dk_seg dksX1_reachesBy_5 24 rfl rfl
theorem dksX1_reachesBy_7 : cX1_reachesBy.data.toList.drop 166 = dktX1_reachesBy_7 := dk_seg dksX1_reachesBy_6 24 rfl rfl
theorem dX1_reachesBy_0 : decode cX1_reachesBy 0 = .ok (.iconst 0, 1) := dk_3 (dk_at dksX1_reachesBy_0 0 rfl rfl)
theorem dX1_reachesBy_1 : decode cX1_reachesBy 1 = .ok (.istore_n 2, 1) := dk_61 (dk_at dksX1_reachesBy_0 1 rfl rfl)
theorem dX1_reachesBy_2 : decode cX1_reachesBy 2 = .ok (.iload_n 2, 1) := dk_28 (dk_at dksX1_reachesBy_0 2 rfl rfl)
theorem dX1_reachesBy_3 : decode cX1_reachesBy 3 = .ok (.iconst 1, 1) := dk_4 (dk_at dksX1_reachesBy_0 3 rfl rfl)
theorem dX1_reachesBy_4 : decode cX1_reachesBy 4 = .ok (.aload_n 0, 1) := dk_42 (dk_at dksX1_reachesBy_0 4 rfl rfl)
theorem dX1_reachesBy_5 : decode cX1_reachesBy 5 = .ok (.getfield 102, 3) := dk_180 0 102 (dk_at dksX1_reachesBy_0 5 rfl rfl)
theorem dX1_reachesBy_8 : decode cX1_reachesBy 8 = .ok (.ishl, 1) := dk_120 (dk_at dksX1_reachesBy_0 8 rfl rfl)
theorem dX1_reachesBy_9 : decode cX1_reachesBy 9 = .ok (.if_icmp .ge 26, 3) := dk_162 0 26 (dk_at dksX1_reachesBy_0 9 rfl rfl)
theorem dX1_reachesBy_12 : decode cX1_reachesBy 12 = .ok (.aload_n 0, 1) := dk_42 (dk_at dksX1_reachesBy_0 12 rfl rfl)
theorem dX1_reachesBy_13 : decode cX1_reachesBy 13 = .ok (.getfield 64, 3) := dk_180 0 64 (dk_at dksX1_reachesBy_0 13 rfl rfl)
theorem dX1_reachesBy_16 : decode cX1_reachesBy 16 = .ok (.iload_n 2, 1) := dk_28 (dk_at dksX1_reachesBy_0 16 rfl rfl)
theorem dX1_reachesBy_17 : decode cX1_reachesBy 17 = .ok (.iload_n 2, 1) := dk_28 (dk_at dksX1_reachesBy_0 17 rfl rfl)
theorem dX1_reachesBy_18 : decode cX1_reachesBy 18 = .ok (.ifCond .ne 9, 3) := dk_154 0 9 (dk_at dksX1_reachesBy_0 18 rfl rfl)
theorem dX1_reachesBy_21 : decode cX1_reachesBy 21 = .ok (.sipush 1024, 3) := dk_17 4 0 (dk_at dksX1_reachesBy_0 21 rfl rfl)
theorem dX1_reachesBy_24 : decode cX1_reachesBy 24 = .ok (.goto 4, 3) := dk_167 0 4 (dk_at dksX1_reachesBy_1 0 rfl rfl)
theorem dX1_reachesBy_27 : decode cX1_reachesBy 27 = .ok (.iconst 0, 1) := dk_3 (dk_at dksX1_reachesBy_1 3 rfl rfl)
theorem dX1_reachesBy_28 : decode cX1_reachesBy 28 = .ok (.iastore, 1) := dk_79 (dk_at dksX1_reachesBy_1 4 rfl rfl)
theorem dX1_reachesBy_29 : decode cX1_reachesBy 29 = .ok (.iinc 2 1, 3) := dk_132 2 1 (dk_at dksX1_reachesBy_1 5 rfl rfl)
theorem dX1_reachesBy_32 : decode cX1_reachesBy 32 = .ok (.goto (-30), 3) := dk_167 255 226 (dk_at dksX1_reachesBy_1 8 rfl rfl)
theorem dX1_reachesBy_35 : decode cX1_reachesBy 35 = .ok (.iconst 0, 1) := dk_3 (dk_at dksX1_reachesBy_1 11 rfl rfl)
theorem dX1_reachesBy_36 : decode cX1_reachesBy 36 = .ok (.istore_n 2, 1) := dk_61 (dk_at dksX1_reachesBy_1 12 rfl rfl)
theorem dX1_reachesBy_37 : decode cX1_reachesBy 37 = .ok (.iload_n 2, 1) := dk_28 (dk_at dksX1_reachesBy_1 13 rfl rfl)
theorem dX1_reachesBy_38 : decode cX1_reachesBy 38 = .ok (.iconst 1, 1) := dk_4 (dk_at dksX1_reachesBy_1 14 rfl rfl)
theorem dX1_reachesBy_39 : decode cX1_reachesBy 39 = .ok (.aload_n 0, 1) := dk_42 (dk_at dksX1_reachesBy_1 15 rfl rfl)
theorem dX1_reachesBy_40 : decode cX1_reachesBy 40 = .ok (.getfield 102, 3) := dk_180 0 102 (dk_at dksX1_reachesBy_1 16 rfl rfl)
theorem dX1_reachesBy_43 : decode cX1_reachesBy 43 = .ok (.ishl, 1) := dk_120 (dk_at dksX1_reachesBy_1 19 rfl rfl)
theorem dX1_reachesBy_44 : decode cX1_reachesBy 44 = .ok (.if_icmp .ge 128, 3) := dk_162 0 128 (dk_at dksX1_reachesBy_1 20 rfl rfl)
theorem dX1_reachesBy_47 : decode cX1_reachesBy 47 = .ok (.iload_n 2, 1) := dk_28 (dk_at dksX1_reachesBy_1 23 rfl rfl)
theorem dX1_reachesBy_48 : decode cX1_reachesBy 48 = .ok (.invokestatic 237, 3) := dk_184 0 237 (dk_at dksX1_reachesBy_2 0 rfl rfl)
theorem dX1_reachesBy_51 : decode cX1_reachesBy 51 = .ok (.istore_n 3, 1) := dk_62 (dk_at dksX1_reachesBy_2 3 rfl rfl)
theorem dX1_reachesBy_52 : decode cX1_reachesBy 52 = .ok (.iconst (-1), 1) := dk_2 (dk_at dksX1_reachesBy_2 4 rfl rfl)
theorem dX1_reachesBy_53 : decode cX1_reachesBy 53 = .ok (.istore 4, 2) := dk_54 4 (dk_at dksX1_reachesBy_2 5 rfl rfl)
theorem dX1_reachesBy_55 : decode cX1_reachesBy 55 = .ok (.iload 4, 2) := dk_21 4 (dk_at dksX1_reachesBy_2 7 rfl rfl)
theorem dX1_reachesBy_57 : decode cX1_reachesBy 57 = .ok (.aload_n 0, 1) := dk_42 (dk_at dksX1_reachesBy_2 9 rfl rfl)
theorem dX1_reachesBy_58 : decode cX1_reachesBy 58 = .ok (.getfield 102, 3) := dk_180 0 102 (dk_at dksX1_reachesBy_2 10 rfl rfl)
theorem dX1_reachesBy_61 : decode cX1_reachesBy 61 = .ok (.if_icmp .ge 105, 3) := dk_162 0 105 (dk_at dksX1_reachesBy_2 13 rfl rfl)
theorem dX1_reachesBy_64 : decode cX1_reachesBy 64 = .ok (.iload_n 3, 1) := dk_29 (dk_at dksX1_reachesBy_2 16 rfl rfl)
theorem dX1_reachesBy_65 : decode cX1_reachesBy 65 = .ok (.aload_n 0, 1) := dk_42 (dk_at dksX1_reachesBy_2 17 rfl rfl)
theorem dX1_reachesBy_66 : decode cX1_reachesBy 66 = .ok (.getfield 55, 3) := dk_180 0 55 (dk_at dksX1_reachesBy_2 18 rfl rfl)
theorem dX1_reachesBy_69 : decode cX1_reachesBy 69 = .ok (.iload_n 1, 1) := dk_27 (dk_at dksX1_reachesBy_2 21 rfl rfl)
theorem dX1_reachesBy_70 : decode cX1_reachesBy 70 = .ok (.iaload, 1) := dk_46 (dk_at dksX1_reachesBy_2 22 rfl rfl)
theorem dX1_reachesBy_71 : decode cX1_reachesBy 71 = .ok (.if_icmp .ge 95, 3) := dk_162 0 95 (dk_at dksX1_reachesBy_3 0 rfl rfl)
theorem dX1_reachesBy_74 : decode cX1_reachesBy 74 = .ok (.aload_n 0, 1) := dk_42 (dk_at dksX1_reachesBy_3 3 rfl rfl)
theorem dX1_reachesBy_75 : decode cX1_reachesBy 75 = .ok (.getfield 64, 3) := dk_180 0 64 (dk_at dksX1_reachesBy_3 4 rfl rfl)
theorem dX1_reachesBy_78 : decode cX1_reachesBy 78 = .ok (.iload_n 2, 1) := dk_28 (dk_at dksX1_reachesBy_3 7 rfl rfl)
theorem dX1_reachesBy_79 : decode cX1_reachesBy 79 = .ok (.iaload, 1) := dk_46 (dk_at dksX1_reachesBy_3 8 rfl rfl)
theorem dX1_reachesBy_80 : decode cX1_reachesBy 80 = .ok (.iload 4, 2) := dk_21 4 (dk_at dksX1_reachesBy_3 9 rfl rfl)
theorem dX1_reachesBy_82 : decode cX1_reachesBy 82 = .ok (.ifCond .ge 8, 3) := dk_156 0 8 (dk_at dksX1_reachesBy_3 11 rfl rfl)
theorem dX1_reachesBy_85 : decode cX1_reachesBy 85 = .ok (.bipush 10, 2) := dk_16 10 (dk_at dksX1_reachesBy_3 14 rfl rfl)
theorem dX1_reachesBy_87 : decode cX1_reachesBy 87 = .ok (.goto 5, 3) := dk_167 0 5 (dk_at dksX1_reachesBy_3 16 rfl rfl)
theorem dX1_reachesBy_90 : decode cX1_reachesBy 90 = .ok (.iload 4, 2) := dk_21 4 (dk_at dksX1_reachesBy_3 19 rfl rfl)
theorem dX1_reachesBy_92 : decode cX1_reachesBy 92 = .ok (.invokestatic 259, 3) := dk_184 1 3 (dk_at dksX1_reachesBy_3 21 rfl rfl)
theorem dX1_reachesBy_95 : decode cX1_reachesBy 95 = .ok (.ifCond .ne 6, 3) := dk_154 0 6 (dk_at dksX1_reachesBy_4 0 rfl rfl)
theorem dX1_reachesBy_98 : decode cX1_reachesBy 98 = .ok (.goto 62, 3) := dk_167 0 62 (dk_at dksX1_reachesBy_4 3 rfl rfl)
theorem dX1_reachesBy_101 : decode cX1_reachesBy 101 = .ok (.iconst 0, 1) := dk_3 (dk_at dksX1_reachesBy_4 6 rfl rfl)
theorem dX1_reachesBy_102 : decode cX1_reachesBy 102 = .ok (.istore 5, 2) := dk_54 5 (dk_at dksX1_reachesBy_4 7 rfl rfl)
theorem dX1_reachesBy_104 : decode cX1_reachesBy 104 = .ok (.iload 5, 2) := dk_21 5 (dk_at dksX1_reachesBy_4 9 rfl rfl)
theorem dX1_reachesBy_106 : decode cX1_reachesBy 106 = .ok (.aload_n 0, 1) := dk_42 (dk_at dksX1_reachesBy_4 11 rfl rfl)
theorem dX1_reachesBy_107 : decode cX1_reachesBy 107 = .ok (.getfield 102, 3) := dk_180 0 102 (dk_at dksX1_reachesBy_4 12 rfl rfl)
theorem dX1_reachesBy_110 : decode cX1_reachesBy 110 = .ok (.if_icmp .ge 50, 3) := dk_162 0 50 (dk_at dksX1_reachesBy_4 15 rfl rfl)
theorem dX1_reachesBy_113 : decode cX1_reachesBy 113 = .ok (.aload_n 0, 1) := dk_42 (dk_at dksX1_reachesBy_4 18 rfl rfl)
theorem dX1_reachesBy_114 : decode cX1_reachesBy 114 = .ok (.iload_n 1, 1) := dk_27 (dk_at dksX1_reachesBy_4 19 rfl rfl)
theorem dX1_reachesBy_115 : decode cX1_reachesBy 115 = .ok (.iload_n 3, 1) := dk_29 (dk_at dksX1_reachesBy_4 20 rfl rfl)
theorem dX1_reachesBy_116 : decode cX1_reachesBy 116 = .ok (.iload 5, 2) := dk_21 5 (dk_at dksX1_reachesBy_4 21 rfl rfl)
theorem dX1_reachesBy_118 : decode cX1_reachesBy 118 = .ok (.invokevirtual 420, 3) := dk_182 1 164 (dk_at dksX1_reachesBy_5 0 rfl rfl)
theorem dX1_reachesBy_121 : decode cX1_reachesBy 121 = .ok (.ifCond .eq 33, 3) := dk_153 0 33 (dk_at dksX1_reachesBy_5 3 rfl rfl)
theorem dX1_reachesBy_124 : decode cX1_reachesBy 124 = .ok (.aload_n 0, 1) := dk_42 (dk_at dksX1_reachesBy_5 6 rfl rfl)
theorem dX1_reachesBy_125 : decode cX1_reachesBy 125 = .ok (.iload_n 2, 1) := dk_28 (dk_at dksX1_reachesBy_5 7 rfl rfl)
theorem dX1_reachesBy_126 : decode cX1_reachesBy 126 = .ok (.iload 4, 2) := dk_21 4 (dk_at dksX1_reachesBy_5 8 rfl rfl)
theorem dX1_reachesBy_128 : decode cX1_reachesBy 128 = .ok (.iload 5, 2) := dk_21 5 (dk_at dksX1_reachesBy_5 10 rfl rfl)
theorem dX1_reachesBy_130 : decode cX1_reachesBy 130 = .ok (.invokevirtual 361, 3) := dk_182 1 105 (dk_at dksX1_reachesBy_5 12 rfl rfl)
theorem dX1_reachesBy_133 : decode cX1_reachesBy 133 = .ok (.ifCond .eq 21, 3) := dk_153 0 21 (dk_at dksX1_reachesBy_5 15 rfl rfl)
theorem dX1_reachesBy_136 : decode cX1_reachesBy 136 = .ok (.aload_n 0, 1) := dk_42 (dk_at dksX1_reachesBy_5 18 rfl rfl)
theorem dX1_reachesBy_137 : decode cX1_reachesBy 137 = .ok (.getfield 64, 3) := dk_180 0 64 (dk_at dksX1_reachesBy_5 19 rfl rfl)
theorem dX1_reachesBy_140 : decode cX1_reachesBy 140 = .ok (.iload_n 2, 1) := dk_28 (dk_at dksX1_reachesBy_5 22 rfl rfl)
theorem dX1_reachesBy_141 : decode cX1_reachesBy 141 = .ok (.iconst 1, 1) := dk_4 (dk_at dksX1_reachesBy_5 23 rfl rfl)
theorem dX1_reachesBy_142 : decode cX1_reachesBy 142 = .ok (.iload 5, 2) := dk_21 5 (dk_at dksX1_reachesBy_6 0 rfl rfl)
theorem dX1_reachesBy_144 : decode cX1_reachesBy 144 = .ok (.ishl, 1) := dk_120 (dk_at dksX1_reachesBy_6 2 rfl rfl)
theorem dX1_reachesBy_145 : decode cX1_reachesBy 145 = .ok (.ior, 1) := dk_128 (dk_at dksX1_reachesBy_6 3 rfl rfl)
theorem dX1_reachesBy_146 : decode cX1_reachesBy 146 = .ok (.dup2, 1) := dk_92 (dk_at dksX1_reachesBy_6 4 rfl rfl)
theorem dX1_reachesBy_147 : decode cX1_reachesBy 147 = .ok (.iaload, 1) := dk_46 (dk_at dksX1_reachesBy_6 5 rfl rfl)
theorem dX1_reachesBy_148 : decode cX1_reachesBy 148 = .ok (.iconst 1, 1) := dk_4 (dk_at dksX1_reachesBy_6 6 rfl rfl)
theorem dX1_reachesBy_149 : decode cX1_reachesBy 149 = .ok (.iload 5, 2) := dk_21 5 (dk_at dksX1_reachesBy_6 7 rfl rfl)
theorem dX1_reachesBy_151 : decode cX1_reachesBy 151 = .ok (.ishl, 1) := dk_120 (dk_at dksX1_reachesBy_6 9 rfl rfl)
theorem dX1_reachesBy_152 : decode cX1_reachesBy 152 = .ok (.ior, 1) := dk_128 (dk_at dksX1_reachesBy_6 10 rfl rfl)
theorem dX1_reachesBy_153 : decode cX1_reachesBy 153 = .ok (.iastore, 1) := dk_79 (dk_at dksX1_reachesBy_6 11 rfl rfl)
theorem dX1_reachesBy_154 : decode cX1_reachesBy 154 = .ok (.iinc 5 1, 3) := dk_132 5 1 (dk_at dksX1_reachesBy_6 12 rfl rfl)
theorem dX1_reachesBy_157 : decode cX1_reachesBy 157 = .ok (.goto (-53), 3) := dk_167 255 203 (dk_at dksX1_reachesBy_6 15 rfl rfl)
theorem dX1_reachesBy_160 : decode cX1_reachesBy 160 = .ok (.iinc 4 1, 3) := dk_132 4 1 (dk_at dksX1_reachesBy_6 18 rfl rfl)
theorem dX1_reachesBy_163 : decode cX1_reachesBy 163 = .ok (.goto (-108), 3) := dk_167 255 148 (dk_at dksX1_reachesBy_6 21 rfl rfl)
theorem dX1_reachesBy_166 : decode cX1_reachesBy 166 = .ok (.iinc 2 1, 3) := dk_132 2 1 (dk_at dksX1_reachesBy_7 0 rfl rfl)
theorem dX1_reachesBy_169 : decode cX1_reachesBy 169 = .ok (.goto (-132), 3) := dk_167 255 124 (dk_at dksX1_reachesBy_7 3 rfl rfl)
theorem dX1_reachesBy_172 : decode cX1_reachesBy 172 = .ok (.return_, 1) := dk_177 (dk_at dksX1_reachesBy_7 6 rfl rfl)
abbrev cX1_hearths : ByteArray := prog_1_method_99_code
def yX1_hearths : MethodName := ⟨RX1, "hearths", "(I)I"⟩
def dkwX1_hearths_5 : List UInt8 := [96, 42, 180, 0, 16, 42, 27, 29, 182, 1, 72, 46, 100, 182, 1, 84, 132, 3, 1, 167, 255, 223, 28, 172]
abbrev dktX1_hearths_5 : List UInt8 := dkwX1_hearths_5 ++ []
def dkwX1_hearths_4 : List UInt8 := [167, 255, 176, 42, 3, 181, 1, 81, 3, 62, 29, 42, 180, 0, 55, 27, 46, 162, 0, 29, 42, 16, 10, 29]
abbrev dktX1_hearths_4 : List UInt8 := dkwX1_hearths_4 ++ dktX1_hearths_5
def dkwX1_hearths_3 : List UInt8 := [4, 167, 0, 4, 3, 96, 54, 4, 132, 5, 1, 167, 255, 201, 28, 21, 4, 184, 0, 246, 61, 132, 3, 1]
abbrev dktX1_hearths_3 : List UInt8 := dkwX1_hearths_3 ++ dktX1_hearths_4
def dkwX1_hearths_2 : List UInt8 := [180, 0, 16, 42, 27, 21, 5, 182, 1, 72, 46, 100, 161, 0, 16, 29, 16, 10, 21, 5, 96, 162, 0, 7]
abbrev dktX1_hearths_2 : List UInt8 := dkwX1_hearths_2 ++ dktX1_hearths_3
def dkwX1_hearths_1 : List UInt8 := [3, 54, 5, 21, 5, 42, 180, 0, 55, 27, 46, 162, 0, 50, 21, 4, 29, 16, 10, 21, 5, 96, 42]
abbrev dktX1_hearths_1 : List UInt8 := dkwX1_hearths_1 ++ dktX1_hearths_2
def dkwX1_hearths_0 : List UInt8 := [42, 27, 182, 1, 95, 154, 0, 6, 16, 253, 172, 3, 61, 3, 62, 29, 16, 20, 162, 0, 80, 3, 54, 4]
abbrev dktX1_hearths_0 : List UInt8 := dkwX1_hearths_0 ++ dktX1_hearths_1
theorem dksX1_hearths_0 : cX1_hearths.data.toList.drop 0 = dktX1_hearths_0 := by decide +kernel
theorem dksX1_hearths_1 : cX1_hearths.data.toList.drop 24 = dktX1_hearths_1 := dk_seg dksX1_hearths_0 24 rfl rfl
theorem dksX1_hearths_2 : cX1_hearths.data.toList.drop 47 = dktX1_hearths_2 := dk_seg dksX1_hearths_1 23 rfl rfl
theorem dksX1_hearths_3 : cX1_hearths.data.toList.drop 71 = dktX1_hearths_3 := dk_seg dksX1_hearths_2 24 rfl rfl
theorem dksX1_hearths_4 : cX1_hearths.data.toList.drop 95 = dktX1_hearths_4 := dk_seg dksX1_hearths_3 24 rfl rfl
theorem dksX1_hearths_5 : cX1_hearths.data.toList.drop 119 = dktX1_hearths_5 := dk_seg dksX1_hearths_4 24 rfl rfl
theorem dX1_hearths_0 : decode cX1_hearths 0 = .ok (.aload_n 0, 1) := dk_42 (dk_at dksX1_hearths_0 0 rfl rfl)
theorem dX1_hearths_1 : decode cX1_hearths 1 = .ok (.iload_n 1, 1) := dk_27 (dk_at dksX1_hearths_0 1 rfl rfl)
theorem dX1_hearths_2 : decode cX1_hearths 2 = .ok (.invokevirtual 351, 3) := dk_182 1 95 (dk_at dksX1_hearths_0 2 rfl rfl)
theorem dX1_hearths_5 : decode cX1_hearths 5 = .ok (.ifCond .ne 6, 3) := dk_154 0 6 (dk_at dksX1_hearths_0 5 rfl rfl)
theorem dX1_hearths_8 : decode cX1_hearths 8 = .ok (.bipush (-3), 2) := dk_16 253 (dk_at dksX1_hearths_0 8 rfl rfl)
theorem dX1_hearths_10 : decode cX1_hearths 10 = .ok (.ireturn, 1) := dk_172 (dk_at dksX1_hearths_0 10 rfl rfl)
theorem dX1_hearths_11 : decode cX1_hearths 11 = .ok (.iconst 0, 1) := dk_3 (dk_at dksX1_hearths_0 11 rfl rfl)
theorem dX1_hearths_12 : decode cX1_hearths 12 = .ok (.istore_n 2, 1) := dk_61 (dk_at dksX1_hearths_0 12 rfl rfl)
theorem dX1_hearths_13 : decode cX1_hearths 13 = .ok (.iconst 0, 1) := dk_3 (dk_at dksX1_hearths_0 13 rfl rfl)
theorem dX1_hearths_14 : decode cX1_hearths 14 = .ok (.istore_n 3, 1) := dk_62 (dk_at dksX1_hearths_0 14 rfl rfl)
theorem dX1_hearths_15 : decode cX1_hearths 15 = .ok (.iload_n 3, 1) := dk_29 (dk_at dksX1_hearths_0 15 rfl rfl)
theorem dX1_hearths_16 : decode cX1_hearths 16 = .ok (.bipush 20, 2) := dk_16 20 (dk_at dksX1_hearths_0 16 rfl rfl)
theorem dX1_hearths_18 : decode cX1_hearths 18 = .ok (.if_icmp .ge 80, 3) := dk_162 0 80 (dk_at dksX1_hearths_0 18 rfl rfl)
theorem dX1_hearths_21 : decode cX1_hearths 21 = .ok (.iconst 0, 1) := dk_3 (dk_at dksX1_hearths_0 21 rfl rfl)
theorem dX1_hearths_22 : decode cX1_hearths 22 = .ok (.istore 4, 2) := dk_54 4 (dk_at dksX1_hearths_0 22 rfl rfl)
theorem dX1_hearths_24 : decode cX1_hearths 24 = .ok (.iconst 0, 1) := dk_3 (dk_at dksX1_hearths_1 0 rfl rfl)
theorem dX1_hearths_25 : decode cX1_hearths 25 = .ok (.istore 5, 2) := dk_54 5 (dk_at dksX1_hearths_1 1 rfl rfl)
theorem dX1_hearths_27 : decode cX1_hearths 27 = .ok (.iload 5, 2) := dk_21 5 (dk_at dksX1_hearths_1 3 rfl rfl)
theorem dX1_hearths_29 : decode cX1_hearths 29 = .ok (.aload_n 0, 1) := dk_42 (dk_at dksX1_hearths_1 5 rfl rfl)
theorem dX1_hearths_30 : decode cX1_hearths 30 = .ok (.getfield 55, 3) := dk_180 0 55 (dk_at dksX1_hearths_1 6 rfl rfl)
theorem dX1_hearths_33 : decode cX1_hearths 33 = .ok (.iload_n 1, 1) := dk_27 (dk_at dksX1_hearths_1 9 rfl rfl)
theorem dX1_hearths_34 : decode cX1_hearths 34 = .ok (.iaload, 1) := dk_46 (dk_at dksX1_hearths_1 10 rfl rfl)
theorem dX1_hearths_35 : decode cX1_hearths 35 = .ok (.if_icmp .ge 50, 3) := dk_162 0 50 (dk_at dksX1_hearths_1 11 rfl rfl)
theorem dX1_hearths_38 : decode cX1_hearths 38 = .ok (.iload 4, 2) := dk_21 4 (dk_at dksX1_hearths_1 14 rfl rfl)
theorem dX1_hearths_40 : decode cX1_hearths 40 = .ok (.iload_n 3, 1) := dk_29 (dk_at dksX1_hearths_1 16 rfl rfl)
theorem dX1_hearths_41 : decode cX1_hearths 41 = .ok (.bipush 10, 2) := dk_16 10 (dk_at dksX1_hearths_1 17 rfl rfl)
theorem dX1_hearths_43 : decode cX1_hearths 43 = .ok (.iload 5, 2) := dk_21 5 (dk_at dksX1_hearths_1 19 rfl rfl)
theorem dX1_hearths_45 : decode cX1_hearths 45 = .ok (.iadd, 1) := dk_96 (dk_at dksX1_hearths_1 21 rfl rfl)
theorem dX1_hearths_46 : decode cX1_hearths 46 = .ok (.aload_n 0, 1) := dk_42 (dk_at dksX1_hearths_1 22 rfl rfl)
theorem dX1_hearths_47 : decode cX1_hearths 47 = .ok (.getfield 16, 3) := dk_180 0 16 (dk_at dksX1_hearths_2 0 rfl rfl)
theorem dX1_hearths_50 : decode cX1_hearths 50 = .ok (.aload_n 0, 1) := dk_42 (dk_at dksX1_hearths_2 3 rfl rfl)
theorem dX1_hearths_51 : decode cX1_hearths 51 = .ok (.iload_n 1, 1) := dk_27 (dk_at dksX1_hearths_2 4 rfl rfl)
theorem dX1_hearths_52 : decode cX1_hearths 52 = .ok (.iload 5, 2) := dk_21 5 (dk_at dksX1_hearths_2 5 rfl rfl)
theorem dX1_hearths_54 : decode cX1_hearths 54 = .ok (.invokevirtual 328, 3) := dk_182 1 72 (dk_at dksX1_hearths_2 7 rfl rfl)
theorem dX1_hearths_57 : decode cX1_hearths 57 = .ok (.iaload, 1) := dk_46 (dk_at dksX1_hearths_2 10 rfl rfl)
theorem dX1_hearths_58 : decode cX1_hearths 58 = .ok (.isub, 1) := dk_100 (dk_at dksX1_hearths_2 11 rfl rfl)
theorem dX1_hearths_59 : decode cX1_hearths 59 = .ok (.if_icmp .lt 16, 3) := dk_161 0 16 (dk_at dksX1_hearths_2 12 rfl rfl)
theorem dX1_hearths_62 : decode cX1_hearths 62 = .ok (.iload_n 3, 1) := dk_29 (dk_at dksX1_hearths_2 15 rfl rfl)
theorem dX1_hearths_63 : decode cX1_hearths 63 = .ok (.bipush 10, 2) := dk_16 10 (dk_at dksX1_hearths_2 16 rfl rfl)
theorem dX1_hearths_65 : decode cX1_hearths 65 = .ok (.iload 5, 2) := dk_21 5 (dk_at dksX1_hearths_2 18 rfl rfl)
theorem dX1_hearths_67 : decode cX1_hearths 67 = .ok (.iadd, 1) := dk_96 (dk_at dksX1_hearths_2 20 rfl rfl)
theorem dX1_hearths_68 : decode cX1_hearths 68 = .ok (.if_icmp .ge 7, 3) := dk_162 0 7 (dk_at dksX1_hearths_2 21 rfl rfl)
theorem dX1_hearths_71 : decode cX1_hearths 71 = .ok (.iconst 1, 1) := dk_4 (dk_at dksX1_hearths_3 0 rfl rfl)
theorem dX1_hearths_72 : decode cX1_hearths 72 = .ok (.goto 4, 3) := dk_167 0 4 (dk_at dksX1_hearths_3 1 rfl rfl)
theorem dX1_hearths_75 : decode cX1_hearths 75 = .ok (.iconst 0, 1) := dk_3 (dk_at dksX1_hearths_3 4 rfl rfl)
theorem dX1_hearths_76 : decode cX1_hearths 76 = .ok (.iadd, 1) := dk_96 (dk_at dksX1_hearths_3 5 rfl rfl)
theorem dX1_hearths_77 : decode cX1_hearths 77 = .ok (.istore 4, 2) := dk_54 4 (dk_at dksX1_hearths_3 6 rfl rfl)
theorem dX1_hearths_79 : decode cX1_hearths 79 = .ok (.iinc 5 1, 3) := dk_132 5 1 (dk_at dksX1_hearths_3 8 rfl rfl)
theorem dX1_hearths_82 : decode cX1_hearths 82 = .ok (.goto (-55), 3) := dk_167 255 201 (dk_at dksX1_hearths_3 11 rfl rfl)
theorem dX1_hearths_85 : decode cX1_hearths 85 = .ok (.iload_n 2, 1) := dk_28 (dk_at dksX1_hearths_3 14 rfl rfl)
theorem dX1_hearths_86 : decode cX1_hearths 86 = .ok (.iload 4, 2) := dk_21 4 (dk_at dksX1_hearths_3 15 rfl rfl)
theorem dX1_hearths_88 : decode cX1_hearths 88 = .ok (.invokestatic 246, 3) := dk_184 0 246 (dk_at dksX1_hearths_3 17 rfl rfl)
theorem dX1_hearths_91 : decode cX1_hearths 91 = .ok (.istore_n 2, 1) := dk_61 (dk_at dksX1_hearths_3 20 rfl rfl)
theorem dX1_hearths_92 : decode cX1_hearths 92 = .ok (.iinc 3 1, 3) := dk_132 3 1 (dk_at dksX1_hearths_3 21 rfl rfl)
theorem dX1_hearths_95 : decode cX1_hearths 95 = .ok (.goto (-80), 3) := dk_167 255 176 (dk_at dksX1_hearths_4 0 rfl rfl)
theorem dX1_hearths_98 : decode cX1_hearths 98 = .ok (.aload_n 0, 1) := dk_42 (dk_at dksX1_hearths_4 3 rfl rfl)
theorem dX1_hearths_99 : decode cX1_hearths 99 = .ok (.iconst 0, 1) := dk_3 (dk_at dksX1_hearths_4 4 rfl rfl)
theorem dX1_hearths_100 : decode cX1_hearths 100 = .ok (.putfield 337, 3) := dk_181 1 81 (dk_at dksX1_hearths_4 5 rfl rfl)
theorem dX1_hearths_103 : decode cX1_hearths 103 = .ok (.iconst 0, 1) := dk_3 (dk_at dksX1_hearths_4 8 rfl rfl)
theorem dX1_hearths_104 : decode cX1_hearths 104 = .ok (.istore_n 3, 1) := dk_62 (dk_at dksX1_hearths_4 9 rfl rfl)
theorem dX1_hearths_105 : decode cX1_hearths 105 = .ok (.iload_n 3, 1) := dk_29 (dk_at dksX1_hearths_4 10 rfl rfl)
theorem dX1_hearths_106 : decode cX1_hearths 106 = .ok (.aload_n 0, 1) := dk_42 (dk_at dksX1_hearths_4 11 rfl rfl)
theorem dX1_hearths_107 : decode cX1_hearths 107 = .ok (.getfield 55, 3) := dk_180 0 55 (dk_at dksX1_hearths_4 12 rfl rfl)
theorem dX1_hearths_110 : decode cX1_hearths 110 = .ok (.iload_n 1, 1) := dk_27 (dk_at dksX1_hearths_4 15 rfl rfl)
theorem dX1_hearths_111 : decode cX1_hearths 111 = .ok (.iaload, 1) := dk_46 (dk_at dksX1_hearths_4 16 rfl rfl)
theorem dX1_hearths_112 : decode cX1_hearths 112 = .ok (.if_icmp .ge 29, 3) := dk_162 0 29 (dk_at dksX1_hearths_4 17 rfl rfl)
theorem dX1_hearths_115 : decode cX1_hearths 115 = .ok (.aload_n 0, 1) := dk_42 (dk_at dksX1_hearths_4 20 rfl rfl)
theorem dX1_hearths_116 : decode cX1_hearths 116 = .ok (.bipush 10, 2) := dk_16 10 (dk_at dksX1_hearths_4 21 rfl rfl)
theorem dX1_hearths_118 : decode cX1_hearths 118 = .ok (.iload_n 3, 1) := dk_29 (dk_at dksX1_hearths_4 23 rfl rfl)
theorem dX1_hearths_119 : decode cX1_hearths 119 = .ok (.iadd, 1) := dk_96 (dk_at dksX1_hearths_5 0 rfl rfl)
theorem dX1_hearths_120 : decode cX1_hearths 120 = .ok (.aload_n 0, 1) := dk_42 (dk_at dksX1_hearths_5 1 rfl rfl)
theorem dX1_hearths_121 : decode cX1_hearths 121 = .ok (.getfield 16, 3) := dk_180 0 16 (dk_at dksX1_hearths_5 2 rfl rfl)
theorem dX1_hearths_124 : decode cX1_hearths 124 = .ok (.aload_n 0, 1) := dk_42 (dk_at dksX1_hearths_5 5 rfl rfl)
theorem dX1_hearths_125 : decode cX1_hearths 125 = .ok (.iload_n 1, 1) := dk_27 (dk_at dksX1_hearths_5 6 rfl rfl)
theorem dX1_hearths_126 : decode cX1_hearths 126 = .ok (.iload_n 3, 1) := dk_29 (dk_at dksX1_hearths_5 7 rfl rfl)
theorem dX1_hearths_127 : decode cX1_hearths 127 = .ok (.invokevirtual 328, 3) := dk_182 1 72 (dk_at dksX1_hearths_5 8 rfl rfl)
theorem dX1_hearths_130 : decode cX1_hearths 130 = .ok (.iaload, 1) := dk_46 (dk_at dksX1_hearths_5 11 rfl rfl)
theorem dX1_hearths_131 : decode cX1_hearths 131 = .ok (.isub, 1) := dk_100 (dk_at dksX1_hearths_5 12 rfl rfl)
theorem dX1_hearths_132 : decode cX1_hearths 132 = .ok (.invokevirtual 340, 3) := dk_182 1 84 (dk_at dksX1_hearths_5 13 rfl rfl)
theorem dX1_hearths_135 : decode cX1_hearths 135 = .ok (.iinc 3 1, 3) := dk_132 3 1 (dk_at dksX1_hearths_5 16 rfl rfl)
theorem dX1_hearths_138 : decode cX1_hearths 138 = .ok (.goto (-33), 3) := dk_167 255 223 (dk_at dksX1_hearths_5 19 rfl rfl)
theorem dX1_hearths_141 : decode cX1_hearths 141 = .ok (.iload_n 2, 1) := dk_28 (dk_at dksX1_hearths_5 22 rfl rfl)
theorem dX1_hearths_142 : decode cX1_hearths 142 = .ok (.ireturn, 1) := dk_172 (dk_at dksX1_hearths_5 23 rfl rfl)
abbrev cX1_late : ByteArray := prog_1_method_100_code
def yX1_late : MethodName := ⟨RX1, "late", "(II)I"⟩
def dkwX1_late_7 : List UInt8 := [29, 172]
abbrev dktX1_late_7 : List UInt8 := dkwX1_late_7 ++ []
def dkwX1_late_6 : List UInt8 := [29, 42, 180, 0, 86, 21, 5, 46, 16, 10, 100, 21, 4, 100, 184, 0, 246, 62, 132, 4, 1, 167, 255, 147]
abbrev dktX1_late_6 : List UInt8 := dkwX1_late_6 ++ dktX1_late_7
def dkwX1_late_5 : List UInt8 := [180, 0, 16, 42, 27, 21, 4, 182, 1, 72, 46, 96, 79, 42, 42, 180, 0, 86, 21, 5, 46, 182, 1, 84]
abbrev dktX1_late_5 : List UInt8 := dkwX1_late_5 ++ dktX1_late_6
def dkwX1_late_4 : List UInt8 := [21, 6, 167, 0, 5, 21, 5, 54, 5, 132, 6, 1, 167, 255, 221, 42, 180, 0, 86, 21, 5, 92, 46, 42]
abbrev dktX1_late_4 : List UInt8 := dkwX1_late_4 ++ dktX1_late_5
def dkwX1_late_3 : List UInt8 := [21, 6, 28, 162, 0, 35, 42, 180, 0, 86, 21, 6, 46, 42, 180, 0, 86, 21, 5, 46, 162, 0, 8]
abbrev dktX1_late_3 : List UInt8 := dkwX1_late_3 ++ dktX1_late_4
def dkwX1_late_2 : List UInt8 := [3, 181, 1, 81, 3, 54, 4, 21, 4, 42, 180, 0, 55, 27, 46, 162, 0, 104, 3, 54, 5, 4, 54, 6]
abbrev dktX1_late_2 : List UInt8 := dkwX1_late_2 ++ dktX1_late_3
def dkwX1_late_1 : List UInt8 := [172, 3, 62, 29, 28, 162, 0, 16, 42, 180, 0, 86, 29, 3, 79, 132, 3, 1, 167, 255, 241, 3, 62, 42]
abbrev dktX1_late_1 : List UInt8 := dkwX1_late_1 ++ dktX1_late_2
def dkwX1_late_0 : List UInt8 := [28, 133, 10, 20, 1, 18, 184, 0, 106, 154, 0, 5, 2, 172, 42, 27, 182, 1, 95, 154, 0, 6, 16, 253]
abbrev dktX1_late_0 : List UInt8 := dkwX1_late_0 ++ dktX1_late_1
theorem dksX1_late_0 : cX1_late.data.toList.drop 0 = dktX1_late_0 := by decide +kernel
theorem dksX1_late_1 : cX1_late.data.toList.drop 24 = dktX1_late_1 := dk_seg dksX1_late_0 24 rfl rfl
theorem dksX1_late_2 : cX1_late.data.toList.drop 48 = dktX1_late_2 := dk_seg dksX1_late_1 24 rfl rfl
theorem dksX1_late_3 : cX1_late.data.toList.drop 72 = dktX1_late_3 := dk_seg dksX1_late_2 24 rfl rfl
theorem dksX1_late_4 : cX1_late.data.toList.drop 95 = dktX1_late_4 := dk_seg dksX1_late_3 23 rfl rfl
theorem dksX1_late_5 : cX1_late.data.toList.drop 119 = dktX1_late_5 := dk_seg dksX1_late_4 24 rfl rfl
theorem dksX1_late_6 : cX1_late.data.toList.drop 143 = dktX1_late_6 := dk_seg dksX1_late_5 24 rfl rfl
theorem dksX1_late_7 : cX1_late.data.toList.drop 167 = dktX1_late_7 := dk_seg dksX1_late_6 24 rfl rfl
theorem dX1_late_0 : decode cX1_late 0 = .ok (.iload_n 2, 1) := dk_28 (dk_at dksX1_late_0 0 rfl rfl)
theorem dX1_late_1 : decode cX1_late 1 = .ok (.i2l, 1) := dk_133 (dk_at dksX1_late_0 1 rfl rfl)
theorem dX1_late_2 : decode cX1_late 2 = .ok (.lconst 1, 1) := dk_10 (dk_at dksX1_late_0 2 rfl rfl)
theorem dX1_late_3 : decode cX1_late 3 = .ok (.ldc2_w 274, 3) := dk_20 1 18 (dk_at dksX1_late_0 3 rfl rfl)
theorem dX1_late_6 : decode cX1_late 6 = .ok (.invokestatic 106, 3) := dk_184 0 106 (dk_at dksX1_late_0 6 rfl rfl)
theorem dX1_late_9 : decode cX1_late 9 = .ok (.ifCond .ne 5, 3) := dk_154 0 5 (dk_at dksX1_late_0 9 rfl rfl)
theorem dX1_late_12 : decode cX1_late 12 = .ok (.iconst (-1), 1) := dk_2 (dk_at dksX1_late_0 12 rfl rfl)
theorem dX1_late_13 : decode cX1_late 13 = .ok (.ireturn, 1) := dk_172 (dk_at dksX1_late_0 13 rfl rfl)
theorem dX1_late_14 : decode cX1_late 14 = .ok (.aload_n 0, 1) := dk_42 (dk_at dksX1_late_0 14 rfl rfl)
theorem dX1_late_15 : decode cX1_late 15 = .ok (.iload_n 1, 1) := dk_27 (dk_at dksX1_late_0 15 rfl rfl)
theorem dX1_late_16 : decode cX1_late 16 = .ok (.invokevirtual 351, 3) := dk_182 1 95 (dk_at dksX1_late_0 16 rfl rfl)
theorem dX1_late_19 : decode cX1_late 19 = .ok (.ifCond .ne 6, 3) := dk_154 0 6 (dk_at dksX1_late_0 19 rfl rfl)
theorem dX1_late_22 : decode cX1_late 22 = .ok (.bipush (-3), 2) := dk_16 253 (dk_at dksX1_late_0 22 rfl rfl)
theorem dX1_late_24 : decode cX1_late 24 = .ok (.ireturn, 1) := dk_172 (dk_at dksX1_late_1 0 rfl rfl)
theorem dX1_late_25 : decode cX1_late 25 = .ok (.iconst 0, 1) := dk_3 (dk_at dksX1_late_1 1 rfl rfl)
theorem dX1_late_26 : decode cX1_late 26 = .ok (.istore_n 3, 1) := dk_62 (dk_at dksX1_late_1 2 rfl rfl)
theorem dX1_late_27 : decode cX1_late 27 = .ok (.iload_n 3, 1) := dk_29 (dk_at dksX1_late_1 3 rfl rfl)
theorem dX1_late_28 : decode cX1_late 28 = .ok (.iload_n 2, 1) := dk_28 (dk_at dksX1_late_1 4 rfl rfl)
theorem dX1_late_29 : decode cX1_late 29 = .ok (.if_icmp .ge 16, 3) := dk_162 0 16 (dk_at dksX1_late_1 5 rfl rfl)
theorem dX1_late_32 : decode cX1_late 32 = .ok (.aload_n 0, 1) := dk_42 (dk_at dksX1_late_1 8 rfl rfl)
theorem dX1_late_33 : decode cX1_late 33 = .ok (.getfield 86, 3) := dk_180 0 86 (dk_at dksX1_late_1 9 rfl rfl)
theorem dX1_late_36 : decode cX1_late 36 = .ok (.iload_n 3, 1) := dk_29 (dk_at dksX1_late_1 12 rfl rfl)
theorem dX1_late_37 : decode cX1_late 37 = .ok (.iconst 0, 1) := dk_3 (dk_at dksX1_late_1 13 rfl rfl)
theorem dX1_late_38 : decode cX1_late 38 = .ok (.iastore, 1) := dk_79 (dk_at dksX1_late_1 14 rfl rfl)
theorem dX1_late_39 : decode cX1_late 39 = .ok (.iinc 3 1, 3) := dk_132 3 1 (dk_at dksX1_late_1 15 rfl rfl)
theorem dX1_late_42 : decode cX1_late 42 = .ok (.goto (-15), 3) := dk_167 255 241 (dk_at dksX1_late_1 18 rfl rfl)
theorem dX1_late_45 : decode cX1_late 45 = .ok (.iconst 0, 1) := dk_3 (dk_at dksX1_late_1 21 rfl rfl)
theorem dX1_late_46 : decode cX1_late 46 = .ok (.istore_n 3, 1) := dk_62 (dk_at dksX1_late_1 22 rfl rfl)
theorem dX1_late_47 : decode cX1_late 47 = .ok (.aload_n 0, 1) := dk_42 (dk_at dksX1_late_1 23 rfl rfl)
theorem dX1_late_48 : decode cX1_late 48 = .ok (.iconst 0, 1) := dk_3 (dk_at dksX1_late_2 0 rfl rfl)
theorem dX1_late_49 : decode cX1_late 49 = .ok (.putfield 337, 3) := dk_181 1 81 (dk_at dksX1_late_2 1 rfl rfl)
theorem dX1_late_52 : decode cX1_late 52 = .ok (.iconst 0, 1) := dk_3 (dk_at dksX1_late_2 4 rfl rfl)
theorem dX1_late_53 : decode cX1_late 53 = .ok (.istore 4, 2) := dk_54 4 (dk_at dksX1_late_2 5 rfl rfl)
theorem dX1_late_55 : decode cX1_late 55 = .ok (.iload 4, 2) := dk_21 4 (dk_at dksX1_late_2 7 rfl rfl)
theorem dX1_late_57 : decode cX1_late 57 = .ok (.aload_n 0, 1) := dk_42 (dk_at dksX1_late_2 9 rfl rfl)
theorem dX1_late_58 : decode cX1_late 58 = .ok (.getfield 55, 3) := dk_180 0 55 (dk_at dksX1_late_2 10 rfl rfl)
theorem dX1_late_61 : decode cX1_late 61 = .ok (.iload_n 1, 1) := dk_27 (dk_at dksX1_late_2 13 rfl rfl)
theorem dX1_late_62 : decode cX1_late 62 = .ok (.iaload, 1) := dk_46 (dk_at dksX1_late_2 14 rfl rfl)
theorem dX1_late_63 : decode cX1_late 63 = .ok (.if_icmp .ge 104, 3) := dk_162 0 104 (dk_at dksX1_late_2 15 rfl rfl)
theorem dX1_late_66 : decode cX1_late 66 = .ok (.iconst 0, 1) := dk_3 (dk_at dksX1_late_2 18 rfl rfl)
theorem dX1_late_67 : decode cX1_late 67 = .ok (.istore 5, 2) := dk_54 5 (dk_at dksX1_late_2 19 rfl rfl)
theorem dX1_late_69 : decode cX1_late 69 = .ok (.iconst 1, 1) := dk_4 (dk_at dksX1_late_2 21 rfl rfl)
theorem dX1_late_70 : decode cX1_late 70 = .ok (.istore 6, 2) := dk_54 6 (dk_at dksX1_late_2 22 rfl rfl)
theorem dX1_late_72 : decode cX1_late 72 = .ok (.iload 6, 2) := dk_21 6 (dk_at dksX1_late_3 0 rfl rfl)
theorem dX1_late_74 : decode cX1_late 74 = .ok (.iload_n 2, 1) := dk_28 (dk_at dksX1_late_3 2 rfl rfl)
theorem dX1_late_75 : decode cX1_late 75 = .ok (.if_icmp .ge 35, 3) := dk_162 0 35 (dk_at dksX1_late_3 3 rfl rfl)
theorem dX1_late_78 : decode cX1_late 78 = .ok (.aload_n 0, 1) := dk_42 (dk_at dksX1_late_3 6 rfl rfl)
theorem dX1_late_79 : decode cX1_late 79 = .ok (.getfield 86, 3) := dk_180 0 86 (dk_at dksX1_late_3 7 rfl rfl)
theorem dX1_late_82 : decode cX1_late 82 = .ok (.iload 6, 2) := dk_21 6 (dk_at dksX1_late_3 10 rfl rfl)
theorem dX1_late_84 : decode cX1_late 84 = .ok (.iaload, 1) := dk_46 (dk_at dksX1_late_3 12 rfl rfl)
theorem dX1_late_85 : decode cX1_late 85 = .ok (.aload_n 0, 1) := dk_42 (dk_at dksX1_late_3 13 rfl rfl)
theorem dX1_late_86 : decode cX1_late 86 = .ok (.getfield 86, 3) := dk_180 0 86 (dk_at dksX1_late_3 14 rfl rfl)
theorem dX1_late_89 : decode cX1_late 89 = .ok (.iload 5, 2) := dk_21 5 (dk_at dksX1_late_3 17 rfl rfl)
theorem dX1_late_91 : decode cX1_late 91 = .ok (.iaload, 1) := dk_46 (dk_at dksX1_late_3 19 rfl rfl)
theorem dX1_late_92 : decode cX1_late 92 = .ok (.if_icmp .ge 8, 3) := dk_162 0 8 (dk_at dksX1_late_3 20 rfl rfl)
theorem dX1_late_95 : decode cX1_late 95 = .ok (.iload 6, 2) := dk_21 6 (dk_at dksX1_late_4 0 rfl rfl)
theorem dX1_late_97 : decode cX1_late 97 = .ok (.goto 5, 3) := dk_167 0 5 (dk_at dksX1_late_4 2 rfl rfl)
theorem dX1_late_100 : decode cX1_late 100 = .ok (.iload 5, 2) := dk_21 5 (dk_at dksX1_late_4 5 rfl rfl)
theorem dX1_late_102 : decode cX1_late 102 = .ok (.istore 5, 2) := dk_54 5 (dk_at dksX1_late_4 7 rfl rfl)
theorem dX1_late_104 : decode cX1_late 104 = .ok (.iinc 6 1, 3) := dk_132 6 1 (dk_at dksX1_late_4 9 rfl rfl)
theorem dX1_late_107 : decode cX1_late 107 = .ok (.goto (-35), 3) := dk_167 255 221 (dk_at dksX1_late_4 12 rfl rfl)
theorem dX1_late_110 : decode cX1_late 110 = .ok (.aload_n 0, 1) := dk_42 (dk_at dksX1_late_4 15 rfl rfl)
theorem dX1_late_111 : decode cX1_late 111 = .ok (.getfield 86, 3) := dk_180 0 86 (dk_at dksX1_late_4 16 rfl rfl)
theorem dX1_late_114 : decode cX1_late 114 = .ok (.iload 5, 2) := dk_21 5 (dk_at dksX1_late_4 19 rfl rfl)
theorem dX1_late_116 : decode cX1_late 116 = .ok (.dup2, 1) := dk_92 (dk_at dksX1_late_4 21 rfl rfl)
theorem dX1_late_117 : decode cX1_late 117 = .ok (.iaload, 1) := dk_46 (dk_at dksX1_late_4 22 rfl rfl)
theorem dX1_late_118 : decode cX1_late 118 = .ok (.aload_n 0, 1) := dk_42 (dk_at dksX1_late_4 23 rfl rfl)
theorem dX1_late_119 : decode cX1_late 119 = .ok (.getfield 16, 3) := dk_180 0 16 (dk_at dksX1_late_5 0 rfl rfl)
theorem dX1_late_122 : decode cX1_late 122 = .ok (.aload_n 0, 1) := dk_42 (dk_at dksX1_late_5 3 rfl rfl)
theorem dX1_late_123 : decode cX1_late 123 = .ok (.iload_n 1, 1) := dk_27 (dk_at dksX1_late_5 4 rfl rfl)
theorem dX1_late_124 : decode cX1_late 124 = .ok (.iload 4, 2) := dk_21 4 (dk_at dksX1_late_5 5 rfl rfl)
theorem dX1_late_126 : decode cX1_late 126 = .ok (.invokevirtual 328, 3) := dk_182 1 72 (dk_at dksX1_late_5 7 rfl rfl)
theorem dX1_late_129 : decode cX1_late 129 = .ok (.iaload, 1) := dk_46 (dk_at dksX1_late_5 10 rfl rfl)
theorem dX1_late_130 : decode cX1_late 130 = .ok (.iadd, 1) := dk_96 (dk_at dksX1_late_5 11 rfl rfl)
theorem dX1_late_131 : decode cX1_late 131 = .ok (.iastore, 1) := dk_79 (dk_at dksX1_late_5 12 rfl rfl)
theorem dX1_late_132 : decode cX1_late 132 = .ok (.aload_n 0, 1) := dk_42 (dk_at dksX1_late_5 13 rfl rfl)
theorem dX1_late_133 : decode cX1_late 133 = .ok (.aload_n 0, 1) := dk_42 (dk_at dksX1_late_5 14 rfl rfl)
theorem dX1_late_134 : decode cX1_late 134 = .ok (.getfield 86, 3) := dk_180 0 86 (dk_at dksX1_late_5 15 rfl rfl)
theorem dX1_late_137 : decode cX1_late 137 = .ok (.iload 5, 2) := dk_21 5 (dk_at dksX1_late_5 18 rfl rfl)
theorem dX1_late_139 : decode cX1_late 139 = .ok (.iaload, 1) := dk_46 (dk_at dksX1_late_5 20 rfl rfl)
theorem dX1_late_140 : decode cX1_late 140 = .ok (.invokevirtual 340, 3) := dk_182 1 84 (dk_at dksX1_late_5 21 rfl rfl)
theorem dX1_late_143 : decode cX1_late 143 = .ok (.iload_n 3, 1) := dk_29 (dk_at dksX1_late_6 0 rfl rfl)
theorem dX1_late_144 : decode cX1_late 144 = .ok (.aload_n 0, 1) := dk_42 (dk_at dksX1_late_6 1 rfl rfl)
theorem dX1_late_145 : decode cX1_late 145 = .ok (.getfield 86, 3) := dk_180 0 86 (dk_at dksX1_late_6 2 rfl rfl)
theorem dX1_late_148 : decode cX1_late 148 = .ok (.iload 5, 2) := dk_21 5 (dk_at dksX1_late_6 5 rfl rfl)
theorem dX1_late_150 : decode cX1_late 150 = .ok (.iaload, 1) := dk_46 (dk_at dksX1_late_6 7 rfl rfl)
theorem dX1_late_151 : decode cX1_late 151 = .ok (.bipush 10, 2) := dk_16 10 (dk_at dksX1_late_6 8 rfl rfl)
theorem dX1_late_153 : decode cX1_late 153 = .ok (.isub, 1) := dk_100 (dk_at dksX1_late_6 10 rfl rfl)
theorem dX1_late_154 : decode cX1_late 154 = .ok (.iload 4, 2) := dk_21 4 (dk_at dksX1_late_6 11 rfl rfl)
theorem dX1_late_156 : decode cX1_late 156 = .ok (.isub, 1) := dk_100 (dk_at dksX1_late_6 13 rfl rfl)
theorem dX1_late_157 : decode cX1_late 157 = .ok (.invokestatic 246, 3) := dk_184 0 246 (dk_at dksX1_late_6 14 rfl rfl)
theorem dX1_late_160 : decode cX1_late 160 = .ok (.istore_n 3, 1) := dk_62 (dk_at dksX1_late_6 17 rfl rfl)
theorem dX1_late_161 : decode cX1_late 161 = .ok (.iinc 4 1, 3) := dk_132 4 1 (dk_at dksX1_late_6 18 rfl rfl)
theorem dX1_late_164 : decode cX1_late 164 = .ok (.goto (-109), 3) := dk_167 255 147 (dk_at dksX1_late_6 21 rfl rfl)
theorem dX1_late_167 : decode cX1_late 167 = .ok (.iload_n 3, 1) := dk_29 (dk_at dksX1_late_7 0 rfl rfl)
theorem dX1_late_168 : decode cX1_late 168 = .ok (.ireturn, 1) := dk_172 (dk_at dksX1_late_7 1 rfl rfl)
abbrev cX1_poison : ByteArray := prog_1_method_102_code
def yX1_poison : MethodName := ⟨RX1, "poison", "(II)I"⟩
def dkwX1_poison_3 : List UInt8 := [27, 21, 4, 182, 1, 175, 2, 130, 126, 62, 132, 4, 1, 167, 255, 213, 29, 172]
abbrev dktX1_poison_3 : List UInt8 := dkwX1_poison_3 ++ []
def dkwX1_poison_2 : List UInt8 := [162, 0, 40, 29, 28, 21, 4, 184, 1, 3, 153, 0, 13, 42, 27, 21, 4, 182, 1, 175, 167, 0, 12, 42]
abbrev dktX1_poison_2 : List UInt8 := dkwX1_poison_2 ++ dktX1_poison_3
def dkwX1_poison_1 : List UInt8 := [182, 1, 95, 154, 0, 6, 16, 253, 172, 17, 0, 255, 62, 3, 54, 4, 21, 4, 42, 180, 0, 110]
abbrev dktX1_poison_1 : List UInt8 := dkwX1_poison_1 ++ dktX1_poison_2
def dkwX1_poison_0 : List UInt8 := [28, 133, 9, 4, 42, 180, 0, 110, 120, 4, 100, 133, 184, 0, 106, 154, 0, 5, 2, 172, 42, 27]
abbrev dktX1_poison_0 : List UInt8 := dkwX1_poison_0 ++ dktX1_poison_1
theorem dksX1_poison_0 : cX1_poison.data.toList.drop 0 = dktX1_poison_0 := by decide +kernel
theorem dksX1_poison_1 : cX1_poison.data.toList.drop 22 = dktX1_poison_1 := dk_seg dksX1_poison_0 22 rfl rfl
theorem dksX1_poison_2 : cX1_poison.data.toList.drop 44 = dktX1_poison_2 := dk_seg dksX1_poison_1 22 rfl rfl
theorem dksX1_poison_3 : cX1_poison.data.toList.drop 68 = dktX1_poison_3 := dk_seg dksX1_poison_2 24 rfl rfl
theorem dX1_poison_0 : decode cX1_poison 0 = .ok (.iload_n 2, 1) := dk_28 (dk_at dksX1_poison_0 0 rfl rfl)
theorem dX1_poison_1 : decode cX1_poison 1 = .ok (.i2l, 1) := dk_133 (dk_at dksX1_poison_0 1 rfl rfl)
theorem dX1_poison_2 : decode cX1_poison 2 = .ok (.lconst 0, 1) := dk_9 (dk_at dksX1_poison_0 2 rfl rfl)
theorem dX1_poison_3 : decode cX1_poison 3 = .ok (.iconst 1, 1) := dk_4 (dk_at dksX1_poison_0 3 rfl rfl)
theorem dX1_poison_4 : decode cX1_poison 4 = .ok (.aload_n 0, 1) := dk_42 (dk_at dksX1_poison_0 4 rfl rfl)
theorem dX1_poison_5 : decode cX1_poison 5 = .ok (.getfield 110, 3) := dk_180 0 110 (dk_at dksX1_poison_0 5 rfl rfl)
theorem dX1_poison_8 : decode cX1_poison 8 = .ok (.ishl, 1) := dk_120 (dk_at dksX1_poison_0 8 rfl rfl)
theorem dX1_poison_9 : decode cX1_poison 9 = .ok (.iconst 1, 1) := dk_4 (dk_at dksX1_poison_0 9 rfl rfl)
theorem dX1_poison_10 : decode cX1_poison 10 = .ok (.isub, 1) := dk_100 (dk_at dksX1_poison_0 10 rfl rfl)
theorem dX1_poison_11 : decode cX1_poison 11 = .ok (.i2l, 1) := dk_133 (dk_at dksX1_poison_0 11 rfl rfl)
theorem dX1_poison_12 : decode cX1_poison 12 = .ok (.invokestatic 106, 3) := dk_184 0 106 (dk_at dksX1_poison_0 12 rfl rfl)
theorem dX1_poison_15 : decode cX1_poison 15 = .ok (.ifCond .ne 5, 3) := dk_154 0 5 (dk_at dksX1_poison_0 15 rfl rfl)
theorem dX1_poison_18 : decode cX1_poison 18 = .ok (.iconst (-1), 1) := dk_2 (dk_at dksX1_poison_0 18 rfl rfl)
theorem dX1_poison_19 : decode cX1_poison 19 = .ok (.ireturn, 1) := dk_172 (dk_at dksX1_poison_0 19 rfl rfl)
theorem dX1_poison_20 : decode cX1_poison 20 = .ok (.aload_n 0, 1) := dk_42 (dk_at dksX1_poison_0 20 rfl rfl)
theorem dX1_poison_21 : decode cX1_poison 21 = .ok (.iload_n 1, 1) := dk_27 (dk_at dksX1_poison_0 21 rfl rfl)
theorem dX1_poison_22 : decode cX1_poison 22 = .ok (.invokevirtual 351, 3) := dk_182 1 95 (dk_at dksX1_poison_1 0 rfl rfl)
theorem dX1_poison_25 : decode cX1_poison 25 = .ok (.ifCond .ne 6, 3) := dk_154 0 6 (dk_at dksX1_poison_1 3 rfl rfl)
theorem dX1_poison_28 : decode cX1_poison 28 = .ok (.bipush (-3), 2) := dk_16 253 (dk_at dksX1_poison_1 6 rfl rfl)
theorem dX1_poison_30 : decode cX1_poison 30 = .ok (.ireturn, 1) := dk_172 (dk_at dksX1_poison_1 8 rfl rfl)
theorem dX1_poison_31 : decode cX1_poison 31 = .ok (.sipush 255, 3) := dk_17 0 255 (dk_at dksX1_poison_1 9 rfl rfl)
theorem dX1_poison_34 : decode cX1_poison 34 = .ok (.istore_n 3, 1) := dk_62 (dk_at dksX1_poison_1 12 rfl rfl)
theorem dX1_poison_35 : decode cX1_poison 35 = .ok (.iconst 0, 1) := dk_3 (dk_at dksX1_poison_1 13 rfl rfl)
theorem dX1_poison_36 : decode cX1_poison 36 = .ok (.istore 4, 2) := dk_54 4 (dk_at dksX1_poison_1 14 rfl rfl)
theorem dX1_poison_38 : decode cX1_poison 38 = .ok (.iload 4, 2) := dk_21 4 (dk_at dksX1_poison_1 16 rfl rfl)
theorem dX1_poison_40 : decode cX1_poison 40 = .ok (.aload_n 0, 1) := dk_42 (dk_at dksX1_poison_1 18 rfl rfl)
theorem dX1_poison_41 : decode cX1_poison 41 = .ok (.getfield 110, 3) := dk_180 0 110 (dk_at dksX1_poison_1 19 rfl rfl)
theorem dX1_poison_44 : decode cX1_poison 44 = .ok (.if_icmp .ge 40, 3) := dk_162 0 40 (dk_at dksX1_poison_2 0 rfl rfl)
theorem dX1_poison_47 : decode cX1_poison 47 = .ok (.iload_n 3, 1) := dk_29 (dk_at dksX1_poison_2 3 rfl rfl)
theorem dX1_poison_48 : decode cX1_poison 48 = .ok (.iload_n 2, 1) := dk_28 (dk_at dksX1_poison_2 4 rfl rfl)
theorem dX1_poison_49 : decode cX1_poison 49 = .ok (.iload 4, 2) := dk_21 4 (dk_at dksX1_poison_2 5 rfl rfl)
theorem dX1_poison_51 : decode cX1_poison 51 = .ok (.invokestatic 259, 3) := dk_184 1 3 (dk_at dksX1_poison_2 7 rfl rfl)
theorem dX1_poison_54 : decode cX1_poison 54 = .ok (.ifCond .eq 13, 3) := dk_153 0 13 (dk_at dksX1_poison_2 10 rfl rfl)
theorem dX1_poison_57 : decode cX1_poison 57 = .ok (.aload_n 0, 1) := dk_42 (dk_at dksX1_poison_2 13 rfl rfl)
theorem dX1_poison_58 : decode cX1_poison 58 = .ok (.iload_n 1, 1) := dk_27 (dk_at dksX1_poison_2 14 rfl rfl)
theorem dX1_poison_59 : decode cX1_poison 59 = .ok (.iload 4, 2) := dk_21 4 (dk_at dksX1_poison_2 15 rfl rfl)
theorem dX1_poison_61 : decode cX1_poison 61 = .ok (.invokevirtual 431, 3) := dk_182 1 175 (dk_at dksX1_poison_2 17 rfl rfl)
theorem dX1_poison_64 : decode cX1_poison 64 = .ok (.goto 12, 3) := dk_167 0 12 (dk_at dksX1_poison_2 20 rfl rfl)
theorem dX1_poison_67 : decode cX1_poison 67 = .ok (.aload_n 0, 1) := dk_42 (dk_at dksX1_poison_2 23 rfl rfl)
theorem dX1_poison_68 : decode cX1_poison 68 = .ok (.iload_n 1, 1) := dk_27 (dk_at dksX1_poison_3 0 rfl rfl)
theorem dX1_poison_69 : decode cX1_poison 69 = .ok (.iload 4, 2) := dk_21 4 (dk_at dksX1_poison_3 1 rfl rfl)
theorem dX1_poison_71 : decode cX1_poison 71 = .ok (.invokevirtual 431, 3) := dk_182 1 175 (dk_at dksX1_poison_3 3 rfl rfl)
theorem dX1_poison_74 : decode cX1_poison 74 = .ok (.iconst (-1), 1) := dk_2 (dk_at dksX1_poison_3 6 rfl rfl)
theorem dX1_poison_75 : decode cX1_poison 75 = .ok (.ixor, 1) := dk_130 (dk_at dksX1_poison_3 7 rfl rfl)
theorem dX1_poison_76 : decode cX1_poison 76 = .ok (.iand, 1) := dk_126 (dk_at dksX1_poison_3 8 rfl rfl)
theorem dX1_poison_77 : decode cX1_poison 77 = .ok (.istore_n 3, 1) := dk_62 (dk_at dksX1_poison_3 9 rfl rfl)
theorem dX1_poison_78 : decode cX1_poison 78 = .ok (.iinc 4 1, 3) := dk_132 4 1 (dk_at dksX1_poison_3 10 rfl rfl)
theorem dX1_poison_81 : decode cX1_poison 81 = .ok (.goto (-43), 3) := dk_167 255 213 (dk_at dksX1_poison_3 13 rfl rfl)
theorem dX1_poison_84 : decode cX1_poison 84 = .ok (.iload_n 3, 1) := dk_29 (dk_at dksX1_poison_3 16 rfl rfl)
theorem dX1_poison_85 : decode cX1_poison 85 = .ok (.ireturn, 1) := dk_172 (dk_at dksX1_poison_3 17 rfl rfl)
abbrev cX1_eatenBy : ByteArray := prog_1_method_101_code
def yX1_eatenBy : MethodName := ⟨RX1, "eatenBy", "(II)I"⟩
def dkwX1_eatenBy_2 : List UInt8 := [21, 4, 182, 1, 72, 46, 128, 62, 132, 4, 1, 167, 255, 205, 29, 172]
abbrev dktX1_eatenBy_2 : List UInt8 := dkwX1_eatenBy_2 ++ []
def dkwX1_eatenBy_1 : List UInt8 := [182, 1, 72, 182, 1, 10, 28, 184, 1, 3, 153, 0, 7, 3, 167, 0, 15, 42, 180, 0, 9, 42, 27]
abbrev dktX1_eatenBy_1 : List UInt8 := dkwX1_eatenBy_1 ++ dktX1_eatenBy_2
def dkwX1_eatenBy_0 : List UInt8 := [3, 62, 3, 54, 4, 21, 4, 42, 180, 0, 55, 27, 46, 162, 0, 46, 29, 42, 42, 27, 21, 4]
abbrev dktX1_eatenBy_0 : List UInt8 := dkwX1_eatenBy_0 ++ dktX1_eatenBy_1
theorem dksX1_eatenBy_0 : cX1_eatenBy.data.toList.drop 0 = dktX1_eatenBy_0 := by decide +kernel
theorem dksX1_eatenBy_1 : cX1_eatenBy.data.toList.drop 22 = dktX1_eatenBy_1 := dk_seg dksX1_eatenBy_0 22 rfl rfl
theorem dksX1_eatenBy_2 : cX1_eatenBy.data.toList.drop 45 = dktX1_eatenBy_2 := dk_seg dksX1_eatenBy_1 23 rfl rfl
theorem dX1_eatenBy_0 : decode cX1_eatenBy 0 = .ok (.iconst 0, 1) := dk_3 (dk_at dksX1_eatenBy_0 0 rfl rfl)
theorem dX1_eatenBy_1 : decode cX1_eatenBy 1 = .ok (.istore_n 3, 1) := dk_62 (dk_at dksX1_eatenBy_0 1 rfl rfl)
theorem dX1_eatenBy_2 : decode cX1_eatenBy 2 = .ok (.iconst 0, 1) := dk_3 (dk_at dksX1_eatenBy_0 2 rfl rfl)
theorem dX1_eatenBy_3 : decode cX1_eatenBy 3 = .ok (.istore 4, 2) := dk_54 4 (dk_at dksX1_eatenBy_0 3 rfl rfl)
theorem dX1_eatenBy_5 : decode cX1_eatenBy 5 = .ok (.iload 4, 2) := dk_21 4 (dk_at dksX1_eatenBy_0 5 rfl rfl)
theorem dX1_eatenBy_7 : decode cX1_eatenBy 7 = .ok (.aload_n 0, 1) := dk_42 (dk_at dksX1_eatenBy_0 7 rfl rfl)
theorem dX1_eatenBy_8 : decode cX1_eatenBy 8 = .ok (.getfield 55, 3) := dk_180 0 55 (dk_at dksX1_eatenBy_0 8 rfl rfl)
theorem dX1_eatenBy_11 : decode cX1_eatenBy 11 = .ok (.iload_n 1, 1) := dk_27 (dk_at dksX1_eatenBy_0 11 rfl rfl)
theorem dX1_eatenBy_12 : decode cX1_eatenBy 12 = .ok (.iaload, 1) := dk_46 (dk_at dksX1_eatenBy_0 12 rfl rfl)
theorem dX1_eatenBy_13 : decode cX1_eatenBy 13 = .ok (.if_icmp .ge 46, 3) := dk_162 0 46 (dk_at dksX1_eatenBy_0 13 rfl rfl)
theorem dX1_eatenBy_16 : decode cX1_eatenBy 16 = .ok (.iload_n 3, 1) := dk_29 (dk_at dksX1_eatenBy_0 16 rfl rfl)
theorem dX1_eatenBy_17 : decode cX1_eatenBy 17 = .ok (.aload_n 0, 1) := dk_42 (dk_at dksX1_eatenBy_0 17 rfl rfl)
theorem dX1_eatenBy_18 : decode cX1_eatenBy 18 = .ok (.aload_n 0, 1) := dk_42 (dk_at dksX1_eatenBy_0 18 rfl rfl)
theorem dX1_eatenBy_19 : decode cX1_eatenBy 19 = .ok (.iload_n 1, 1) := dk_27 (dk_at dksX1_eatenBy_0 19 rfl rfl)
theorem dX1_eatenBy_20 : decode cX1_eatenBy 20 = .ok (.iload 4, 2) := dk_21 4 (dk_at dksX1_eatenBy_0 20 rfl rfl)
theorem dX1_eatenBy_22 : decode cX1_eatenBy 22 = .ok (.invokevirtual 328, 3) := dk_182 1 72 (dk_at dksX1_eatenBy_1 0 rfl rfl)
theorem dX1_eatenBy_25 : decode cX1_eatenBy 25 = .ok (.invokevirtual 266, 3) := dk_182 1 10 (dk_at dksX1_eatenBy_1 3 rfl rfl)
theorem dX1_eatenBy_28 : decode cX1_eatenBy 28 = .ok (.iload_n 2, 1) := dk_28 (dk_at dksX1_eatenBy_1 6 rfl rfl)
theorem dX1_eatenBy_29 : decode cX1_eatenBy 29 = .ok (.invokestatic 259, 3) := dk_184 1 3 (dk_at dksX1_eatenBy_1 7 rfl rfl)
theorem dX1_eatenBy_32 : decode cX1_eatenBy 32 = .ok (.ifCond .eq 7, 3) := dk_153 0 7 (dk_at dksX1_eatenBy_1 10 rfl rfl)
theorem dX1_eatenBy_35 : decode cX1_eatenBy 35 = .ok (.iconst 0, 1) := dk_3 (dk_at dksX1_eatenBy_1 13 rfl rfl)
theorem dX1_eatenBy_36 : decode cX1_eatenBy 36 = .ok (.goto 15, 3) := dk_167 0 15 (dk_at dksX1_eatenBy_1 14 rfl rfl)
theorem dX1_eatenBy_39 : decode cX1_eatenBy 39 = .ok (.aload_n 0, 1) := dk_42 (dk_at dksX1_eatenBy_1 17 rfl rfl)
theorem dX1_eatenBy_40 : decode cX1_eatenBy 40 = .ok (.getfield 9, 3) := dk_180 0 9 (dk_at dksX1_eatenBy_1 18 rfl rfl)
theorem dX1_eatenBy_43 : decode cX1_eatenBy 43 = .ok (.aload_n 0, 1) := dk_42 (dk_at dksX1_eatenBy_1 21 rfl rfl)
theorem dX1_eatenBy_44 : decode cX1_eatenBy 44 = .ok (.iload_n 1, 1) := dk_27 (dk_at dksX1_eatenBy_1 22 rfl rfl)
theorem dX1_eatenBy_45 : decode cX1_eatenBy 45 = .ok (.iload 4, 2) := dk_21 4 (dk_at dksX1_eatenBy_2 0 rfl rfl)
theorem dX1_eatenBy_47 : decode cX1_eatenBy 47 = .ok (.invokevirtual 328, 3) := dk_182 1 72 (dk_at dksX1_eatenBy_2 2 rfl rfl)
theorem dX1_eatenBy_50 : decode cX1_eatenBy 50 = .ok (.iaload, 1) := dk_46 (dk_at dksX1_eatenBy_2 5 rfl rfl)
theorem dX1_eatenBy_51 : decode cX1_eatenBy 51 = .ok (.ior, 1) := dk_128 (dk_at dksX1_eatenBy_2 6 rfl rfl)
theorem dX1_eatenBy_52 : decode cX1_eatenBy 52 = .ok (.istore_n 3, 1) := dk_62 (dk_at dksX1_eatenBy_2 7 rfl rfl)
theorem dX1_eatenBy_53 : decode cX1_eatenBy 53 = .ok (.iinc 4 1, 3) := dk_132 4 1 (dk_at dksX1_eatenBy_2 8 rfl rfl)
theorem dX1_eatenBy_56 : decode cX1_eatenBy 56 = .ok (.goto (-51), 3) := dk_167 255 205 (dk_at dksX1_eatenBy_2 11 rfl rfl)
theorem dX1_eatenBy_59 : decode cX1_eatenBy 59 = .ok (.iload_n 3, 1) := dk_29 (dk_at dksX1_eatenBy_2 14 rfl rfl)
theorem dX1_eatenBy_60 : decode cX1_eatenBy 60 = .ok (.ireturn, 1) := dk_172 (dk_at dksX1_eatenBy_2 15 rfl rfl)
abbrev cX1_eats : ByteArray := prog_1_method_103_code
def yX1_eats : MethodName := ⟨RX1, "eats", "(II)I"⟩
def dkwX1_eats_5 : List UInt8 := [184, 0, 237, 172]
abbrev dktX1_eats_5 : List UInt8 := dkwX1_eats_5 ++ []
def dkwX1_eats_4 : List UInt8 := [42, 29, 182, 1, 84, 42, 42, 27, 28, 182, 1, 175, 182, 1, 84, 42, 21, 4, 182, 1, 84, 29]
abbrev dktX1_eats_4 : List UInt8 := dkwX1_eats_4 ++ dktX1_eats_5
def dkwX1_eats_3 : List UInt8 := [42, 27, 21, 5, 182, 1, 72, 182, 0, 249, 96, 54, 4, 132, 5, 1, 167, 255, 197, 42, 3, 181, 1, 81]
abbrev dktX1_eats_3 : List UInt8 := dkwX1_eats_3 ++ dktX1_eats_4
def dkwX1_eats_2 : List UInt8 := [182, 1, 10, 28, 184, 1, 3, 153, 0, 6, 167, 0, 27, 29, 4, 21, 5, 120, 128, 62, 21, 4, 42, 28]
abbrev dktX1_eats_2 : List UInt8 := dkwX1_eats_2 ++ dktX1_eats_3
def dkwX1_eats_1 : List UInt8 := [54, 4, 3, 54, 5, 21, 5, 42, 180, 0, 55, 27, 46, 162, 0, 54, 42, 42, 27, 21, 5, 182, 1, 72]
abbrev dktX1_eats_1 : List UInt8 := dkwX1_eats_1 ++ dktX1_eats_2
def dkwX1_eats_0 : List UInt8 := [42, 28, 182, 1, 13, 154, 0, 5, 2, 172, 42, 27, 182, 1, 95, 154, 0, 6, 16, 253, 172, 3, 62, 3]
abbrev dktX1_eats_0 : List UInt8 := dkwX1_eats_0 ++ dktX1_eats_1
theorem dksX1_eats_0 : cX1_eats.data.toList.drop 0 = dktX1_eats_0 := by decide +kernel
theorem dksX1_eats_1 : cX1_eats.data.toList.drop 24 = dktX1_eats_1 := dk_seg dksX1_eats_0 24 rfl rfl
theorem dksX1_eats_2 : cX1_eats.data.toList.drop 48 = dktX1_eats_2 := dk_seg dksX1_eats_1 24 rfl rfl
theorem dksX1_eats_3 : cX1_eats.data.toList.drop 72 = dktX1_eats_3 := dk_seg dksX1_eats_2 24 rfl rfl
theorem dksX1_eats_4 : cX1_eats.data.toList.drop 96 = dktX1_eats_4 := dk_seg dksX1_eats_3 24 rfl rfl
theorem dksX1_eats_5 : cX1_eats.data.toList.drop 118 = dktX1_eats_5 := dk_seg dksX1_eats_4 22 rfl rfl
theorem dX1_eats_0 : decode cX1_eats 0 = .ok (.aload_n 0, 1) := dk_42 (dk_at dksX1_eats_0 0 rfl rfl)
theorem dX1_eats_1 : decode cX1_eats 1 = .ok (.iload_n 2, 1) := dk_28 (dk_at dksX1_eats_0 1 rfl rfl)
theorem dX1_eats_2 : decode cX1_eats 2 = .ok (.invokevirtual 269, 3) := dk_182 1 13 (dk_at dksX1_eats_0 2 rfl rfl)
theorem dX1_eats_5 : decode cX1_eats 5 = .ok (.ifCond .ne 5, 3) := dk_154 0 5 (dk_at dksX1_eats_0 5 rfl rfl)
theorem dX1_eats_8 : decode cX1_eats 8 = .ok (.iconst (-1), 1) := dk_2 (dk_at dksX1_eats_0 8 rfl rfl)
theorem dX1_eats_9 : decode cX1_eats 9 = .ok (.ireturn, 1) := dk_172 (dk_at dksX1_eats_0 9 rfl rfl)
theorem dX1_eats_10 : decode cX1_eats 10 = .ok (.aload_n 0, 1) := dk_42 (dk_at dksX1_eats_0 10 rfl rfl)
theorem dX1_eats_11 : decode cX1_eats 11 = .ok (.iload_n 1, 1) := dk_27 (dk_at dksX1_eats_0 11 rfl rfl)
theorem dX1_eats_12 : decode cX1_eats 12 = .ok (.invokevirtual 351, 3) := dk_182 1 95 (dk_at dksX1_eats_0 12 rfl rfl)
theorem dX1_eats_15 : decode cX1_eats 15 = .ok (.ifCond .ne 6, 3) := dk_154 0 6 (dk_at dksX1_eats_0 15 rfl rfl)
theorem dX1_eats_18 : decode cX1_eats 18 = .ok (.bipush (-3), 2) := dk_16 253 (dk_at dksX1_eats_0 18 rfl rfl)
theorem dX1_eats_20 : decode cX1_eats 20 = .ok (.ireturn, 1) := dk_172 (dk_at dksX1_eats_0 20 rfl rfl)
theorem dX1_eats_21 : decode cX1_eats 21 = .ok (.iconst 0, 1) := dk_3 (dk_at dksX1_eats_0 21 rfl rfl)
theorem dX1_eats_22 : decode cX1_eats 22 = .ok (.istore_n 3, 1) := dk_62 (dk_at dksX1_eats_0 22 rfl rfl)
theorem dX1_eats_23 : decode cX1_eats 23 = .ok (.iconst 0, 1) := dk_3 (dk_at dksX1_eats_0 23 rfl rfl)
theorem dX1_eats_24 : decode cX1_eats 24 = .ok (.istore 4, 2) := dk_54 4 (dk_at dksX1_eats_1 0 rfl rfl)
theorem dX1_eats_26 : decode cX1_eats 26 = .ok (.iconst 0, 1) := dk_3 (dk_at dksX1_eats_1 2 rfl rfl)
theorem dX1_eats_27 : decode cX1_eats 27 = .ok (.istore 5, 2) := dk_54 5 (dk_at dksX1_eats_1 3 rfl rfl)
theorem dX1_eats_29 : decode cX1_eats 29 = .ok (.iload 5, 2) := dk_21 5 (dk_at dksX1_eats_1 5 rfl rfl)
theorem dX1_eats_31 : decode cX1_eats 31 = .ok (.aload_n 0, 1) := dk_42 (dk_at dksX1_eats_1 7 rfl rfl)
theorem dX1_eats_32 : decode cX1_eats 32 = .ok (.getfield 55, 3) := dk_180 0 55 (dk_at dksX1_eats_1 8 rfl rfl)
theorem dX1_eats_35 : decode cX1_eats 35 = .ok (.iload_n 1, 1) := dk_27 (dk_at dksX1_eats_1 11 rfl rfl)
theorem dX1_eats_36 : decode cX1_eats 36 = .ok (.iaload, 1) := dk_46 (dk_at dksX1_eats_1 12 rfl rfl)
theorem dX1_eats_37 : decode cX1_eats 37 = .ok (.if_icmp .ge 54, 3) := dk_162 0 54 (dk_at dksX1_eats_1 13 rfl rfl)
theorem dX1_eats_40 : decode cX1_eats 40 = .ok (.aload_n 0, 1) := dk_42 (dk_at dksX1_eats_1 16 rfl rfl)
theorem dX1_eats_41 : decode cX1_eats 41 = .ok (.aload_n 0, 1) := dk_42 (dk_at dksX1_eats_1 17 rfl rfl)
theorem dX1_eats_42 : decode cX1_eats 42 = .ok (.iload_n 1, 1) := dk_27 (dk_at dksX1_eats_1 18 rfl rfl)
theorem dX1_eats_43 : decode cX1_eats 43 = .ok (.iload 5, 2) := dk_21 5 (dk_at dksX1_eats_1 19 rfl rfl)
theorem dX1_eats_45 : decode cX1_eats 45 = .ok (.invokevirtual 328, 3) := dk_182 1 72 (dk_at dksX1_eats_1 21 rfl rfl)
theorem dX1_eats_48 : decode cX1_eats 48 = .ok (.invokevirtual 266, 3) := dk_182 1 10 (dk_at dksX1_eats_2 0 rfl rfl)
theorem dX1_eats_51 : decode cX1_eats 51 = .ok (.iload_n 2, 1) := dk_28 (dk_at dksX1_eats_2 3 rfl rfl)
theorem dX1_eats_52 : decode cX1_eats 52 = .ok (.invokestatic 259, 3) := dk_184 1 3 (dk_at dksX1_eats_2 4 rfl rfl)
theorem dX1_eats_55 : decode cX1_eats 55 = .ok (.ifCond .eq 6, 3) := dk_153 0 6 (dk_at dksX1_eats_2 7 rfl rfl)
theorem dX1_eats_58 : decode cX1_eats 58 = .ok (.goto 27, 3) := dk_167 0 27 (dk_at dksX1_eats_2 10 rfl rfl)
theorem dX1_eats_61 : decode cX1_eats 61 = .ok (.iload_n 3, 1) := dk_29 (dk_at dksX1_eats_2 13 rfl rfl)
theorem dX1_eats_62 : decode cX1_eats 62 = .ok (.iconst 1, 1) := dk_4 (dk_at dksX1_eats_2 14 rfl rfl)
theorem dX1_eats_63 : decode cX1_eats 63 = .ok (.iload 5, 2) := dk_21 5 (dk_at dksX1_eats_2 15 rfl rfl)
theorem dX1_eats_65 : decode cX1_eats 65 = .ok (.ishl, 1) := dk_120 (dk_at dksX1_eats_2 17 rfl rfl)
theorem dX1_eats_66 : decode cX1_eats 66 = .ok (.ior, 1) := dk_128 (dk_at dksX1_eats_2 18 rfl rfl)
theorem dX1_eats_67 : decode cX1_eats 67 = .ok (.istore_n 3, 1) := dk_62 (dk_at dksX1_eats_2 19 rfl rfl)
theorem dX1_eats_68 : decode cX1_eats 68 = .ok (.iload 4, 2) := dk_21 4 (dk_at dksX1_eats_2 20 rfl rfl)
theorem dX1_eats_70 : decode cX1_eats 70 = .ok (.aload_n 0, 1) := dk_42 (dk_at dksX1_eats_2 22 rfl rfl)
theorem dX1_eats_71 : decode cX1_eats 71 = .ok (.iload_n 2, 1) := dk_28 (dk_at dksX1_eats_2 23 rfl rfl)
theorem dX1_eats_72 : decode cX1_eats 72 = .ok (.aload_n 0, 1) := dk_42 (dk_at dksX1_eats_3 0 rfl rfl)
theorem dX1_eats_73 : decode cX1_eats 73 = .ok (.iload_n 1, 1) := dk_27 (dk_at dksX1_eats_3 1 rfl rfl)
theorem dX1_eats_74 : decode cX1_eats 74 = .ok (.iload 5, 2) := dk_21 5 (dk_at dksX1_eats_3 2 rfl rfl)
theorem dX1_eats_76 : decode cX1_eats 76 = .ok (.invokevirtual 328, 3) := dk_182 1 72 (dk_at dksX1_eats_3 4 rfl rfl)
theorem dX1_eats_79 : decode cX1_eats 79 = .ok (.invokevirtual 249, 3) := dk_182 0 249 (dk_at dksX1_eats_3 7 rfl rfl)
theorem dX1_eats_82 : decode cX1_eats 82 = .ok (.iadd, 1) := dk_96 (dk_at dksX1_eats_3 10 rfl rfl)
theorem dX1_eats_83 : decode cX1_eats 83 = .ok (.istore 4, 2) := dk_54 4 (dk_at dksX1_eats_3 11 rfl rfl)
theorem dX1_eats_85 : decode cX1_eats 85 = .ok (.iinc 5 1, 3) := dk_132 5 1 (dk_at dksX1_eats_3 13 rfl rfl)
theorem dX1_eats_88 : decode cX1_eats 88 = .ok (.goto (-59), 3) := dk_167 255 197 (dk_at dksX1_eats_3 16 rfl rfl)
theorem dX1_eats_91 : decode cX1_eats 91 = .ok (.aload_n 0, 1) := dk_42 (dk_at dksX1_eats_3 19 rfl rfl)
theorem dX1_eats_92 : decode cX1_eats 92 = .ok (.iconst 0, 1) := dk_3 (dk_at dksX1_eats_3 20 rfl rfl)
theorem dX1_eats_93 : decode cX1_eats 93 = .ok (.putfield 337, 3) := dk_181 1 81 (dk_at dksX1_eats_3 21 rfl rfl)
theorem dX1_eats_96 : decode cX1_eats 96 = .ok (.aload_n 0, 1) := dk_42 (dk_at dksX1_eats_4 0 rfl rfl)
theorem dX1_eats_97 : decode cX1_eats 97 = .ok (.iload_n 3, 1) := dk_29 (dk_at dksX1_eats_4 1 rfl rfl)
theorem dX1_eats_98 : decode cX1_eats 98 = .ok (.invokevirtual 340, 3) := dk_182 1 84 (dk_at dksX1_eats_4 2 rfl rfl)
theorem dX1_eats_101 : decode cX1_eats 101 = .ok (.aload_n 0, 1) := dk_42 (dk_at dksX1_eats_4 5 rfl rfl)
theorem dX1_eats_102 : decode cX1_eats 102 = .ok (.aload_n 0, 1) := dk_42 (dk_at dksX1_eats_4 6 rfl rfl)
theorem dX1_eats_103 : decode cX1_eats 103 = .ok (.iload_n 1, 1) := dk_27 (dk_at dksX1_eats_4 7 rfl rfl)
theorem dX1_eats_104 : decode cX1_eats 104 = .ok (.iload_n 2, 1) := dk_28 (dk_at dksX1_eats_4 8 rfl rfl)
theorem dX1_eats_105 : decode cX1_eats 105 = .ok (.invokevirtual 431, 3) := dk_182 1 175 (dk_at dksX1_eats_4 9 rfl rfl)
theorem dX1_eats_108 : decode cX1_eats 108 = .ok (.invokevirtual 340, 3) := dk_182 1 84 (dk_at dksX1_eats_4 12 rfl rfl)
theorem dX1_eats_111 : decode cX1_eats 111 = .ok (.aload_n 0, 1) := dk_42 (dk_at dksX1_eats_4 15 rfl rfl)
theorem dX1_eats_112 : decode cX1_eats 112 = .ok (.iload 4, 2) := dk_21 4 (dk_at dksX1_eats_4 16 rfl rfl)
theorem dX1_eats_114 : decode cX1_eats 114 = .ok (.invokevirtual 340, 3) := dk_182 1 84 (dk_at dksX1_eats_4 18 rfl rfl)
theorem dX1_eats_117 : decode cX1_eats 117 = .ok (.iload_n 3, 1) := dk_29 (dk_at dksX1_eats_4 21 rfl rfl)
theorem dX1_eats_118 : decode cX1_eats 118 = .ok (.invokestatic 237, 3) := dk_184 0 237 (dk_at dksX1_eats_5 0 rfl rfl)
theorem dX1_eats_121 : decode cX1_eats 121 = .ok (.ireturn, 1) := dk_172 (dk_at dksX1_eats_5 3 rfl rfl)
abbrev cX1_made : ByteArray := prog_1_method_108_code
def yX1_made : MethodName := ⟨RX1, "made", "()I"⟩
def dkwX1_made_3 : List UInt8 := [167, 255, 215, 132, 1, 1, 167, 255, 201, 16, 254, 172]
abbrev dktX1_made_3 : List UInt8 := dkwX1_made_3 ++ []
def dkwX1_made_2 : List UInt8 := [182, 1, 188, 154, 0, 6, 167, 0, 15, 42, 3, 181, 1, 81, 42, 28, 182, 1, 84, 27, 172, 132, 2, 1]
abbrev dktX1_made_2 : List UInt8 := dkwX1_made_2 ++ dktX1_made_3
def dkwX1_made_1 : List UInt8 := [16, 8, 163, 0, 55, 4, 61, 28, 17, 1, 0, 162, 0, 40, 28, 184, 0, 237, 27, 160, 0, 26, 42, 28]
abbrev dktX1_made_1 : List UInt8 := dkwX1_made_1 ++ dktX1_made_2
def dkwX1_made_0 : List UInt8 := [42, 3, 182, 1, 188, 153, 0, 15, 42, 3, 181, 1, 81, 42, 3, 182, 1, 84, 3, 172, 4, 60, 27]
abbrev dktX1_made_0 : List UInt8 := dkwX1_made_0 ++ dktX1_made_1
theorem dksX1_made_0 : cX1_made.data.toList.drop 0 = dktX1_made_0 := by decide +kernel
theorem dksX1_made_1 : cX1_made.data.toList.drop 23 = dktX1_made_1 := dk_seg dksX1_made_0 23 rfl rfl
theorem dksX1_made_2 : cX1_made.data.toList.drop 47 = dktX1_made_2 := dk_seg dksX1_made_1 24 rfl rfl
theorem dksX1_made_3 : cX1_made.data.toList.drop 71 = dktX1_made_3 := dk_seg dksX1_made_2 24 rfl rfl
theorem dX1_made_0 : decode cX1_made 0 = .ok (.aload_n 0, 1) := dk_42 (dk_at dksX1_made_0 0 rfl rfl)
theorem dX1_made_1 : decode cX1_made 1 = .ok (.iconst 0, 1) := dk_3 (dk_at dksX1_made_0 1 rfl rfl)
theorem dX1_made_2 : decode cX1_made 2 = .ok (.invokevirtual 444, 3) := dk_182 1 188 (dk_at dksX1_made_0 2 rfl rfl)
theorem dX1_made_5 : decode cX1_made 5 = .ok (.ifCond .eq 15, 3) := dk_153 0 15 (dk_at dksX1_made_0 5 rfl rfl)
theorem dX1_made_8 : decode cX1_made 8 = .ok (.aload_n 0, 1) := dk_42 (dk_at dksX1_made_0 8 rfl rfl)
theorem dX1_made_9 : decode cX1_made 9 = .ok (.iconst 0, 1) := dk_3 (dk_at dksX1_made_0 9 rfl rfl)
theorem dX1_made_10 : decode cX1_made 10 = .ok (.putfield 337, 3) := dk_181 1 81 (dk_at dksX1_made_0 10 rfl rfl)
theorem dX1_made_13 : decode cX1_made 13 = .ok (.aload_n 0, 1) := dk_42 (dk_at dksX1_made_0 13 rfl rfl)
theorem dX1_made_14 : decode cX1_made 14 = .ok (.iconst 0, 1) := dk_3 (dk_at dksX1_made_0 14 rfl rfl)
theorem dX1_made_15 : decode cX1_made 15 = .ok (.invokevirtual 340, 3) := dk_182 1 84 (dk_at dksX1_made_0 15 rfl rfl)
theorem dX1_made_18 : decode cX1_made 18 = .ok (.iconst 0, 1) := dk_3 (dk_at dksX1_made_0 18 rfl rfl)
theorem dX1_made_19 : decode cX1_made 19 = .ok (.ireturn, 1) := dk_172 (dk_at dksX1_made_0 19 rfl rfl)
theorem dX1_made_20 : decode cX1_made 20 = .ok (.iconst 1, 1) := dk_4 (dk_at dksX1_made_0 20 rfl rfl)
theorem dX1_made_21 : decode cX1_made 21 = .ok (.istore_n 1, 1) := dk_60 (dk_at dksX1_made_0 21 rfl rfl)
theorem dX1_made_22 : decode cX1_made 22 = .ok (.iload_n 1, 1) := dk_27 (dk_at dksX1_made_0 22 rfl rfl)
theorem dX1_made_23 : decode cX1_made 23 = .ok (.bipush 8, 2) := dk_16 8 (dk_at dksX1_made_1 0 rfl rfl)
theorem dX1_made_25 : decode cX1_made 25 = .ok (.if_icmp .gt 55, 3) := dk_163 0 55 (dk_at dksX1_made_1 2 rfl rfl)
theorem dX1_made_28 : decode cX1_made 28 = .ok (.iconst 1, 1) := dk_4 (dk_at dksX1_made_1 5 rfl rfl)
theorem dX1_made_29 : decode cX1_made 29 = .ok (.istore_n 2, 1) := dk_61 (dk_at dksX1_made_1 6 rfl rfl)
theorem dX1_made_30 : decode cX1_made 30 = .ok (.iload_n 2, 1) := dk_28 (dk_at dksX1_made_1 7 rfl rfl)
theorem dX1_made_31 : decode cX1_made 31 = .ok (.sipush 256, 3) := dk_17 1 0 (dk_at dksX1_made_1 8 rfl rfl)
theorem dX1_made_34 : decode cX1_made 34 = .ok (.if_icmp .ge 40, 3) := dk_162 0 40 (dk_at dksX1_made_1 11 rfl rfl)
theorem dX1_made_37 : decode cX1_made 37 = .ok (.iload_n 2, 1) := dk_28 (dk_at dksX1_made_1 14 rfl rfl)
theorem dX1_made_38 : decode cX1_made 38 = .ok (.invokestatic 237, 3) := dk_184 0 237 (dk_at dksX1_made_1 15 rfl rfl)
theorem dX1_made_41 : decode cX1_made 41 = .ok (.iload_n 1, 1) := dk_27 (dk_at dksX1_made_1 18 rfl rfl)
theorem dX1_made_42 : decode cX1_made 42 = .ok (.if_icmp .ne 26, 3) := dk_160 0 26 (dk_at dksX1_made_1 19 rfl rfl)
theorem dX1_made_45 : decode cX1_made 45 = .ok (.aload_n 0, 1) := dk_42 (dk_at dksX1_made_1 22 rfl rfl)
theorem dX1_made_46 : decode cX1_made 46 = .ok (.iload_n 2, 1) := dk_28 (dk_at dksX1_made_1 23 rfl rfl)
theorem dX1_made_47 : decode cX1_made 47 = .ok (.invokevirtual 444, 3) := dk_182 1 188 (dk_at dksX1_made_2 0 rfl rfl)
theorem dX1_made_50 : decode cX1_made 50 = .ok (.ifCond .ne 6, 3) := dk_154 0 6 (dk_at dksX1_made_2 3 rfl rfl)
theorem dX1_made_53 : decode cX1_made 53 = .ok (.goto 15, 3) := dk_167 0 15 (dk_at dksX1_made_2 6 rfl rfl)
theorem dX1_made_56 : decode cX1_made 56 = .ok (.aload_n 0, 1) := dk_42 (dk_at dksX1_made_2 9 rfl rfl)
theorem dX1_made_57 : decode cX1_made 57 = .ok (.iconst 0, 1) := dk_3 (dk_at dksX1_made_2 10 rfl rfl)
theorem dX1_made_58 : decode cX1_made 58 = .ok (.putfield 337, 3) := dk_181 1 81 (dk_at dksX1_made_2 11 rfl rfl)
theorem dX1_made_61 : decode cX1_made 61 = .ok (.aload_n 0, 1) := dk_42 (dk_at dksX1_made_2 14 rfl rfl)
theorem dX1_made_62 : decode cX1_made 62 = .ok (.iload_n 2, 1) := dk_28 (dk_at dksX1_made_2 15 rfl rfl)
theorem dX1_made_63 : decode cX1_made 63 = .ok (.invokevirtual 340, 3) := dk_182 1 84 (dk_at dksX1_made_2 16 rfl rfl)
theorem dX1_made_66 : decode cX1_made 66 = .ok (.iload_n 1, 1) := dk_27 (dk_at dksX1_made_2 19 rfl rfl)
theorem dX1_made_67 : decode cX1_made 67 = .ok (.ireturn, 1) := dk_172 (dk_at dksX1_made_2 20 rfl rfl)
theorem dX1_made_68 : decode cX1_made 68 = .ok (.iinc 2 1, 3) := dk_132 2 1 (dk_at dksX1_made_2 21 rfl rfl)
theorem dX1_made_71 : decode cX1_made 71 = .ok (.goto (-41), 3) := dk_167 255 215 (dk_at dksX1_made_3 0 rfl rfl)
theorem dX1_made_74 : decode cX1_made 74 = .ok (.iinc 1 1, 3) := dk_132 1 1 (dk_at dksX1_made_3 3 rfl rfl)
theorem dX1_made_77 : decode cX1_made 77 = .ok (.goto (-55), 3) := dk_167 255 201 (dk_at dksX1_made_3 6 rfl rfl)
theorem dX1_made_80 : decode cX1_made 80 = .ok (.bipush (-2), 2) := dk_16 254 (dk_at dksX1_made_3 9 rfl rfl)
theorem dX1_made_82 : decode cX1_made 82 = .ok (.ireturn, 1) := dk_172 (dk_at dksX1_made_3 11 rfl rfl)
abbrev cX1_joins : ByteArray := prog_1_method_107_code
def yX1_joins : MethodName := ⟨RX1, "joins", "(I)Z"⟩
def dkwX1_joins_8 : List UInt8 := [167, 0, 4, 3, 172]
abbrev dktX1_joins_8 : List UInt8 := dkwX1_joins_8 ++ []
def dkwX1_joins_7 : List UInt8 := [167, 255, 171, 132, 4, 1, 167, 255, 156, 29, 153, 0, 12, 42, 180, 0, 89, 29, 46, 153, 0, 7, 4]
abbrev dktX1_joins_7 : List UInt8 := dkwX1_joins_7 ++ dktX1_joins_8
def dkwX1_joins_6 : List UInt8 := [21, 4, 4, 21, 6, 120, 128, 92, 46, 4, 21, 6, 120, 128, 79, 132, 6, 1, 167, 255, 204, 132, 5, 1]
abbrev dktX1_joins_6 : List UInt8 := dkwX1_joins_6 ++ dktX1_joins_7
def dkwX1_joins_5 : List UInt8 := [184, 1, 3, 154, 0, 36, 42, 21, 4, 21, 5, 21, 6, 27, 182, 1, 184, 153, 0, 22, 42, 180, 0, 89]
abbrev dktX1_joins_5 : List UInt8 := dkwX1_joins_5 ++ dktX1_joins_6
def dkwX1_joins_4 : List UInt8 := [21, 5, 184, 1, 3, 154, 0, 6, 167, 0, 61, 3, 54, 6, 21, 6, 28, 162, 0, 52, 21, 4, 21, 6]
abbrev dktX1_joins_4 : List UInt8 := dkwX1_joins_4 ++ dktX1_joins_5
def dkwX1_joins_3 : List UInt8 := [54, 4, 21, 4, 29, 163, 0, 100, 3, 54, 5, 21, 5, 28, 162, 0, 85, 42, 180, 0, 89, 21, 4, 46]
abbrev dktX1_joins_3 : List UInt8 := dkwX1_joins_3 ++ dktX1_joins_4
def dkwX1_joins_2 : List UInt8 := [21, 4, 184, 0, 237, 4, 160, 0, 8, 21, 4, 167, 0, 4, 3, 79, 132, 4, 1, 167, 255, 225, 4]
abbrev dktX1_joins_2 : List UInt8 := dkwX1_joins_2 ++ dktX1_joins_3
def dkwX1_joins_1 : List UInt8 := [182, 1, 181, 154, 0, 5, 3, 172, 3, 54, 4, 21, 4, 29, 163, 0, 31, 42, 180, 0, 89, 21, 4]
abbrev dktX1_joins_1 : List UInt8 := dkwX1_joins_1 ++ dktX1_joins_2
def dkwX1_joins_0 : List UInt8 := [42, 180, 0, 102, 27, 154, 0, 7, 3, 167, 0, 4, 4, 96, 61, 4, 28, 120, 4, 100, 62, 42, 29, 27]
abbrev dktX1_joins_0 : List UInt8 := dkwX1_joins_0 ++ dktX1_joins_1
theorem dksX1_joins_0 : cX1_joins.data.toList.drop 0 = dktX1_joins_0 := by decide +kernel
theorem dksX1_joins_1 : cX1_joins.data.toList.drop 24 = dktX1_joins_1 := dk_seg dksX1_joins_0 24 rfl rfl
theorem dksX1_joins_2 : cX1_joins.data.toList.drop 47 = dktX1_joins_2 := dk_seg dksX1_joins_1 23 rfl rfl
theorem dksX1_joins_3 : cX1_joins.data.toList.drop 70 = dktX1_joins_3 := dk_seg dksX1_joins_2 23 rfl rfl
theorem dksX1_joins_4 : cX1_joins.data.toList.drop 94 = dktX1_joins_4 := dk_seg dksX1_joins_3 24 rfl rfl
theorem dksX1_joins_5 : cX1_joins.data.toList.drop 118 = dktX1_joins_5 := dk_seg dksX1_joins_4 24 rfl rfl
theorem dksX1_joins_6 : cX1_joins.data.toList.drop 142 = dktX1_joins_6 := dk_seg dksX1_joins_5 24 rfl rfl
theorem dksX1_joins_7 : cX1_joins.data.toList.drop 166 = dktX1_joins_7 := dk_seg dksX1_joins_6 24 rfl rfl
theorem dksX1_joins_8 : cX1_joins.data.toList.drop 189 = dktX1_joins_8 := dk_seg dksX1_joins_7 23 rfl rfl
theorem dX1_joins_0 : decode cX1_joins 0 = .ok (.aload_n 0, 1) := dk_42 (dk_at dksX1_joins_0 0 rfl rfl)
theorem dX1_joins_1 : decode cX1_joins 1 = .ok (.getfield 102, 3) := dk_180 0 102 (dk_at dksX1_joins_0 1 rfl rfl)
theorem dX1_joins_4 : decode cX1_joins 4 = .ok (.iload_n 1, 1) := dk_27 (dk_at dksX1_joins_0 4 rfl rfl)
theorem dX1_joins_5 : decode cX1_joins 5 = .ok (.ifCond .ne 7, 3) := dk_154 0 7 (dk_at dksX1_joins_0 5 rfl rfl)
theorem dX1_joins_8 : decode cX1_joins 8 = .ok (.iconst 0, 1) := dk_3 (dk_at dksX1_joins_0 8 rfl rfl)
theorem dX1_joins_9 : decode cX1_joins 9 = .ok (.goto 4, 3) := dk_167 0 4 (dk_at dksX1_joins_0 9 rfl rfl)
theorem dX1_joins_12 : decode cX1_joins 12 = .ok (.iconst 1, 1) := dk_4 (dk_at dksX1_joins_0 12 rfl rfl)
theorem dX1_joins_13 : decode cX1_joins 13 = .ok (.iadd, 1) := dk_96 (dk_at dksX1_joins_0 13 rfl rfl)
theorem dX1_joins_14 : decode cX1_joins 14 = .ok (.istore_n 2, 1) := dk_61 (dk_at dksX1_joins_0 14 rfl rfl)
theorem dX1_joins_15 : decode cX1_joins 15 = .ok (.iconst 1, 1) := dk_4 (dk_at dksX1_joins_0 15 rfl rfl)
theorem dX1_joins_16 : decode cX1_joins 16 = .ok (.iload_n 2, 1) := dk_28 (dk_at dksX1_joins_0 16 rfl rfl)
theorem dX1_joins_17 : decode cX1_joins 17 = .ok (.ishl, 1) := dk_120 (dk_at dksX1_joins_0 17 rfl rfl)
theorem dX1_joins_18 : decode cX1_joins 18 = .ok (.iconst 1, 1) := dk_4 (dk_at dksX1_joins_0 18 rfl rfl)
theorem dX1_joins_19 : decode cX1_joins 19 = .ok (.isub, 1) := dk_100 (dk_at dksX1_joins_0 19 rfl rfl)
theorem dX1_joins_20 : decode cX1_joins 20 = .ok (.istore_n 3, 1) := dk_62 (dk_at dksX1_joins_0 20 rfl rfl)
theorem dX1_joins_21 : decode cX1_joins 21 = .ok (.aload_n 0, 1) := dk_42 (dk_at dksX1_joins_0 21 rfl rfl)
theorem dX1_joins_22 : decode cX1_joins 22 = .ok (.iload_n 3, 1) := dk_29 (dk_at dksX1_joins_0 22 rfl rfl)
theorem dX1_joins_23 : decode cX1_joins 23 = .ok (.iload_n 1, 1) := dk_27 (dk_at dksX1_joins_0 23 rfl rfl)
theorem dX1_joins_24 : decode cX1_joins 24 = .ok (.invokevirtual 437, 3) := dk_182 1 181 (dk_at dksX1_joins_1 0 rfl rfl)
theorem dX1_joins_27 : decode cX1_joins 27 = .ok (.ifCond .ne 5, 3) := dk_154 0 5 (dk_at dksX1_joins_1 3 rfl rfl)
theorem dX1_joins_30 : decode cX1_joins 30 = .ok (.iconst 0, 1) := dk_3 (dk_at dksX1_joins_1 6 rfl rfl)
theorem dX1_joins_31 : decode cX1_joins 31 = .ok (.ireturn, 1) := dk_172 (dk_at dksX1_joins_1 7 rfl rfl)
theorem dX1_joins_32 : decode cX1_joins 32 = .ok (.iconst 0, 1) := dk_3 (dk_at dksX1_joins_1 8 rfl rfl)
theorem dX1_joins_33 : decode cX1_joins 33 = .ok (.istore 4, 2) := dk_54 4 (dk_at dksX1_joins_1 9 rfl rfl)
theorem dX1_joins_35 : decode cX1_joins 35 = .ok (.iload 4, 2) := dk_21 4 (dk_at dksX1_joins_1 11 rfl rfl)
theorem dX1_joins_37 : decode cX1_joins 37 = .ok (.iload_n 3, 1) := dk_29 (dk_at dksX1_joins_1 13 rfl rfl)
theorem dX1_joins_38 : decode cX1_joins 38 = .ok (.if_icmp .gt 31, 3) := dk_163 0 31 (dk_at dksX1_joins_1 14 rfl rfl)
theorem dX1_joins_41 : decode cX1_joins 41 = .ok (.aload_n 0, 1) := dk_42 (dk_at dksX1_joins_1 17 rfl rfl)
theorem dX1_joins_42 : decode cX1_joins 42 = .ok (.getfield 89, 3) := dk_180 0 89 (dk_at dksX1_joins_1 18 rfl rfl)
theorem dX1_joins_45 : decode cX1_joins 45 = .ok (.iload 4, 2) := dk_21 4 (dk_at dksX1_joins_1 21 rfl rfl)
theorem dX1_joins_47 : decode cX1_joins 47 = .ok (.iload 4, 2) := dk_21 4 (dk_at dksX1_joins_2 0 rfl rfl)
theorem dX1_joins_49 : decode cX1_joins 49 = .ok (.invokestatic 237, 3) := dk_184 0 237 (dk_at dksX1_joins_2 2 rfl rfl)
theorem dX1_joins_52 : decode cX1_joins 52 = .ok (.iconst 1, 1) := dk_4 (dk_at dksX1_joins_2 5 rfl rfl)
theorem dX1_joins_53 : decode cX1_joins 53 = .ok (.if_icmp .ne 8, 3) := dk_160 0 8 (dk_at dksX1_joins_2 6 rfl rfl)
theorem dX1_joins_56 : decode cX1_joins 56 = .ok (.iload 4, 2) := dk_21 4 (dk_at dksX1_joins_2 9 rfl rfl)
theorem dX1_joins_58 : decode cX1_joins 58 = .ok (.goto 4, 3) := dk_167 0 4 (dk_at dksX1_joins_2 11 rfl rfl)
theorem dX1_joins_61 : decode cX1_joins 61 = .ok (.iconst 0, 1) := dk_3 (dk_at dksX1_joins_2 14 rfl rfl)
theorem dX1_joins_62 : decode cX1_joins 62 = .ok (.iastore, 1) := dk_79 (dk_at dksX1_joins_2 15 rfl rfl)
theorem dX1_joins_63 : decode cX1_joins 63 = .ok (.iinc 4 1, 3) := dk_132 4 1 (dk_at dksX1_joins_2 16 rfl rfl)
theorem dX1_joins_66 : decode cX1_joins 66 = .ok (.goto (-31), 3) := dk_167 255 225 (dk_at dksX1_joins_2 19 rfl rfl)
theorem dX1_joins_69 : decode cX1_joins 69 = .ok (.iconst 1, 1) := dk_4 (dk_at dksX1_joins_2 22 rfl rfl)
theorem dX1_joins_70 : decode cX1_joins 70 = .ok (.istore 4, 2) := dk_54 4 (dk_at dksX1_joins_3 0 rfl rfl)
theorem dX1_joins_72 : decode cX1_joins 72 = .ok (.iload 4, 2) := dk_21 4 (dk_at dksX1_joins_3 2 rfl rfl)
theorem dX1_joins_74 : decode cX1_joins 74 = .ok (.iload_n 3, 1) := dk_29 (dk_at dksX1_joins_3 4 rfl rfl)
theorem dX1_joins_75 : decode cX1_joins 75 = .ok (.if_icmp .gt 100, 3) := dk_163 0 100 (dk_at dksX1_joins_3 5 rfl rfl)
theorem dX1_joins_78 : decode cX1_joins 78 = .ok (.iconst 0, 1) := dk_3 (dk_at dksX1_joins_3 8 rfl rfl)
theorem dX1_joins_79 : decode cX1_joins 79 = .ok (.istore 5, 2) := dk_54 5 (dk_at dksX1_joins_3 9 rfl rfl)
theorem dX1_joins_81 : decode cX1_joins 81 = .ok (.iload 5, 2) := dk_21 5 (dk_at dksX1_joins_3 11 rfl rfl)
theorem dX1_joins_83 : decode cX1_joins 83 = .ok (.iload_n 2, 1) := dk_28 (dk_at dksX1_joins_3 13 rfl rfl)
theorem dX1_joins_84 : decode cX1_joins 84 = .ok (.if_icmp .ge 85, 3) := dk_162 0 85 (dk_at dksX1_joins_3 14 rfl rfl)
theorem dX1_joins_87 : decode cX1_joins 87 = .ok (.aload_n 0, 1) := dk_42 (dk_at dksX1_joins_3 17 rfl rfl)
theorem dX1_joins_88 : decode cX1_joins 88 = .ok (.getfield 89, 3) := dk_180 0 89 (dk_at dksX1_joins_3 18 rfl rfl)
theorem dX1_joins_91 : decode cX1_joins 91 = .ok (.iload 4, 2) := dk_21 4 (dk_at dksX1_joins_3 21 rfl rfl)
theorem dX1_joins_93 : decode cX1_joins 93 = .ok (.iaload, 1) := dk_46 (dk_at dksX1_joins_3 23 rfl rfl)
theorem dX1_joins_94 : decode cX1_joins 94 = .ok (.iload 5, 2) := dk_21 5 (dk_at dksX1_joins_4 0 rfl rfl)
theorem dX1_joins_96 : decode cX1_joins 96 = .ok (.invokestatic 259, 3) := dk_184 1 3 (dk_at dksX1_joins_4 2 rfl rfl)
theorem dX1_joins_99 : decode cX1_joins 99 = .ok (.ifCond .ne 6, 3) := dk_154 0 6 (dk_at dksX1_joins_4 5 rfl rfl)
theorem dX1_joins_102 : decode cX1_joins 102 = .ok (.goto 61, 3) := dk_167 0 61 (dk_at dksX1_joins_4 8 rfl rfl)
theorem dX1_joins_105 : decode cX1_joins 105 = .ok (.iconst 0, 1) := dk_3 (dk_at dksX1_joins_4 11 rfl rfl)
theorem dX1_joins_106 : decode cX1_joins 106 = .ok (.istore 6, 2) := dk_54 6 (dk_at dksX1_joins_4 12 rfl rfl)
theorem dX1_joins_108 : decode cX1_joins 108 = .ok (.iload 6, 2) := dk_21 6 (dk_at dksX1_joins_4 14 rfl rfl)
theorem dX1_joins_110 : decode cX1_joins 110 = .ok (.iload_n 2, 1) := dk_28 (dk_at dksX1_joins_4 16 rfl rfl)
theorem dX1_joins_111 : decode cX1_joins 111 = .ok (.if_icmp .ge 52, 3) := dk_162 0 52 (dk_at dksX1_joins_4 17 rfl rfl)
theorem dX1_joins_114 : decode cX1_joins 114 = .ok (.iload 4, 2) := dk_21 4 (dk_at dksX1_joins_4 20 rfl rfl)
theorem dX1_joins_116 : decode cX1_joins 116 = .ok (.iload 6, 2) := dk_21 6 (dk_at dksX1_joins_4 22 rfl rfl)
theorem dX1_joins_118 : decode cX1_joins 118 = .ok (.invokestatic 259, 3) := dk_184 1 3 (dk_at dksX1_joins_5 0 rfl rfl)
theorem dX1_joins_121 : decode cX1_joins 121 = .ok (.ifCond .ne 36, 3) := dk_154 0 36 (dk_at dksX1_joins_5 3 rfl rfl)
theorem dX1_joins_124 : decode cX1_joins 124 = .ok (.aload_n 0, 1) := dk_42 (dk_at dksX1_joins_5 6 rfl rfl)
theorem dX1_joins_125 : decode cX1_joins 125 = .ok (.iload 4, 2) := dk_21 4 (dk_at dksX1_joins_5 7 rfl rfl)
theorem dX1_joins_127 : decode cX1_joins 127 = .ok (.iload 5, 2) := dk_21 5 (dk_at dksX1_joins_5 9 rfl rfl)
theorem dX1_joins_129 : decode cX1_joins 129 = .ok (.iload 6, 2) := dk_21 6 (dk_at dksX1_joins_5 11 rfl rfl)
theorem dX1_joins_131 : decode cX1_joins 131 = .ok (.iload_n 1, 1) := dk_27 (dk_at dksX1_joins_5 13 rfl rfl)
theorem dX1_joins_132 : decode cX1_joins 132 = .ok (.invokevirtual 440, 3) := dk_182 1 184 (dk_at dksX1_joins_5 14 rfl rfl)
theorem dX1_joins_135 : decode cX1_joins 135 = .ok (.ifCond .eq 22, 3) := dk_153 0 22 (dk_at dksX1_joins_5 17 rfl rfl)
theorem dX1_joins_138 : decode cX1_joins 138 = .ok (.aload_n 0, 1) := dk_42 (dk_at dksX1_joins_5 20 rfl rfl)
theorem dX1_joins_139 : decode cX1_joins 139 = .ok (.getfield 89, 3) := dk_180 0 89 (dk_at dksX1_joins_5 21 rfl rfl)
theorem dX1_joins_142 : decode cX1_joins 142 = .ok (.iload 4, 2) := dk_21 4 (dk_at dksX1_joins_6 0 rfl rfl)
theorem dX1_joins_144 : decode cX1_joins 144 = .ok (.iconst 1, 1) := dk_4 (dk_at dksX1_joins_6 2 rfl rfl)
theorem dX1_joins_145 : decode cX1_joins 145 = .ok (.iload 6, 2) := dk_21 6 (dk_at dksX1_joins_6 3 rfl rfl)
theorem dX1_joins_147 : decode cX1_joins 147 = .ok (.ishl, 1) := dk_120 (dk_at dksX1_joins_6 5 rfl rfl)
theorem dX1_joins_148 : decode cX1_joins 148 = .ok (.ior, 1) := dk_128 (dk_at dksX1_joins_6 6 rfl rfl)
theorem dX1_joins_149 : decode cX1_joins 149 = .ok (.dup2, 1) := dk_92 (dk_at dksX1_joins_6 7 rfl rfl)
theorem dX1_joins_150 : decode cX1_joins 150 = .ok (.iaload, 1) := dk_46 (dk_at dksX1_joins_6 8 rfl rfl)
theorem dX1_joins_151 : decode cX1_joins 151 = .ok (.iconst 1, 1) := dk_4 (dk_at dksX1_joins_6 9 rfl rfl)
theorem dX1_joins_152 : decode cX1_joins 152 = .ok (.iload 6, 2) := dk_21 6 (dk_at dksX1_joins_6 10 rfl rfl)
theorem dX1_joins_154 : decode cX1_joins 154 = .ok (.ishl, 1) := dk_120 (dk_at dksX1_joins_6 12 rfl rfl)
theorem dX1_joins_155 : decode cX1_joins 155 = .ok (.ior, 1) := dk_128 (dk_at dksX1_joins_6 13 rfl rfl)
theorem dX1_joins_156 : decode cX1_joins 156 = .ok (.iastore, 1) := dk_79 (dk_at dksX1_joins_6 14 rfl rfl)
theorem dX1_joins_157 : decode cX1_joins 157 = .ok (.iinc 6 1, 3) := dk_132 6 1 (dk_at dksX1_joins_6 15 rfl rfl)
theorem dX1_joins_160 : decode cX1_joins 160 = .ok (.goto (-52), 3) := dk_167 255 204 (dk_at dksX1_joins_6 18 rfl rfl)
theorem dX1_joins_163 : decode cX1_joins 163 = .ok (.iinc 5 1, 3) := dk_132 5 1 (dk_at dksX1_joins_6 21 rfl rfl)
theorem dX1_joins_166 : decode cX1_joins 166 = .ok (.goto (-85), 3) := dk_167 255 171 (dk_at dksX1_joins_7 0 rfl rfl)
theorem dX1_joins_169 : decode cX1_joins 169 = .ok (.iinc 4 1, 3) := dk_132 4 1 (dk_at dksX1_joins_7 3 rfl rfl)
theorem dX1_joins_172 : decode cX1_joins 172 = .ok (.goto (-100), 3) := dk_167 255 156 (dk_at dksX1_joins_7 6 rfl rfl)
theorem dX1_joins_175 : decode cX1_joins 175 = .ok (.iload_n 3, 1) := dk_29 (dk_at dksX1_joins_7 9 rfl rfl)
theorem dX1_joins_176 : decode cX1_joins 176 = .ok (.ifCond .eq 12, 3) := dk_153 0 12 (dk_at dksX1_joins_7 10 rfl rfl)
theorem dX1_joins_179 : decode cX1_joins 179 = .ok (.aload_n 0, 1) := dk_42 (dk_at dksX1_joins_7 13 rfl rfl)
theorem dX1_joins_180 : decode cX1_joins 180 = .ok (.getfield 89, 3) := dk_180 0 89 (dk_at dksX1_joins_7 14 rfl rfl)
theorem dX1_joins_183 : decode cX1_joins 183 = .ok (.iload_n 3, 1) := dk_29 (dk_at dksX1_joins_7 17 rfl rfl)
theorem dX1_joins_184 : decode cX1_joins 184 = .ok (.iaload, 1) := dk_46 (dk_at dksX1_joins_7 18 rfl rfl)
theorem dX1_joins_185 : decode cX1_joins 185 = .ok (.ifCond .eq 7, 3) := dk_153 0 7 (dk_at dksX1_joins_7 19 rfl rfl)
theorem dX1_joins_188 : decode cX1_joins 188 = .ok (.iconst 1, 1) := dk_4 (dk_at dksX1_joins_7 22 rfl rfl)
theorem dX1_joins_189 : decode cX1_joins 189 = .ok (.goto 4, 3) := dk_167 0 4 (dk_at dksX1_joins_8 0 rfl rfl)
theorem dX1_joins_192 : decode cX1_joins 192 = .ok (.iconst 0, 1) := dk_3 (dk_at dksX1_joins_8 3 rfl rfl)
theorem dX1_joins_193 : decode cX1_joins 193 = .ok (.ireturn, 1) := dk_172 (dk_at dksX1_joins_8 4 rfl rfl)
abbrev cX1_isFineWith : ByteArray := prog_1_method_105_code
def yX1_isFineWith : MethodName := ⟨RX1, "isFineWith", "(II)Z"⟩
def dkwX1_isFineWith_3 : List UInt8 := [167, 255, 190, 4, 172]
abbrev dktX1_isFineWith_3 : List UInt8 := dkwX1_isFineWith_3 ++ []
def dkwX1_isFineWith_2 : List UInt8 := [180, 0, 28, 4, 46, 163, 0, 14, 21, 4, 42, 180, 0, 25, 29, 46, 164, 0, 5, 3, 172, 132, 3, 1]
abbrev dktX1_isFineWith_2 : List UInt8 := dkwX1_isFineWith_2 ++ dktX1_isFineWith_3
def dkwX1_isFineWith_1 : List UInt8 := [153, 0, 15, 28, 29, 184, 1, 3, 153, 0, 7, 4, 167, 0, 4, 3, 96, 54, 4, 21, 4, 42]
abbrev dktX1_isFineWith_1 : List UInt8 := dkwX1_isFineWith_1 ++ dktX1_isFineWith_2
def dkwX1_isFineWith_0 : List UInt8 := [3, 62, 29, 16, 8, 162, 0, 66, 42, 27, 29, 182, 1, 31, 27, 42, 180, 0, 102, 184, 1, 3]
abbrev dktX1_isFineWith_0 : List UInt8 := dkwX1_isFineWith_0 ++ dktX1_isFineWith_1
theorem dksX1_isFineWith_0 : cX1_isFineWith.data.toList.drop 0 = dktX1_isFineWith_0 := by decide +kernel
theorem dksX1_isFineWith_1 : cX1_isFineWith.data.toList.drop 22 = dktX1_isFineWith_1 := dk_seg dksX1_isFineWith_0 22 rfl rfl
theorem dksX1_isFineWith_2 : cX1_isFineWith.data.toList.drop 44 = dktX1_isFineWith_2 := dk_seg dksX1_isFineWith_1 22 rfl rfl
theorem dksX1_isFineWith_3 : cX1_isFineWith.data.toList.drop 68 = dktX1_isFineWith_3 := dk_seg dksX1_isFineWith_2 24 rfl rfl
theorem dX1_isFineWith_0 : decode cX1_isFineWith 0 = .ok (.iconst 0, 1) := dk_3 (dk_at dksX1_isFineWith_0 0 rfl rfl)
theorem dX1_isFineWith_1 : decode cX1_isFineWith 1 = .ok (.istore_n 3, 1) := dk_62 (dk_at dksX1_isFineWith_0 1 rfl rfl)
theorem dX1_isFineWith_2 : decode cX1_isFineWith 2 = .ok (.iload_n 3, 1) := dk_29 (dk_at dksX1_isFineWith_0 2 rfl rfl)
theorem dX1_isFineWith_3 : decode cX1_isFineWith 3 = .ok (.bipush 8, 2) := dk_16 8 (dk_at dksX1_isFineWith_0 3 rfl rfl)
theorem dX1_isFineWith_5 : decode cX1_isFineWith 5 = .ok (.if_icmp .ge 66, 3) := dk_162 0 66 (dk_at dksX1_isFineWith_0 5 rfl rfl)
theorem dX1_isFineWith_8 : decode cX1_isFineWith 8 = .ok (.aload_n 0, 1) := dk_42 (dk_at dksX1_isFineWith_0 8 rfl rfl)
theorem dX1_isFineWith_9 : decode cX1_isFineWith 9 = .ok (.iload_n 1, 1) := dk_27 (dk_at dksX1_isFineWith_0 9 rfl rfl)
theorem dX1_isFineWith_10 : decode cX1_isFineWith 10 = .ok (.iload_n 3, 1) := dk_29 (dk_at dksX1_isFineWith_0 10 rfl rfl)
theorem dX1_isFineWith_11 : decode cX1_isFineWith 11 = .ok (.invokevirtual 287, 3) := dk_182 1 31 (dk_at dksX1_isFineWith_0 11 rfl rfl)
theorem dX1_isFineWith_14 : decode cX1_isFineWith 14 = .ok (.iload_n 1, 1) := dk_27 (dk_at dksX1_isFineWith_0 14 rfl rfl)
theorem dX1_isFineWith_15 : decode cX1_isFineWith 15 = .ok (.aload_n 0, 1) := dk_42 (dk_at dksX1_isFineWith_0 15 rfl rfl)
theorem dX1_isFineWith_16 : decode cX1_isFineWith 16 = .ok (.getfield 102, 3) := dk_180 0 102 (dk_at dksX1_isFineWith_0 16 rfl rfl)
theorem dX1_isFineWith_19 : decode cX1_isFineWith 19 = .ok (.invokestatic 259, 3) := dk_184 1 3 (dk_at dksX1_isFineWith_0 19 rfl rfl)
theorem dX1_isFineWith_22 : decode cX1_isFineWith 22 = .ok (.ifCond .eq 15, 3) := dk_153 0 15 (dk_at dksX1_isFineWith_1 0 rfl rfl)
theorem dX1_isFineWith_25 : decode cX1_isFineWith 25 = .ok (.iload_n 2, 1) := dk_28 (dk_at dksX1_isFineWith_1 3 rfl rfl)
theorem dX1_isFineWith_26 : decode cX1_isFineWith 26 = .ok (.iload_n 3, 1) := dk_29 (dk_at dksX1_isFineWith_1 4 rfl rfl)
theorem dX1_isFineWith_27 : decode cX1_isFineWith 27 = .ok (.invokestatic 259, 3) := dk_184 1 3 (dk_at dksX1_isFineWith_1 5 rfl rfl)
theorem dX1_isFineWith_30 : decode cX1_isFineWith 30 = .ok (.ifCond .eq 7, 3) := dk_153 0 7 (dk_at dksX1_isFineWith_1 8 rfl rfl)
theorem dX1_isFineWith_33 : decode cX1_isFineWith 33 = .ok (.iconst 1, 1) := dk_4 (dk_at dksX1_isFineWith_1 11 rfl rfl)
theorem dX1_isFineWith_34 : decode cX1_isFineWith 34 = .ok (.goto 4, 3) := dk_167 0 4 (dk_at dksX1_isFineWith_1 12 rfl rfl)
theorem dX1_isFineWith_37 : decode cX1_isFineWith 37 = .ok (.iconst 0, 1) := dk_3 (dk_at dksX1_isFineWith_1 15 rfl rfl)
theorem dX1_isFineWith_38 : decode cX1_isFineWith 38 = .ok (.iadd, 1) := dk_96 (dk_at dksX1_isFineWith_1 16 rfl rfl)
theorem dX1_isFineWith_39 : decode cX1_isFineWith 39 = .ok (.istore 4, 2) := dk_54 4 (dk_at dksX1_isFineWith_1 17 rfl rfl)
theorem dX1_isFineWith_41 : decode cX1_isFineWith 41 = .ok (.iload 4, 2) := dk_21 4 (dk_at dksX1_isFineWith_1 19 rfl rfl)
theorem dX1_isFineWith_43 : decode cX1_isFineWith 43 = .ok (.aload_n 0, 1) := dk_42 (dk_at dksX1_isFineWith_1 21 rfl rfl)
theorem dX1_isFineWith_44 : decode cX1_isFineWith 44 = .ok (.getfield 28, 3) := dk_180 0 28 (dk_at dksX1_isFineWith_2 0 rfl rfl)
theorem dX1_isFineWith_47 : decode cX1_isFineWith 47 = .ok (.iconst 1, 1) := dk_4 (dk_at dksX1_isFineWith_2 3 rfl rfl)
theorem dX1_isFineWith_48 : decode cX1_isFineWith 48 = .ok (.iaload, 1) := dk_46 (dk_at dksX1_isFineWith_2 4 rfl rfl)
theorem dX1_isFineWith_49 : decode cX1_isFineWith 49 = .ok (.if_icmp .gt 14, 3) := dk_163 0 14 (dk_at dksX1_isFineWith_2 5 rfl rfl)
theorem dX1_isFineWith_52 : decode cX1_isFineWith 52 = .ok (.iload 4, 2) := dk_21 4 (dk_at dksX1_isFineWith_2 8 rfl rfl)
theorem dX1_isFineWith_54 : decode cX1_isFineWith 54 = .ok (.aload_n 0, 1) := dk_42 (dk_at dksX1_isFineWith_2 10 rfl rfl)
theorem dX1_isFineWith_55 : decode cX1_isFineWith 55 = .ok (.getfield 25, 3) := dk_180 0 25 (dk_at dksX1_isFineWith_2 11 rfl rfl)
theorem dX1_isFineWith_58 : decode cX1_isFineWith 58 = .ok (.iload_n 3, 1) := dk_29 (dk_at dksX1_isFineWith_2 14 rfl rfl)
theorem dX1_isFineWith_59 : decode cX1_isFineWith 59 = .ok (.iaload, 1) := dk_46 (dk_at dksX1_isFineWith_2 15 rfl rfl)
theorem dX1_isFineWith_60 : decode cX1_isFineWith 60 = .ok (.if_icmp .le 5, 3) := dk_164 0 5 (dk_at dksX1_isFineWith_2 16 rfl rfl)
theorem dX1_isFineWith_63 : decode cX1_isFineWith 63 = .ok (.iconst 0, 1) := dk_3 (dk_at dksX1_isFineWith_2 19 rfl rfl)
theorem dX1_isFineWith_64 : decode cX1_isFineWith 64 = .ok (.ireturn, 1) := dk_172 (dk_at dksX1_isFineWith_2 20 rfl rfl)
theorem dX1_isFineWith_65 : decode cX1_isFineWith 65 = .ok (.iinc 3 1, 3) := dk_132 3 1 (dk_at dksX1_isFineWith_2 21 rfl rfl)
theorem dX1_isFineWith_68 : decode cX1_isFineWith 68 = .ok (.goto (-66), 3) := dk_167 255 190 (dk_at dksX1_isFineWith_3 0 rfl rfl)
theorem dX1_isFineWith_71 : decode cX1_isFineWith 71 = .ok (.iconst 1, 1) := dk_4 (dk_at dksX1_isFineWith_3 3 rfl rfl)
theorem dX1_isFineWith_72 : decode cX1_isFineWith 72 = .ok (.ireturn, 1) := dk_172 (dk_at dksX1_isFineWith_3 4 rfl rfl)
abbrev cX1_goesWith : ByteArray := prog_1_method_106_code
def yX1_goesWith : MethodName := ⟨RX1, "goesWith", "(IIII)Z"⟩
def dkwX1_goesWith_1 : List UInt8 := [162, 0, 5, 3, 172, 42, 27, 28, 29, 182, 1, 37, 172]
abbrev dktX1_goesWith_1 : List UInt8 := dkwX1_goesWith_1 ++ []
def dkwX1_goesWith_0 : List UInt8 := [42, 28, 21, 4, 182, 1, 178, 42, 29, 21, 4, 182, 1, 178, 126, 184, 0, 237, 42, 180, 0, 28, 3, 46]
abbrev dktX1_goesWith_0 : List UInt8 := dkwX1_goesWith_0 ++ dktX1_goesWith_1
theorem dksX1_goesWith_0 : cX1_goesWith.data.toList.drop 0 = dktX1_goesWith_0 := by decide +kernel
theorem dksX1_goesWith_1 : cX1_goesWith.data.toList.drop 24 = dktX1_goesWith_1 := dk_seg dksX1_goesWith_0 24 rfl rfl
theorem dX1_goesWith_0 : decode cX1_goesWith 0 = .ok (.aload_n 0, 1) := dk_42 (dk_at dksX1_goesWith_0 0 rfl rfl)
theorem dX1_goesWith_1 : decode cX1_goesWith 1 = .ok (.iload_n 2, 1) := dk_28 (dk_at dksX1_goesWith_0 1 rfl rfl)
theorem dX1_goesWith_2 : decode cX1_goesWith 2 = .ok (.iload 4, 2) := dk_21 4 (dk_at dksX1_goesWith_0 2 rfl rfl)
theorem dX1_goesWith_4 : decode cX1_goesWith 4 = .ok (.invokevirtual 434, 3) := dk_182 1 178 (dk_at dksX1_goesWith_0 4 rfl rfl)
theorem dX1_goesWith_7 : decode cX1_goesWith 7 = .ok (.aload_n 0, 1) := dk_42 (dk_at dksX1_goesWith_0 7 rfl rfl)
theorem dX1_goesWith_8 : decode cX1_goesWith 8 = .ok (.iload_n 3, 1) := dk_29 (dk_at dksX1_goesWith_0 8 rfl rfl)
theorem dX1_goesWith_9 : decode cX1_goesWith 9 = .ok (.iload 4, 2) := dk_21 4 (dk_at dksX1_goesWith_0 9 rfl rfl)
theorem dX1_goesWith_11 : decode cX1_goesWith 11 = .ok (.invokevirtual 434, 3) := dk_182 1 178 (dk_at dksX1_goesWith_0 11 rfl rfl)
theorem dX1_goesWith_14 : decode cX1_goesWith 14 = .ok (.iand, 1) := dk_126 (dk_at dksX1_goesWith_0 14 rfl rfl)
theorem dX1_goesWith_15 : decode cX1_goesWith 15 = .ok (.invokestatic 237, 3) := dk_184 0 237 (dk_at dksX1_goesWith_0 15 rfl rfl)
theorem dX1_goesWith_18 : decode cX1_goesWith 18 = .ok (.aload_n 0, 1) := dk_42 (dk_at dksX1_goesWith_0 18 rfl rfl)
theorem dX1_goesWith_19 : decode cX1_goesWith 19 = .ok (.getfield 28, 3) := dk_180 0 28 (dk_at dksX1_goesWith_0 19 rfl rfl)
theorem dX1_goesWith_22 : decode cX1_goesWith 22 = .ok (.iconst 0, 1) := dk_3 (dk_at dksX1_goesWith_0 22 rfl rfl)
theorem dX1_goesWith_23 : decode cX1_goesWith 23 = .ok (.iaload, 1) := dk_46 (dk_at dksX1_goesWith_0 23 rfl rfl)
theorem dX1_goesWith_24 : decode cX1_goesWith 24 = .ok (.if_icmp .ge 5, 3) := dk_162 0 5 (dk_at dksX1_goesWith_1 0 rfl rfl)
theorem dX1_goesWith_27 : decode cX1_goesWith 27 = .ok (.iconst 0, 1) := dk_3 (dk_at dksX1_goesWith_1 3 rfl rfl)
theorem dX1_goesWith_28 : decode cX1_goesWith 28 = .ok (.ireturn, 1) := dk_172 (dk_at dksX1_goesWith_1 4 rfl rfl)
theorem dX1_goesWith_29 : decode cX1_goesWith 29 = .ok (.aload_n 0, 1) := dk_42 (dk_at dksX1_goesWith_1 5 rfl rfl)
theorem dX1_goesWith_30 : decode cX1_goesWith 30 = .ok (.iload_n 1, 1) := dk_27 (dk_at dksX1_goesWith_1 6 rfl rfl)
theorem dX1_goesWith_31 : decode cX1_goesWith 31 = .ok (.iload_n 2, 1) := dk_28 (dk_at dksX1_goesWith_1 7 rfl rfl)
theorem dX1_goesWith_32 : decode cX1_goesWith 32 = .ok (.iload_n 3, 1) := dk_29 (dk_at dksX1_goesWith_1 8 rfl rfl)
theorem dX1_goesWith_33 : decode cX1_goesWith 33 = .ok (.invokevirtual 293, 3) := dk_182 1 37 (dk_at dksX1_goesWith_1 9 rfl rfl)
theorem dX1_goesWith_36 : decode cX1_goesWith 36 = .ok (.ireturn, 1) := dk_172 (dk_at dksX1_goesWith_1 12 rfl rfl)
abbrev cX1_stuffsOf : ByteArray := prog_1_method_104_code
def yX1_stuffsOf : MethodName := ⟨RX1, "stuffsOf", "(II)I"⟩
def dkwX1_stuffsOf_0 : List UInt8 := [27, 42, 180, 0, 102, 160, 0, 7, 28, 167, 0, 9, 42, 180, 0, 9, 27, 46, 172]
abbrev dktX1_stuffsOf_0 : List UInt8 := dkwX1_stuffsOf_0 ++ []
theorem dksX1_stuffsOf_0 : cX1_stuffsOf.data.toList.drop 0 = dktX1_stuffsOf_0 := by decide +kernel
theorem dX1_stuffsOf_0 : decode cX1_stuffsOf 0 = .ok (.iload_n 1, 1) := dk_27 (dk_at dksX1_stuffsOf_0 0 rfl rfl)
theorem dX1_stuffsOf_1 : decode cX1_stuffsOf 1 = .ok (.aload_n 0, 1) := dk_42 (dk_at dksX1_stuffsOf_0 1 rfl rfl)
theorem dX1_stuffsOf_2 : decode cX1_stuffsOf 2 = .ok (.getfield 102, 3) := dk_180 0 102 (dk_at dksX1_stuffsOf_0 2 rfl rfl)
theorem dX1_stuffsOf_5 : decode cX1_stuffsOf 5 = .ok (.if_icmp .ne 7, 3) := dk_160 0 7 (dk_at dksX1_stuffsOf_0 5 rfl rfl)
theorem dX1_stuffsOf_8 : decode cX1_stuffsOf 8 = .ok (.iload_n 2, 1) := dk_28 (dk_at dksX1_stuffsOf_0 8 rfl rfl)
theorem dX1_stuffsOf_9 : decode cX1_stuffsOf 9 = .ok (.goto 9, 3) := dk_167 0 9 (dk_at dksX1_stuffsOf_0 9 rfl rfl)
theorem dX1_stuffsOf_12 : decode cX1_stuffsOf 12 = .ok (.aload_n 0, 1) := dk_42 (dk_at dksX1_stuffsOf_0 12 rfl rfl)
theorem dX1_stuffsOf_13 : decode cX1_stuffsOf 13 = .ok (.getfield 9, 3) := dk_180 0 9 (dk_at dksX1_stuffsOf_0 13 rfl rfl)
theorem dX1_stuffsOf_16 : decode cX1_stuffsOf 16 = .ok (.iload_n 1, 1) := dk_27 (dk_at dksX1_stuffsOf_0 16 rfl rfl)
theorem dX1_stuffsOf_17 : decode cX1_stuffsOf 17 = .ok (.iaload, 1) := dk_46 (dk_at dksX1_stuffsOf_0 17 rfl rfl)
theorem dX1_stuffsOf_18 : decode cX1_stuffsOf 18 = .ok (.ireturn, 1) := dk_172 (dk_at dksX1_stuffsOf_0 18 rfl rfl)
abbrev cX1_keep : ByteArray := prog_1_method_109_code
def yX1_keep : MethodName := ⟨RX1, "keep", "(I)Z"⟩
def dkwX1_keep_4 : List UInt8 := [42, 180, 0, 102, 79, 42, 180, 0, 95, 27, 4, 84, 4, 172]
abbrev dktX1_keep_4 : List UInt8 := dkwX1_keep_4 ++ []
def dkwX1_keep_3 : List UInt8 := [180, 0, 92, 28, 16, 23, 96, 5, 100, 42, 180, 1, 47, 79, 42, 180, 0, 92, 28, 16, 23, 96, 4, 100]
abbrev dktX1_keep_3 : List UInt8 := dkwX1_keep_3 ++ dktX1_keep_4
def dkwX1_keep_2 : List UInt8 := [184, 1, 63, 42, 180, 0, 31, 3, 42, 180, 0, 92, 28, 16, 8, 96, 6, 96, 16, 10, 184, 1, 63, 42]
abbrev dktX1_keep_2 : List UInt8 := dkwX1_keep_2 ++ dktX1_keep_3
def dkwX1_keep_1 : List UInt8 := [180, 0, 92, 28, 16, 8, 184, 1, 63, 42, 180, 0, 28, 3, 42, 180, 0, 92, 28, 16, 8, 96, 6]
abbrev dktX1_keep_1 : List UInt8 := dkwX1_keep_1 ++ dktX1_keep_2
def dkwX1_keep_0 : List UInt8 := [27, 133, 9, 10, 184, 0, 106, 154, 0, 5, 3, 172, 16, 23, 27, 104, 61, 42, 180, 0, 25, 3, 42]
abbrev dktX1_keep_0 : List UInt8 := dkwX1_keep_0 ++ dktX1_keep_1
theorem dksX1_keep_0 : cX1_keep.data.toList.drop 0 = dktX1_keep_0 := by decide +kernel
theorem dksX1_keep_1 : cX1_keep.data.toList.drop 23 = dktX1_keep_1 := dk_seg dksX1_keep_0 23 rfl rfl
theorem dksX1_keep_2 : cX1_keep.data.toList.drop 46 = dktX1_keep_2 := dk_seg dksX1_keep_1 23 rfl rfl
theorem dksX1_keep_3 : cX1_keep.data.toList.drop 70 = dktX1_keep_3 := dk_seg dksX1_keep_2 24 rfl rfl
theorem dksX1_keep_4 : cX1_keep.data.toList.drop 94 = dktX1_keep_4 := dk_seg dksX1_keep_3 24 rfl rfl
theorem dX1_keep_0 : decode cX1_keep 0 = .ok (.iload_n 1, 1) := dk_27 (dk_at dksX1_keep_0 0 rfl rfl)
theorem dX1_keep_1 : decode cX1_keep 1 = .ok (.i2l, 1) := dk_133 (dk_at dksX1_keep_0 1 rfl rfl)
theorem dX1_keep_2 : decode cX1_keep 2 = .ok (.lconst 0, 1) := dk_9 (dk_at dksX1_keep_0 2 rfl rfl)
theorem dX1_keep_3 : decode cX1_keep 3 = .ok (.lconst 1, 1) := dk_10 (dk_at dksX1_keep_0 3 rfl rfl)
theorem dX1_keep_4 : decode cX1_keep 4 = .ok (.invokestatic 106, 3) := dk_184 0 106 (dk_at dksX1_keep_0 4 rfl rfl)
theorem dX1_keep_7 : decode cX1_keep 7 = .ok (.ifCond .ne 5, 3) := dk_154 0 5 (dk_at dksX1_keep_0 7 rfl rfl)
theorem dX1_keep_10 : decode cX1_keep 10 = .ok (.iconst 0, 1) := dk_3 (dk_at dksX1_keep_0 10 rfl rfl)
theorem dX1_keep_11 : decode cX1_keep 11 = .ok (.ireturn, 1) := dk_172 (dk_at dksX1_keep_0 11 rfl rfl)
theorem dX1_keep_12 : decode cX1_keep 12 = .ok (.bipush 23, 2) := dk_16 23 (dk_at dksX1_keep_0 12 rfl rfl)
theorem dX1_keep_14 : decode cX1_keep 14 = .ok (.iload_n 1, 1) := dk_27 (dk_at dksX1_keep_0 14 rfl rfl)
theorem dX1_keep_15 : decode cX1_keep 15 = .ok (.imul, 1) := dk_104 (dk_at dksX1_keep_0 15 rfl rfl)
theorem dX1_keep_16 : decode cX1_keep 16 = .ok (.istore_n 2, 1) := dk_61 (dk_at dksX1_keep_0 16 rfl rfl)
theorem dX1_keep_17 : decode cX1_keep 17 = .ok (.aload_n 0, 1) := dk_42 (dk_at dksX1_keep_0 17 rfl rfl)
theorem dX1_keep_18 : decode cX1_keep 18 = .ok (.getfield 25, 3) := dk_180 0 25 (dk_at dksX1_keep_0 18 rfl rfl)
theorem dX1_keep_21 : decode cX1_keep 21 = .ok (.iconst 0, 1) := dk_3 (dk_at dksX1_keep_0 21 rfl rfl)
theorem dX1_keep_22 : decode cX1_keep 22 = .ok (.aload_n 0, 1) := dk_42 (dk_at dksX1_keep_0 22 rfl rfl)
theorem dX1_keep_23 : decode cX1_keep 23 = .ok (.getfield 92, 3) := dk_180 0 92 (dk_at dksX1_keep_1 0 rfl rfl)
theorem dX1_keep_26 : decode cX1_keep 26 = .ok (.iload_n 2, 1) := dk_28 (dk_at dksX1_keep_1 3 rfl rfl)
theorem dX1_keep_27 : decode cX1_keep 27 = .ok (.bipush 8, 2) := dk_16 8 (dk_at dksX1_keep_1 4 rfl rfl)
theorem dX1_keep_29 : decode cX1_keep 29 = .ok (.invokestatic 319, 3) := dk_184 1 63 (dk_at dksX1_keep_1 6 rfl rfl)
theorem dX1_keep_32 : decode cX1_keep 32 = .ok (.aload_n 0, 1) := dk_42 (dk_at dksX1_keep_1 9 rfl rfl)
theorem dX1_keep_33 : decode cX1_keep 33 = .ok (.getfield 28, 3) := dk_180 0 28 (dk_at dksX1_keep_1 10 rfl rfl)
theorem dX1_keep_36 : decode cX1_keep 36 = .ok (.iconst 0, 1) := dk_3 (dk_at dksX1_keep_1 13 rfl rfl)
theorem dX1_keep_37 : decode cX1_keep 37 = .ok (.aload_n 0, 1) := dk_42 (dk_at dksX1_keep_1 14 rfl rfl)
theorem dX1_keep_38 : decode cX1_keep 38 = .ok (.getfield 92, 3) := dk_180 0 92 (dk_at dksX1_keep_1 15 rfl rfl)
theorem dX1_keep_41 : decode cX1_keep 41 = .ok (.iload_n 2, 1) := dk_28 (dk_at dksX1_keep_1 18 rfl rfl)
theorem dX1_keep_42 : decode cX1_keep 42 = .ok (.bipush 8, 2) := dk_16 8 (dk_at dksX1_keep_1 19 rfl rfl)
theorem dX1_keep_44 : decode cX1_keep 44 = .ok (.iadd, 1) := dk_96 (dk_at dksX1_keep_1 21 rfl rfl)
theorem dX1_keep_45 : decode cX1_keep 45 = .ok (.iconst 3, 1) := dk_6 (dk_at dksX1_keep_1 22 rfl rfl)
theorem dX1_keep_46 : decode cX1_keep 46 = .ok (.invokestatic 319, 3) := dk_184 1 63 (dk_at dksX1_keep_2 0 rfl rfl)
theorem dX1_keep_49 : decode cX1_keep 49 = .ok (.aload_n 0, 1) := dk_42 (dk_at dksX1_keep_2 3 rfl rfl)
theorem dX1_keep_50 : decode cX1_keep 50 = .ok (.getfield 31, 3) := dk_180 0 31 (dk_at dksX1_keep_2 4 rfl rfl)
theorem dX1_keep_53 : decode cX1_keep 53 = .ok (.iconst 0, 1) := dk_3 (dk_at dksX1_keep_2 7 rfl rfl)
theorem dX1_keep_54 : decode cX1_keep 54 = .ok (.aload_n 0, 1) := dk_42 (dk_at dksX1_keep_2 8 rfl rfl)
theorem dX1_keep_55 : decode cX1_keep 55 = .ok (.getfield 92, 3) := dk_180 0 92 (dk_at dksX1_keep_2 9 rfl rfl)
theorem dX1_keep_58 : decode cX1_keep 58 = .ok (.iload_n 2, 1) := dk_28 (dk_at dksX1_keep_2 12 rfl rfl)
theorem dX1_keep_59 : decode cX1_keep 59 = .ok (.bipush 8, 2) := dk_16 8 (dk_at dksX1_keep_2 13 rfl rfl)
theorem dX1_keep_61 : decode cX1_keep 61 = .ok (.iadd, 1) := dk_96 (dk_at dksX1_keep_2 15 rfl rfl)
theorem dX1_keep_62 : decode cX1_keep 62 = .ok (.iconst 3, 1) := dk_6 (dk_at dksX1_keep_2 16 rfl rfl)
theorem dX1_keep_63 : decode cX1_keep 63 = .ok (.iadd, 1) := dk_96 (dk_at dksX1_keep_2 17 rfl rfl)
theorem dX1_keep_64 : decode cX1_keep 64 = .ok (.bipush 10, 2) := dk_16 10 (dk_at dksX1_keep_2 18 rfl rfl)
theorem dX1_keep_66 : decode cX1_keep 66 = .ok (.invokestatic 319, 3) := dk_184 1 63 (dk_at dksX1_keep_2 20 rfl rfl)
theorem dX1_keep_69 : decode cX1_keep 69 = .ok (.aload_n 0, 1) := dk_42 (dk_at dksX1_keep_2 23 rfl rfl)
theorem dX1_keep_70 : decode cX1_keep 70 = .ok (.getfield 92, 3) := dk_180 0 92 (dk_at dksX1_keep_3 0 rfl rfl)
theorem dX1_keep_73 : decode cX1_keep 73 = .ok (.iload_n 2, 1) := dk_28 (dk_at dksX1_keep_3 3 rfl rfl)
theorem dX1_keep_74 : decode cX1_keep 74 = .ok (.bipush 23, 2) := dk_16 23 (dk_at dksX1_keep_3 4 rfl rfl)
theorem dX1_keep_76 : decode cX1_keep 76 = .ok (.iadd, 1) := dk_96 (dk_at dksX1_keep_3 6 rfl rfl)
theorem dX1_keep_77 : decode cX1_keep 77 = .ok (.iconst 2, 1) := dk_5 (dk_at dksX1_keep_3 7 rfl rfl)
theorem dX1_keep_78 : decode cX1_keep 78 = .ok (.isub, 1) := dk_100 (dk_at dksX1_keep_3 8 rfl rfl)
theorem dX1_keep_79 : decode cX1_keep 79 = .ok (.aload_n 0, 1) := dk_42 (dk_at dksX1_keep_3 9 rfl rfl)
theorem dX1_keep_80 : decode cX1_keep 80 = .ok (.getfield 303, 3) := dk_180 1 47 (dk_at dksX1_keep_3 10 rfl rfl)
theorem dX1_keep_83 : decode cX1_keep 83 = .ok (.iastore, 1) := dk_79 (dk_at dksX1_keep_3 13 rfl rfl)
theorem dX1_keep_84 : decode cX1_keep 84 = .ok (.aload_n 0, 1) := dk_42 (dk_at dksX1_keep_3 14 rfl rfl)
theorem dX1_keep_85 : decode cX1_keep 85 = .ok (.getfield 92, 3) := dk_180 0 92 (dk_at dksX1_keep_3 15 rfl rfl)
theorem dX1_keep_88 : decode cX1_keep 88 = .ok (.iload_n 2, 1) := dk_28 (dk_at dksX1_keep_3 18 rfl rfl)
theorem dX1_keep_89 : decode cX1_keep 89 = .ok (.bipush 23, 2) := dk_16 23 (dk_at dksX1_keep_3 19 rfl rfl)
theorem dX1_keep_91 : decode cX1_keep 91 = .ok (.iadd, 1) := dk_96 (dk_at dksX1_keep_3 21 rfl rfl)
theorem dX1_keep_92 : decode cX1_keep 92 = .ok (.iconst 1, 1) := dk_4 (dk_at dksX1_keep_3 22 rfl rfl)
theorem dX1_keep_93 : decode cX1_keep 93 = .ok (.isub, 1) := dk_100 (dk_at dksX1_keep_3 23 rfl rfl)
theorem dX1_keep_94 : decode cX1_keep 94 = .ok (.aload_n 0, 1) := dk_42 (dk_at dksX1_keep_4 0 rfl rfl)
theorem dX1_keep_95 : decode cX1_keep 95 = .ok (.getfield 102, 3) := dk_180 0 102 (dk_at dksX1_keep_4 1 rfl rfl)
theorem dX1_keep_98 : decode cX1_keep 98 = .ok (.iastore, 1) := dk_79 (dk_at dksX1_keep_4 4 rfl rfl)
theorem dX1_keep_99 : decode cX1_keep 99 = .ok (.aload_n 0, 1) := dk_42 (dk_at dksX1_keep_4 5 rfl rfl)
theorem dX1_keep_100 : decode cX1_keep 100 = .ok (.getfield 95, 3) := dk_180 0 95 (dk_at dksX1_keep_4 6 rfl rfl)
theorem dX1_keep_103 : decode cX1_keep 103 = .ok (.iload_n 1, 1) := dk_27 (dk_at dksX1_keep_4 9 rfl rfl)
theorem dX1_keep_104 : decode cX1_keep 104 = .ok (.iconst 1, 1) := dk_4 (dk_at dksX1_keep_4 10 rfl rfl)
theorem dX1_keep_105 : decode cX1_keep 105 = .ok (.bastore, 1) := dk_84 (dk_at dksX1_keep_4 11 rfl rfl)
theorem dX1_keep_106 : decode cX1_keep 106 = .ok (.iconst 1, 1) := dk_4 (dk_at dksX1_keep_4 12 rfl rfl)
theorem dX1_keep_107 : decode cX1_keep 107 = .ok (.ireturn, 1) := dk_172 (dk_at dksX1_keep_4 13 rfl rfl)
abbrev cX1_again : ByteArray := prog_1_method_110_code
def yX1_again : MethodName := ⟨RX1, "again", "(I)Z"⟩
def dkwX1_again_4 : List UInt8 := [16, 10, 184, 1, 63, 42, 42, 180, 0, 92, 28, 16, 23, 96, 5, 100, 46, 181, 1, 47, 4, 172]
abbrev dktX1_again_4 : List UInt8 := dkwX1_again_4 ++ []
def dkwX1_again_3 : List UInt8 := [180, 0, 28, 3, 6, 184, 1, 63, 42, 180, 0, 92, 28, 16, 8, 96, 6, 96, 42, 180, 0, 31, 3]
abbrev dktX1_again_3 : List UInt8 := dkwX1_again_3 ++ dktX1_again_4
def dkwX1_again_2 : List UInt8 := [42, 180, 0, 92, 28, 42, 180, 0, 25, 3, 16, 8, 184, 1, 63, 42, 180, 0, 92, 28, 16, 8, 96, 42]
abbrev dktX1_again_2 : List UInt8 := dkwX1_again_2 ++ dktX1_again_3
def dkwX1_again_1 : List UInt8 := [16, 23, 27, 104, 16, 23, 96, 4, 100, 46, 42, 180, 0, 102, 159, 0, 5, 3, 172, 16, 23, 27, 104, 61]
abbrev dktX1_again_1 : List UInt8 := dkwX1_again_1 ++ dktX1_again_2
def dkwX1_again_0 : List UInt8 := [27, 133, 9, 10, 184, 0, 106, 153, 0, 33, 42, 180, 0, 95, 27, 51, 153, 0, 24, 42, 180, 0, 92]
abbrev dktX1_again_0 : List UInt8 := dkwX1_again_0 ++ dktX1_again_1
theorem dksX1_again_0 : cX1_again.data.toList.drop 0 = dktX1_again_0 := by decide +kernel
theorem dksX1_again_1 : cX1_again.data.toList.drop 23 = dktX1_again_1 := dk_seg dksX1_again_0 23 rfl rfl
theorem dksX1_again_2 : cX1_again.data.toList.drop 47 = dktX1_again_2 := dk_seg dksX1_again_1 24 rfl rfl
theorem dksX1_again_3 : cX1_again.data.toList.drop 71 = dktX1_again_3 := dk_seg dksX1_again_2 24 rfl rfl
theorem dksX1_again_4 : cX1_again.data.toList.drop 94 = dktX1_again_4 := dk_seg dksX1_again_3 23 rfl rfl
theorem dX1_again_0 : decode cX1_again 0 = .ok (.iload_n 1, 1) := dk_27 (dk_at dksX1_again_0 0 rfl rfl)
theorem dX1_again_1 : decode cX1_again 1 = .ok (.i2l, 1) := dk_133 (dk_at dksX1_again_0 1 rfl rfl)
theorem dX1_again_2 : decode cX1_again 2 = .ok (.lconst 0, 1) := dk_9 (dk_at dksX1_again_0 2 rfl rfl)
theorem dX1_again_3 : decode cX1_again 3 = .ok (.lconst 1, 1) := dk_10 (dk_at dksX1_again_0 3 rfl rfl)
theorem dX1_again_4 : decode cX1_again 4 = .ok (.invokestatic 106, 3) := dk_184 0 106 (dk_at dksX1_again_0 4 rfl rfl)
theorem dX1_again_7 : decode cX1_again 7 = .ok (.ifCond .eq 33, 3) := dk_153 0 33 (dk_at dksX1_again_0 7 rfl rfl)
theorem dX1_again_10 : decode cX1_again 10 = .ok (.aload_n 0, 1) := dk_42 (dk_at dksX1_again_0 10 rfl rfl)
theorem dX1_again_11 : decode cX1_again 11 = .ok (.getfield 95, 3) := dk_180 0 95 (dk_at dksX1_again_0 11 rfl rfl)
theorem dX1_again_14 : decode cX1_again 14 = .ok (.iload_n 1, 1) := dk_27 (dk_at dksX1_again_0 14 rfl rfl)
theorem dX1_again_15 : decode cX1_again 15 = .ok (.baload, 1) := dk_51 (dk_at dksX1_again_0 15 rfl rfl)
theorem dX1_again_16 : decode cX1_again 16 = .ok (.ifCond .eq 24, 3) := dk_153 0 24 (dk_at dksX1_again_0 16 rfl rfl)
theorem dX1_again_19 : decode cX1_again 19 = .ok (.aload_n 0, 1) := dk_42 (dk_at dksX1_again_0 19 rfl rfl)
theorem dX1_again_20 : decode cX1_again 20 = .ok (.getfield 92, 3) := dk_180 0 92 (dk_at dksX1_again_0 20 rfl rfl)
theorem dX1_again_23 : decode cX1_again 23 = .ok (.bipush 23, 2) := dk_16 23 (dk_at dksX1_again_1 0 rfl rfl)
theorem dX1_again_25 : decode cX1_again 25 = .ok (.iload_n 1, 1) := dk_27 (dk_at dksX1_again_1 2 rfl rfl)
theorem dX1_again_26 : decode cX1_again 26 = .ok (.imul, 1) := dk_104 (dk_at dksX1_again_1 3 rfl rfl)
theorem dX1_again_27 : decode cX1_again 27 = .ok (.bipush 23, 2) := dk_16 23 (dk_at dksX1_again_1 4 rfl rfl)
theorem dX1_again_29 : decode cX1_again 29 = .ok (.iadd, 1) := dk_96 (dk_at dksX1_again_1 6 rfl rfl)
theorem dX1_again_30 : decode cX1_again 30 = .ok (.iconst 1, 1) := dk_4 (dk_at dksX1_again_1 7 rfl rfl)
theorem dX1_again_31 : decode cX1_again 31 = .ok (.isub, 1) := dk_100 (dk_at dksX1_again_1 8 rfl rfl)
theorem dX1_again_32 : decode cX1_again 32 = .ok (.iaload, 1) := dk_46 (dk_at dksX1_again_1 9 rfl rfl)
theorem dX1_again_33 : decode cX1_again 33 = .ok (.aload_n 0, 1) := dk_42 (dk_at dksX1_again_1 10 rfl rfl)
theorem dX1_again_34 : decode cX1_again 34 = .ok (.getfield 102, 3) := dk_180 0 102 (dk_at dksX1_again_1 11 rfl rfl)
theorem dX1_again_37 : decode cX1_again 37 = .ok (.if_icmp .eq 5, 3) := dk_159 0 5 (dk_at dksX1_again_1 14 rfl rfl)
theorem dX1_again_40 : decode cX1_again 40 = .ok (.iconst 0, 1) := dk_3 (dk_at dksX1_again_1 17 rfl rfl)
theorem dX1_again_41 : decode cX1_again 41 = .ok (.ireturn, 1) := dk_172 (dk_at dksX1_again_1 18 rfl rfl)
theorem dX1_again_42 : decode cX1_again 42 = .ok (.bipush 23, 2) := dk_16 23 (dk_at dksX1_again_1 19 rfl rfl)
theorem dX1_again_44 : decode cX1_again 44 = .ok (.iload_n 1, 1) := dk_27 (dk_at dksX1_again_1 21 rfl rfl)
theorem dX1_again_45 : decode cX1_again 45 = .ok (.imul, 1) := dk_104 (dk_at dksX1_again_1 22 rfl rfl)
theorem dX1_again_46 : decode cX1_again 46 = .ok (.istore_n 2, 1) := dk_61 (dk_at dksX1_again_1 23 rfl rfl)
theorem dX1_again_47 : decode cX1_again 47 = .ok (.aload_n 0, 1) := dk_42 (dk_at dksX1_again_2 0 rfl rfl)
theorem dX1_again_48 : decode cX1_again 48 = .ok (.getfield 92, 3) := dk_180 0 92 (dk_at dksX1_again_2 1 rfl rfl)
theorem dX1_again_51 : decode cX1_again 51 = .ok (.iload_n 2, 1) := dk_28 (dk_at dksX1_again_2 4 rfl rfl)
theorem dX1_again_52 : decode cX1_again 52 = .ok (.aload_n 0, 1) := dk_42 (dk_at dksX1_again_2 5 rfl rfl)
theorem dX1_again_53 : decode cX1_again 53 = .ok (.getfield 25, 3) := dk_180 0 25 (dk_at dksX1_again_2 6 rfl rfl)
theorem dX1_again_56 : decode cX1_again 56 = .ok (.iconst 0, 1) := dk_3 (dk_at dksX1_again_2 9 rfl rfl)
theorem dX1_again_57 : decode cX1_again 57 = .ok (.bipush 8, 2) := dk_16 8 (dk_at dksX1_again_2 10 rfl rfl)
theorem dX1_again_59 : decode cX1_again 59 = .ok (.invokestatic 319, 3) := dk_184 1 63 (dk_at dksX1_again_2 12 rfl rfl)
theorem dX1_again_62 : decode cX1_again 62 = .ok (.aload_n 0, 1) := dk_42 (dk_at dksX1_again_2 15 rfl rfl)
theorem dX1_again_63 : decode cX1_again 63 = .ok (.getfield 92, 3) := dk_180 0 92 (dk_at dksX1_again_2 16 rfl rfl)
theorem dX1_again_66 : decode cX1_again 66 = .ok (.iload_n 2, 1) := dk_28 (dk_at dksX1_again_2 19 rfl rfl)
theorem dX1_again_67 : decode cX1_again 67 = .ok (.bipush 8, 2) := dk_16 8 (dk_at dksX1_again_2 20 rfl rfl)
theorem dX1_again_69 : decode cX1_again 69 = .ok (.iadd, 1) := dk_96 (dk_at dksX1_again_2 22 rfl rfl)
theorem dX1_again_70 : decode cX1_again 70 = .ok (.aload_n 0, 1) := dk_42 (dk_at dksX1_again_2 23 rfl rfl)
theorem dX1_again_71 : decode cX1_again 71 = .ok (.getfield 28, 3) := dk_180 0 28 (dk_at dksX1_again_3 0 rfl rfl)
theorem dX1_again_74 : decode cX1_again 74 = .ok (.iconst 0, 1) := dk_3 (dk_at dksX1_again_3 3 rfl rfl)
theorem dX1_again_75 : decode cX1_again 75 = .ok (.iconst 3, 1) := dk_6 (dk_at dksX1_again_3 4 rfl rfl)
theorem dX1_again_76 : decode cX1_again 76 = .ok (.invokestatic 319, 3) := dk_184 1 63 (dk_at dksX1_again_3 5 rfl rfl)
theorem dX1_again_79 : decode cX1_again 79 = .ok (.aload_n 0, 1) := dk_42 (dk_at dksX1_again_3 8 rfl rfl)
theorem dX1_again_80 : decode cX1_again 80 = .ok (.getfield 92, 3) := dk_180 0 92 (dk_at dksX1_again_3 9 rfl rfl)
theorem dX1_again_83 : decode cX1_again 83 = .ok (.iload_n 2, 1) := dk_28 (dk_at dksX1_again_3 12 rfl rfl)
theorem dX1_again_84 : decode cX1_again 84 = .ok (.bipush 8, 2) := dk_16 8 (dk_at dksX1_again_3 13 rfl rfl)
theorem dX1_again_86 : decode cX1_again 86 = .ok (.iadd, 1) := dk_96 (dk_at dksX1_again_3 15 rfl rfl)
theorem dX1_again_87 : decode cX1_again 87 = .ok (.iconst 3, 1) := dk_6 (dk_at dksX1_again_3 16 rfl rfl)
theorem dX1_again_88 : decode cX1_again 88 = .ok (.iadd, 1) := dk_96 (dk_at dksX1_again_3 17 rfl rfl)
theorem dX1_again_89 : decode cX1_again 89 = .ok (.aload_n 0, 1) := dk_42 (dk_at dksX1_again_3 18 rfl rfl)
theorem dX1_again_90 : decode cX1_again 90 = .ok (.getfield 31, 3) := dk_180 0 31 (dk_at dksX1_again_3 19 rfl rfl)
theorem dX1_again_93 : decode cX1_again 93 = .ok (.iconst 0, 1) := dk_3 (dk_at dksX1_again_3 22 rfl rfl)
theorem dX1_again_94 : decode cX1_again 94 = .ok (.bipush 10, 2) := dk_16 10 (dk_at dksX1_again_4 0 rfl rfl)
theorem dX1_again_96 : decode cX1_again 96 = .ok (.invokestatic 319, 3) := dk_184 1 63 (dk_at dksX1_again_4 2 rfl rfl)
theorem dX1_again_99 : decode cX1_again 99 = .ok (.aload_n 0, 1) := dk_42 (dk_at dksX1_again_4 5 rfl rfl)
theorem dX1_again_100 : decode cX1_again 100 = .ok (.aload_n 0, 1) := dk_42 (dk_at dksX1_again_4 6 rfl rfl)
theorem dX1_again_101 : decode cX1_again 101 = .ok (.getfield 92, 3) := dk_180 0 92 (dk_at dksX1_again_4 7 rfl rfl)
theorem dX1_again_104 : decode cX1_again 104 = .ok (.iload_n 2, 1) := dk_28 (dk_at dksX1_again_4 10 rfl rfl)
theorem dX1_again_105 : decode cX1_again 105 = .ok (.bipush 23, 2) := dk_16 23 (dk_at dksX1_again_4 11 rfl rfl)
theorem dX1_again_107 : decode cX1_again 107 = .ok (.iadd, 1) := dk_96 (dk_at dksX1_again_4 13 rfl rfl)
theorem dX1_again_108 : decode cX1_again 108 = .ok (.iconst 2, 1) := dk_5 (dk_at dksX1_again_4 14 rfl rfl)
theorem dX1_again_109 : decode cX1_again 109 = .ok (.isub, 1) := dk_100 (dk_at dksX1_again_4 15 rfl rfl)
theorem dX1_again_110 : decode cX1_again 110 = .ok (.iaload, 1) := dk_46 (dk_at dksX1_again_4 16 rfl rfl)
theorem dX1_again_111 : decode cX1_again 111 = .ok (.putfield 303, 3) := dk_181 1 47 (dk_at dksX1_again_4 17 rfl rfl)
theorem dX1_again_114 : decode cX1_again 114 = .ok (.iconst 1, 1) := dk_4 (dk_at dksX1_again_4 20 rfl rfl)
theorem dX1_again_115 : decode cX1_again 115 = .ok (.ireturn, 1) := dk_172 (dk_at dksX1_again_4 21 rfl rfl)
abbrev cX1_count : ByteArray := prog_1_method_112_code
def yX1_count : MethodName := ⟨RX1, "count", "(I)I"⟩
def dkwX1_count_3 : List UInt8 := [182, 1, 50, 182, 1, 146, 172, 42, 180, 1, 81, 172, 42, 180, 0, 113, 172, 42, 182, 1, 191, 172, 2, 172]
abbrev dktX1_count_3 : List UInt8 := dkwX1_count_3 ++ []
def dkwX1_count_2 : List UInt8 := [42, 180, 0, 102, 172, 42, 180, 0, 110, 172, 42, 180, 1, 47, 172, 42, 182, 1, 53, 172, 42, 42]
abbrev dktX1_count_2 : List UInt8 := dkwX1_count_2 ++ dktX1_count_3
def dkwX1_count_1 : List UInt8 := [170, 0, 0, 0, 0, 0, 91, 0, 0, 0, 0, 0, 0, 0, 7, 0, 0, 0, 47, 0, 0, 0, 52, 0, 0, 0, 57, 0, 0, 0, 62, 0, 0, 0, 67, 0, 0, 0, 76, 0, 0, 0, 81, 0, 0, 0, 86]
abbrev dktX1_count_1 : List UInt8 := dkwX1_count_1 ++ dktX1_count_2
def dkwX1_count_0 : List UInt8 := [27]
abbrev dktX1_count_0 : List UInt8 := dkwX1_count_0 ++ dktX1_count_1
theorem dksX1_count_0 : cX1_count.data.toList.drop 0 = dktX1_count_0 := by decide +kernel
theorem dksX1_count_1 : cX1_count.data.toList.drop 1 = dktX1_count_1 := dk_seg dksX1_count_0 1 rfl rfl
theorem dksX1_count_2 : cX1_count.data.toList.drop 48 = dktX1_count_2 := dk_seg dksX1_count_1 47 rfl rfl
theorem dksX1_count_3 : cX1_count.data.toList.drop 70 = dktX1_count_3 := dk_seg dksX1_count_2 22 rfl rfl
theorem dX1_count_0 : decode cX1_count 0 = .ok (.iload_n 1, 1) := dk_27 (dk_at dksX1_count_0 0 rfl rfl)
theorem dX1_count_1 : decode cX1_count 1 = .ok (.tableswitch 91 0 7 #[47, 52, 57, 62, 67, 76, 81, 86], 47) := by decide +kernel
theorem dX1_count_48 : decode cX1_count 48 = .ok (.aload_n 0, 1) := dk_42 (dk_at dksX1_count_2 0 rfl rfl)
theorem dX1_count_49 : decode cX1_count 49 = .ok (.getfield 102, 3) := dk_180 0 102 (dk_at dksX1_count_2 1 rfl rfl)
theorem dX1_count_52 : decode cX1_count 52 = .ok (.ireturn, 1) := dk_172 (dk_at dksX1_count_2 4 rfl rfl)
theorem dX1_count_53 : decode cX1_count 53 = .ok (.aload_n 0, 1) := dk_42 (dk_at dksX1_count_2 5 rfl rfl)
theorem dX1_count_54 : decode cX1_count 54 = .ok (.getfield 110, 3) := dk_180 0 110 (dk_at dksX1_count_2 6 rfl rfl)
theorem dX1_count_57 : decode cX1_count 57 = .ok (.ireturn, 1) := dk_172 (dk_at dksX1_count_2 9 rfl rfl)
theorem dX1_count_58 : decode cX1_count 58 = .ok (.aload_n 0, 1) := dk_42 (dk_at dksX1_count_2 10 rfl rfl)
theorem dX1_count_59 : decode cX1_count 59 = .ok (.getfield 303, 3) := dk_180 1 47 (dk_at dksX1_count_2 11 rfl rfl)
theorem dX1_count_62 : decode cX1_count 62 = .ok (.ireturn, 1) := dk_172 (dk_at dksX1_count_2 14 rfl rfl)
theorem dX1_count_63 : decode cX1_count 63 = .ok (.aload_n 0, 1) := dk_42 (dk_at dksX1_count_2 15 rfl rfl)
theorem dX1_count_64 : decode cX1_count 64 = .ok (.invokevirtual 309, 3) := dk_182 1 53 (dk_at dksX1_count_2 16 rfl rfl)
theorem dX1_count_67 : decode cX1_count 67 = .ok (.ireturn, 1) := dk_172 (dk_at dksX1_count_2 19 rfl rfl)
theorem dX1_count_68 : decode cX1_count 68 = .ok (.aload_n 0, 1) := dk_42 (dk_at dksX1_count_2 20 rfl rfl)
theorem dX1_count_69 : decode cX1_count 69 = .ok (.aload_n 0, 1) := dk_42 (dk_at dksX1_count_2 21 rfl rfl)
theorem dX1_count_70 : decode cX1_count 70 = .ok (.invokevirtual 306, 3) := dk_182 1 50 (dk_at dksX1_count_3 0 rfl rfl)
theorem dX1_count_73 : decode cX1_count 73 = .ok (.invokevirtual 402, 3) := dk_182 1 146 (dk_at dksX1_count_3 3 rfl rfl)
theorem dX1_count_76 : decode cX1_count 76 = .ok (.ireturn, 1) := dk_172 (dk_at dksX1_count_3 6 rfl rfl)
theorem dX1_count_77 : decode cX1_count 77 = .ok (.aload_n 0, 1) := dk_42 (dk_at dksX1_count_3 7 rfl rfl)
theorem dX1_count_78 : decode cX1_count 78 = .ok (.getfield 337, 3) := dk_180 1 81 (dk_at dksX1_count_3 8 rfl rfl)
theorem dX1_count_81 : decode cX1_count 81 = .ok (.ireturn, 1) := dk_172 (dk_at dksX1_count_3 11 rfl rfl)
theorem dX1_count_82 : decode cX1_count 82 = .ok (.aload_n 0, 1) := dk_42 (dk_at dksX1_count_3 12 rfl rfl)
theorem dX1_count_83 : decode cX1_count 83 = .ok (.getfield 113, 3) := dk_180 0 113 (dk_at dksX1_count_3 13 rfl rfl)
theorem dX1_count_86 : decode cX1_count 86 = .ok (.ireturn, 1) := dk_172 (dk_at dksX1_count_3 16 rfl rfl)
theorem dX1_count_87 : decode cX1_count 87 = .ok (.aload_n 0, 1) := dk_42 (dk_at dksX1_count_3 17 rfl rfl)
theorem dX1_count_88 : decode cX1_count 88 = .ok (.invokevirtual 447, 3) := dk_182 1 191 (dk_at dksX1_count_3 18 rfl rfl)
theorem dX1_count_91 : decode cX1_count 91 = .ok (.ireturn, 1) := dk_172 (dk_at dksX1_count_3 21 rfl rfl)
theorem dX1_count_92 : decode cX1_count 92 = .ok (.iconst (-1), 1) := dk_2 (dk_at dksX1_count_3 22 rfl rfl)
theorem dX1_count_93 : decode cX1_count 93 = .ok (.ireturn, 1) := dk_172 (dk_at dksX1_count_3 23 rfl rfl)
abbrev cX1_laid : ByteArray := prog_1_method_111_code
def yX1_laid : MethodName := ⟨RX1, "laid", "()I"⟩
def dkwX1_laid_1 : List UInt8 := [167, 0, 4, 3, 128, 60, 132, 2, 1, 167, 255, 229, 27, 172]
abbrev dktX1_laid_1 : List UInt8 := dkwX1_laid_1 ++ []
def dkwX1_laid_0 : List UInt8 := [3, 60, 3, 61, 28, 6, 162, 0, 28, 27, 42, 180, 0, 55, 28, 46, 158, 0, 9, 4, 28, 120]
abbrev dktX1_laid_0 : List UInt8 := dkwX1_laid_0 ++ dktX1_laid_1
theorem dksX1_laid_0 : cX1_laid.data.toList.drop 0 = dktX1_laid_0 := by decide +kernel
theorem dksX1_laid_1 : cX1_laid.data.toList.drop 22 = dktX1_laid_1 := dk_seg dksX1_laid_0 22 rfl rfl
theorem dX1_laid_0 : decode cX1_laid 0 = .ok (.iconst 0, 1) := dk_3 (dk_at dksX1_laid_0 0 rfl rfl)
theorem dX1_laid_1 : decode cX1_laid 1 = .ok (.istore_n 1, 1) := dk_60 (dk_at dksX1_laid_0 1 rfl rfl)
theorem dX1_laid_2 : decode cX1_laid 2 = .ok (.iconst 0, 1) := dk_3 (dk_at dksX1_laid_0 2 rfl rfl)
theorem dX1_laid_3 : decode cX1_laid 3 = .ok (.istore_n 2, 1) := dk_61 (dk_at dksX1_laid_0 3 rfl rfl)
theorem dX1_laid_4 : decode cX1_laid 4 = .ok (.iload_n 2, 1) := dk_28 (dk_at dksX1_laid_0 4 rfl rfl)
theorem dX1_laid_5 : decode cX1_laid 5 = .ok (.iconst 3, 1) := dk_6 (dk_at dksX1_laid_0 5 rfl rfl)
theorem dX1_laid_6 : decode cX1_laid 6 = .ok (.if_icmp .ge 28, 3) := dk_162 0 28 (dk_at dksX1_laid_0 6 rfl rfl)
theorem dX1_laid_9 : decode cX1_laid 9 = .ok (.iload_n 1, 1) := dk_27 (dk_at dksX1_laid_0 9 rfl rfl)
theorem dX1_laid_10 : decode cX1_laid 10 = .ok (.aload_n 0, 1) := dk_42 (dk_at dksX1_laid_0 10 rfl rfl)
theorem dX1_laid_11 : decode cX1_laid 11 = .ok (.getfield 55, 3) := dk_180 0 55 (dk_at dksX1_laid_0 11 rfl rfl)
theorem dX1_laid_14 : decode cX1_laid 14 = .ok (.iload_n 2, 1) := dk_28 (dk_at dksX1_laid_0 14 rfl rfl)
theorem dX1_laid_15 : decode cX1_laid 15 = .ok (.iaload, 1) := dk_46 (dk_at dksX1_laid_0 15 rfl rfl)
theorem dX1_laid_16 : decode cX1_laid 16 = .ok (.ifCond .le 9, 3) := dk_158 0 9 (dk_at dksX1_laid_0 16 rfl rfl)
theorem dX1_laid_19 : decode cX1_laid 19 = .ok (.iconst 1, 1) := dk_4 (dk_at dksX1_laid_0 19 rfl rfl)
theorem dX1_laid_20 : decode cX1_laid 20 = .ok (.iload_n 2, 1) := dk_28 (dk_at dksX1_laid_0 20 rfl rfl)
theorem dX1_laid_21 : decode cX1_laid 21 = .ok (.ishl, 1) := dk_120 (dk_at dksX1_laid_0 21 rfl rfl)
theorem dX1_laid_22 : decode cX1_laid 22 = .ok (.goto 4, 3) := dk_167 0 4 (dk_at dksX1_laid_1 0 rfl rfl)
theorem dX1_laid_25 : decode cX1_laid 25 = .ok (.iconst 0, 1) := dk_3 (dk_at dksX1_laid_1 3 rfl rfl)
theorem dX1_laid_26 : decode cX1_laid 26 = .ok (.ior, 1) := dk_128 (dk_at dksX1_laid_1 4 rfl rfl)
theorem dX1_laid_27 : decode cX1_laid 27 = .ok (.istore_n 1, 1) := dk_60 (dk_at dksX1_laid_1 5 rfl rfl)
theorem dX1_laid_28 : decode cX1_laid 28 = .ok (.iinc 2 1, 3) := dk_132 2 1 (dk_at dksX1_laid_1 6 rfl rfl)
theorem dX1_laid_31 : decode cX1_laid 31 = .ok (.goto (-27), 3) := dk_167 255 229 (dk_at dksX1_laid_1 9 rfl rfl)
theorem dX1_laid_34 : decode cX1_laid 34 = .ok (.iload_n 1, 1) := dk_27 (dk_at dksX1_laid_1 12 rfl rfl)
theorem dX1_laid_35 : decode cX1_laid 35 = .ok (.ireturn, 1) := dk_172 (dk_at dksX1_laid_1 13 rfl rfl)
abbrev cX1_dish : ByteArray := prog_1_method_27_code
def yX1_dish : MethodName := ⟨RX1, "dish", "(II)I"⟩
def dkwX1_dish_4 : List UInt8 := [182, 1, 10, 184, 0, 237, 172, 187, 1, 0, 89, 183, 1, 2, 191]
abbrev dktX1_dish_4 : List UInt8 := dkwX1_dish_4 ++ []
def dkwX1_dish_3 : List UInt8 := [153, 0, 7, 4, 167, 0, 4, 3, 172, 42, 180, 0, 16, 27, 46, 172, 42, 27, 182, 1, 7, 172, 42, 27]
abbrev dktX1_dish_3 : List UInt8 := dkwX1_dish_3 ++ dktX1_dish_4
def dkwX1_dish_2 : List UInt8 := [42, 180, 0, 9, 27, 46, 172, 42, 180, 0, 13, 27, 46, 172, 42, 180, 0, 178, 27, 184, 1, 3]
abbrev dktX1_dish_2 : List UInt8 := dkwX1_dish_2 ++ dktX1_dish_3
def dkwX1_dish_1 : List UInt8 := [170, 0, 0, 0, 0, 0, 92, 0, 0, 0, 0, 0, 0, 0, 5, 0, 0, 0, 39, 0, 0, 0, 46, 0, 0, 0, 53, 0, 0, 0, 70, 0, 0, 0, 77, 0, 0, 0, 83]
abbrev dktX1_dish_1 : List UInt8 := dkwX1_dish_1 ++ dktX1_dish_2
def dkwX1_dish_0 : List UInt8 := [42, 27, 182, 0, 252, 154, 0, 11, 187, 1, 0, 89, 183, 1, 2, 191, 28]
abbrev dktX1_dish_0 : List UInt8 := dkwX1_dish_0 ++ dktX1_dish_1
theorem dksX1_dish_0 : cX1_dish.data.toList.drop 0 = dktX1_dish_0 := by decide +kernel
theorem dksX1_dish_1 : cX1_dish.data.toList.drop 17 = dktX1_dish_1 := dk_seg dksX1_dish_0 17 rfl rfl
theorem dksX1_dish_2 : cX1_dish.data.toList.drop 56 = dktX1_dish_2 := dk_seg dksX1_dish_1 39 rfl rfl
theorem dksX1_dish_3 : cX1_dish.data.toList.drop 78 = dktX1_dish_3 := dk_seg dksX1_dish_2 22 rfl rfl
theorem dksX1_dish_4 : cX1_dish.data.toList.drop 102 = dktX1_dish_4 := dk_seg dksX1_dish_3 24 rfl rfl
theorem dX1_dish_0 : decode cX1_dish 0 = .ok (.aload_n 0, 1) := dk_42 (dk_at dksX1_dish_0 0 rfl rfl)
theorem dX1_dish_1 : decode cX1_dish 1 = .ok (.iload_n 1, 1) := dk_27 (dk_at dksX1_dish_0 1 rfl rfl)
theorem dX1_dish_2 : decode cX1_dish 2 = .ok (.invokevirtual 252, 3) := dk_182 0 252 (dk_at dksX1_dish_0 2 rfl rfl)
theorem dX1_dish_5 : decode cX1_dish 5 = .ok (.ifCond .ne 11, 3) := dk_154 0 11 (dk_at dksX1_dish_0 5 rfl rfl)
theorem dX1_dish_8 : decode cX1_dish 8 = .ok (.new 256, 3) := dk_187 1 0 (dk_at dksX1_dish_0 8 rfl rfl)
theorem dX1_dish_11 : decode cX1_dish 11 = .ok (.dup, 1) := dk_89 (dk_at dksX1_dish_0 11 rfl rfl)
theorem dX1_dish_12 : decode cX1_dish 12 = .ok (.invokespecial 258, 3) := dk_183 1 2 (dk_at dksX1_dish_0 12 rfl rfl)
theorem dX1_dish_15 : decode cX1_dish 15 = .ok (.athrow, 1) := dk_191 (dk_at dksX1_dish_0 15 rfl rfl)
theorem dX1_dish_16 : decode cX1_dish 16 = .ok (.iload_n 2, 1) := dk_28 (dk_at dksX1_dish_0 16 rfl rfl)
theorem dX1_dish_17 : decode cX1_dish 17 = .ok (.tableswitch 92 0 5 #[39, 46, 53, 70, 77, 83], 39) := by decide +kernel
theorem dX1_dish_56 : decode cX1_dish 56 = .ok (.aload_n 0, 1) := dk_42 (dk_at dksX1_dish_2 0 rfl rfl)
theorem dX1_dish_57 : decode cX1_dish 57 = .ok (.getfield 9, 3) := dk_180 0 9 (dk_at dksX1_dish_2 1 rfl rfl)
theorem dX1_dish_60 : decode cX1_dish 60 = .ok (.iload_n 1, 1) := dk_27 (dk_at dksX1_dish_2 4 rfl rfl)
theorem dX1_dish_61 : decode cX1_dish 61 = .ok (.iaload, 1) := dk_46 (dk_at dksX1_dish_2 5 rfl rfl)
theorem dX1_dish_62 : decode cX1_dish 62 = .ok (.ireturn, 1) := dk_172 (dk_at dksX1_dish_2 6 rfl rfl)
theorem dX1_dish_63 : decode cX1_dish 63 = .ok (.aload_n 0, 1) := dk_42 (dk_at dksX1_dish_2 7 rfl rfl)
theorem dX1_dish_64 : decode cX1_dish 64 = .ok (.getfield 13, 3) := dk_180 0 13 (dk_at dksX1_dish_2 8 rfl rfl)
theorem dX1_dish_67 : decode cX1_dish 67 = .ok (.iload_n 1, 1) := dk_27 (dk_at dksX1_dish_2 11 rfl rfl)
theorem dX1_dish_68 : decode cX1_dish 68 = .ok (.iaload, 1) := dk_46 (dk_at dksX1_dish_2 12 rfl rfl)
theorem dX1_dish_69 : decode cX1_dish 69 = .ok (.ireturn, 1) := dk_172 (dk_at dksX1_dish_2 13 rfl rfl)
theorem dX1_dish_70 : decode cX1_dish 70 = .ok (.aload_n 0, 1) := dk_42 (dk_at dksX1_dish_2 14 rfl rfl)
theorem dX1_dish_71 : decode cX1_dish 71 = .ok (.getfield 178, 3) := dk_180 0 178 (dk_at dksX1_dish_2 15 rfl rfl)
theorem dX1_dish_74 : decode cX1_dish 74 = .ok (.iload_n 1, 1) := dk_27 (dk_at dksX1_dish_2 18 rfl rfl)
theorem dX1_dish_75 : decode cX1_dish 75 = .ok (.invokestatic 259, 3) := dk_184 1 3 (dk_at dksX1_dish_2 19 rfl rfl)
theorem dX1_dish_78 : decode cX1_dish 78 = .ok (.ifCond .eq 7, 3) := dk_153 0 7 (dk_at dksX1_dish_3 0 rfl rfl)
theorem dX1_dish_81 : decode cX1_dish 81 = .ok (.iconst 1, 1) := dk_4 (dk_at dksX1_dish_3 3 rfl rfl)
theorem dX1_dish_82 : decode cX1_dish 82 = .ok (.goto 4, 3) := dk_167 0 4 (dk_at dksX1_dish_3 4 rfl rfl)
theorem dX1_dish_85 : decode cX1_dish 85 = .ok (.iconst 0, 1) := dk_3 (dk_at dksX1_dish_3 7 rfl rfl)
theorem dX1_dish_86 : decode cX1_dish 86 = .ok (.ireturn, 1) := dk_172 (dk_at dksX1_dish_3 8 rfl rfl)
theorem dX1_dish_87 : decode cX1_dish 87 = .ok (.aload_n 0, 1) := dk_42 (dk_at dksX1_dish_3 9 rfl rfl)
theorem dX1_dish_88 : decode cX1_dish 88 = .ok (.getfield 16, 3) := dk_180 0 16 (dk_at dksX1_dish_3 10 rfl rfl)
theorem dX1_dish_91 : decode cX1_dish 91 = .ok (.iload_n 1, 1) := dk_27 (dk_at dksX1_dish_3 13 rfl rfl)
theorem dX1_dish_92 : decode cX1_dish 92 = .ok (.iaload, 1) := dk_46 (dk_at dksX1_dish_3 14 rfl rfl)
theorem dX1_dish_93 : decode cX1_dish 93 = .ok (.ireturn, 1) := dk_172 (dk_at dksX1_dish_3 15 rfl rfl)
theorem dX1_dish_94 : decode cX1_dish 94 = .ok (.aload_n 0, 1) := dk_42 (dk_at dksX1_dish_3 16 rfl rfl)
theorem dX1_dish_95 : decode cX1_dish 95 = .ok (.iload_n 1, 1) := dk_27 (dk_at dksX1_dish_3 17 rfl rfl)
theorem dX1_dish_96 : decode cX1_dish 96 = .ok (.invokevirtual 263, 3) := dk_182 1 7 (dk_at dksX1_dish_3 18 rfl rfl)
theorem dX1_dish_99 : decode cX1_dish 99 = .ok (.ireturn, 1) := dk_172 (dk_at dksX1_dish_3 21 rfl rfl)
theorem dX1_dish_100 : decode cX1_dish 100 = .ok (.aload_n 0, 1) := dk_42 (dk_at dksX1_dish_3 22 rfl rfl)
theorem dX1_dish_101 : decode cX1_dish 101 = .ok (.iload_n 1, 1) := dk_27 (dk_at dksX1_dish_3 23 rfl rfl)
theorem dX1_dish_102 : decode cX1_dish 102 = .ok (.invokevirtual 266, 3) := dk_182 1 10 (dk_at dksX1_dish_4 0 rfl rfl)
theorem dX1_dish_105 : decode cX1_dish 105 = .ok (.invokestatic 237, 3) := dk_184 0 237 (dk_at dksX1_dish_4 3 rfl rfl)
theorem dX1_dish_108 : decode cX1_dish 108 = .ok (.ireturn, 1) := dk_172 (dk_at dksX1_dish_4 6 rfl rfl)
theorem dX1_dish_109 : decode cX1_dish 109 = .ok (.new 256, 3) := dk_187 1 0 (dk_at dksX1_dish_4 7 rfl rfl)
theorem dX1_dish_112 : decode cX1_dish 112 = .ok (.dup, 1) := dk_89 (dk_at dksX1_dish_4 10 rfl rfl)
theorem dX1_dish_113 : decode cX1_dish 113 = .ok (.invokespecial 258, 3) := dk_183 1 2 (dk_at dksX1_dish_4 11 rfl rfl)
theorem dX1_dish_116 : decode cX1_dish 116 = .ok (.athrow, 1) := dk_191 (dk_at dksX1_dish_4 14 rfl rfl)
abbrev cX1_guest : ByteArray := prog_1_method_28_code
def yX1_guest : MethodName := ⟨RX1, "guest", "(II)I"⟩
def dkwX1_guest_1 : List UInt8 := [183, 1, 2, 191, 28, 154, 0, 12, 42, 180, 0, 19, 27, 46, 167, 0, 9, 42, 180, 0, 22, 27, 46, 172]
abbrev dktX1_guest_1 : List UInt8 := dkwX1_guest_1 ++ []
def dkwX1_guest_0 : List UInt8 := [42, 27, 182, 1, 13, 153, 0, 13, 28, 133, 9, 10, 184, 0, 106, 154, 0, 11, 187, 1, 0, 89]
abbrev dktX1_guest_0 : List UInt8 := dkwX1_guest_0 ++ dktX1_guest_1
theorem dksX1_guest_0 : cX1_guest.data.toList.drop 0 = dktX1_guest_0 := by decide +kernel
theorem dksX1_guest_1 : cX1_guest.data.toList.drop 22 = dktX1_guest_1 := dk_seg dksX1_guest_0 22 rfl rfl
theorem dX1_guest_0 : decode cX1_guest 0 = .ok (.aload_n 0, 1) := dk_42 (dk_at dksX1_guest_0 0 rfl rfl)
theorem dX1_guest_1 : decode cX1_guest 1 = .ok (.iload_n 1, 1) := dk_27 (dk_at dksX1_guest_0 1 rfl rfl)
theorem dX1_guest_2 : decode cX1_guest 2 = .ok (.invokevirtual 269, 3) := dk_182 1 13 (dk_at dksX1_guest_0 2 rfl rfl)
theorem dX1_guest_5 : decode cX1_guest 5 = .ok (.ifCond .eq 13, 3) := dk_153 0 13 (dk_at dksX1_guest_0 5 rfl rfl)
theorem dX1_guest_8 : decode cX1_guest 8 = .ok (.iload_n 2, 1) := dk_28 (dk_at dksX1_guest_0 8 rfl rfl)
theorem dX1_guest_9 : decode cX1_guest 9 = .ok (.i2l, 1) := dk_133 (dk_at dksX1_guest_0 9 rfl rfl)
theorem dX1_guest_10 : decode cX1_guest 10 = .ok (.lconst 0, 1) := dk_9 (dk_at dksX1_guest_0 10 rfl rfl)
theorem dX1_guest_11 : decode cX1_guest 11 = .ok (.lconst 1, 1) := dk_10 (dk_at dksX1_guest_0 11 rfl rfl)
theorem dX1_guest_12 : decode cX1_guest 12 = .ok (.invokestatic 106, 3) := dk_184 0 106 (dk_at dksX1_guest_0 12 rfl rfl)
theorem dX1_guest_15 : decode cX1_guest 15 = .ok (.ifCond .ne 11, 3) := dk_154 0 11 (dk_at dksX1_guest_0 15 rfl rfl)
theorem dX1_guest_18 : decode cX1_guest 18 = .ok (.new 256, 3) := dk_187 1 0 (dk_at dksX1_guest_0 18 rfl rfl)
theorem dX1_guest_21 : decode cX1_guest 21 = .ok (.dup, 1) := dk_89 (dk_at dksX1_guest_0 21 rfl rfl)
theorem dX1_guest_22 : decode cX1_guest 22 = .ok (.invokespecial 258, 3) := dk_183 1 2 (dk_at dksX1_guest_1 0 rfl rfl)
theorem dX1_guest_25 : decode cX1_guest 25 = .ok (.athrow, 1) := dk_191 (dk_at dksX1_guest_1 3 rfl rfl)
theorem dX1_guest_26 : decode cX1_guest 26 = .ok (.iload_n 2, 1) := dk_28 (dk_at dksX1_guest_1 4 rfl rfl)
theorem dX1_guest_27 : decode cX1_guest 27 = .ok (.ifCond .ne 12, 3) := dk_154 0 12 (dk_at dksX1_guest_1 5 rfl rfl)
theorem dX1_guest_30 : decode cX1_guest 30 = .ok (.aload_n 0, 1) := dk_42 (dk_at dksX1_guest_1 8 rfl rfl)
theorem dX1_guest_31 : decode cX1_guest 31 = .ok (.getfield 19, 3) := dk_180 0 19 (dk_at dksX1_guest_1 9 rfl rfl)
theorem dX1_guest_34 : decode cX1_guest 34 = .ok (.iload_n 1, 1) := dk_27 (dk_at dksX1_guest_1 12 rfl rfl)
theorem dX1_guest_35 : decode cX1_guest 35 = .ok (.iaload, 1) := dk_46 (dk_at dksX1_guest_1 13 rfl rfl)
theorem dX1_guest_36 : decode cX1_guest 36 = .ok (.goto 9, 3) := dk_167 0 9 (dk_at dksX1_guest_1 14 rfl rfl)
theorem dX1_guest_39 : decode cX1_guest 39 = .ok (.aload_n 0, 1) := dk_42 (dk_at dksX1_guest_1 17 rfl rfl)
theorem dX1_guest_40 : decode cX1_guest 40 = .ok (.getfield 22, 3) := dk_180 0 22 (dk_at dksX1_guest_1 18 rfl rfl)
theorem dX1_guest_43 : decode cX1_guest 43 = .ok (.iload_n 1, 1) := dk_27 (dk_at dksX1_guest_1 21 rfl rfl)
theorem dX1_guest_44 : decode cX1_guest 44 = .ok (.iaload, 1) := dk_46 (dk_at dksX1_guest_1 22 rfl rfl)
theorem dX1_guest_45 : decode cX1_guest 45 = .ok (.ireturn, 1) := dk_172 (dk_at dksX1_guest_1 23 rfl rfl)
abbrev cX1_joy : ByteArray := prog_1_method_29_code
def yX1_joy : MethodName := ⟨RX1, "joy", "(II)I"⟩
def dkwX1_joy_1 : List UInt8 := [42, 27, 28, 182, 0, 249, 172]
abbrev dktX1_joy_1 : List UInt8 := dkwX1_joy_1 ++ []
def dkwX1_joy_0 : List UInt8 := [42, 27, 182, 1, 13, 153, 0, 11, 42, 28, 182, 0, 252, 154, 0, 11, 187, 1, 0, 89, 183, 1, 2, 191]
abbrev dktX1_joy_0 : List UInt8 := dkwX1_joy_0 ++ dktX1_joy_1
theorem dksX1_joy_0 : cX1_joy.data.toList.drop 0 = dktX1_joy_0 := by decide +kernel
theorem dksX1_joy_1 : cX1_joy.data.toList.drop 24 = dktX1_joy_1 := dk_seg dksX1_joy_0 24 rfl rfl
theorem dX1_joy_0 : decode cX1_joy 0 = .ok (.aload_n 0, 1) := dk_42 (dk_at dksX1_joy_0 0 rfl rfl)
theorem dX1_joy_1 : decode cX1_joy 1 = .ok (.iload_n 1, 1) := dk_27 (dk_at dksX1_joy_0 1 rfl rfl)
theorem dX1_joy_2 : decode cX1_joy 2 = .ok (.invokevirtual 269, 3) := dk_182 1 13 (dk_at dksX1_joy_0 2 rfl rfl)
theorem dX1_joy_5 : decode cX1_joy 5 = .ok (.ifCond .eq 11, 3) := dk_153 0 11 (dk_at dksX1_joy_0 5 rfl rfl)
theorem dX1_joy_8 : decode cX1_joy 8 = .ok (.aload_n 0, 1) := dk_42 (dk_at dksX1_joy_0 8 rfl rfl)
theorem dX1_joy_9 : decode cX1_joy 9 = .ok (.iload_n 2, 1) := dk_28 (dk_at dksX1_joy_0 9 rfl rfl)
theorem dX1_joy_10 : decode cX1_joy 10 = .ok (.invokevirtual 252, 3) := dk_182 0 252 (dk_at dksX1_joy_0 10 rfl rfl)
theorem dX1_joy_13 : decode cX1_joy 13 = .ok (.ifCond .ne 11, 3) := dk_154 0 11 (dk_at dksX1_joy_0 13 rfl rfl)
theorem dX1_joy_16 : decode cX1_joy 16 = .ok (.new 256, 3) := dk_187 1 0 (dk_at dksX1_joy_0 16 rfl rfl)
theorem dX1_joy_19 : decode cX1_joy 19 = .ok (.dup, 1) := dk_89 (dk_at dksX1_joy_0 19 rfl rfl)
theorem dX1_joy_20 : decode cX1_joy 20 = .ok (.invokespecial 258, 3) := dk_183 1 2 (dk_at dksX1_joy_0 20 rfl rfl)
theorem dX1_joy_23 : decode cX1_joy 23 = .ok (.athrow, 1) := dk_191 (dk_at dksX1_joy_0 23 rfl rfl)
theorem dX1_joy_24 : decode cX1_joy 24 = .ok (.aload_n 0, 1) := dk_42 (dk_at dksX1_joy_1 0 rfl rfl)
theorem dX1_joy_25 : decode cX1_joy 25 = .ok (.iload_n 1, 1) := dk_27 (dk_at dksX1_joy_1 1 rfl rfl)
theorem dX1_joy_26 : decode cX1_joy 26 = .ok (.iload_n 2, 1) := dk_28 (dk_at dksX1_joy_1 2 rfl rfl)
theorem dX1_joy_27 : decode cX1_joy 27 = .ok (.invokevirtual 249, 3) := dk_182 0 249 (dk_at dksX1_joy_1 3 rfl rfl)
theorem dX1_joy_30 : decode cX1_joy 30 = .ok (.ireturn, 1) := dk_172 (dk_at dksX1_joy_1 6 rfl rfl)
abbrev cX1_row : ByteArray := prog_1_method_114_code
def yX1_row : MethodName := ⟨RX1, "row", "(I)I"⟩
def dkwX1_row_1 : List UInt8 := [42, 180, 0, 99, 27, 46, 172]
abbrev dktX1_row_1 : List UInt8 := dkwX1_row_1 ++ []
def dkwX1_row_0 : List UInt8 := [27, 133, 9, 42, 180, 1, 81, 4, 100, 133, 184, 0, 106, 154, 0, 11, 187, 1, 0, 89, 183, 1, 2, 191]
abbrev dktX1_row_0 : List UInt8 := dkwX1_row_0 ++ dktX1_row_1
theorem dksX1_row_0 : cX1_row.data.toList.drop 0 = dktX1_row_0 := by decide +kernel
theorem dksX1_row_1 : cX1_row.data.toList.drop 24 = dktX1_row_1 := dk_seg dksX1_row_0 24 rfl rfl
theorem dX1_row_0 : decode cX1_row 0 = .ok (.iload_n 1, 1) := dk_27 (dk_at dksX1_row_0 0 rfl rfl)
theorem dX1_row_1 : decode cX1_row 1 = .ok (.i2l, 1) := dk_133 (dk_at dksX1_row_0 1 rfl rfl)
theorem dX1_row_2 : decode cX1_row 2 = .ok (.lconst 0, 1) := dk_9 (dk_at dksX1_row_0 2 rfl rfl)
theorem dX1_row_3 : decode cX1_row 3 = .ok (.aload_n 0, 1) := dk_42 (dk_at dksX1_row_0 3 rfl rfl)
theorem dX1_row_4 : decode cX1_row 4 = .ok (.getfield 337, 3) := dk_180 1 81 (dk_at dksX1_row_0 4 rfl rfl)
theorem dX1_row_7 : decode cX1_row 7 = .ok (.iconst 1, 1) := dk_4 (dk_at dksX1_row_0 7 rfl rfl)
theorem dX1_row_8 : decode cX1_row 8 = .ok (.isub, 1) := dk_100 (dk_at dksX1_row_0 8 rfl rfl)
theorem dX1_row_9 : decode cX1_row 9 = .ok (.i2l, 1) := dk_133 (dk_at dksX1_row_0 9 rfl rfl)
theorem dX1_row_10 : decode cX1_row 10 = .ok (.invokestatic 106, 3) := dk_184 0 106 (dk_at dksX1_row_0 10 rfl rfl)
theorem dX1_row_13 : decode cX1_row 13 = .ok (.ifCond .ne 11, 3) := dk_154 0 11 (dk_at dksX1_row_0 13 rfl rfl)
theorem dX1_row_16 : decode cX1_row 16 = .ok (.new 256, 3) := dk_187 1 0 (dk_at dksX1_row_0 16 rfl rfl)
theorem dX1_row_19 : decode cX1_row 19 = .ok (.dup, 1) := dk_89 (dk_at dksX1_row_0 19 rfl rfl)
theorem dX1_row_20 : decode cX1_row 20 = .ok (.invokespecial 258, 3) := dk_183 1 2 (dk_at dksX1_row_0 20 rfl rfl)
theorem dX1_row_23 : decode cX1_row 23 = .ok (.athrow, 1) := dk_191 (dk_at dksX1_row_0 23 rfl rfl)
theorem dX1_row_24 : decode cX1_row 24 = .ok (.aload_n 0, 1) := dk_42 (dk_at dksX1_row_1 0 rfl rfl)
theorem dX1_row_25 : decode cX1_row 25 = .ok (.getfield 99, 3) := dk_180 0 99 (dk_at dksX1_row_1 1 rfl rfl)
theorem dX1_row_28 : decode cX1_row 28 = .ok (.iload_n 1, 1) := dk_27 (dk_at dksX1_row_1 4 rfl rfl)
theorem dX1_row_29 : decode cX1_row 29 = .ok (.iaload, 1) := dk_46 (dk_at dksX1_row_1 5 rfl rfl)
theorem dX1_row_30 : decode cX1_row 30 = .ok (.ireturn, 1) := dk_172 (dk_at dksX1_row_1 6 rfl rfl)
theorem q117 : (Jvm.Cond.initialized "NextMustShare") ∈ lw_all := lw_g (lw_at lw_m1 1 rfl) rfl
theorem q137 : (Jvm.Cond.instantiable "NextMustShare" (45 : Nat)) ∈ lw_all := lw_g (lw_at lw_m1 21 rfl) rfl
theorem q139 : (Jvm.Cond.instanceMethod ({ cls := "NextMustShare", name := "<init>", desc := "()V" } : Jvm.MethodName)) ∈ lw_all := lw_g (lw_at lw_m1 23 rfl) rfl
theorem q140 : (Jvm.Cond.code ({ cls := "NextMustShare", name := "<init>", desc := "()V" } : Jvm.MethodName) prog_1_method_3_code (2 : Nat) (Option.none : Option Jvm.ClassFile.FieldType)) ∈ lw_all := lw_g (lw_at lw_m1 24 rfl) rfl
theorem q141 : (Jvm.Cond.methodLink "NextMustShare" (3 : Nat) ({ cls := "java/lang/Object", name := "<init>", desc := "()V" } : Jvm.MethodName)) ∈ lw_all := lw_g (lw_at lw_m1 25 rfl) rfl
theorem q145 : (Jvm.Cond.fieldLink "NextMustShare" (9 : Nat) "NextMustShare" "stuffs" "[I") ∈ lw_all := lw_g (lw_at lw_m1 29 rfl) rfl
theorem q147 : (Jvm.Cond.fieldLink "NextMustShare" (13 : Nat) "NextMustShare" "cost" "[I") ∈ lw_all := lw_g (lw_at lw_m1 31 rfl) rfl
theorem q149 : (Jvm.Cond.fieldLink "NextMustShare" (16 : Nat) "NextMustShare" "hours" "[I") ∈ lw_all := lw_g (lw_at lw_m1 33 rfl) rfl
theorem q151 : (Jvm.Cond.fieldLink "NextMustShare" (19 : Nat) "NextMustShare" "loves" "[I") ∈ lw_all := lw_g (lw_at lw_m1 35 rfl) rfl
theorem q153 : (Jvm.Cond.fieldLink "NextMustShare" (22 : Nat) "NextMustShare" "bars" "[I") ∈ lw_all := lw_g (lw_at lw_m1 37 rfl) rfl
theorem q154 : (Jvm.Cond.fieldLink "NextMustShare" (25 : Nat) "NextMustShare" "stores" "[I") ∈ lw_all := lw_g (lw_at lw_m1 38 rfl) rfl
theorem q155 : (Jvm.Cond.fieldLink "NextMustShare" (28 : Nat) "NextMustShare" "law" "[I") ∈ lw_all := lw_g (lw_at lw_m1 39 rfl) rfl
theorem q156 : (Jvm.Cond.fieldLink "NextMustShare" (31 : Nat) "NextMustShare" "served" "[I") ∈ lw_all := lw_g (lw_at lw_m1 40 rfl) rfl
theorem q157 : (Jvm.Cond.fieldLink "NextMustShare" (102 : Nat) "NextMustShare" "dishes" "I") ∈ lw_all := lw_g (lw_at lw_m1 41 rfl) rfl
theorem q158 : (Jvm.Cond.fieldLink "NextMustShare" (110 : Nat) "NextMustShare" "guests" "I") ∈ lw_all := lw_g (lw_at lw_m1 42 rfl) rfl
theorem q160 : (Jvm.Cond.fieldLink "NextMustShare" (178 : Nat) "NextMustShare" "hot" "I") ∈ lw_all := lw_g (lw_at lw_m1 44 rfl) rfl
theorem q161 : (Jvm.Cond.fieldLink "NextMustShare" (303 : Nat) "NextMustShare" "servedMany" "I") ∈ lw_all := lw_g (lw_at lw_m1 45 rfl) rfl
theorem q162 : (Jvm.Cond.fieldLink "NextMustShare" (34 : Nat) "NextMustShare" "text" "[I") ∈ lw_all := lw_g (lw_at lw_m1 46 rfl) rfl
theorem q163 : (Jvm.Cond.fieldLink "NextMustShare" (113 : Nat) "NextMustShare" "signMany" "I") ∈ lw_all := lw_g (lw_at lw_m1 47 rfl) rfl
theorem q164 : (Jvm.Cond.fieldLink "NextMustShare" (116 : Nat) "NextMustShare" "at" "I") ∈ lw_all := lw_g (lw_at lw_m1 48 rfl) rfl
theorem q165 : (Jvm.Cond.fieldLink "NextMustShare" (128 : Nat) "NextMustShare" "end" "I") ∈ lw_all := lw_g (lw_at lw_m1 49 rfl) rfl
theorem q166 : (Jvm.Cond.fieldLink "NextMustShare" (119 : Nat) "NextMustShare" "nest" "I") ∈ lw_all := lw_g (lw_at lw_m1 50 rfl) rfl
theorem q167 : (Jvm.Cond.fieldLink "NextMustShare" (37 : Nat) "NextMustShare" "readStuffs" "[I") ∈ lw_all := lw_g (lw_at lw_m1 51 rfl) rfl
theorem q168 : (Jvm.Cond.fieldLink "NextMustShare" (40 : Nat) "NextMustShare" "readCost" "[I") ∈ lw_all := lw_g (lw_at lw_m1 52 rfl) rfl
theorem q169 : (Jvm.Cond.fieldLink "NextMustShare" (43 : Nat) "NextMustShare" "readHours" "[I") ∈ lw_all := lw_g (lw_at lw_m1 53 rfl) rfl
theorem q170 : (Jvm.Cond.fieldLink "NextMustShare" (46 : Nat) "NextMustShare" "readLoves" "[I") ∈ lw_all := lw_g (lw_at lw_m1 54 rfl) rfl
theorem q171 : (Jvm.Cond.fieldLink "NextMustShare" (49 : Nat) "NextMustShare" "readBars" "[I") ∈ lw_all := lw_g (lw_at lw_m1 55 rfl) rfl
theorem q172 : (Jvm.Cond.fieldLink "NextMustShare" (156 : Nat) "NextMustShare" "readDishes" "I") ∈ lw_all := lw_g (lw_at lw_m1 56 rfl) rfl
theorem q173 : (Jvm.Cond.fieldLink "NextMustShare" (172 : Nat) "NextMustShare" "readGuests" "I") ∈ lw_all := lw_g (lw_at lw_m1 57 rfl) rfl
theorem q174 : (Jvm.Cond.fieldLink "NextMustShare" (166 : Nat) "NextMustShare" "readHot" "I") ∈ lw_all := lw_g (lw_at lw_m1 58 rfl) rfl
theorem q175 : (Jvm.Cond.fieldLink "NextMustShare" (233 : Nat) "NextMustShare" "rule" "LNextMustShare$Node;") ∈ lw_all := lw_g (lw_at lw_m1 59 rfl) rfl
theorem q176 : (Jvm.Cond.fieldLink "NextMustShare" (52 : Nat) "NextMustShare" "menu" "[I") ∈ lw_all := lw_g (lw_at lw_m1 60 rfl) rfl
theorem q177 : (Jvm.Cond.fieldLink "NextMustShare" (55 : Nat) "NextMustShare" "menuMany" "[I") ∈ lw_all := lw_g (lw_at lw_m1 61 rfl) rfl
theorem q178 : (Jvm.Cond.fieldLink "NextMustShare" (58 : Nat) "NextMustShare" "readMenu" "[I") ∈ lw_all := lw_g (lw_at lw_m1 62 rfl) rfl
theorem q179 : (Jvm.Cond.fieldLink "NextMustShare" (331 : Nat) "NextMustShare" "whyThen" "I") ∈ lw_all := lw_g (lw_at lw_m1 63 rfl) rfl
theorem q180 : (Jvm.Cond.fieldLink "NextMustShare" (61 : Nat) "NextMustShare" "fine" "[I") ∈ lw_all := lw_g (lw_at lw_m1 64 rfl) rfl
theorem q181 : (Jvm.Cond.fieldLink "NextMustShare" (64 : Nat) "NextMustShare" "lasts" "[I") ∈ lw_all := lw_g (lw_at lw_m1 65 rfl) rfl
theorem q182 : (Jvm.Cond.fieldLink "NextMustShare" (67 : Nat) "NextMustShare" "value" "[I") ∈ lw_all := lw_g (lw_at lw_m1 66 rfl) rfl
theorem q183 : (Jvm.Cond.fieldLink "NextMustShare" (70 : Nat) "NextMustShare" "length" "[I") ∈ lw_all := lw_g (lw_at lw_m1 67 rfl) rfl
theorem q184 : (Jvm.Cond.fieldLink "NextMustShare" (73 : Nat) "NextMustShare" "many" "[J") ∈ lw_all := lw_g (lw_at lw_m1 68 rfl) rfl
theorem q185 : (Jvm.Cond.fieldLink "NextMustShare" (354 : Nat) "NextMustShare" "allowed" "I") ∈ lw_all := lw_g (lw_at lw_m1 69 rfl) rfl
theorem q186 : (Jvm.Cond.fieldLink "NextMustShare" (77 : Nat) "NextMustShare" "worth" "[I") ∈ lw_all := lw_g (lw_at lw_m1 70 rfl) rfl
theorem q187 : (Jvm.Cond.fieldLink "NextMustShare" (80 : Nat) "NextMustShare" "greedyValue" "[I") ∈ lw_all := lw_g (lw_at lw_m1 71 rfl) rfl
theorem q188 : (Jvm.Cond.fieldLink "NextMustShare" (83 : Nat) "NextMustShare" "greedyLength" "[I") ∈ lw_all := lw_g (lw_at lw_m1 72 rfl) rfl
theorem q189 : (Jvm.Cond.fieldLink "NextMustShare" (86 : Nat) "NextMustShare" "freeAt" "[I") ∈ lw_all := lw_g (lw_at lw_m1 73 rfl) rfl
theorem q190 : (Jvm.Cond.fieldLink "NextMustShare" (89 : Nat) "NextMustShare" "wideLasts" "[I") ∈ lw_all := lw_g (lw_at lw_m1 74 rfl) rfl
theorem q191 : (Jvm.Cond.fieldLink "NextMustShare" (92 : Nat) "NextMustShare" "kept" "[I") ∈ lw_all := lw_g (lw_at lw_m1 75 rfl) rfl
theorem q192 : (Jvm.Cond.fieldLink "NextMustShare" (95 : Nat) "NextMustShare" "isKept" "[Z") ∈ lw_all := lw_g (lw_at lw_m1 76 rfl) rfl
theorem q193 : (Jvm.Cond.fieldLink "NextMustShare" (99 : Nat) "NextMustShare" "row" "[I") ∈ lw_all := lw_g (lw_at lw_m1 77 rfl) rfl
theorem q194 : (Jvm.Cond.fieldLink "NextMustShare" (337 : Nat) "NextMustShare" "rowMany" "I") ∈ lw_all := lw_g (lw_at lw_m1 78 rfl) rfl
theorem q195 : (Jvm.Cond.laysFinal "NextMustShare" "NextMustShare" "stuffs" "[I") ∈ lw_all := lw_g (lw_at lw_m1 79 rfl) rfl
theorem q196 : (Jvm.Cond.soleField "NextMustShare" "stuffs") ∈ lw_all := lw_g (lw_at lw_m1 80 rfl) rfl
theorem q197 : (Jvm.Cond.laysFinal "NextMustShare" "NextMustShare" "cost" "[I") ∈ lw_all := lw_g (lw_at lw_m1 81 rfl) rfl
theorem q198 : (Jvm.Cond.soleField "NextMustShare" "cost") ∈ lw_all := lw_g (lw_at lw_m1 82 rfl) rfl
theorem q199 : (Jvm.Cond.laysFinal "NextMustShare" "NextMustShare" "hours" "[I") ∈ lw_all := lw_g (lw_at lw_m1 83 rfl) rfl
theorem q200 : (Jvm.Cond.soleField "NextMustShare" "hours") ∈ lw_all := lw_g (lw_at lw_m1 84 rfl) rfl
theorem q201 : (Jvm.Cond.laysFinal "NextMustShare" "NextMustShare" "loves" "[I") ∈ lw_all := lw_g (lw_at lw_m1 85 rfl) rfl
theorem q202 : (Jvm.Cond.soleField "NextMustShare" "loves") ∈ lw_all := lw_g (lw_at lw_m1 86 rfl) rfl
theorem q203 : (Jvm.Cond.laysFinal "NextMustShare" "NextMustShare" "bars" "[I") ∈ lw_all := lw_g (lw_at lw_m1 87 rfl) rfl
theorem q204 : (Jvm.Cond.soleField "NextMustShare" "bars") ∈ lw_all := lw_g (lw_at lw_m1 88 rfl) rfl
theorem q205 : (Jvm.Cond.laysFinal "NextMustShare" "NextMustShare" "stores" "[I") ∈ lw_all := lw_g (lw_at lw_m1 89 rfl) rfl
theorem q206 : (Jvm.Cond.soleField "NextMustShare" "stores") ∈ lw_all := lw_g (lw_at lw_m1 90 rfl) rfl
theorem q207 : (Jvm.Cond.laysFinal "NextMustShare" "NextMustShare" "law" "[I") ∈ lw_all := lw_g (lw_at lw_m1 91 rfl) rfl
theorem q208 : (Jvm.Cond.soleField "NextMustShare" "law") ∈ lw_all := lw_g (lw_at lw_m1 92 rfl) rfl
theorem q209 : (Jvm.Cond.laysFinal "NextMustShare" "NextMustShare" "served" "[I") ∈ lw_all := lw_g (lw_at lw_m1 93 rfl) rfl
theorem q210 : (Jvm.Cond.soleField "NextMustShare" "served") ∈ lw_all := lw_g (lw_at lw_m1 94 rfl) rfl
theorem q211 : (Jvm.Cond.lays "NextMustShare" "NextMustShare" "dishes" "I") ∈ lw_all := lw_g (lw_at lw_m1 95 rfl) rfl
theorem q212 : (Jvm.Cond.soleField "NextMustShare" "dishes") ∈ lw_all := lw_g (lw_at lw_m1 96 rfl) rfl
theorem q213 : (Jvm.Cond.lays "NextMustShare" "NextMustShare" "guests" "I") ∈ lw_all := lw_g (lw_at lw_m1 97 rfl) rfl
theorem q214 : (Jvm.Cond.soleField "NextMustShare" "guests") ∈ lw_all := lw_g (lw_at lw_m1 98 rfl) rfl
theorem q215 : (Jvm.Cond.lays "NextMustShare" "NextMustShare" "hot" "I") ∈ lw_all := lw_g (lw_at lw_m1 99 rfl) rfl
theorem q216 : (Jvm.Cond.soleField "NextMustShare" "hot") ∈ lw_all := lw_g (lw_at lw_m1 100 rfl) rfl
theorem q217 : (Jvm.Cond.lays "NextMustShare" "NextMustShare" "servedMany" "I") ∈ lw_all := lw_g (lw_at lw_m1 101 rfl) rfl
theorem q218 : (Jvm.Cond.soleField "NextMustShare" "servedMany") ∈ lw_all := lw_g (lw_at lw_m1 102 rfl) rfl
theorem q219 : (Jvm.Cond.laysFinal "NextMustShare" "NextMustShare" "text" "[I") ∈ lw_all := lw_g (lw_at lw_m1 103 rfl) rfl
theorem q220 : (Jvm.Cond.soleField "NextMustShare" "text") ∈ lw_all := lw_g (lw_at lw_m1 104 rfl) rfl
theorem q221 : (Jvm.Cond.lays "NextMustShare" "NextMustShare" "signMany" "I") ∈ lw_all := lw_g (lw_at lw_m1 105 rfl) rfl
theorem q222 : (Jvm.Cond.soleField "NextMustShare" "signMany") ∈ lw_all := lw_g (lw_at lw_m1 106 rfl) rfl
theorem q223 : (Jvm.Cond.lays "NextMustShare" "NextMustShare" "at" "I") ∈ lw_all := lw_g (lw_at lw_m1 107 rfl) rfl
theorem q224 : (Jvm.Cond.soleField "NextMustShare" "at") ∈ lw_all := lw_g (lw_at lw_m1 108 rfl) rfl
theorem q225 : (Jvm.Cond.lays "NextMustShare" "NextMustShare" "end" "I") ∈ lw_all := lw_g (lw_at lw_m1 109 rfl) rfl
theorem q226 : (Jvm.Cond.soleField "NextMustShare" "end") ∈ lw_all := lw_g (lw_at lw_m1 110 rfl) rfl
theorem q227 : (Jvm.Cond.lays "NextMustShare" "NextMustShare" "nest" "I") ∈ lw_all := lw_g (lw_at lw_m1 111 rfl) rfl
theorem q228 : (Jvm.Cond.soleField "NextMustShare" "nest") ∈ lw_all := lw_g (lw_at lw_m1 112 rfl) rfl
theorem q229 : (Jvm.Cond.laysFinal "NextMustShare" "NextMustShare" "readStuffs" "[I") ∈ lw_all := lw_g (lw_at lw_m1 113 rfl) rfl
theorem q230 : (Jvm.Cond.soleField "NextMustShare" "readStuffs") ∈ lw_all := lw_g (lw_at lw_m1 114 rfl) rfl
theorem q231 : (Jvm.Cond.laysFinal "NextMustShare" "NextMustShare" "readCost" "[I") ∈ lw_all := lw_g (lw_at lw_m1 115 rfl) rfl
theorem q232 : (Jvm.Cond.soleField "NextMustShare" "readCost") ∈ lw_all := lw_g (lw_at lw_m1 116 rfl) rfl
theorem q233 : (Jvm.Cond.laysFinal "NextMustShare" "NextMustShare" "readHours" "[I") ∈ lw_all := lw_g (lw_at lw_m1 117 rfl) rfl
theorem q234 : (Jvm.Cond.soleField "NextMustShare" "readHours") ∈ lw_all := lw_g (lw_at lw_m1 118 rfl) rfl
theorem q235 : (Jvm.Cond.laysFinal "NextMustShare" "NextMustShare" "readLoves" "[I") ∈ lw_all := lw_g (lw_at lw_m1 119 rfl) rfl
theorem q236 : (Jvm.Cond.soleField "NextMustShare" "readLoves") ∈ lw_all := lw_g (lw_at lw_m1 120 rfl) rfl
theorem q237 : (Jvm.Cond.laysFinal "NextMustShare" "NextMustShare" "readBars" "[I") ∈ lw_all := lw_g (lw_at lw_m1 121 rfl) rfl
theorem q238 : (Jvm.Cond.soleField "NextMustShare" "readBars") ∈ lw_all := lw_g (lw_at lw_m1 122 rfl) rfl
theorem q239 : (Jvm.Cond.lays "NextMustShare" "NextMustShare" "readDishes" "I") ∈ lw_all := lw_g (lw_at lw_m1 123 rfl) rfl
theorem q240 : (Jvm.Cond.soleField "NextMustShare" "readDishes") ∈ lw_all := lw_g (lw_at lw_m1 124 rfl) rfl
theorem q241 : (Jvm.Cond.lays "NextMustShare" "NextMustShare" "readGuests" "I") ∈ lw_all := lw_g (lw_at lw_m1 125 rfl) rfl
theorem q242 : (Jvm.Cond.soleField "NextMustShare" "readGuests") ∈ lw_all := lw_g (lw_at lw_m1 126 rfl) rfl
theorem q243 : (Jvm.Cond.lays "NextMustShare" "NextMustShare" "readHot" "I") ∈ lw_all := lw_g (lw_at lw_m1 127 rfl) rfl
theorem q244 : (Jvm.Cond.soleField "NextMustShare" "readHot") ∈ lw_all := lw_g (lw_at lw_m1 128 rfl) rfl
theorem q245 : (Jvm.Cond.lays "NextMustShare" "NextMustShare" "rule" "LNextMustShare$Node;") ∈ lw_all := lw_g (lw_at lw_m1 129 rfl) rfl
theorem q246 : (Jvm.Cond.soleField "NextMustShare" "rule") ∈ lw_all := lw_g (lw_at lw_m1 130 rfl) rfl
theorem q247 : (Jvm.Cond.laysFinal "NextMustShare" "NextMustShare" "menu" "[I") ∈ lw_all := lw_g (lw_at lw_m1 131 rfl) rfl
theorem q248 : (Jvm.Cond.soleField "NextMustShare" "menu") ∈ lw_all := lw_g (lw_at lw_m1 132 rfl) rfl
theorem q249 : (Jvm.Cond.laysFinal "NextMustShare" "NextMustShare" "menuMany" "[I") ∈ lw_all := lw_g (lw_at lw_m1 133 rfl) rfl
theorem q250 : (Jvm.Cond.soleField "NextMustShare" "menuMany") ∈ lw_all := lw_g (lw_at lw_m1 134 rfl) rfl
theorem q251 : (Jvm.Cond.laysFinal "NextMustShare" "NextMustShare" "readMenu" "[I") ∈ lw_all := lw_g (lw_at lw_m1 135 rfl) rfl
theorem q252 : (Jvm.Cond.soleField "NextMustShare" "readMenu") ∈ lw_all := lw_g (lw_at lw_m1 136 rfl) rfl
theorem q253 : (Jvm.Cond.lays "NextMustShare" "NextMustShare" "whyThen" "I") ∈ lw_all := lw_g (lw_at lw_m1 137 rfl) rfl
theorem q254 : (Jvm.Cond.soleField "NextMustShare" "whyThen") ∈ lw_all := lw_g (lw_at lw_m1 138 rfl) rfl
theorem q255 : (Jvm.Cond.laysFinal "NextMustShare" "NextMustShare" "fine" "[I") ∈ lw_all := lw_g (lw_at lw_m1 139 rfl) rfl
theorem q256 : (Jvm.Cond.soleField "NextMustShare" "fine") ∈ lw_all := lw_g (lw_at lw_m1 140 rfl) rfl
theorem q257 : (Jvm.Cond.laysFinal "NextMustShare" "NextMustShare" "lasts" "[I") ∈ lw_all := lw_g (lw_at lw_m1 141 rfl) rfl
theorem q258 : (Jvm.Cond.soleField "NextMustShare" "lasts") ∈ lw_all := lw_g (lw_at lw_m1 142 rfl) rfl
theorem q259 : (Jvm.Cond.laysFinal "NextMustShare" "NextMustShare" "value" "[I") ∈ lw_all := lw_g (lw_at lw_m1 143 rfl) rfl
theorem q260 : (Jvm.Cond.soleField "NextMustShare" "value") ∈ lw_all := lw_g (lw_at lw_m1 144 rfl) rfl
theorem q261 : (Jvm.Cond.laysFinal "NextMustShare" "NextMustShare" "length" "[I") ∈ lw_all := lw_g (lw_at lw_m1 145 rfl) rfl
theorem q262 : (Jvm.Cond.soleField "NextMustShare" "length") ∈ lw_all := lw_g (lw_at lw_m1 146 rfl) rfl
theorem q263 : (Jvm.Cond.laysFinal "NextMustShare" "NextMustShare" "many" "[J") ∈ lw_all := lw_g (lw_at lw_m1 147 rfl) rfl
theorem q264 : (Jvm.Cond.soleField "NextMustShare" "many") ∈ lw_all := lw_g (lw_at lw_m1 148 rfl) rfl
theorem q265 : (Jvm.Cond.lays "NextMustShare" "NextMustShare" "allowed" "I") ∈ lw_all := lw_g (lw_at lw_m1 149 rfl) rfl
theorem q266 : (Jvm.Cond.soleField "NextMustShare" "allowed") ∈ lw_all := lw_g (lw_at lw_m1 150 rfl) rfl
theorem q267 : (Jvm.Cond.laysFinal "NextMustShare" "NextMustShare" "worth" "[I") ∈ lw_all := lw_g (lw_at lw_m1 151 rfl) rfl
theorem q268 : (Jvm.Cond.soleField "NextMustShare" "worth") ∈ lw_all := lw_g (lw_at lw_m1 152 rfl) rfl
theorem q269 : (Jvm.Cond.laysFinal "NextMustShare" "NextMustShare" "greedyValue" "[I") ∈ lw_all := lw_g (lw_at lw_m1 153 rfl) rfl
theorem q270 : (Jvm.Cond.soleField "NextMustShare" "greedyValue") ∈ lw_all := lw_g (lw_at lw_m1 154 rfl) rfl
theorem q271 : (Jvm.Cond.laysFinal "NextMustShare" "NextMustShare" "greedyLength" "[I") ∈ lw_all := lw_g (lw_at lw_m1 155 rfl) rfl
theorem q272 : (Jvm.Cond.soleField "NextMustShare" "greedyLength") ∈ lw_all := lw_g (lw_at lw_m1 156 rfl) rfl
theorem q273 : (Jvm.Cond.laysFinal "NextMustShare" "NextMustShare" "freeAt" "[I") ∈ lw_all := lw_g (lw_at lw_m1 157 rfl) rfl
theorem q274 : (Jvm.Cond.soleField "NextMustShare" "freeAt") ∈ lw_all := lw_g (lw_at lw_m1 158 rfl) rfl
theorem q275 : (Jvm.Cond.laysFinal "NextMustShare" "NextMustShare" "wideLasts" "[I") ∈ lw_all := lw_g (lw_at lw_m1 159 rfl) rfl
theorem q276 : (Jvm.Cond.soleField "NextMustShare" "wideLasts") ∈ lw_all := lw_g (lw_at lw_m1 160 rfl) rfl
theorem q277 : (Jvm.Cond.laysFinal "NextMustShare" "NextMustShare" "kept" "[I") ∈ lw_all := lw_g (lw_at lw_m1 161 rfl) rfl
theorem q278 : (Jvm.Cond.soleField "NextMustShare" "kept") ∈ lw_all := lw_g (lw_at lw_m1 162 rfl) rfl
theorem q279 : (Jvm.Cond.laysFinal "NextMustShare" "NextMustShare" "isKept" "[Z") ∈ lw_all := lw_g (lw_at lw_m1 163 rfl) rfl
theorem q280 : (Jvm.Cond.soleField "NextMustShare" "isKept") ∈ lw_all := lw_g (lw_at lw_m1 164 rfl) rfl
theorem q281 : (Jvm.Cond.laysFinal "NextMustShare" "NextMustShare" "row" "[I") ∈ lw_all := lw_g (lw_at lw_m1 165 rfl) rfl
theorem q282 : (Jvm.Cond.soleField "NextMustShare" "row") ∈ lw_all := lw_g (lw_at lw_m1 166 rfl) rfl
theorem q283 : (Jvm.Cond.lays "NextMustShare" "NextMustShare" "rowMany" "I") ∈ lw_all := lw_g (lw_at lw_m1 167 rfl) rfl
theorem q284 : (Jvm.Cond.soleField "NextMustShare" "rowMany") ∈ lw_all := lw_g (lw_at lw_m1 168 rfl) rfl
theorem q285 : (Jvm.Cond.superclass "NextMustShare" "java/lang/Object") ∈ lw_all := lw_g (lw_at lw_m1 169 rfl) rfl
theorem q290 : (Jvm.Cond.instanceMethod ({ cls := "NextMustShare", name := "sign", desc := "(I)I" } : Jvm.MethodName)) ∈ lw_all := lw_g (lw_at lw_m1 174 rfl) rfl
theorem q291 : (Jvm.Cond.selects "NextMustShare" ({ cls := "NextMustShare", name := "sign", desc := "(I)I" } : Jvm.MethodName) ({ cls := "NextMustShare", name := "sign", desc := "(I)I" } : Jvm.MethodName)) ∈ lw_all := lw_g (lw_at lw_m1 175 rfl) rfl
theorem q292 : (Jvm.Cond.code ({ cls := "NextMustShare", name := "sign", desc := "(I)I" } : Jvm.MethodName) prog_1_method_6_code (3 : Nat) (Option.some Jvm.ClassFile.FieldType.int)) ∈ lw_all := lw_g (lw_at lw_m1 176 rfl) rfl
theorem q294 : (Jvm.Cond.instanceMethod ({ cls := "NextMustShare", name := "end", desc := "(I)Z" } : Jvm.MethodName)) ∈ lw_all := lw_g (lw_at lw_m1 178 rfl) rfl
theorem q295 : (Jvm.Cond.selects "NextMustShare" ({ cls := "NextMustShare", name := "end", desc := "(I)Z" } : Jvm.MethodName) ({ cls := "NextMustShare", name := "end", desc := "(I)Z" } : Jvm.MethodName)) ∈ lw_all := lw_g (lw_at lw_m1 179 rfl) rfl
theorem q296 : (Jvm.Cond.code ({ cls := "NextMustShare", name := "end", desc := "(I)Z" } : Jvm.MethodName) prog_1_method_7_code (2 : Nat) (Option.some Jvm.ClassFile.FieldType.boolean)) ∈ lw_all := lw_g (lw_at lw_m1 180 rfl) rfl
theorem q297 : (Jvm.Cond.methodLink "NextMustShare" (106 : Nat) ({ cls := "NextMustShare", name := "in", desc := "(JJJ)Z" } : Jvm.MethodName)) ∈ lw_all := lw_g (lw_at lw_m1 181 rfl) rfl
theorem q298 : (Jvm.Cond.static ({ cls := "NextMustShare", name := "in", desc := "(JJJ)Z" } : Jvm.MethodName)) ∈ lw_all := lw_g (lw_at lw_m1 182 rfl) rfl
theorem q299 : (Jvm.Cond.code ({ cls := "NextMustShare", name := "in", desc := "(JJJ)Z" } : Jvm.MethodName) prog_1_method_1_code (6 : Nat) (Option.some Jvm.ClassFile.FieldType.boolean)) ∈ lw_all := lw_g (lw_at lw_m1 183 rfl) rfl
theorem q301 : (Jvm.Cond.instanceMethod ({ cls := "NextMustShare", name := "kitchen", desc := "()I" } : Jvm.MethodName)) ∈ lw_all := lw_g (lw_at lw_m1 185 rfl) rfl
theorem q302 : (Jvm.Cond.selects "NextMustShare" ({ cls := "NextMustShare", name := "kitchen", desc := "()I" } : Jvm.MethodName) ({ cls := "NextMustShare", name := "kitchen", desc := "()I" } : Jvm.MethodName)) ∈ lw_all := lw_g (lw_at lw_m1 186 rfl) rfl
theorem q303 : (Jvm.Cond.code ({ cls := "NextMustShare", name := "kitchen", desc := "()I" } : Jvm.MethodName) prog_1_method_19_code (7 : Nat) (Option.some Jvm.ClassFile.FieldType.int)) ∈ lw_all := lw_g (lw_at lw_m1 187 rfl) rfl
theorem q304 : (Jvm.Cond.methodLink "NextMustShare" (175 : Nat) ({ cls := "NextMustShare", name := "begins", desc := "(I)I" } : Jvm.MethodName)) ∈ lw_all := lw_g (lw_at lw_m1 188 rfl) rfl
theorem q305 : (Jvm.Cond.privateMethod ({ cls := "NextMustShare", name := "begins", desc := "(I)I" } : Jvm.MethodName)) ∈ lw_tbl := lw_at lw_m1 189 rfl
theorem q306 : (Jvm.Cond.instanceMethod ({ cls := "NextMustShare", name := "begins", desc := "(I)I" } : Jvm.MethodName)) ∈ lw_all := lw_g (lw_at lw_m1 190 rfl) rfl
theorem q307 : (Jvm.Cond.code ({ cls := "NextMustShare", name := "begins", desc := "(I)I" } : Jvm.MethodName) prog_1_method_8_code (3 : Nat) (Option.some Jvm.ClassFile.FieldType.int)) ∈ lw_all := lw_g (lw_at lw_m1 191 rfl) rfl
theorem q308 : (Jvm.Cond.methodLink "NextMustShare" (122 : Nat) ({ cls := "java/lang/Math", name := "min", desc := "(II)I" } : Jvm.MethodName)) ∈ lw_all := lw_g (lw_at lw_m1 192 rfl) rfl
theorem q311 : (Jvm.Cond.methodLink "NextMustShare" (131 : Nat) ({ cls := "NextMustShare", name := "isAt", desc := "(C)Z" } : Jvm.MethodName)) ∈ lw_all := lw_g (lw_at lw_m1 195 rfl) rfl
theorem q312 : (Jvm.Cond.privateMethod ({ cls := "NextMustShare", name := "isAt", desc := "(C)Z" } : Jvm.MethodName)) ∈ lw_tbl := lw_at lw_m1 196 rfl
theorem q313 : (Jvm.Cond.instanceMethod ({ cls := "NextMustShare", name := "isAt", desc := "(C)Z" } : Jvm.MethodName)) ∈ lw_all := lw_g (lw_at lw_m1 197 rfl) rfl
theorem q314 : (Jvm.Cond.code ({ cls := "NextMustShare", name := "isAt", desc := "(C)Z" } : Jvm.MethodName) prog_1_method_9_code (2 : Nat) (Option.some Jvm.ClassFile.FieldType.boolean)) ∈ lw_all := lw_g (lw_at lw_m1 198 rfl) rfl
theorem q315 : (Jvm.Cond.methodLink "NextMustShare" (181 : Nat) ({ cls := "NextMustShare", name := "readsGuest", desc := "()Z" } : Jvm.MethodName)) ∈ lw_all := lw_g (lw_at lw_m1 199 rfl) rfl
theorem q316 : (Jvm.Cond.privateMethod ({ cls := "NextMustShare", name := "readsGuest", desc := "()Z" } : Jvm.MethodName)) ∈ lw_tbl := lw_at lw_m1 200 rfl
theorem q317 : (Jvm.Cond.instanceMethod ({ cls := "NextMustShare", name := "readsGuest", desc := "()Z" } : Jvm.MethodName)) ∈ lw_all := lw_g (lw_at lw_m1 201 rfl) rfl
theorem q318 : (Jvm.Cond.code ({ cls := "NextMustShare", name := "readsGuest", desc := "()Z" } : Jvm.MethodName) prog_1_method_18_code (2 : Nat) (Option.some Jvm.ClassFile.FieldType.boolean)) ∈ lw_all := lw_g (lw_at lw_m1 202 rfl) rfl
theorem q319 : (Jvm.Cond.methodLink "NextMustShare" (159 : Nat) ({ cls := "NextMustShare", name := "letters", desc := "()I" } : Jvm.MethodName)) ∈ lw_all := lw_g (lw_at lw_m1 203 rfl) rfl
theorem q320 : (Jvm.Cond.privateMethod ({ cls := "NextMustShare", name := "letters", desc := "()I" } : Jvm.MethodName)) ∈ lw_tbl := lw_at lw_m1 204 rfl
theorem q321 : (Jvm.Cond.instanceMethod ({ cls := "NextMustShare", name := "letters", desc := "()I" } : Jvm.MethodName)) ∈ lw_all := lw_g (lw_at lw_m1 205 rfl) rfl
theorem q322 : (Jvm.Cond.code ({ cls := "NextMustShare", name := "letters", desc := "()I" } : Jvm.MethodName) prog_1_method_16_code (3 : Nat) (Option.some Jvm.ClassFile.FieldType.int)) ∈ lw_all := lw_g (lw_at lw_m1 206 rfl) rfl
theorem q323 : (Jvm.Cond.methodLink "NextMustShare" (153 : Nat) ({ cls := "NextMustShare", name := "isStuff", desc := "()Z" } : Jvm.MethodName)) ∈ lw_all := lw_g (lw_at lw_m1 207 rfl) rfl
theorem q324 : (Jvm.Cond.privateMethod ({ cls := "NextMustShare", name := "isStuff", desc := "()Z" } : Jvm.MethodName)) ∈ lw_tbl := lw_at lw_m1 208 rfl
theorem q325 : (Jvm.Cond.instanceMethod ({ cls := "NextMustShare", name := "isStuff", desc := "()Z" } : Jvm.MethodName)) ∈ lw_all := lw_g (lw_at lw_m1 209 rfl) rfl
theorem q326 : (Jvm.Cond.code ({ cls := "NextMustShare", name := "isStuff", desc := "()Z" } : Jvm.MethodName) prog_1_method_15_code (1 : Nat) (Option.some Jvm.ClassFile.FieldType.boolean)) ∈ lw_all := lw_g (lw_at lw_m1 210 rfl) rfl
theorem q327 : (Jvm.Cond.constantLong "NextMustShare" (149 : Nat) (97 : Int64)) ∈ lw_all := lw_g (lw_at lw_m1 211 rfl) rfl
theorem q328 : (Jvm.Cond.constantLong "NextMustShare" (151 : Nat) (104 : Int64)) ∈ lw_all := lw_g (lw_at lw_m1 212 rfl) rfl
theorem q329 : (Jvm.Cond.methodLink "NextMustShare" (169 : Nat) ({ cls := "NextMustShare", name := "takes", desc := "(C)Z" } : Jvm.MethodName)) ∈ lw_all := lw_g (lw_at lw_m1 213 rfl) rfl
theorem q330 : (Jvm.Cond.privateMethod ({ cls := "NextMustShare", name := "takes", desc := "(C)Z" } : Jvm.MethodName)) ∈ lw_tbl := lw_at lw_m1 214 rfl
theorem q331 : (Jvm.Cond.instanceMethod ({ cls := "NextMustShare", name := "takes", desc := "(C)Z" } : Jvm.MethodName)) ∈ lw_all := lw_g (lw_at lw_m1 215 rfl) rfl
theorem q332 : (Jvm.Cond.code ({ cls := "NextMustShare", name := "takes", desc := "(C)Z" } : Jvm.MethodName) prog_1_method_10_code (3 : Nat) (Option.some Jvm.ClassFile.FieldType.boolean)) ∈ lw_all := lw_g (lw_at lw_m1 216 rfl) rfl
theorem q333 : (Jvm.Cond.methodLink "NextMustShare" (184 : Nat) ({ cls := "NextMustShare", name := "readsDish", desc := "()Z" } : Jvm.MethodName)) ∈ lw_all := lw_g (lw_at lw_m1 217 rfl) rfl
theorem q334 : (Jvm.Cond.privateMethod ({ cls := "NextMustShare", name := "readsDish", desc := "()Z" } : Jvm.MethodName)) ∈ lw_tbl := lw_at lw_m1 218 rfl
theorem q335 : (Jvm.Cond.instanceMethod ({ cls := "NextMustShare", name := "readsDish", desc := "()Z" } : Jvm.MethodName)) ∈ lw_all := lw_g (lw_at lw_m1 219 rfl) rfl
theorem q336 : (Jvm.Cond.code ({ cls := "NextMustShare", name := "readsDish", desc := "()Z" } : Jvm.MethodName) prog_1_method_17_code (2 : Nat) (Option.some Jvm.ClassFile.FieldType.boolean)) ∈ lw_all := lw_g (lw_at lw_m1 220 rfl) rfl
theorem q337 : (Jvm.Cond.methodLink "NextMustShare" (163 : Nat) ({ cls := "NextMustShare", name := "number", desc := "(I)I" } : Jvm.MethodName)) ∈ lw_all := lw_g (lw_at lw_m1 221 rfl) rfl
theorem q338 : (Jvm.Cond.privateMethod ({ cls := "NextMustShare", name := "number", desc := "(I)I" } : Jvm.MethodName)) ∈ lw_tbl := lw_at lw_m1 222 rfl
theorem q339 : (Jvm.Cond.instanceMethod ({ cls := "NextMustShare", name := "number", desc := "(I)I" } : Jvm.MethodName)) ∈ lw_all := lw_g (lw_at lw_m1 223 rfl) rfl
theorem q340 : (Jvm.Cond.code ({ cls := "NextMustShare", name := "number", desc := "(I)I" } : Jvm.MethodName) prog_1_method_13_code (4 : Nat) (Option.some Jvm.ClassFile.FieldType.int)) ∈ lw_all := lw_g (lw_at lw_m1 224 rfl) rfl
theorem q341 : (Jvm.Cond.methodLink "NextMustShare" (145 : Nat) ({ cls := "NextMustShare", name := "isDigit", desc := "()Z" } : Jvm.MethodName)) ∈ lw_all := lw_g (lw_at lw_m1 225 rfl) rfl
theorem q342 : (Jvm.Cond.privateMethod ({ cls := "NextMustShare", name := "isDigit", desc := "()Z" } : Jvm.MethodName)) ∈ lw_tbl := lw_at lw_m1 226 rfl
theorem q343 : (Jvm.Cond.instanceMethod ({ cls := "NextMustShare", name := "isDigit", desc := "()Z" } : Jvm.MethodName)) ∈ lw_all := lw_g (lw_at lw_m1 227 rfl) rfl
theorem q344 : (Jvm.Cond.code ({ cls := "NextMustShare", name := "isDigit", desc := "()Z" } : Jvm.MethodName) prog_1_method_12_code (1 : Nat) (Option.some Jvm.ClassFile.FieldType.boolean)) ∈ lw_all := lw_g (lw_at lw_m1 228 rfl) rfl
theorem q345 : (Jvm.Cond.constantLong "NextMustShare" (141 : Nat) (48 : Int64)) ∈ lw_all := lw_g (lw_at lw_m1 229 rfl) rfl
theorem q346 : (Jvm.Cond.constantLong "NextMustShare" (143 : Nat) (57 : Int64)) ∈ lw_all := lw_g (lw_at lw_m1 230 rfl) rfl
theorem q347 : (Jvm.Cond.methodLink "NextMustShare" (187 : Nat) ({ cls := "NextMustShare", name := "faultOf", desc := "(IZ)I" } : Jvm.MethodName)) ∈ lw_all := lw_g (lw_at lw_m1 231 rfl) rfl
theorem q348 : (Jvm.Cond.privateMethod ({ cls := "NextMustShare", name := "faultOf", desc := "(IZ)I" } : Jvm.MethodName)) ∈ lw_tbl := lw_at lw_m1 232 rfl
theorem q349 : (Jvm.Cond.instanceMethod ({ cls := "NextMustShare", name := "faultOf", desc := "(IZ)I" } : Jvm.MethodName)) ∈ lw_all := lw_g (lw_at lw_m1 233 rfl) rfl
theorem q350 : (Jvm.Cond.code ({ cls := "NextMustShare", name := "faultOf", desc := "(IZ)I" } : Jvm.MethodName) prog_1_method_14_code (4 : Nat) (Option.some Jvm.ClassFile.FieldType.int)) ∈ lw_all := lw_g (lw_at lw_m1 234 rfl) rfl
theorem q352 : (Jvm.Cond.instanceMethod ({ cls := "NextMustShare", name := "rule", desc := "()I" } : Jvm.MethodName)) ∈ lw_all := lw_g (lw_at lw_m1 236 rfl) rfl
theorem q353 : (Jvm.Cond.selects "NextMustShare" ({ cls := "NextMustShare", name := "rule", desc := "()I" } : Jvm.MethodName) ({ cls := "NextMustShare", name := "rule", desc := "()I" } : Jvm.MethodName)) ∈ lw_all := lw_g (lw_at lw_m1 237 rfl) rfl
theorem q354 : (Jvm.Cond.code ({ cls := "NextMustShare", name := "rule", desc := "()I" } : Jvm.MethodName) prog_1_method_23_code (4 : Nat) (Option.some Jvm.ClassFile.FieldType.int)) ∈ lw_all := lw_g (lw_at lw_m1 238 rfl) rfl
theorem q355 : (Jvm.Cond.methodLink "NextMustShare" (214 : Nat) ({ cls := "NextMustShare", name := "reads", desc := "(I)LNextMustShare$Node;" } : Jvm.MethodName)) ∈ lw_all := lw_g (lw_at lw_m1 239 rfl) rfl
theorem q356 : (Jvm.Cond.privateMethod ({ cls := "NextMustShare", name := "reads", desc := "(I)LNextMustShare$Node;" } : Jvm.MethodName)) ∈ lw_tbl := lw_at lw_m2 0 rfl
theorem q357 : (Jvm.Cond.instanceMethod ({ cls := "NextMustShare", name := "reads", desc := "(I)LNextMustShare$Node;" } : Jvm.MethodName)) ∈ lw_all := lw_g (lw_at lw_m2 1 rfl) rfl
theorem q358 : (Jvm.Cond.code ({ cls := "NextMustShare", name := "reads", desc := "(I)LNextMustShare$Node;" } : Jvm.MethodName) prog_1_method_22_code (6 : Nat) (Option.some (Jvm.ClassFile.FieldType.object "NextMustShare$Node"))) ∈ lw_all := lw_g (lw_at lw_m2 2 rfl) rfl
theorem q359 : (Jvm.Cond.methodLink "NextMustShare" (191 : Nat) ({ cls := "NextMustShare", name := "readsThing", desc := "()LNextMustShare$Node;" } : Jvm.MethodName)) ∈ lw_all := lw_g (lw_at lw_m2 3 rfl) rfl
theorem q360 : (Jvm.Cond.privateMethod ({ cls := "NextMustShare", name := "readsThing", desc := "()LNextMustShare$Node;" } : Jvm.MethodName)) ∈ lw_tbl := lw_at lw_m2 4 rfl
theorem q361 : (Jvm.Cond.instanceMethod ({ cls := "NextMustShare", name := "readsThing", desc := "()LNextMustShare$Node;" } : Jvm.MethodName)) ∈ lw_all := lw_g (lw_at lw_m2 5 rfl) rfl
theorem q362 : (Jvm.Cond.code ({ cls := "NextMustShare", name := "readsThing", desc := "()LNextMustShare$Node;" } : Jvm.MethodName) prog_1_method_20_code (2 : Nat) (Option.some (Jvm.ClassFile.FieldType.object "NextMustShare$Node"))) ∈ lw_all := lw_g (lw_at lw_m2 6 rfl) rfl
theorem q363 : (Jvm.Cond.classLink "NextMustShare" (195 : Nat) "NextMustShare$Less") ∈ lw_all := lw_g (lw_at lw_m2 7 rfl) rfl
theorem q365 : (Jvm.Cond.methodLink "NextMustShare" (197 : Nat) ({ cls := "NextMustShare$Less", name := "<init>", desc := "(LNextMustShare;LNextMustShare$Node;)V" } : Jvm.MethodName)) ∈ lw_all := lw_g (lw_at lw_m2 9 rfl) rfl
theorem q382 : (Jvm.Cond.classLink "NextMustShare" (200 : Nat) "NextMustShare$Number") ∈ lw_all := lw_g (lw_at lw_m2 26 rfl) rfl
theorem q384 : (Jvm.Cond.methodLink "NextMustShare" (202 : Nat) ({ cls := "NextMustShare$Number", name := "<init>", desc := "(LNextMustShare;I)V" } : Jvm.MethodName)) ∈ lw_all := lw_g (lw_at lw_m2 28 rfl) rfl
theorem q396 : (Jvm.Cond.stringRef "NextMustShare" (205 : Nat) "lbnchogd") ∈ lw_tbl := lw_at lw_m2 40 rfl
theorem q397 : (Jvm.Cond.methodLink "NextMustShare" (207 : Nat) ({ cls := "NextMustShare", name := "isOf", desc := "(Ljava/lang/String;)Z" } : Jvm.MethodName)) ∈ lw_all := lw_g (lw_at lw_m2 41 rfl) rfl
theorem q398 : (Jvm.Cond.privateMethod ({ cls := "NextMustShare", name := "isOf", desc := "(Ljava/lang/String;)Z" } : Jvm.MethodName)) ∈ lw_tbl := lw_at lw_m2 42 rfl
theorem q399 : (Jvm.Cond.instanceMethod ({ cls := "NextMustShare", name := "isOf", desc := "(Ljava/lang/String;)Z" } : Jvm.MethodName)) ∈ lw_all := lw_g (lw_at lw_m2 43 rfl) rfl
theorem q400 : (Jvm.Cond.code ({ cls := "NextMustShare", name := "isOf", desc := "(Ljava/lang/String;)Z" } : Jvm.MethodName) prog_1_method_11_code (2 : Nat) (Option.some Jvm.ClassFile.FieldType.boolean)) ∈ lw_all := lw_g (lw_at lw_m2 44 rfl) rfl
theorem q401 : (Jvm.Cond.methodLink "NextMustShare" (135 : Nat) ({ cls := "java/lang/String", name := "indexOf", desc := "(I)I" } : Jvm.MethodName)) ∈ lw_all := lw_g (lw_at lw_m2 45 rfl) rfl
theorem q485 : (Jvm.Cond.classLink "NextMustShare" (211 : Nat) "NextMustShare$Sign") ∈ lw_all := lw_g (lw_at lw_m2 129 rfl) rfl
theorem q487 : (Jvm.Cond.methodLink "NextMustShare" (213 : Nat) ({ cls := "NextMustShare$Sign", name := "<init>", desc := "(LNextMustShare;I)V" } : Jvm.MethodName)) ∈ lw_all := lw_g (lw_at lw_m2 131 rfl) rfl
theorem q500 : (Jvm.Cond.methodLink "NextMustShare" (224 : Nat) ({ cls := "NextMustShare", name := "acts", desc := "(I)Ljava/lang/String;" } : Jvm.MethodName)) ∈ lw_all := lw_g (lw_at lw_m2 144 rfl) rfl
theorem q501 : (Jvm.Cond.static ({ cls := "NextMustShare", name := "acts", desc := "(I)Ljava/lang/String;" } : Jvm.MethodName)) ∈ lw_all := lw_g (lw_at lw_m2 145 rfl) rfl
theorem q502 : (Jvm.Cond.code ({ cls := "NextMustShare", name := "acts", desc := "(I)Ljava/lang/String;" } : Jvm.MethodName) prog_1_method_21_code (1 : Nat) (Option.some (Jvm.ClassFile.FieldType.object "java/lang/String"))) ∈ lw_all := lw_g (lw_at lw_m2 146 rfl) rfl
theorem q503 : (Jvm.Cond.stringRef "NextMustShare" (218 : Nat) "<>=") ∈ lw_tbl := lw_at lw_m2 147 rfl
theorem q504 : (Jvm.Cond.stringRef "NextMustShare" (220 : Nat) "+-") ∈ lw_tbl := lw_at lw_m2 148 rfl
theorem q505 : (Jvm.Cond.stringRef "NextMustShare" (222 : Nat) "*/") ∈ lw_tbl := lw_at lw_m2 149 rfl
theorem q506 : (Jvm.Cond.classLink "NextMustShare" (228 : Nat) "NextMustShare$Act") ∈ lw_all := lw_g (lw_at lw_m2 150 rfl) rfl
theorem q508 : (Jvm.Cond.methodLink "NextMustShare" (230 : Nat) ({ cls := "NextMustShare$Act", name := "<init>", desc := "(LNextMustShare;CLNextMustShare$Node;LNextMustShare$Node;)V" } : Jvm.MethodName)) ∈ lw_all := lw_g (lw_at lw_m2 152 rfl) rfl
theorem q527 : (Jvm.Cond.instanceMethod ({ cls := "NextMustShare", name := "law", desc := "(II)I" } : Jvm.MethodName)) ∈ lw_all := lw_g (lw_at lw_m2 171 rfl) rfl
theorem q528 : (Jvm.Cond.selects "NextMustShare" ({ cls := "NextMustShare", name := "law", desc := "(II)I" } : Jvm.MethodName) ({ cls := "NextMustShare", name := "law", desc := "(II)I" } : Jvm.MethodName)) ∈ lw_all := lw_g (lw_at lw_m2 172 rfl) rfl
theorem q529 : (Jvm.Cond.code ({ cls := "NextMustShare", name := "law", desc := "(II)I" } : Jvm.MethodName) prog_1_method_31_code (4 : Nat) (Option.some Jvm.ClassFile.FieldType.int)) ∈ lw_all := lw_g (lw_at lw_m2 173 rfl) rfl
theorem q530 : (Jvm.Cond.methodLink "NextMustShare" (278 : Nat) ({ cls := "NextMustShare", name := "isLaw", desc := "(II)Z" } : Jvm.MethodName)) ∈ lw_all := lw_g (lw_at lw_m2 174 rfl) rfl
theorem q531 : (Jvm.Cond.static ({ cls := "NextMustShare", name := "isLaw", desc := "(II)Z" } : Jvm.MethodName)) ∈ lw_all := lw_g (lw_at lw_m2 175 rfl) rfl
theorem q532 : (Jvm.Cond.code ({ cls := "NextMustShare", name := "isLaw", desc := "(II)Z" } : Jvm.MethodName) prog_1_method_30_code (2 : Nat) (Option.some Jvm.ClassFile.FieldType.boolean)) ∈ lw_all := lw_g (lw_at lw_m2 176 rfl) rfl
theorem q533 : (Jvm.Cond.constantLong "NextMustShare" (272 : Nat) (8 : Int64)) ∈ lw_all := lw_g (lw_at lw_m2 177 rfl) rfl
theorem q534 : (Jvm.Cond.constantLong "NextMustShare" (274 : Nat) (9 : Int64)) ∈ lw_all := lw_g (lw_at lw_m2 178 rfl) rfl
theorem q535 : (Jvm.Cond.constantLong "NextMustShare" (276 : Nat) (2 : Int64)) ∈ lw_all := lw_g (lw_at lw_m2 179 rfl) rfl
theorem q537 : (Jvm.Cond.instanceMethod ({ cls := "NextMustShare", name := "store", desc := "(II)I" } : Jvm.MethodName)) ∈ lw_all := lw_g (lw_at lw_m2 181 rfl) rfl
theorem q538 : (Jvm.Cond.selects "NextMustShare" ({ cls := "NextMustShare", name := "store", desc := "(II)I" } : Jvm.MethodName) ({ cls := "NextMustShare", name := "store", desc := "(II)I" } : Jvm.MethodName)) ∈ lw_all := lw_g (lw_at lw_m2 182 rfl) rfl
theorem q539 : (Jvm.Cond.code ({ cls := "NextMustShare", name := "store", desc := "(II)I" } : Jvm.MethodName) prog_1_method_32_code (4 : Nat) (Option.some Jvm.ClassFile.FieldType.int)) ∈ lw_all := lw_g (lw_at lw_m2 183 rfl) rfl
theorem q540 : (Jvm.Cond.constantLong "NextMustShare" (281 : Nat) (7 : Int64)) ∈ lw_all := lw_g (lw_at lw_m2 184 rfl) rfl
theorem q541 : (Jvm.Cond.constantLong "NextMustShare" (283 : Nat) (99 : Int64)) ∈ lw_all := lw_g (lw_at lw_m2 185 rfl) rfl
theorem q543 : (Jvm.Cond.instanceMethod ({ cls := "NextMustShare", name := "sheet", desc := "(IIII)I" } : Jvm.MethodName)) ∈ lw_all := lw_g (lw_at lw_m2 187 rfl) rfl
theorem q544 : (Jvm.Cond.selects "NextMustShare" ({ cls := "NextMustShare", name := "sheet", desc := "(IIII)I" } : Jvm.MethodName) ({ cls := "NextMustShare", name := "sheet", desc := "(IIII)I" } : Jvm.MethodName)) ∈ lw_all := lw_g (lw_at lw_m2 188 rfl) rfl
theorem q545 : (Jvm.Cond.code ({ cls := "NextMustShare", name := "sheet", desc := "(IIII)I" } : Jvm.MethodName) prog_1_method_33_code (9 : Nat) (Option.some Jvm.ClassFile.FieldType.int)) ∈ lw_all := lw_g (lw_at lw_m2 189 rfl) rfl
theorem q546 : (Jvm.Cond.constantLong "NextMustShare" (285 : Nat) (3 : Int64)) ∈ lw_all := lw_g (lw_at lw_m2 190 rfl) rfl
theorem q547 : (Jvm.Cond.methodLink "NextMustShare" (246 : Nat) ({ cls := "java/lang/Math", name := "max", desc := "(II)I" } : Jvm.MethodName)) ∈ lw_all := lw_g (lw_at lw_m2 191 rfl) rfl
theorem q549 : (Jvm.Cond.instanceMethod ({ cls := "NextMustShare", name := "serve", desc := "(I)I" } : Jvm.MethodName)) ∈ lw_all := lw_g (lw_at lw_m2 193 rfl) rfl
theorem q550 : (Jvm.Cond.selects "NextMustShare" ({ cls := "NextMustShare", name := "serve", desc := "(I)I" } : Jvm.MethodName) ({ cls := "NextMustShare", name := "serve", desc := "(I)I" } : Jvm.MethodName)) ∈ lw_all := lw_g (lw_at lw_m2 194 rfl) rfl
theorem q551 : (Jvm.Cond.code ({ cls := "NextMustShare", name := "serve", desc := "(I)I" } : Jvm.MethodName) prog_1_method_42_code (3 : Nat) (Option.some Jvm.ClassFile.FieldType.int)) ∈ lw_all := lw_g (lw_at lw_m2 195 rfl) rfl
theorem q552 : (Jvm.Cond.methodLink "NextMustShare" (252 : Nat) ({ cls := "NextMustShare", name := "isDish", desc := "(I)Z" } : Jvm.MethodName)) ∈ lw_all := lw_g (lw_at lw_m2 196 rfl) rfl
theorem q553 : (Jvm.Cond.privateMethod ({ cls := "NextMustShare", name := "isDish", desc := "(I)Z" } : Jvm.MethodName)) ∈ lw_tbl := lw_at lw_m2 197 rfl
theorem q554 : (Jvm.Cond.instanceMethod ({ cls := "NextMustShare", name := "isDish", desc := "(I)Z" } : Jvm.MethodName)) ∈ lw_all := lw_g (lw_at lw_m2 198 rfl) rfl
theorem q555 : (Jvm.Cond.code ({ cls := "NextMustShare", name := "isDish", desc := "(I)Z" } : Jvm.MethodName) prog_1_method_4_code (2 : Nat) (Option.some Jvm.ClassFile.FieldType.boolean)) ∈ lw_all := lw_g (lw_at lw_m2 199 rfl) rfl
theorem q556 : (Jvm.Cond.methodLink "NextMustShare" (306 : Nat) ({ cls := "NextMustShare", name := "setNow", desc := "()I" } : Jvm.MethodName)) ∈ lw_all := lw_g (lw_at lw_m2 200 rfl) rfl
theorem q557 : (Jvm.Cond.privateMethod ({ cls := "NextMustShare", name := "setNow", desc := "()I" } : Jvm.MethodName)) ∈ lw_tbl := lw_at lw_m2 201 rfl
theorem q558 : (Jvm.Cond.instanceMethod ({ cls := "NextMustShare", name := "setNow", desc := "()I" } : Jvm.MethodName)) ∈ lw_all := lw_g (lw_at lw_m2 202 rfl) rfl
theorem q559 : (Jvm.Cond.code ({ cls := "NextMustShare", name := "setNow", desc := "()I" } : Jvm.MethodName) prog_1_method_40_code (3 : Nat) (Option.some Jvm.ClassFile.FieldType.int)) ∈ lw_all := lw_g (lw_at lw_m2 203 rfl) rfl
theorem q560 : (Jvm.Cond.methodLink "NextMustShare" (309 : Nat) ({ cls := "NextMustShare", name := "lastNow", desc := "()I" } : Jvm.MethodName)) ∈ lw_all := lw_g (lw_at lw_m2 204 rfl) rfl
theorem q561 : (Jvm.Cond.privateMethod ({ cls := "NextMustShare", name := "lastNow", desc := "()I" } : Jvm.MethodName)) ∈ lw_tbl := lw_at lw_m2 205 rfl
theorem q562 : (Jvm.Cond.instanceMethod ({ cls := "NextMustShare", name := "lastNow", desc := "()I" } : Jvm.MethodName)) ∈ lw_all := lw_g (lw_at lw_m2 206 rfl) rfl
theorem q563 : (Jvm.Cond.code ({ cls := "NextMustShare", name := "lastNow", desc := "()I" } : Jvm.MethodName) prog_1_method_41_code (1 : Nat) (Option.some Jvm.ClassFile.FieldType.int)) ∈ lw_all := lw_g (lw_at lw_m2 207 rfl) rfl
theorem q564 : (Jvm.Cond.methodLink "NextMustShare" (312 : Nat) ({ cls := "NextMustShare", name := "whyNot", desc := "(III)I" } : Jvm.MethodName)) ∈ lw_all := lw_g (lw_at lw_m2 208 rfl) rfl
theorem q565 : (Jvm.Cond.privateMethod ({ cls := "NextMustShare", name := "whyNot", desc := "(III)I" } : Jvm.MethodName)) ∈ lw_tbl := lw_at lw_m2 209 rfl
theorem q566 : (Jvm.Cond.instanceMethod ({ cls := "NextMustShare", name := "whyNot", desc := "(III)I" } : Jvm.MethodName)) ∈ lw_all := lw_g (lw_at lw_m2 210 rfl) rfl
theorem q567 : (Jvm.Cond.code ({ cls := "NextMustShare", name := "whyNot", desc := "(III)I" } : Jvm.MethodName) prog_1_method_39_code (5 : Nat) (Option.some Jvm.ClassFile.FieldType.int)) ∈ lw_all := lw_g (lw_at lw_m2 211 rfl) rfl
theorem q568 : (Jvm.Cond.methodLink "NextMustShare" (259 : Nat) ({ cls := "NextMustShare", name := "has", desc := "(II)Z" } : Jvm.MethodName)) ∈ lw_all := lw_g (lw_at lw_m2 212 rfl) rfl
theorem q569 : (Jvm.Cond.static ({ cls := "NextMustShare", name := "has", desc := "(II)Z" } : Jvm.MethodName)) ∈ lw_all := lw_g (lw_at lw_m2 213 rfl) rfl
theorem q570 : (Jvm.Cond.code ({ cls := "NextMustShare", name := "has", desc := "(II)Z" } : Jvm.MethodName) prog_1_method_2_code (2 : Nat) (Option.some Jvm.ClassFile.FieldType.boolean)) ∈ lw_all := lw_g (lw_at lw_m2 214 rfl) rfl
theorem q571 : (Jvm.Cond.methodLink "NextMustShare" (290 : Nat) ({ cls := "NextMustShare", name := "arePair", desc := "(II)Z" } : Jvm.MethodName)) ∈ lw_all := lw_g (lw_at lw_m2 215 rfl) rfl
theorem q572 : (Jvm.Cond.privateMethod ({ cls := "NextMustShare", name := "arePair", desc := "(II)Z" } : Jvm.MethodName)) ∈ lw_tbl := lw_at lw_m2 216 rfl
theorem q573 : (Jvm.Cond.instanceMethod ({ cls := "NextMustShare", name := "arePair", desc := "(II)Z" } : Jvm.MethodName)) ∈ lw_all := lw_g (lw_at lw_m2 217 rfl) rfl
theorem q574 : (Jvm.Cond.code ({ cls := "NextMustShare", name := "arePair", desc := "(II)Z" } : Jvm.MethodName) prog_1_method_34_code (3 : Nat) (Option.some Jvm.ClassFile.FieldType.boolean)) ∈ lw_all := lw_g (lw_at lw_m2 218 rfl) rfl
theorem q575 : (Jvm.Cond.methodLink "NextMustShare" (237 : Nat) ({ cls := "java/lang/Integer", name := "bitCount", desc := "(I)I" } : Jvm.MethodName)) ∈ lw_all := lw_g (lw_at lw_m2 219 rfl) rfl
theorem q581 : (Jvm.Cond.methodLink "NextMustShare" (293 : Nat) ({ cls := "NextMustShare", name := "isWarm", desc := "(III)Z" } : Jvm.MethodName)) ∈ lw_all := lw_g (lw_at lw_m2 225 rfl) rfl
theorem q582 : (Jvm.Cond.privateMethod ({ cls := "NextMustShare", name := "isWarm", desc := "(III)Z" } : Jvm.MethodName)) ∈ lw_tbl := lw_at lw_m2 226 rfl
theorem q583 : (Jvm.Cond.instanceMethod ({ cls := "NextMustShare", name := "isWarm", desc := "(III)Z" } : Jvm.MethodName)) ∈ lw_all := lw_g (lw_at lw_m2 227 rfl) rfl
theorem q584 : (Jvm.Cond.code ({ cls := "NextMustShare", name := "isWarm", desc := "(III)Z" } : Jvm.MethodName) prog_1_method_35_code (4 : Nat) (Option.some Jvm.ClassFile.FieldType.boolean)) ∈ lw_all := lw_g (lw_at lw_m2 228 rfl) rfl
theorem q585 : (Jvm.Cond.methodLink "NextMustShare" (297 : Nat) ({ cls := "NextMustShare", name := "mostOf", desc := "(I)I" } : Jvm.MethodName)) ∈ lw_all := lw_g (lw_at lw_m2 229 rfl) rfl
theorem q586 : (Jvm.Cond.privateMethod ({ cls := "NextMustShare", name := "mostOf", desc := "(I)I" } : Jvm.MethodName)) ∈ lw_tbl := lw_at lw_m2 230 rfl
theorem q587 : (Jvm.Cond.instanceMethod ({ cls := "NextMustShare", name := "mostOf", desc := "(I)I" } : Jvm.MethodName)) ∈ lw_all := lw_g (lw_at lw_m2 231 rfl) rfl
theorem q588 : (Jvm.Cond.code ({ cls := "NextMustShare", name := "mostOf", desc := "(I)I" } : Jvm.MethodName) prog_1_method_36_code (4 : Nat) (Option.some Jvm.ClassFile.FieldType.int)) ∈ lw_all := lw_g (lw_at lw_m2 232 rfl) rfl
theorem q589 : (Jvm.Cond.methodLink "NextMustShare" (287 : Nat) ({ cls := "NextMustShare", name := "manyOf", desc := "(II)I" } : Jvm.MethodName)) ∈ lw_all := lw_g (lw_at lw_m2 233 rfl) rfl
theorem q590 : (Jvm.Cond.privateMethod ({ cls := "NextMustShare", name := "manyOf", desc := "(II)I" } : Jvm.MethodName)) ∈ lw_tbl := lw_at lw_m2 234 rfl
theorem q591 : (Jvm.Cond.instanceMethod ({ cls := "NextMustShare", name := "manyOf", desc := "(II)I" } : Jvm.MethodName)) ∈ lw_all := lw_g (lw_at lw_m2 235 rfl) rfl
theorem q592 : (Jvm.Cond.code ({ cls := "NextMustShare", name := "manyOf", desc := "(II)I" } : Jvm.MethodName) prog_1_method_37_code (5 : Nat) (Option.some Jvm.ClassFile.FieldType.int)) ∈ lw_all := lw_g (lw_at lw_m2 236 rfl) rfl
theorem q593 : (Jvm.Cond.methodLink "NextMustShare" (300 : Nat) ({ cls := "NextMustShare", name := "isStored", desc := "(I)Z" } : Jvm.MethodName)) ∈ lw_all := lw_g (lw_at lw_m2 237 rfl) rfl
theorem q594 : (Jvm.Cond.privateMethod ({ cls := "NextMustShare", name := "isStored", desc := "(I)Z" } : Jvm.MethodName)) ∈ lw_tbl := lw_at lw_m2 238 rfl
theorem q595 : (Jvm.Cond.instanceMethod ({ cls := "NextMustShare", name := "isStored", desc := "(I)Z" } : Jvm.MethodName)) ∈ lw_all := lw_g (lw_at lw_m2 239 rfl) rfl
theorem q596 : (Jvm.Cond.code ({ cls := "NextMustShare", name := "isStored", desc := "(I)Z" } : Jvm.MethodName) prog_1_method_38_code (3 : Nat) (Option.some Jvm.ClassFile.FieldType.boolean)) ∈ lw_all := lw_g (lw_at lw_m3 0 rfl) rfl
theorem q598 : (Jvm.Cond.instanceMethod ({ cls := "NextMustShare", name := "back", desc := "()I" } : Jvm.MethodName)) ∈ lw_all := lw_g (lw_at lw_m3 2 rfl) rfl
theorem q599 : (Jvm.Cond.selects "NextMustShare" ({ cls := "NextMustShare", name := "back", desc := "()I" } : Jvm.MethodName) ({ cls := "NextMustShare", name := "back", desc := "()I" } : Jvm.MethodName)) ∈ lw_all := lw_g (lw_at lw_m3 3 rfl) rfl
theorem q600 : (Jvm.Cond.code ({ cls := "NextMustShare", name := "back", desc := "()I" } : Jvm.MethodName) prog_1_method_43_code (1 : Nat) (Option.some Jvm.ClassFile.FieldType.int)) ∈ lw_all := lw_g (lw_at lw_m3 4 rfl) rfl
theorem q602 : (Jvm.Cond.instanceMethod ({ cls := "NextMustShare", name := "over", desc := "()I" } : Jvm.MethodName)) ∈ lw_all := lw_g (lw_at lw_m3 6 rfl) rfl
theorem q603 : (Jvm.Cond.selects "NextMustShare" ({ cls := "NextMustShare", name := "over", desc := "()I" } : Jvm.MethodName) ({ cls := "NextMustShare", name := "over", desc := "()I" } : Jvm.MethodName)) ∈ lw_all := lw_g (lw_at lw_m3 7 rfl) rfl
theorem q604 : (Jvm.Cond.code ({ cls := "NextMustShare", name := "over", desc := "()I" } : Jvm.MethodName) prog_1_method_44_code (3 : Nat) (Option.some Jvm.ClassFile.FieldType.int)) ∈ lw_all := lw_g (lw_at lw_m3 8 rfl) rfl
theorem q606 : (Jvm.Cond.instanceMethod ({ cls := "NextMustShare", name := "can", desc := "()I" } : Jvm.MethodName)) ∈ lw_all := lw_g (lw_at lw_m3 10 rfl) rfl
theorem q607 : (Jvm.Cond.selects "NextMustShare" ({ cls := "NextMustShare", name := "can", desc := "()I" } : Jvm.MethodName) ({ cls := "NextMustShare", name := "can", desc := "()I" } : Jvm.MethodName)) ∈ lw_all := lw_g (lw_at lw_m3 11 rfl) rfl
theorem q608 : (Jvm.Cond.code ({ cls := "NextMustShare", name := "can", desc := "()I" } : Jvm.MethodName) prog_1_method_45_code (3 : Nat) (Option.some Jvm.ClassFile.FieldType.int)) ∈ lw_all := lw_g (lw_at lw_m3 12 rfl) rfl
theorem q610 : (Jvm.Cond.instanceMethod ({ cls := "NextMustShare", name := "menu", desc := "(I)I" } : Jvm.MethodName)) ∈ lw_all := lw_g (lw_at lw_m3 14 rfl) rfl
theorem q611 : (Jvm.Cond.selects "NextMustShare" ({ cls := "NextMustShare", name := "menu", desc := "(I)I" } : Jvm.MethodName) ({ cls := "NextMustShare", name := "menu", desc := "(I)I" } : Jvm.MethodName)) ∈ lw_all := lw_g (lw_at lw_m3 15 rfl) rfl
theorem q612 : (Jvm.Cond.code ({ cls := "NextMustShare", name := "menu", desc := "(I)I" } : Jvm.MethodName) prog_1_method_47_code (5 : Nat) (Option.some Jvm.ClassFile.FieldType.int)) ∈ lw_all := lw_g (lw_at lw_m3 16 rfl) rfl
theorem q613 : (Jvm.Cond.methodLink "NextMustShare" (316 : Nat) ({ cls := "NextMustShare", name := "isMenu", desc := "(I)Z" } : Jvm.MethodName)) ∈ lw_all := lw_g (lw_at lw_m3 17 rfl) rfl
theorem q614 : (Jvm.Cond.static ({ cls := "NextMustShare", name := "isMenu", desc := "(I)Z" } : Jvm.MethodName)) ∈ lw_all := lw_g (lw_at lw_m3 18 rfl) rfl
theorem q615 : (Jvm.Cond.code ({ cls := "NextMustShare", name := "isMenu", desc := "(I)Z" } : Jvm.MethodName) prog_1_method_46_code (1 : Nat) (Option.some Jvm.ClassFile.FieldType.boolean)) ∈ lw_all := lw_g (lw_at lw_m3 19 rfl) rfl
theorem q616 : (Jvm.Cond.methodLink "NextMustShare" (319 : Nat) ({ cls := "java/lang/System", name := "arraycopy", desc := "(Ljava/lang/Object;ILjava/lang/Object;II)V" } : Jvm.MethodName)) ∈ lw_all := lw_g (lw_at lw_m3 20 rfl) rfl
theorem q620 : (Jvm.Cond.instanceMethod ({ cls := "NextMustShare", name := "look", desc := "(I)I" } : Jvm.MethodName)) ∈ lw_all := lw_g (lw_at lw_m3 24 rfl) rfl
theorem q621 : (Jvm.Cond.selects "NextMustShare" ({ cls := "NextMustShare", name := "look", desc := "(I)I" } : Jvm.MethodName) ({ cls := "NextMustShare", name := "look", desc := "(I)I" } : Jvm.MethodName)) ∈ lw_all := lw_g (lw_at lw_m3 25 rfl) rfl
theorem q622 : (Jvm.Cond.code ({ cls := "NextMustShare", name := "look", desc := "(I)I" } : Jvm.MethodName) prog_1_method_52_code (6 : Nat) (Option.some Jvm.ClassFile.FieldType.int)) ∈ lw_all := lw_g (lw_at lw_m3 26 rfl) rfl
theorem q623 : (Jvm.Cond.methodLink "NextMustShare" (325 : Nat) ({ cls := "NextMustShare", name := "isLaid", desc := "(I)Z" } : Jvm.MethodName)) ∈ lw_all := lw_g (lw_at lw_m3 27 rfl) rfl
theorem q624 : (Jvm.Cond.privateMethod ({ cls := "NextMustShare", name := "isLaid", desc := "(I)Z" } : Jvm.MethodName)) ∈ lw_tbl := lw_at lw_m3 28 rfl
theorem q625 : (Jvm.Cond.instanceMethod ({ cls := "NextMustShare", name := "isLaid", desc := "(I)Z" } : Jvm.MethodName)) ∈ lw_all := lw_g (lw_at lw_m3 29 rfl) rfl
theorem q626 : (Jvm.Cond.code ({ cls := "NextMustShare", name := "isLaid", desc := "(I)Z" } : Jvm.MethodName) prog_1_method_48_code (2 : Nat) (Option.some Jvm.ClassFile.FieldType.boolean)) ∈ lw_all := lw_g (lw_at lw_m3 30 rfl) rfl
theorem q627 : (Jvm.Cond.methodLink "NextMustShare" (334 : Nat) ({ cls := "NextMustShare", name := "firstBad", desc := "(I)I" } : Jvm.MethodName)) ∈ lw_all := lw_g (lw_at lw_m3 31 rfl) rfl
theorem q628 : (Jvm.Cond.privateMethod ({ cls := "NextMustShare", name := "firstBad", desc := "(I)I" } : Jvm.MethodName)) ∈ lw_tbl := lw_at lw_m3 32 rfl
theorem q629 : (Jvm.Cond.instanceMethod ({ cls := "NextMustShare", name := "firstBad", desc := "(I)I" } : Jvm.MethodName)) ∈ lw_all := lw_g (lw_at lw_m3 33 rfl) rfl
theorem q630 : (Jvm.Cond.code ({ cls := "NextMustShare", name := "firstBad", desc := "(I)I" } : Jvm.MethodName) prog_1_method_51_code (5 : Nat) (Option.some Jvm.ClassFile.FieldType.int)) ∈ lw_all := lw_g (lw_at lw_m3 34 rfl) rfl
theorem q631 : (Jvm.Cond.methodLink "NextMustShare" (328 : Nat) ({ cls := "NextMustShare", name := "dishAt", desc := "(II)I" } : Jvm.MethodName)) ∈ lw_all := lw_g (lw_at lw_m3 35 rfl) rfl
theorem q632 : (Jvm.Cond.privateMethod ({ cls := "NextMustShare", name := "dishAt", desc := "(II)I" } : Jvm.MethodName)) ∈ lw_tbl := lw_at lw_m3 36 rfl
theorem q633 : (Jvm.Cond.instanceMethod ({ cls := "NextMustShare", name := "dishAt", desc := "(II)I" } : Jvm.MethodName)) ∈ lw_all := lw_g (lw_at lw_m3 37 rfl) rfl
theorem q634 : (Jvm.Cond.code ({ cls := "NextMustShare", name := "dishAt", desc := "(II)I" } : Jvm.MethodName) prog_1_method_49_code (3 : Nat) (Option.some Jvm.ClassFile.FieldType.int)) ∈ lw_all := lw_g (lw_at lw_m3 38 rfl) rfl
theorem q635 : (Jvm.Cond.methodLink "NextMustShare" (266 : Nat) ({ cls := "NextMustShare", name := "hungryAt", desc := "(I)I" } : Jvm.MethodName)) ∈ lw_all := lw_g (lw_at lw_m3 39 rfl) rfl
theorem q636 : (Jvm.Cond.privateMethod ({ cls := "NextMustShare", name := "hungryAt", desc := "(I)I" } : Jvm.MethodName)) ∈ lw_tbl := lw_at lw_m3 40 rfl
theorem q637 : (Jvm.Cond.instanceMethod ({ cls := "NextMustShare", name := "hungryAt", desc := "(I)I" } : Jvm.MethodName)) ∈ lw_all := lw_g (lw_at lw_m3 41 rfl) rfl
theorem q638 : (Jvm.Cond.code ({ cls := "NextMustShare", name := "hungryAt", desc := "(I)I" } : Jvm.MethodName) prog_1_method_26_code (4 : Nat) (Option.some Jvm.ClassFile.FieldType.int)) ∈ lw_all := lw_g (lw_at lw_m3 42 rfl) rfl
theorem q639 : (Jvm.Cond.methodLink "NextMustShare" (340 : Nat) ({ cls := "NextMustShare", name := "tells", desc := "(I)V" } : Jvm.MethodName)) ∈ lw_all := lw_g (lw_at lw_m3 43 rfl) rfl
theorem q640 : (Jvm.Cond.privateMethod ({ cls := "NextMustShare", name := "tells", desc := "(I)V" } : Jvm.MethodName)) ∈ lw_tbl := lw_at lw_m3 44 rfl
theorem q641 : (Jvm.Cond.instanceMethod ({ cls := "NextMustShare", name := "tells", desc := "(I)V" } : Jvm.MethodName)) ∈ lw_all := lw_g (lw_at lw_m3 45 rfl) rfl
theorem q642 : (Jvm.Cond.code ({ cls := "NextMustShare", name := "tells", desc := "(I)V" } : Jvm.MethodName) prog_1_method_113_code (2 : Nat) (Option.none : Option Jvm.ClassFile.FieldType)) ∈ lw_all := lw_g (lw_at lw_m3 46 rfl) rfl
theorem q644 : (Jvm.Cond.instanceMethod ({ cls := "NextMustShare", name := "swap", desc := "(III)Z" } : Jvm.MethodName)) ∈ lw_all := lw_g (lw_at lw_m3 48 rfl) rfl
theorem q645 : (Jvm.Cond.selects "NextMustShare" ({ cls := "NextMustShare", name := "swap", desc := "(III)Z" } : Jvm.MethodName) ({ cls := "NextMustShare", name := "swap", desc := "(III)Z" } : Jvm.MethodName)) ∈ lw_all := lw_g (lw_at lw_m3 49 rfl) rfl
theorem q646 : (Jvm.Cond.code ({ cls := "NextMustShare", name := "swap", desc := "(III)Z" } : Jvm.MethodName) prog_1_method_55_code (4 : Nat) (Option.some Jvm.ClassFile.FieldType.boolean)) ∈ lw_all := lw_g (lw_at lw_m3 50 rfl) rfl
theorem q647 : (Jvm.Cond.methodLink "NextMustShare" (344 : Nat) ({ cls := "NextMustShare", name := "isPlace", desc := "(II)Z" } : Jvm.MethodName)) ∈ lw_all := lw_g (lw_at lw_m3 51 rfl) rfl
theorem q648 : (Jvm.Cond.privateMethod ({ cls := "NextMustShare", name := "isPlace", desc := "(II)Z" } : Jvm.MethodName)) ∈ lw_tbl := lw_at lw_m3 52 rfl
theorem q649 : (Jvm.Cond.instanceMethod ({ cls := "NextMustShare", name := "isPlace", desc := "(II)Z" } : Jvm.MethodName)) ∈ lw_all := lw_g (lw_at lw_m3 53 rfl) rfl
theorem q650 : (Jvm.Cond.code ({ cls := "NextMustShare", name := "isPlace", desc := "(II)Z" } : Jvm.MethodName) prog_1_method_53_code (3 : Nat) (Option.some Jvm.ClassFile.FieldType.boolean)) ∈ lw_all := lw_g (lw_at lw_m3 54 rfl) rfl
theorem q651 : (Jvm.Cond.methodLink "NextMustShare" (347 : Nat) ({ cls := "NextMustShare", name := "swaps", desc := "(III)V" } : Jvm.MethodName)) ∈ lw_all := lw_g (lw_at lw_m3 55 rfl) rfl
theorem q652 : (Jvm.Cond.privateMethod ({ cls := "NextMustShare", name := "swaps", desc := "(III)V" } : Jvm.MethodName)) ∈ lw_tbl := lw_at lw_m3 56 rfl
theorem q653 : (Jvm.Cond.instanceMethod ({ cls := "NextMustShare", name := "swaps", desc := "(III)V" } : Jvm.MethodName)) ∈ lw_all := lw_g (lw_at lw_m3 57 rfl) rfl
theorem q654 : (Jvm.Cond.code ({ cls := "NextMustShare", name := "swaps", desc := "(III)V" } : Jvm.MethodName) prog_1_method_54_code (5 : Nat) (Option.none : Option Jvm.ClassFile.FieldType)) ∈ lw_all := lw_g (lw_at lw_m3 58 rfl) rfl
theorem q656 : (Jvm.Cond.instanceMethod ({ cls := "NextMustShare", name := "turn", desc := "(I)Z" } : Jvm.MethodName)) ∈ lw_all := lw_g (lw_at lw_m3 60 rfl) rfl
theorem q657 : (Jvm.Cond.selects "NextMustShare" ({ cls := "NextMustShare", name := "turn", desc := "(I)Z" } : Jvm.MethodName) ({ cls := "NextMustShare", name := "turn", desc := "(I)Z" } : Jvm.MethodName)) ∈ lw_all := lw_g (lw_at lw_m3 61 rfl) rfl
theorem q658 : (Jvm.Cond.code ({ cls := "NextMustShare", name := "turn", desc := "(I)Z" } : Jvm.MethodName) prog_1_method_56_code (3 : Nat) (Option.some Jvm.ClassFile.FieldType.boolean)) ∈ lw_all := lw_g (lw_at lw_m3 62 rfl) rfl
theorem q660 : (Jvm.Cond.instanceMethod ({ cls := "NextMustShare", name := "joined", desc := "(II)I" } : Jvm.MethodName)) ∈ lw_all := lw_g (lw_at lw_m3 64 rfl) rfl
theorem q661 : (Jvm.Cond.selects "NextMustShare" ({ cls := "NextMustShare", name := "joined", desc := "(II)I" } : Jvm.MethodName) ({ cls := "NextMustShare", name := "joined", desc := "(II)I" } : Jvm.MethodName)) ∈ lw_all := lw_g (lw_at lw_m3 65 rfl) rfl
theorem q662 : (Jvm.Cond.code ({ cls := "NextMustShare", name := "joined", desc := "(II)I" } : Jvm.MethodName) prog_1_method_57_code (9 : Nat) (Option.some Jvm.ClassFile.FieldType.int)) ∈ lw_all := lw_g (lw_at lw_m3 66 rfl) rfl
theorem q663 : (Jvm.Cond.methodLink "NextMustShare" (351 : Nat) ({ cls := "NextMustShare", name := "isWhole", desc := "(I)Z" } : Jvm.MethodName)) ∈ lw_all := lw_g (lw_at lw_m3 67 rfl) rfl
theorem q664 : (Jvm.Cond.privateMethod ({ cls := "NextMustShare", name := "isWhole", desc := "(I)Z" } : Jvm.MethodName)) ∈ lw_tbl := lw_at lw_m3 68 rfl
theorem q665 : (Jvm.Cond.instanceMethod ({ cls := "NextMustShare", name := "isWhole", desc := "(I)Z" } : Jvm.MethodName)) ∈ lw_all := lw_g (lw_at lw_m3 69 rfl) rfl
theorem q666 : (Jvm.Cond.code ({ cls := "NextMustShare", name := "isWhole", desc := "(I)Z" } : Jvm.MethodName) prog_1_method_50_code (3 : Nat) (Option.some Jvm.ClassFile.FieldType.boolean)) ∈ lw_all := lw_g (lw_at lw_m3 70 rfl) rfl
theorem q668 : (Jvm.Cond.instanceMethod ({ cls := "NextMustShare", name := "falls", desc := "(III)I" } : Jvm.MethodName)) ∈ lw_all := lw_g (lw_at lw_m3 72 rfl) rfl
theorem q669 : (Jvm.Cond.selects "NextMustShare" ({ cls := "NextMustShare", name := "falls", desc := "(III)I" } : Jvm.MethodName) ({ cls := "NextMustShare", name := "falls", desc := "(III)I" } : Jvm.MethodName)) ∈ lw_all := lw_g (lw_at lw_m3 73 rfl) rfl
theorem q670 : (Jvm.Cond.code ({ cls := "NextMustShare", name := "falls", desc := "(III)I" } : Jvm.MethodName) prog_1_method_58_code (9 : Nat) (Option.some Jvm.ClassFile.FieldType.int)) ∈ lw_all := lw_g (lw_at lw_m3 74 rfl) rfl
theorem q672 : (Jvm.Cond.instanceMethod ({ cls := "NextMustShare", name := "longest", desc := "()I" } : Jvm.MethodName)) ∈ lw_all := lw_g (lw_at lw_m3 76 rfl) rfl
theorem q673 : (Jvm.Cond.selects "NextMustShare" ({ cls := "NextMustShare", name := "longest", desc := "()I" } : Jvm.MethodName) ({ cls := "NextMustShare", name := "longest", desc := "()I" } : Jvm.MethodName)) ∈ lw_all := lw_g (lw_at lw_m3 77 rfl) rfl
theorem q674 : (Jvm.Cond.code ({ cls := "NextMustShare", name := "longest", desc := "()I" } : Jvm.MethodName) prog_1_method_65_code (1 : Nat) (Option.some Jvm.ClassFile.FieldType.int)) ∈ lw_all := lw_g (lw_at lw_m3 78 rfl) rfl
theorem q675 : (Jvm.Cond.methodLink "NextMustShare" (367 : Nat) ({ cls := "NextMustShare", name := "laysOut", desc := "()V" } : Jvm.MethodName)) ∈ lw_all := lw_g (lw_at lw_m3 79 rfl) rfl
theorem q676 : (Jvm.Cond.privateMethod ({ cls := "NextMustShare", name := "laysOut", desc := "()V" } : Jvm.MethodName)) ∈ lw_tbl := lw_at lw_m3 80 rfl
theorem q677 : (Jvm.Cond.instanceMethod ({ cls := "NextMustShare", name := "laysOut", desc := "()V" } : Jvm.MethodName)) ∈ lw_all := lw_g (lw_at lw_m3 81 rfl) rfl
theorem q678 : (Jvm.Cond.code ({ cls := "NextMustShare", name := "laysOut", desc := "()V" } : Jvm.MethodName) prog_1_method_59_code (2 : Nat) (Option.none : Option Jvm.ClassFile.FieldType)) ∈ lw_all := lw_g (lw_at lw_m3 82 rfl) rfl
theorem q679 : (Jvm.Cond.methodLink "NextMustShare" (370 : Nat) ({ cls := "NextMustShare", name := "measures", desc := "(II)V" } : Jvm.MethodName)) ∈ lw_all := lw_g (lw_at lw_m3 83 rfl) rfl
theorem q680 : (Jvm.Cond.privateMethod ({ cls := "NextMustShare", name := "measures", desc := "(II)V" } : Jvm.MethodName)) ∈ lw_tbl := lw_at lw_m3 84 rfl
theorem q681 : (Jvm.Cond.instanceMethod ({ cls := "NextMustShare", name := "measures", desc := "(II)V" } : Jvm.MethodName)) ∈ lw_all := lw_g (lw_at lw_m3 85 rfl) rfl
theorem q682 : (Jvm.Cond.code ({ cls := "NextMustShare", name := "measures", desc := "(II)V" } : Jvm.MethodName) prog_1_method_63_code (8 : Nat) (Option.none : Option Jvm.ClassFile.FieldType)) ∈ lw_all := lw_g (lw_at lw_m3 86 rfl) rfl
theorem q683 : (Jvm.Cond.methodLink "NextMustShare" (357 : Nat) ({ cls := "NextMustShare", name := "isLastOf", desc := "(II)Z" } : Jvm.MethodName)) ∈ lw_all := lw_g (lw_at lw_m3 87 rfl) rfl
theorem q684 : (Jvm.Cond.privateMethod ({ cls := "NextMustShare", name := "isLastOf", desc := "(II)Z" } : Jvm.MethodName)) ∈ lw_tbl := lw_at lw_m3 88 rfl
theorem q685 : (Jvm.Cond.instanceMethod ({ cls := "NextMustShare", name := "isLastOf", desc := "(II)Z" } : Jvm.MethodName)) ∈ lw_all := lw_g (lw_at lw_m3 89 rfl) rfl
theorem q686 : (Jvm.Cond.code ({ cls := "NextMustShare", name := "isLastOf", desc := "(II)Z" } : Jvm.MethodName) prog_1_method_62_code (3 : Nat) (Option.some Jvm.ClassFile.FieldType.boolean)) ∈ lw_all := lw_g (lw_at lw_m3 90 rfl) rfl
theorem q687 : (Jvm.Cond.constant "NextMustShare" (360 : Nat) (-1000000 : Int32)) ∈ lw_all := lw_g (lw_at lw_m3 91 rfl) rfl
theorem q688 : (Jvm.Cond.methodLink "NextMustShare" (361 : Nat) ({ cls := "NextMustShare", name := "goesOn", desc := "(III)Z" } : Jvm.MethodName)) ∈ lw_all := lw_g (lw_at lw_m3 92 rfl) rfl
theorem q689 : (Jvm.Cond.privateMethod ({ cls := "NextMustShare", name := "goesOn", desc := "(III)Z" } : Jvm.MethodName)) ∈ lw_tbl := lw_at lw_m3 93 rfl
theorem q690 : (Jvm.Cond.instanceMethod ({ cls := "NextMustShare", name := "goesOn", desc := "(III)Z" } : Jvm.MethodName)) ∈ lw_all := lw_g (lw_at lw_m3 94 rfl) rfl
theorem q691 : (Jvm.Cond.code ({ cls := "NextMustShare", name := "goesOn", desc := "(III)Z" } : Jvm.MethodName) prog_1_method_61_code (4 : Nat) (Option.some Jvm.ClassFile.FieldType.boolean)) ∈ lw_all := lw_g (lw_at lw_m3 95 rfl) rfl
theorem q692 : (Jvm.Cond.methodLink "NextMustShare" (364 : Nat) ({ cls := "NextMustShare", name := "stateOf", desc := "(II)I" } : Jvm.MethodName)) ∈ lw_all := lw_g (lw_at lw_m3 96 rfl) rfl
theorem q693 : (Jvm.Cond.static ({ cls := "NextMustShare", name := "stateOf", desc := "(II)I" } : Jvm.MethodName)) ∈ lw_all := lw_g (lw_at lw_m3 97 rfl) rfl
theorem q694 : (Jvm.Cond.code ({ cls := "NextMustShare", name := "stateOf", desc := "(II)I" } : Jvm.MethodName) prog_1_method_60_code (2 : Nat) (Option.some Jvm.ClassFile.FieldType.int)) ∈ lw_all := lw_g (lw_at lw_m3 98 rfl) rfl
theorem q695 : (Jvm.Cond.methodLink "NextMustShare" (374 : Nat) ({ cls := "NextMustShare", name := "tellsMost", desc := "(II)V" } : Jvm.MethodName)) ∈ lw_all := lw_g (lw_at lw_m3 99 rfl) rfl
theorem q696 : (Jvm.Cond.privateMethod ({ cls := "NextMustShare", name := "tellsMost", desc := "(II)V" } : Jvm.MethodName)) ∈ lw_tbl := lw_at lw_m3 100 rfl
theorem q697 : (Jvm.Cond.instanceMethod ({ cls := "NextMustShare", name := "tellsMost", desc := "(II)V" } : Jvm.MethodName)) ∈ lw_all := lw_g (lw_at lw_m3 101 rfl) rfl
theorem q698 : (Jvm.Cond.code ({ cls := "NextMustShare", name := "tellsMost", desc := "(II)V" } : Jvm.MethodName) prog_1_method_64_code (8 : Nat) (Option.none : Option Jvm.ClassFile.FieldType)) ∈ lw_all := lw_g (lw_at lw_m3 102 rfl) rfl
theorem q700 : (Jvm.Cond.instanceMethod ({ cls := "NextMustShare", name := "ways", desc := "(I)J" } : Jvm.MethodName)) ∈ lw_all := lw_g (lw_at lw_m3 104 rfl) rfl
theorem q701 : (Jvm.Cond.selects "NextMustShare" ({ cls := "NextMustShare", name := "ways", desc := "(I)J" } : Jvm.MethodName) ({ cls := "NextMustShare", name := "ways", desc := "(I)J" } : Jvm.MethodName)) ∈ lw_all := lw_g (lw_at lw_m3 105 rfl) rfl
theorem q702 : (Jvm.Cond.code ({ cls := "NextMustShare", name := "ways", desc := "(I)J" } : Jvm.MethodName) prog_1_method_66_code (8 : Nat) (Option.some Jvm.ClassFile.FieldType.long)) ∈ lw_all := lw_g (lw_at lw_m3 106 rfl) rfl
theorem q703 : (Jvm.Cond.constantLong "NextMustShare" (377 : Nat) (10 : Int64)) ∈ lw_all := lw_g (lw_at lw_m3 107 rfl) rfl
theorem q704 : (Jvm.Cond.constantLong "NextMustShare" (379 : Nat) (-1 : Int64)) ∈ lw_all := lw_g (lw_at lw_m3 108 rfl) rfl
theorem q706 : (Jvm.Cond.instanceMethod ({ cls := "NextMustShare", name := "between", desc := "(II)I" } : Jvm.MethodName)) ∈ lw_all := lw_g (lw_at lw_m3 110 rfl) rfl
theorem q707 : (Jvm.Cond.selects "NextMustShare" ({ cls := "NextMustShare", name := "between", desc := "(II)I" } : Jvm.MethodName) ({ cls := "NextMustShare", name := "between", desc := "(II)I" } : Jvm.MethodName)) ∈ lw_all := lw_g (lw_at lw_m3 111 rfl) rfl
theorem q708 : (Jvm.Cond.code ({ cls := "NextMustShare", name := "between", desc := "(II)I" } : Jvm.MethodName) prog_1_method_67_code (4 : Nat) (Option.some Jvm.ClassFile.FieldType.int)) ∈ lw_all := lw_g (lw_at lw_m3 112 rfl) rfl
theorem q710 : (Jvm.Cond.instanceMethod ({ cls := "NextMustShare", name := "shortest", desc := "(II)I" } : Jvm.MethodName)) ∈ lw_all := lw_g (lw_at lw_m3 114 rfl) rfl
theorem q711 : (Jvm.Cond.selects "NextMustShare" ({ cls := "NextMustShare", name := "shortest", desc := "(II)I" } : Jvm.MethodName) ({ cls := "NextMustShare", name := "shortest", desc := "(II)I" } : Jvm.MethodName)) ∈ lw_all := lw_g (lw_at lw_m3 115 rfl) rfl
theorem q712 : (Jvm.Cond.code ({ cls := "NextMustShare", name := "shortest", desc := "(II)I" } : Jvm.MethodName) prog_1_method_69_code (4 : Nat) (Option.some Jvm.ClassFile.FieldType.int)) ∈ lw_all := lw_g (lw_at lw_m3 116 rfl) rfl
theorem q713 : (Jvm.Cond.methodLink "NextMustShare" (382 : Nat) ({ cls := "NextMustShare", name := "measuresLeast", desc := "(I)V" } : Jvm.MethodName)) ∈ lw_all := lw_g (lw_at lw_m3 117 rfl) rfl
theorem q714 : (Jvm.Cond.privateMethod ({ cls := "NextMustShare", name := "measuresLeast", desc := "(I)V" } : Jvm.MethodName)) ∈ lw_tbl := lw_at lw_m3 118 rfl
theorem q715 : (Jvm.Cond.instanceMethod ({ cls := "NextMustShare", name := "measuresLeast", desc := "(I)V" } : Jvm.MethodName)) ∈ lw_all := lw_g (lw_at lw_m3 119 rfl) rfl
theorem q716 : (Jvm.Cond.code ({ cls := "NextMustShare", name := "measuresLeast", desc := "(I)V" } : Jvm.MethodName) prog_1_method_68_code (6 : Nat) (Option.none : Option Jvm.ClassFile.FieldType)) ∈ lw_all := lw_g (lw_at lw_m3 120 rfl) rfl
theorem q717 : (Jvm.Cond.constant "NextMustShare" (381 : Nat) (1000000 : Int32)) ∈ lw_all := lw_g (lw_at lw_m3 121 rfl) rfl
theorem q719 : (Jvm.Cond.instanceMethod ({ cls := "NextMustShare", name := "bears", desc := "(I)I" } : Jvm.MethodName)) ∈ lw_all := lw_g (lw_at lw_m3 123 rfl) rfl
theorem q720 : (Jvm.Cond.selects "NextMustShare" ({ cls := "NextMustShare", name := "bears", desc := "(I)I" } : Jvm.MethodName) ({ cls := "NextMustShare", name := "bears", desc := "(I)I" } : Jvm.MethodName)) ∈ lw_all := lw_g (lw_at lw_m3 124 rfl) rfl
theorem q721 : (Jvm.Cond.code ({ cls := "NextMustShare", name := "bears", desc := "(I)I" } : Jvm.MethodName) prog_1_method_70_code (3 : Nat) (Option.some Jvm.ClassFile.FieldType.int)) ∈ lw_all := lw_g (lw_at lw_m3 125 rfl) rfl
theorem q722 : (Jvm.Cond.methodLink "NextMustShare" (269 : Nat) ({ cls := "NextMustShare", name := "isGuest", desc := "(I)Z" } : Jvm.MethodName)) ∈ lw_all := lw_g (lw_at lw_m3 126 rfl) rfl
theorem q723 : (Jvm.Cond.privateMethod ({ cls := "NextMustShare", name := "isGuest", desc := "(I)Z" } : Jvm.MethodName)) ∈ lw_tbl := lw_at lw_m3 127 rfl
theorem q724 : (Jvm.Cond.instanceMethod ({ cls := "NextMustShare", name := "isGuest", desc := "(I)Z" } : Jvm.MethodName)) ∈ lw_all := lw_g (lw_at lw_m3 128 rfl) rfl
theorem q725 : (Jvm.Cond.code ({ cls := "NextMustShare", name := "isGuest", desc := "(I)Z" } : Jvm.MethodName) prog_1_method_5_code (2 : Nat) (Option.some Jvm.ClassFile.FieldType.boolean)) ∈ lw_all := lw_g (lw_at lw_m3 129 rfl) rfl
theorem q727 : (Jvm.Cond.instanceMethod ({ cls := "NextMustShare", name := "beside", desc := "(I)I" } : Jvm.MethodName)) ∈ lw_all := lw_g (lw_at lw_m3 131 rfl) rfl
theorem q728 : (Jvm.Cond.selects "NextMustShare" ({ cls := "NextMustShare", name := "beside", desc := "(I)I" } : Jvm.MethodName) ({ cls := "NextMustShare", name := "beside", desc := "(I)I" } : Jvm.MethodName)) ∈ lw_all := lw_g (lw_at lw_m3 132 rfl) rfl
theorem q729 : (Jvm.Cond.code ({ cls := "NextMustShare", name := "beside", desc := "(I)I" } : Jvm.MethodName) prog_1_method_71_code (2 : Nat) (Option.some Jvm.ClassFile.FieldType.int)) ∈ lw_all := lw_g (lw_at lw_m3 133 rfl) rfl
theorem q730 : (Jvm.Cond.methodLink "NextMustShare" (385 : Nat) ({ cls := "NextMustShare", name := "pairsOf", desc := "(I)I" } : Jvm.MethodName)) ∈ lw_all := lw_g (lw_at lw_m3 134 rfl) rfl
theorem q731 : (Jvm.Cond.privateMethod ({ cls := "NextMustShare", name := "pairsOf", desc := "(I)I" } : Jvm.MethodName)) ∈ lw_tbl := lw_at lw_m3 135 rfl
theorem q732 : (Jvm.Cond.instanceMethod ({ cls := "NextMustShare", name := "pairsOf", desc := "(I)I" } : Jvm.MethodName)) ∈ lw_all := lw_g (lw_at lw_m3 136 rfl) rfl
theorem q733 : (Jvm.Cond.code ({ cls := "NextMustShare", name := "pairsOf", desc := "(I)I" } : Jvm.MethodName) prog_1_method_75_code (4 : Nat) (Option.some Jvm.ClassFile.FieldType.int)) ∈ lw_all := lw_g (lw_at lw_m3 137 rfl) rfl
theorem q735 : (Jvm.Cond.instanceMethod ({ cls := "NextMustShare", name := "parts", desc := "()I" } : Jvm.MethodName)) ∈ lw_all := lw_g (lw_at lw_m3 139 rfl) rfl
theorem q736 : (Jvm.Cond.selects "NextMustShare" ({ cls := "NextMustShare", name := "parts", desc := "()I" } : Jvm.MethodName) ({ cls := "NextMustShare", name := "parts", desc := "()I" } : Jvm.MethodName)) ∈ lw_all := lw_g (lw_at lw_m3 140 rfl) rfl
theorem q737 : (Jvm.Cond.code ({ cls := "NextMustShare", name := "parts", desc := "()I" } : Jvm.MethodName) prog_1_method_73_code (3 : Nat) (Option.some Jvm.ClassFile.FieldType.int)) ∈ lw_all := lw_g (lw_at lw_m3 141 rfl) rfl
theorem q738 : (Jvm.Cond.methodLink "NextMustShare" (388 : Nat) ({ cls := "NextMustShare", name := "partOf", desc := "(I)I" } : Jvm.MethodName)) ∈ lw_all := lw_g (lw_at lw_m3 142 rfl) rfl
theorem q739 : (Jvm.Cond.privateMethod ({ cls := "NextMustShare", name := "partOf", desc := "(I)I" } : Jvm.MethodName)) ∈ lw_tbl := lw_at lw_m3 143 rfl
theorem q740 : (Jvm.Cond.instanceMethod ({ cls := "NextMustShare", name := "partOf", desc := "(I)I" } : Jvm.MethodName)) ∈ lw_all := lw_g (lw_at lw_m3 144 rfl) rfl
theorem q741 : (Jvm.Cond.code ({ cls := "NextMustShare", name := "partOf", desc := "(I)I" } : Jvm.MethodName) prog_1_method_72_code (5 : Nat) (Option.some Jvm.ClassFile.FieldType.int)) ∈ lw_all := lw_g (lw_at lw_m3 145 rfl) rfl
theorem q743 : (Jvm.Cond.instanceMethod ({ cls := "NextMustShare", name := "rare", desc := "()I" } : Jvm.MethodName)) ∈ lw_all := lw_g (lw_at lw_m3 147 rfl) rfl
theorem q744 : (Jvm.Cond.selects "NextMustShare" ({ cls := "NextMustShare", name := "rare", desc := "()I" } : Jvm.MethodName) ({ cls := "NextMustShare", name := "rare", desc := "()I" } : Jvm.MethodName)) ∈ lw_all := lw_g (lw_at lw_m3 148 rfl) rfl
theorem q745 : (Jvm.Cond.code ({ cls := "NextMustShare", name := "rare", desc := "()I" } : Jvm.MethodName) prog_1_method_74_code (6 : Nat) (Option.some Jvm.ClassFile.FieldType.int)) ∈ lw_all := lw_g (lw_at lw_m3 149 rfl) rfl
theorem q747 : (Jvm.Cond.instanceMethod ({ cls := "NextMustShare", name := "round", desc := "()I" } : Jvm.MethodName)) ∈ lw_all := lw_g (lw_at lw_m3 151 rfl) rfl
theorem q748 : (Jvm.Cond.selects "NextMustShare" ({ cls := "NextMustShare", name := "round", desc := "()I" } : Jvm.MethodName) ({ cls := "NextMustShare", name := "round", desc := "()I" } : Jvm.MethodName)) ∈ lw_all := lw_g (lw_at lw_m3 152 rfl) rfl
theorem q749 : (Jvm.Cond.code ({ cls := "NextMustShare", name := "round", desc := "()I" } : Jvm.MethodName) prog_1_method_76_code (5 : Nat) (Option.some Jvm.ClassFile.FieldType.int)) ∈ lw_all := lw_g (lw_at lw_m3 153 rfl) rfl
theorem q751 : (Jvm.Cond.instanceMethod ({ cls := "NextMustShare", name := "shut", desc := "(I)I" } : Jvm.MethodName)) ∈ lw_all := lw_g (lw_at lw_m3 155 rfl) rfl
theorem q752 : (Jvm.Cond.selects "NextMustShare" ({ cls := "NextMustShare", name := "shut", desc := "(I)I" } : Jvm.MethodName) ({ cls := "NextMustShare", name := "shut", desc := "(I)I" } : Jvm.MethodName)) ∈ lw_all := lw_g (lw_at lw_m3 156 rfl) rfl
theorem q753 : (Jvm.Cond.code ({ cls := "NextMustShare", name := "shut", desc := "(I)I" } : Jvm.MethodName) prog_1_method_78_code (4 : Nat) (Option.some Jvm.ClassFile.FieldType.int)) ∈ lw_all := lw_g (lw_at lw_m3 157 rfl) rfl
theorem q754 : (Jvm.Cond.methodLink "NextMustShare" (391 : Nat) ({ cls := "NextMustShare", name := "reaches", desc := "(II)V" } : Jvm.MethodName)) ∈ lw_all := lw_g (lw_at lw_m3 158 rfl) rfl
theorem q755 : (Jvm.Cond.privateMethod ({ cls := "NextMustShare", name := "reaches", desc := "(II)V" } : Jvm.MethodName)) ∈ lw_tbl := lw_at lw_m3 159 rfl
theorem q756 : (Jvm.Cond.instanceMethod ({ cls := "NextMustShare", name := "reaches", desc := "(II)V" } : Jvm.MethodName)) ∈ lw_all := lw_g (lw_at lw_m3 160 rfl) rfl
theorem q757 : (Jvm.Cond.code ({ cls := "NextMustShare", name := "reaches", desc := "(II)V" } : Jvm.MethodName) prog_1_method_77_code (6 : Nat) (Option.none : Option Jvm.ClassFile.FieldType)) ∈ lw_all := lw_g (lw_at lw_m3 161 rfl) rfl
theorem q759 : (Jvm.Cond.instanceMethod ({ cls := "NextMustShare", name := "best", desc := "(II)I" } : Jvm.MethodName)) ∈ lw_all := lw_g (lw_at lw_m3 163 rfl) rfl
theorem q760 : (Jvm.Cond.selects "NextMustShare" ({ cls := "NextMustShare", name := "best", desc := "(II)I" } : Jvm.MethodName) ({ cls := "NextMustShare", name := "best", desc := "(II)I" } : Jvm.MethodName)) ∈ lw_all := lw_g (lw_at lw_m3 164 rfl) rfl
theorem q761 : (Jvm.Cond.code ({ cls := "NextMustShare", name := "best", desc := "(II)I" } : Jvm.MethodName) prog_1_method_83_code (7 : Nat) (Option.some Jvm.ClassFile.FieldType.int)) ∈ lw_all := lw_g (lw_at lw_m3 165 rfl) rfl
theorem q762 : (Jvm.Cond.methodLink "NextMustShare" (396 : Nat) ({ cls := "NextMustShare", name := "isPurse", desc := "(II)Z" } : Jvm.MethodName)) ∈ lw_all := lw_g (lw_at lw_m3 166 rfl) rfl
theorem q763 : (Jvm.Cond.privateMethod ({ cls := "NextMustShare", name := "isPurse", desc := "(II)Z" } : Jvm.MethodName)) ∈ lw_tbl := lw_at lw_m3 167 rfl
theorem q764 : (Jvm.Cond.instanceMethod ({ cls := "NextMustShare", name := "isPurse", desc := "(II)Z" } : Jvm.MethodName)) ∈ lw_all := lw_g (lw_at lw_m3 168 rfl) rfl
theorem q765 : (Jvm.Cond.code ({ cls := "NextMustShare", name := "isPurse", desc := "(II)Z" } : Jvm.MethodName) prog_1_method_81_code (3 : Nat) (Option.some Jvm.ClassFile.FieldType.boolean)) ∈ lw_all := lw_g (lw_at lw_m3 169 rfl) rfl
theorem q766 : (Jvm.Cond.constantLong "NextMustShare" (394 : Nat) (999 : Int64)) ∈ lw_all := lw_g (lw_at lw_m3 170 rfl) rfl
theorem q767 : (Jvm.Cond.methodLink "NextMustShare" (399 : Nat) ({ cls := "NextMustShare", name := "joyIn", desc := "(II)I" } : Jvm.MethodName)) ∈ lw_all := lw_g (lw_at lw_m3 171 rfl) rfl
theorem q768 : (Jvm.Cond.privateMethod ({ cls := "NextMustShare", name := "joyIn", desc := "(II)I" } : Jvm.MethodName)) ∈ lw_tbl := lw_at lw_m3 172 rfl
theorem q769 : (Jvm.Cond.instanceMethod ({ cls := "NextMustShare", name := "joyIn", desc := "(II)I" } : Jvm.MethodName)) ∈ lw_all := lw_g (lw_at lw_m3 173 rfl) rfl
theorem q770 : (Jvm.Cond.code ({ cls := "NextMustShare", name := "joyIn", desc := "(II)I" } : Jvm.MethodName) prog_1_method_82_code (5 : Nat) (Option.some Jvm.ClassFile.FieldType.int)) ∈ lw_all := lw_g (lw_at lw_m3 174 rfl) rfl
theorem q771 : (Jvm.Cond.methodLink "NextMustShare" (249 : Nat) ({ cls := "NextMustShare", name := "joyOf", desc := "(II)I" } : Jvm.MethodName)) ∈ lw_all := lw_g (lw_at lw_m3 175 rfl) rfl
theorem q772 : (Jvm.Cond.privateMethod ({ cls := "NextMustShare", name := "joyOf", desc := "(II)I" } : Jvm.MethodName)) ∈ lw_tbl := lw_at lw_m3 176 rfl
theorem q773 : (Jvm.Cond.instanceMethod ({ cls := "NextMustShare", name := "joyOf", desc := "(II)I" } : Jvm.MethodName)) ∈ lw_all := lw_g (lw_at lw_m3 177 rfl) rfl
theorem q774 : (Jvm.Cond.code ({ cls := "NextMustShare", name := "joyOf", desc := "(II)I" } : Jvm.MethodName) prog_1_method_24_code (3 : Nat) (Option.some Jvm.ClassFile.FieldType.int)) ∈ lw_all := lw_g (lw_at lw_m3 178 rfl) rfl
theorem q775 : (Jvm.Cond.methodLink "NextMustShare" (242 : Nat) ({ cls := "NextMustShare$Node", name := "value", desc := "(II)I" } : Jvm.MethodName)) ∈ lw_all := lw_g (lw_at lw_m3 179 rfl) rfl
theorem q794 : (Jvm.Cond.methodLink "NextMustShare" (402 : Nat) ({ cls := "NextMustShare", name := "costOf", desc := "(I)I" } : Jvm.MethodName)) ∈ lw_all := lw_g (lw_at lw_m3 198 rfl) rfl
theorem q795 : (Jvm.Cond.privateMethod ({ cls := "NextMustShare", name := "costOf", desc := "(I)I" } : Jvm.MethodName)) ∈ lw_tbl := lw_at lw_m3 199 rfl
theorem q796 : (Jvm.Cond.instanceMethod ({ cls := "NextMustShare", name := "costOf", desc := "(I)I" } : Jvm.MethodName)) ∈ lw_all := lw_g (lw_at lw_m3 200 rfl) rfl
theorem q797 : (Jvm.Cond.code ({ cls := "NextMustShare", name := "costOf", desc := "(I)I" } : Jvm.MethodName) prog_1_method_79_code (4 : Nat) (Option.some Jvm.ClassFile.FieldType.int)) ∈ lw_all := lw_g (lw_at lw_m3 201 rfl) rfl
theorem q798 : (Jvm.Cond.methodLink "NextMustShare" (405 : Nat) ({ cls := "NextMustShare", name := "bestSet", desc := "(IZ)I" } : Jvm.MethodName)) ∈ lw_all := lw_g (lw_at lw_m3 202 rfl) rfl
theorem q799 : (Jvm.Cond.privateMethod ({ cls := "NextMustShare", name := "bestSet", desc := "(IZ)I" } : Jvm.MethodName)) ∈ lw_tbl := lw_at lw_m3 203 rfl
theorem q800 : (Jvm.Cond.instanceMethod ({ cls := "NextMustShare", name := "bestSet", desc := "(IZ)I" } : Jvm.MethodName)) ∈ lw_all := lw_g (lw_at lw_m3 204 rfl) rfl
theorem q801 : (Jvm.Cond.code ({ cls := "NextMustShare", name := "bestSet", desc := "(IZ)I" } : Jvm.MethodName) prog_1_method_80_code (10 : Nat) (Option.some Jvm.ClassFile.FieldType.int)) ∈ lw_all := lw_g (lw_at lw_m3 205 rfl) rfl
theorem q803 : (Jvm.Cond.instanceMethod ({ cls := "NextMustShare", name := "fair", desc := "(II)I" } : Jvm.MethodName)) ∈ lw_all := lw_g (lw_at lw_m3 207 rfl) rfl
theorem q804 : (Jvm.Cond.selects "NextMustShare" ({ cls := "NextMustShare", name := "fair", desc := "(II)I" } : Jvm.MethodName) ({ cls := "NextMustShare", name := "fair", desc := "(II)I" } : Jvm.MethodName)) ∈ lw_all := lw_g (lw_at lw_m3 208 rfl) rfl
theorem q805 : (Jvm.Cond.code ({ cls := "NextMustShare", name := "fair", desc := "(II)I" } : Jvm.MethodName) prog_1_method_84_code (7 : Nat) (Option.some Jvm.ClassFile.FieldType.int)) ∈ lw_all := lw_g (lw_at lw_m3 209 rfl) rfl
theorem q807 : (Jvm.Cond.instanceMethod ({ cls := "NextMustShare", name := "cheap", desc := "(I)I" } : Jvm.MethodName)) ∈ lw_all := lw_g (lw_at lw_m3 211 rfl) rfl
theorem q808 : (Jvm.Cond.selects "NextMustShare" ({ cls := "NextMustShare", name := "cheap", desc := "(I)I" } : Jvm.MethodName) ({ cls := "NextMustShare", name := "cheap", desc := "(I)I" } : Jvm.MethodName)) ∈ lw_all := lw_g (lw_at lw_m3 212 rfl) rfl
theorem q809 : (Jvm.Cond.code ({ cls := "NextMustShare", name := "cheap", desc := "(I)I" } : Jvm.MethodName) prog_1_method_85_code (3 : Nat) (Option.some Jvm.ClassFile.FieldType.int)) ∈ lw_all := lw_g (lw_at lw_m3 213 rfl) rfl
theorem q811 : (Jvm.Cond.instanceMethod ({ cls := "NextMustShare", name := "dear", desc := "(I)I" } : Jvm.MethodName)) ∈ lw_all := lw_g (lw_at lw_m3 215 rfl) rfl
theorem q812 : (Jvm.Cond.selects "NextMustShare" ({ cls := "NextMustShare", name := "dear", desc := "(I)I" } : Jvm.MethodName) ({ cls := "NextMustShare", name := "dear", desc := "(I)I" } : Jvm.MethodName)) ∈ lw_all := lw_g (lw_at lw_m3 216 rfl) rfl
theorem q813 : (Jvm.Cond.code ({ cls := "NextMustShare", name := "dear", desc := "(I)I" } : Jvm.MethodName) prog_1_method_86_code (3 : Nat) (Option.some Jvm.ClassFile.FieldType.int)) ∈ lw_all := lw_g (lw_at lw_m3 217 rfl) rfl
theorem q815 : (Jvm.Cond.instanceMethod ({ cls := "NextMustShare", name := "game", desc := "()I" } : Jvm.MethodName)) ∈ lw_all := lw_g (lw_at lw_m3 219 rfl) rfl
theorem q816 : (Jvm.Cond.selects "NextMustShare" ({ cls := "NextMustShare", name := "game", desc := "()I" } : Jvm.MethodName) ({ cls := "NextMustShare", name := "game", desc := "()I" } : Jvm.MethodName)) ∈ lw_all := lw_g (lw_at lw_m3 220 rfl) rfl
theorem q817 : (Jvm.Cond.code ({ cls := "NextMustShare", name := "game", desc := "()I" } : Jvm.MethodName) prog_1_method_88_code (7 : Nat) (Option.some Jvm.ClassFile.FieldType.int)) ∈ lw_all := lw_g (lw_at lw_m3 221 rfl) rfl
theorem q818 : (Jvm.Cond.methodLink "NextMustShare" (408 : Nat) ({ cls := "NextMustShare", name := "plays", desc := "()V" } : Jvm.MethodName)) ∈ lw_all := lw_g (lw_at lw_m3 222 rfl) rfl
theorem q819 : (Jvm.Cond.privateMethod ({ cls := "NextMustShare", name := "plays", desc := "()V" } : Jvm.MethodName)) ∈ lw_tbl := lw_at lw_m3 223 rfl
theorem q820 : (Jvm.Cond.instanceMethod ({ cls := "NextMustShare", name := "plays", desc := "()V" } : Jvm.MethodName)) ∈ lw_all := lw_g (lw_at lw_m3 224 rfl) rfl
theorem q821 : (Jvm.Cond.code ({ cls := "NextMustShare", name := "plays", desc := "()V" } : Jvm.MethodName) prog_1_method_87_code (9 : Nat) (Option.none : Option Jvm.ClassFile.FieldType)) ∈ lw_all := lw_g (lw_at lw_m3 225 rfl) rfl
theorem q823 : (Jvm.Cond.instanceMethod ({ cls := "NextMustShare", name := "greedy", desc := "()I" } : Jvm.MethodName)) ∈ lw_all := lw_g (lw_at lw_m3 227 rfl) rfl
theorem q824 : (Jvm.Cond.selects "NextMustShare" ({ cls := "NextMustShare", name := "greedy", desc := "()I" } : Jvm.MethodName) ({ cls := "NextMustShare", name := "greedy", desc := "()I" } : Jvm.MethodName)) ∈ lw_all := lw_g (lw_at lw_m3 228 rfl) rfl
theorem q825 : (Jvm.Cond.code ({ cls := "NextMustShare", name := "greedy", desc := "()I" } : Jvm.MethodName) prog_1_method_91_code (3 : Nat) (Option.some Jvm.ClassFile.FieldType.int)) ∈ lw_all := lw_g (lw_at lw_m3 229 rfl) rfl
theorem q826 : (Jvm.Cond.methodLink "NextMustShare" (414 : Nat) ({ cls := "NextMustShare", name := "playsGreedy", desc := "(III)V" } : Jvm.MethodName)) ∈ lw_all := lw_g (lw_at lw_m3 230 rfl) rfl
theorem q827 : (Jvm.Cond.privateMethod ({ cls := "NextMustShare", name := "playsGreedy", desc := "(III)V" } : Jvm.MethodName)) ∈ lw_tbl := lw_at lw_m3 231 rfl
theorem q828 : (Jvm.Cond.instanceMethod ({ cls := "NextMustShare", name := "playsGreedy", desc := "(III)V" } : Jvm.MethodName)) ∈ lw_all := lw_g (lw_at lw_m3 232 rfl) rfl
theorem q829 : (Jvm.Cond.code ({ cls := "NextMustShare", name := "playsGreedy", desc := "(III)V" } : Jvm.MethodName) prog_1_method_90_code (10 : Nat) (Option.none : Option Jvm.ClassFile.FieldType)) ∈ lw_all := lw_g (lw_at lw_m3 233 rfl) rfl
theorem q830 : (Jvm.Cond.methodLink "NextMustShare" (411 : Nat) ({ cls := "NextMustShare", name := "gladdest", desc := "(II)I" } : Jvm.MethodName)) ∈ lw_all := lw_g (lw_at lw_m3 234 rfl) rfl
theorem q831 : (Jvm.Cond.privateMethod ({ cls := "NextMustShare", name := "gladdest", desc := "(II)I" } : Jvm.MethodName)) ∈ lw_tbl := lw_at lw_m3 235 rfl
theorem q832 : (Jvm.Cond.instanceMethod ({ cls := "NextMustShare", name := "gladdest", desc := "(II)I" } : Jvm.MethodName)) ∈ lw_all := lw_g (lw_at lw_m3 236 rfl) rfl
theorem q833 : (Jvm.Cond.code ({ cls := "NextMustShare", name := "gladdest", desc := "(II)I" } : Jvm.MethodName) prog_1_method_89_code (5 : Nat) (Option.some Jvm.ClassFile.FieldType.int)) ∈ lw_all := lw_g (lw_at lw_m3 237 rfl) rfl
theorem q834 : (Jvm.Cond.methodLink "NextMustShare" (263 : Nat) ({ cls := "NextMustShare", name := "joyOfAll", desc := "(I)I" } : Jvm.MethodName)) ∈ lw_all := lw_g (lw_at lw_m3 238 rfl) rfl
theorem q835 : (Jvm.Cond.privateMethod ({ cls := "NextMustShare", name := "joyOfAll", desc := "(I)I" } : Jvm.MethodName)) ∈ lw_tbl := lw_at lw_m3 239 rfl
theorem q836 : (Jvm.Cond.instanceMethod ({ cls := "NextMustShare", name := "joyOfAll", desc := "(I)I" } : Jvm.MethodName)) ∈ lw_all := lw_g (lw_at lw_m4 0 rfl) rfl
theorem q837 : (Jvm.Cond.code ({ cls := "NextMustShare", name := "joyOfAll", desc := "(I)I" } : Jvm.MethodName) prog_1_method_25_code (4 : Nat) (Option.some Jvm.ClassFile.FieldType.int)) ∈ lw_all := lw_g (lw_at lw_m4 1 rfl) rfl
theorem q839 : (Jvm.Cond.instanceMethod ({ cls := "NextMustShare", name := "mend", desc := "(II)I" } : Jvm.MethodName)) ∈ lw_all := lw_g (lw_at lw_m4 3 rfl) rfl
theorem q840 : (Jvm.Cond.selects "NextMustShare" ({ cls := "NextMustShare", name := "mend", desc := "(II)I" } : Jvm.MethodName) ({ cls := "NextMustShare", name := "mend", desc := "(II)I" } : Jvm.MethodName)) ∈ lw_all := lw_g (lw_at lw_m4 4 rfl) rfl
theorem q841 : (Jvm.Cond.code ({ cls := "NextMustShare", name := "mend", desc := "(II)I" } : Jvm.MethodName) prog_1_method_92_code (9 : Nat) (Option.some Jvm.ClassFile.FieldType.int)) ∈ lw_all := lw_g (lw_at lw_m4 5 rfl) rfl
theorem q842 : (Jvm.Cond.methodLink "NextMustShare" (417 : Nat) ({ cls := "NextMustShare", name := "mendBy", desc := "(III)I" } : Jvm.MethodName)) ∈ lw_all := lw_g (lw_at lw_m4 6 rfl) rfl
theorem q843 : (Jvm.Cond.privateMethod ({ cls := "NextMustShare", name := "mendBy", desc := "(III)I" } : Jvm.MethodName)) ∈ lw_tbl := lw_at lw_m4 7 rfl
theorem q844 : (Jvm.Cond.instanceMethod ({ cls := "NextMustShare", name := "mendBy", desc := "(III)I" } : Jvm.MethodName)) ∈ lw_all := lw_g (lw_at lw_m4 8 rfl) rfl
theorem q845 : (Jvm.Cond.code ({ cls := "NextMustShare", name := "mendBy", desc := "(III)I" } : Jvm.MethodName) prog_1_method_93_code (4 : Nat) (Option.some Jvm.ClassFile.FieldType.int)) ∈ lw_all := lw_g (lw_at lw_m4 9 rfl) rfl
theorem q847 : (Jvm.Cond.instanceMethod ({ cls := "NextMustShare", name := "fills", desc := "(I)J" } : Jvm.MethodName)) ∈ lw_all := lw_g (lw_at lw_m4 11 rfl) rfl
theorem q848 : (Jvm.Cond.selects "NextMustShare" ({ cls := "NextMustShare", name := "fills", desc := "(I)J" } : Jvm.MethodName) ({ cls := "NextMustShare", name := "fills", desc := "(I)J" } : Jvm.MethodName)) ∈ lw_all := lw_g (lw_at lw_m4 12 rfl) rfl
theorem q849 : (Jvm.Cond.code ({ cls := "NextMustShare", name := "fills", desc := "(I)J" } : Jvm.MethodName) prog_1_method_96_code (8 : Nat) (Option.some Jvm.ClassFile.FieldType.long)) ∈ lw_all := lw_g (lw_at lw_m4 13 rfl) rfl
theorem q850 : (Jvm.Cond.constantLong "NextMustShare" (423 : Nat) (-3 : Int64)) ∈ lw_all := lw_g (lw_at lw_m4 14 rfl) rfl
theorem q851 : (Jvm.Cond.methodLink "NextMustShare" (425 : Nat) ({ cls := "NextMustShare", name := "countsFills", desc := "(I)V" } : Jvm.MethodName)) ∈ lw_all := lw_g (lw_at lw_m4 15 rfl) rfl
theorem q852 : (Jvm.Cond.privateMethod ({ cls := "NextMustShare", name := "countsFills", desc := "(I)V" } : Jvm.MethodName)) ∈ lw_tbl := lw_at lw_m4 16 rfl
theorem q853 : (Jvm.Cond.instanceMethod ({ cls := "NextMustShare", name := "countsFills", desc := "(I)V" } : Jvm.MethodName)) ∈ lw_all := lw_g (lw_at lw_m4 17 rfl) rfl
theorem q854 : (Jvm.Cond.code ({ cls := "NextMustShare", name := "countsFills", desc := "(I)V" } : Jvm.MethodName) prog_1_method_94_code (9 : Nat) (Option.none : Option Jvm.ClassFile.FieldType)) ∈ lw_all := lw_g (lw_at lw_m4 18 rfl) rfl
theorem q855 : (Jvm.Cond.methodLink "NextMustShare" (420 : Nat) ({ cls := "NextMustShare", name := "fits", desc := "(III)Z" } : Jvm.MethodName)) ∈ lw_all := lw_g (lw_at lw_m4 19 rfl) rfl
theorem q856 : (Jvm.Cond.privateMethod ({ cls := "NextMustShare", name := "fits", desc := "(III)Z" } : Jvm.MethodName)) ∈ lw_tbl := lw_at lw_m4 20 rfl
theorem q857 : (Jvm.Cond.instanceMethod ({ cls := "NextMustShare", name := "fits", desc := "(III)Z" } : Jvm.MethodName)) ∈ lw_all := lw_g (lw_at lw_m4 21 rfl) rfl
theorem q858 : (Jvm.Cond.code ({ cls := "NextMustShare", name := "fits", desc := "(III)Z" } : Jvm.MethodName) prog_1_method_95_code (4 : Nat) (Option.some Jvm.ClassFile.FieldType.boolean)) ∈ lw_all := lw_g (lw_at lw_m4 22 rfl) rfl
theorem q860 : (Jvm.Cond.instanceMethod ({ cls := "NextMustShare", name := "sure", desc := "(II)I" } : Jvm.MethodName)) ∈ lw_all := lw_g (lw_at lw_m4 24 rfl) rfl
theorem q861 : (Jvm.Cond.selects "NextMustShare" ({ cls := "NextMustShare", name := "sure", desc := "(II)I" } : Jvm.MethodName) ({ cls := "NextMustShare", name := "sure", desc := "(II)I" } : Jvm.MethodName)) ∈ lw_all := lw_g (lw_at lw_m4 25 rfl) rfl
theorem q862 : (Jvm.Cond.code ({ cls := "NextMustShare", name := "sure", desc := "(II)I" } : Jvm.MethodName) prog_1_method_97_code (6 : Nat) (Option.some Jvm.ClassFile.FieldType.int)) ∈ lw_all := lw_g (lw_at lw_m4 26 rfl) rfl
theorem q863 : (Jvm.Cond.methodLink "NextMustShare" (428 : Nat) ({ cls := "NextMustShare", name := "reachesBy", desc := "(I)V" } : Jvm.MethodName)) ∈ lw_all := lw_g (lw_at lw_m4 27 rfl) rfl
theorem q864 : (Jvm.Cond.privateMethod ({ cls := "NextMustShare", name := "reachesBy", desc := "(I)V" } : Jvm.MethodName)) ∈ lw_tbl := lw_at lw_m4 28 rfl
theorem q865 : (Jvm.Cond.instanceMethod ({ cls := "NextMustShare", name := "reachesBy", desc := "(I)V" } : Jvm.MethodName)) ∈ lw_all := lw_g (lw_at lw_m4 29 rfl) rfl
theorem q866 : (Jvm.Cond.code ({ cls := "NextMustShare", name := "reachesBy", desc := "(I)V" } : Jvm.MethodName) prog_1_method_98_code (6 : Nat) (Option.none : Option Jvm.ClassFile.FieldType)) ∈ lw_all := lw_g (lw_at lw_m4 30 rfl) rfl
theorem q868 : (Jvm.Cond.instanceMethod ({ cls := "NextMustShare", name := "hearths", desc := "(I)I" } : Jvm.MethodName)) ∈ lw_all := lw_g (lw_at lw_m4 32 rfl) rfl
theorem q869 : (Jvm.Cond.selects "NextMustShare" ({ cls := "NextMustShare", name := "hearths", desc := "(I)I" } : Jvm.MethodName) ({ cls := "NextMustShare", name := "hearths", desc := "(I)I" } : Jvm.MethodName)) ∈ lw_all := lw_g (lw_at lw_m4 33 rfl) rfl
theorem q870 : (Jvm.Cond.code ({ cls := "NextMustShare", name := "hearths", desc := "(I)I" } : Jvm.MethodName) prog_1_method_99_code (6 : Nat) (Option.some Jvm.ClassFile.FieldType.int)) ∈ lw_all := lw_g (lw_at lw_m4 34 rfl) rfl
theorem q872 : (Jvm.Cond.instanceMethod ({ cls := "NextMustShare", name := "late", desc := "(II)I" } : Jvm.MethodName)) ∈ lw_all := lw_g (lw_at lw_m4 36 rfl) rfl
theorem q873 : (Jvm.Cond.selects "NextMustShare" ({ cls := "NextMustShare", name := "late", desc := "(II)I" } : Jvm.MethodName) ({ cls := "NextMustShare", name := "late", desc := "(II)I" } : Jvm.MethodName)) ∈ lw_all := lw_g (lw_at lw_m4 37 rfl) rfl
theorem q874 : (Jvm.Cond.code ({ cls := "NextMustShare", name := "late", desc := "(II)I" } : Jvm.MethodName) prog_1_method_100_code (7 : Nat) (Option.some Jvm.ClassFile.FieldType.int)) ∈ lw_all := lw_g (lw_at lw_m4 38 rfl) rfl
theorem q876 : (Jvm.Cond.instanceMethod ({ cls := "NextMustShare", name := "poison", desc := "(II)I" } : Jvm.MethodName)) ∈ lw_all := lw_g (lw_at lw_m4 40 rfl) rfl
theorem q877 : (Jvm.Cond.selects "NextMustShare" ({ cls := "NextMustShare", name := "poison", desc := "(II)I" } : Jvm.MethodName) ({ cls := "NextMustShare", name := "poison", desc := "(II)I" } : Jvm.MethodName)) ∈ lw_all := lw_g (lw_at lw_m4 41 rfl) rfl
theorem q878 : (Jvm.Cond.code ({ cls := "NextMustShare", name := "poison", desc := "(II)I" } : Jvm.MethodName) prog_1_method_102_code (5 : Nat) (Option.some Jvm.ClassFile.FieldType.int)) ∈ lw_all := lw_g (lw_at lw_m4 42 rfl) rfl
theorem q879 : (Jvm.Cond.methodLink "NextMustShare" (431 : Nat) ({ cls := "NextMustShare", name := "eatenBy", desc := "(II)I" } : Jvm.MethodName)) ∈ lw_all := lw_g (lw_at lw_m4 43 rfl) rfl
theorem q880 : (Jvm.Cond.privateMethod ({ cls := "NextMustShare", name := "eatenBy", desc := "(II)I" } : Jvm.MethodName)) ∈ lw_tbl := lw_at lw_m4 44 rfl
theorem q881 : (Jvm.Cond.instanceMethod ({ cls := "NextMustShare", name := "eatenBy", desc := "(II)I" } : Jvm.MethodName)) ∈ lw_all := lw_g (lw_at lw_m4 45 rfl) rfl
theorem q882 : (Jvm.Cond.code ({ cls := "NextMustShare", name := "eatenBy", desc := "(II)I" } : Jvm.MethodName) prog_1_method_101_code (5 : Nat) (Option.some Jvm.ClassFile.FieldType.int)) ∈ lw_all := lw_g (lw_at lw_m4 46 rfl) rfl
theorem q884 : (Jvm.Cond.instanceMethod ({ cls := "NextMustShare", name := "eats", desc := "(II)I" } : Jvm.MethodName)) ∈ lw_all := lw_g (lw_at lw_m4 48 rfl) rfl
theorem q885 : (Jvm.Cond.selects "NextMustShare" ({ cls := "NextMustShare", name := "eats", desc := "(II)I" } : Jvm.MethodName) ({ cls := "NextMustShare", name := "eats", desc := "(II)I" } : Jvm.MethodName)) ∈ lw_all := lw_g (lw_at lw_m4 49 rfl) rfl
theorem q886 : (Jvm.Cond.code ({ cls := "NextMustShare", name := "eats", desc := "(II)I" } : Jvm.MethodName) prog_1_method_103_code (6 : Nat) (Option.some Jvm.ClassFile.FieldType.int)) ∈ lw_all := lw_g (lw_at lw_m4 50 rfl) rfl
theorem q888 : (Jvm.Cond.instanceMethod ({ cls := "NextMustShare", name := "made", desc := "()I" } : Jvm.MethodName)) ∈ lw_all := lw_g (lw_at lw_m4 52 rfl) rfl
theorem q889 : (Jvm.Cond.selects "NextMustShare" ({ cls := "NextMustShare", name := "made", desc := "()I" } : Jvm.MethodName) ({ cls := "NextMustShare", name := "made", desc := "()I" } : Jvm.MethodName)) ∈ lw_all := lw_g (lw_at lw_m4 53 rfl) rfl
theorem q890 : (Jvm.Cond.code ({ cls := "NextMustShare", name := "made", desc := "()I" } : Jvm.MethodName) prog_1_method_108_code (3 : Nat) (Option.some Jvm.ClassFile.FieldType.int)) ∈ lw_all := lw_g (lw_at lw_m4 54 rfl) rfl
theorem q891 : (Jvm.Cond.methodLink "NextMustShare" (444 : Nat) ({ cls := "NextMustShare", name := "joins", desc := "(I)Z" } : Jvm.MethodName)) ∈ lw_all := lw_g (lw_at lw_m4 55 rfl) rfl
theorem q892 : (Jvm.Cond.privateMethod ({ cls := "NextMustShare", name := "joins", desc := "(I)Z" } : Jvm.MethodName)) ∈ lw_tbl := lw_at lw_m4 56 rfl
theorem q893 : (Jvm.Cond.instanceMethod ({ cls := "NextMustShare", name := "joins", desc := "(I)Z" } : Jvm.MethodName)) ∈ lw_all := lw_g (lw_at lw_m4 57 rfl) rfl
theorem q894 : (Jvm.Cond.code ({ cls := "NextMustShare", name := "joins", desc := "(I)Z" } : Jvm.MethodName) prog_1_method_107_code (7 : Nat) (Option.some Jvm.ClassFile.FieldType.boolean)) ∈ lw_all := lw_g (lw_at lw_m4 58 rfl) rfl
theorem q895 : (Jvm.Cond.methodLink "NextMustShare" (437 : Nat) ({ cls := "NextMustShare", name := "isFineWith", desc := "(II)Z" } : Jvm.MethodName)) ∈ lw_all := lw_g (lw_at lw_m4 59 rfl) rfl
theorem q896 : (Jvm.Cond.privateMethod ({ cls := "NextMustShare", name := "isFineWith", desc := "(II)Z" } : Jvm.MethodName)) ∈ lw_tbl := lw_at lw_m4 60 rfl
theorem q897 : (Jvm.Cond.instanceMethod ({ cls := "NextMustShare", name := "isFineWith", desc := "(II)Z" } : Jvm.MethodName)) ∈ lw_all := lw_g (lw_at lw_m4 61 rfl) rfl
theorem q898 : (Jvm.Cond.code ({ cls := "NextMustShare", name := "isFineWith", desc := "(II)Z" } : Jvm.MethodName) prog_1_method_105_code (5 : Nat) (Option.some Jvm.ClassFile.FieldType.boolean)) ∈ lw_all := lw_g (lw_at lw_m4 62 rfl) rfl
theorem q899 : (Jvm.Cond.methodLink "NextMustShare" (440 : Nat) ({ cls := "NextMustShare", name := "goesWith", desc := "(IIII)Z" } : Jvm.MethodName)) ∈ lw_all := lw_g (lw_at lw_m4 63 rfl) rfl
theorem q900 : (Jvm.Cond.privateMethod ({ cls := "NextMustShare", name := "goesWith", desc := "(IIII)Z" } : Jvm.MethodName)) ∈ lw_tbl := lw_at lw_m4 64 rfl
theorem q901 : (Jvm.Cond.instanceMethod ({ cls := "NextMustShare", name := "goesWith", desc := "(IIII)Z" } : Jvm.MethodName)) ∈ lw_all := lw_g (lw_at lw_m4 65 rfl) rfl
theorem q902 : (Jvm.Cond.code ({ cls := "NextMustShare", name := "goesWith", desc := "(IIII)Z" } : Jvm.MethodName) prog_1_method_106_code (5 : Nat) (Option.some Jvm.ClassFile.FieldType.boolean)) ∈ lw_all := lw_g (lw_at lw_m4 66 rfl) rfl
theorem q903 : (Jvm.Cond.methodLink "NextMustShare" (434 : Nat) ({ cls := "NextMustShare", name := "stuffsOf", desc := "(II)I" } : Jvm.MethodName)) ∈ lw_all := lw_g (lw_at lw_m4 67 rfl) rfl
theorem q904 : (Jvm.Cond.privateMethod ({ cls := "NextMustShare", name := "stuffsOf", desc := "(II)I" } : Jvm.MethodName)) ∈ lw_tbl := lw_at lw_m4 68 rfl
theorem q905 : (Jvm.Cond.instanceMethod ({ cls := "NextMustShare", name := "stuffsOf", desc := "(II)I" } : Jvm.MethodName)) ∈ lw_all := lw_g (lw_at lw_m4 69 rfl) rfl
theorem q906 : (Jvm.Cond.code ({ cls := "NextMustShare", name := "stuffsOf", desc := "(II)I" } : Jvm.MethodName) prog_1_method_104_code (3 : Nat) (Option.some Jvm.ClassFile.FieldType.int)) ∈ lw_all := lw_g (lw_at lw_m4 70 rfl) rfl
theorem q908 : (Jvm.Cond.instanceMethod ({ cls := "NextMustShare", name := "keep", desc := "(I)Z" } : Jvm.MethodName)) ∈ lw_all := lw_g (lw_at lw_m4 72 rfl) rfl
theorem q909 : (Jvm.Cond.selects "NextMustShare" ({ cls := "NextMustShare", name := "keep", desc := "(I)Z" } : Jvm.MethodName) ({ cls := "NextMustShare", name := "keep", desc := "(I)Z" } : Jvm.MethodName)) ∈ lw_all := lw_g (lw_at lw_m4 73 rfl) rfl
theorem q910 : (Jvm.Cond.code ({ cls := "NextMustShare", name := "keep", desc := "(I)Z" } : Jvm.MethodName) prog_1_method_109_code (3 : Nat) (Option.some Jvm.ClassFile.FieldType.boolean)) ∈ lw_all := lw_g (lw_at lw_m4 74 rfl) rfl
theorem q912 : (Jvm.Cond.instanceMethod ({ cls := "NextMustShare", name := "again", desc := "(I)Z" } : Jvm.MethodName)) ∈ lw_all := lw_g (lw_at lw_m4 76 rfl) rfl
theorem q913 : (Jvm.Cond.selects "NextMustShare" ({ cls := "NextMustShare", name := "again", desc := "(I)Z" } : Jvm.MethodName) ({ cls := "NextMustShare", name := "again", desc := "(I)Z" } : Jvm.MethodName)) ∈ lw_all := lw_g (lw_at lw_m4 77 rfl) rfl
theorem q914 : (Jvm.Cond.code ({ cls := "NextMustShare", name := "again", desc := "(I)Z" } : Jvm.MethodName) prog_1_method_110_code (3 : Nat) (Option.some Jvm.ClassFile.FieldType.boolean)) ∈ lw_all := lw_g (lw_at lw_m4 78 rfl) rfl
theorem q916 : (Jvm.Cond.instanceMethod ({ cls := "NextMustShare", name := "count", desc := "(I)I" } : Jvm.MethodName)) ∈ lw_all := lw_g (lw_at lw_m4 80 rfl) rfl
theorem q917 : (Jvm.Cond.selects "NextMustShare" ({ cls := "NextMustShare", name := "count", desc := "(I)I" } : Jvm.MethodName) ({ cls := "NextMustShare", name := "count", desc := "(I)I" } : Jvm.MethodName)) ∈ lw_all := lw_g (lw_at lw_m4 81 rfl) rfl
theorem q918 : (Jvm.Cond.code ({ cls := "NextMustShare", name := "count", desc := "(I)I" } : Jvm.MethodName) prog_1_method_112_code (2 : Nat) (Option.some Jvm.ClassFile.FieldType.int)) ∈ lw_all := lw_g (lw_at lw_m4 82 rfl) rfl
theorem q919 : (Jvm.Cond.methodLink "NextMustShare" (447 : Nat) ({ cls := "NextMustShare", name := "laid", desc := "()I" } : Jvm.MethodName)) ∈ lw_all := lw_g (lw_at lw_m4 83 rfl) rfl
theorem q920 : (Jvm.Cond.privateMethod ({ cls := "NextMustShare", name := "laid", desc := "()I" } : Jvm.MethodName)) ∈ lw_tbl := lw_at lw_m4 84 rfl
theorem q921 : (Jvm.Cond.instanceMethod ({ cls := "NextMustShare", name := "laid", desc := "()I" } : Jvm.MethodName)) ∈ lw_all := lw_g (lw_at lw_m4 85 rfl) rfl
theorem q922 : (Jvm.Cond.code ({ cls := "NextMustShare", name := "laid", desc := "()I" } : Jvm.MethodName) prog_1_method_111_code (3 : Nat) (Option.some Jvm.ClassFile.FieldType.int)) ∈ lw_all := lw_g (lw_at lw_m4 86 rfl) rfl
theorem q928 : (Jvm.Cond.instanceMethod ({ cls := "NextMustShare", name := "dish", desc := "(II)I" } : Jvm.MethodName)) ∈ lw_all := lw_g (lw_at lw_m4 92 rfl) rfl
theorem q929 : (Jvm.Cond.selects "NextMustShare" ({ cls := "NextMustShare", name := "dish", desc := "(II)I" } : Jvm.MethodName) ({ cls := "NextMustShare", name := "dish", desc := "(II)I" } : Jvm.MethodName)) ∈ lw_all := lw_g (lw_at lw_m4 93 rfl) rfl
theorem q930 : (Jvm.Cond.code ({ cls := "NextMustShare", name := "dish", desc := "(II)I" } : Jvm.MethodName) prog_1_method_27_code (3 : Nat) (Option.some Jvm.ClassFile.FieldType.int)) ∈ lw_all := lw_g (lw_at lw_m4 94 rfl) rfl
theorem q931 : (Jvm.Cond.classLink "NextMustShare" (256 : Nat) "java/util/NoSuchElementException") ∈ lw_all := lw_g (lw_at lw_m4 95 rfl) rfl
theorem q970 : (Jvm.Cond.methodLink "NextMustShare" (258 : Nat) ({ cls := "java/util/NoSuchElementException", name := "<init>", desc := "()V" } : Jvm.MethodName)) ∈ lw_all := lw_g (lw_at lw_m4 134 rfl) rfl
theorem q996 : (Jvm.Cond.instanceMethod ({ cls := "NextMustShare", name := "guest", desc := "(II)I" } : Jvm.MethodName)) ∈ lw_all := lw_g (lw_at lw_m4 160 rfl) rfl
theorem q997 : (Jvm.Cond.selects "NextMustShare" ({ cls := "NextMustShare", name := "guest", desc := "(II)I" } : Jvm.MethodName) ({ cls := "NextMustShare", name := "guest", desc := "(II)I" } : Jvm.MethodName)) ∈ lw_all := lw_g (lw_at lw_m4 161 rfl) rfl
theorem q998 : (Jvm.Cond.code ({ cls := "NextMustShare", name := "guest", desc := "(II)I" } : Jvm.MethodName) prog_1_method_28_code (3 : Nat) (Option.some Jvm.ClassFile.FieldType.int)) ∈ lw_all := lw_g (lw_at lw_m4 162 rfl) rfl
theorem q1003 : (Jvm.Cond.instanceMethod ({ cls := "NextMustShare", name := "joy", desc := "(II)I" } : Jvm.MethodName)) ∈ lw_all := lw_g (lw_at lw_m4 167 rfl) rfl
theorem q1004 : (Jvm.Cond.selects "NextMustShare" ({ cls := "NextMustShare", name := "joy", desc := "(II)I" } : Jvm.MethodName) ({ cls := "NextMustShare", name := "joy", desc := "(II)I" } : Jvm.MethodName)) ∈ lw_all := lw_g (lw_at lw_m4 168 rfl) rfl
theorem q1005 : (Jvm.Cond.code ({ cls := "NextMustShare", name := "joy", desc := "(II)I" } : Jvm.MethodName) prog_1_method_29_code (3 : Nat) (Option.some Jvm.ClassFile.FieldType.int)) ∈ lw_all := lw_g (lw_at lw_m4 169 rfl) rfl
theorem q1010 : (Jvm.Cond.instanceMethod ({ cls := "NextMustShare", name := "row", desc := "(I)I" } : Jvm.MethodName)) ∈ lw_all := lw_g (lw_at lw_m4 174 rfl) rfl
theorem q1011 : (Jvm.Cond.selects "NextMustShare" ({ cls := "NextMustShare", name := "row", desc := "(I)I" } : Jvm.MethodName) ({ cls := "NextMustShare", name := "row", desc := "(I)I" } : Jvm.MethodName)) ∈ lw_all := lw_g (lw_at lw_m4 175 rfl) rfl
theorem q1012 : (Jvm.Cond.code ({ cls := "NextMustShare", name := "row", desc := "(I)I" } : Jvm.MethodName) prog_1_method_114_code (2 : Nat) (Option.some Jvm.ClassFile.FieldType.int)) ∈ lw_all := lw_g (lw_at lw_m4 176 rfl) rfl
theorem q1625 : (Jvm.Cond.castable "NextMustShare" "java/lang/Object") ∈ lw_tbl := lw_at lw_m7 69 rfl
theorem in_X1 : ∀ w ∈ wsX10, w ∈ lw_all := lw_in wsX10 [195, 197, 199, 201, 203, 205, 207, 209, 211, 213, 215, 217, 219, 221, 223, 225, 227, 229, 231, 233, 235, 237, 239, 241, 243, 245, 247, 249, 251, 253, 255, 257, 259, 261, 263, 265, 267, 269, 271, 273, 275, 277, 279, 281, 283] (by decide +kernel) (by decide +kernel)
