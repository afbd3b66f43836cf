/-! ParkingOfficeModel -/
set_option maxRecDepth 100000
def RX4 : String := "ParkingOfficeModel"
def TX4 : u_T := fun k => match k with
  | 0 => ("ParkingOfficeModel", "told", "I", false)
  | 1 => ("ParkingOfficeModel", "setup", "[I", true)
  | 2 => ("ParkingOfficeModel", "draft", "[I", true)
  | 3 => ("ParkingOfficeModel", "now", "[I", true)
  | 4 => ("ParkingOfficeModel", "aside", "[I", true)
  | 5 => ("ParkingOfficeModel", "tried", "[I", true)
  | 6 => ("ParkingOfficeModel", "saved", "[I", true)
  | 7 => ("ParkingOfficeModel", "history", "[I", true)
  | 8 => ("ParkingOfficeModel", "historyMany", "I", false)
  | 9 => ("ParkingOfficeModel", "isSaved", "Z", false)
  | 10 => ("ParkingOfficeModel", "zoneNames", "[J", true)
  | 11 => ("ParkingOfficeModel", "streetNames", "[J", true)
  | 12 => ("ParkingOfficeModel", "houseNames", "[J", true)
  | 13 => ("ParkingOfficeModel", "buffer", "[B", true)
  | 14 => ("ParkingOfficeModel", "filled", "I", false)
  | 15 => ("ParkingOfficeModel", "length", "I", false)
  | 16 => ("ParkingOfficeModel", "at", "I", false)
  | 17 => ("ParkingOfficeModel", "from", "I", false)
  | 18 => ("ParkingOfficeModel", "token", "I", false)
  | 19 => ("ParkingOfficeModel", "word", "I", false)
  | 20 => ("ParkingOfficeModel", "value", "I", false)
  | 21 => ("ParkingOfficeModel", "code", "I", false)
  | 22 => ("ParkingOfficeModel", "offset", "I", false)
  | 23 => ("ParkingOfficeModel", "draftZones", "[J", true)
  | 24 => ("ParkingOfficeModel", "draftStreets", "[J", true)
  | 25 => ("ParkingOfficeModel", "draftHouses", "[J", true)
  | 26 => ("ParkingOfficeModel", "output", "[B", true)
  | _ => ("ParkingOfficeModel", "written", "I", false)
def tyX4 : Nat → FieldType := fun k => match k with
  | 0 => .int
  | 1 => .array .int
  | 2 => .array .int
  | 3 => .array .int
  | 4 => .array .int
  | 5 => .array .int
  | 6 => .array .int
  | 7 => .array .int
  | 8 => .int
  | 9 => .boolean
  | 10 => .array .long
  | 11 => .array .long
  | 12 => .array .long
  | 13 => .array .byte
  | 14 => .int
  | 15 => .int
  | 16 => .int
  | 17 => .int
  | 18 => .int
  | 19 => .int
  | 20 => .int
  | 21 => .int
  | 22 => .int
  | 23 => .array .long
  | 24 => .array .long
  | 25 => .array .long
  | 26 => .array .byte
  | _ => .int
abbrev wsX40 : List Cond := u_ws RX4 TX4 28
set_option maxRecDepth 100000 in
theorem nmX4 : ∀ a, a < 28 → ∀ b, b < 28 → a ≠ b → (TX4 a).2.1 ≠ (TX4 b).2.1 := by decide +kernel
set_option maxRecDepth 100000 in
theorem tyX4_ok : ∀ k, k < 28 → parseFieldDescriptor (TX4 k).2.2.1 = some (tyX4 k) := by decide +kernel
abbrev cX4_init : ByteArray := prog_21_method_1_code
def yX4_init : MethodName := ⟨RX4, "<init>", "()V"⟩
def dkwX4_init_6 : List UInt8 := [182, 0, 61, 42, 182, 0, 64, 177]
abbrev dktX4_init_6 : List UInt8 := dkwX4_init_6 ++ []
def dkwX4_init_5 : List UInt8 := [188, 11, 181, 0, 52, 42, 16, 16, 188, 11, 181, 0, 55, 42, 17, 1, 44, 188, 8, 181, 0, 58, 42]
abbrev dktX4_init_5 : List UInt8 := dkwX4_init_5 ++ dktX4_init_6
def dkwX4_init_4 : List UInt8 := [17, 3, 132, 188, 8, 181, 0, 41, 42, 2, 181, 0, 45, 42, 16, 6, 188, 11, 181, 0, 49, 42, 16, 12]
abbrev dktX4_init_4 : List UInt8 := dkwX4_init_4 ++ dktX4_init_5
def dkwX4_init_3 : List UInt8 := [188, 11, 181, 0, 31, 42, 16, 12, 188, 11, 181, 0, 35, 42, 16, 16, 188, 11, 181, 0, 38, 42]
abbrev dktX4_init_3 : List UInt8 := dkwX4_init_3 ++ dktX4_init_4
def dkwX4_init_2 : List UInt8 := [181, 0, 22, 42, 17, 5, 155, 188, 10, 181, 0, 25, 42, 17, 56, 14, 188, 10, 181, 0, 28, 42, 16, 6]
abbrev dktX4_init_2 : List UInt8 := dkwX4_init_2 ++ dktX4_init_3
def dkwX4_init_1 : List UInt8 := [17, 5, 155, 188, 10, 181, 0, 16, 42, 17, 5, 155, 188, 10, 181, 0, 19, 42, 17, 5, 155, 188, 10]
abbrev dktX4_init_1 : List UInt8 := dkwX4_init_1 ++ dktX4_init_2
def dkwX4_init_0 : List UInt8 := [42, 183, 0, 1, 42, 17, 0, 130, 188, 10, 181, 0, 7, 42, 17, 0, 130, 188, 10, 181, 0, 13, 42]
abbrev dktX4_init_0 : List UInt8 := dkwX4_init_0 ++ dktX4_init_1
theorem dksX4_init_0 : cX4_init.data.toList.drop 0 = dktX4_init_0 := by decide +kernel
theorem dksX4_init_1 : cX4_init.data.toList.drop 23 = dktX4_init_1 := dk_seg dksX4_init_0 23 rfl rfl
theorem dksX4_init_2 : cX4_init.data.toList.drop 46 = dktX4_init_2 := dk_seg dksX4_init_1 23 rfl rfl
theorem dksX4_init_3 : cX4_init.data.toList.drop 70 = dktX4_init_3 := dk_seg dksX4_init_2 24 rfl rfl
theorem dksX4_init_4 : cX4_init.data.toList.drop 92 = dktX4_init_4 := dk_seg dksX4_init_3 22 rfl rfl
theorem dksX4_init_5 : cX4_init.data.toList.drop 116 = dktX4_init_5 := dk_seg dksX4_init_4 24 rfl rfl
theorem dksX4_init_6 : cX4_init.data.toList.drop 139 = dktX4_init_6 := dk_seg dksX4_init_5 23 rfl rfl
theorem dX4_init_0 : decode cX4_init 0 = .ok (.aload_n 0, 1) := dk_42 (dk_at dksX4_init_0 0 rfl rfl)
theorem dX4_init_1 : decode cX4_init 1 = .ok (.invokespecial 1, 3) := dk_183 0 1 (dk_at dksX4_init_0 1 rfl rfl)
theorem dX4_init_4 : decode cX4_init 4 = .ok (.aload_n 0, 1) := dk_42 (dk_at dksX4_init_0 4 rfl rfl)
theorem dX4_init_5 : decode cX4_init 5 = .ok (.sipush 130, 3) := dk_17 0 130 (dk_at dksX4_init_0 5 rfl rfl)
theorem dX4_init_8 : decode cX4_init 8 = .ok (.newarray .int, 2) := dk_188_10 (dk_at dksX4_init_0 8 rfl rfl)
theorem dX4_init_10 : decode cX4_init 10 = .ok (.putfield 7, 3) := dk_181 0 7 (dk_at dksX4_init_0 10 rfl rfl)
theorem dX4_init_13 : decode cX4_init 13 = .ok (.aload_n 0, 1) := dk_42 (dk_at dksX4_init_0 13 rfl rfl)
theorem dX4_init_14 : decode cX4_init 14 = .ok (.sipush 130, 3) := dk_17 0 130 (dk_at dksX4_init_0 14 rfl rfl)
theorem dX4_init_17 : decode cX4_init 17 = .ok (.newarray .int, 2) := dk_188_10 (dk_at dksX4_init_0 17 rfl rfl)
theorem dX4_init_19 : decode cX4_init 19 = .ok (.putfield 13, 3) := dk_181 0 13 (dk_at dksX4_init_0 19 rfl rfl)
theorem dX4_init_22 : decode cX4_init 22 = .ok (.aload_n 0, 1) := dk_42 (dk_at dksX4_init_0 22 rfl rfl)
theorem dX4_init_23 : decode cX4_init 23 = .ok (.sipush 1435, 3) := dk_17 5 155 (dk_at dksX4_init_1 0 rfl rfl)
theorem dX4_init_26 : decode cX4_init 26 = .ok (.newarray .int, 2) := dk_188_10 (dk_at dksX4_init_1 3 rfl rfl)
theorem dX4_init_28 : decode cX4_init 28 = .ok (.putfield 16, 3) := dk_181 0 16 (dk_at dksX4_init_1 5 rfl rfl)
theorem dX4_init_31 : decode cX4_init 31 = .ok (.aload_n 0, 1) := dk_42 (dk_at dksX4_init_1 8 rfl rfl)
theorem dX4_init_32 : decode cX4_init 32 = .ok (.sipush 1435, 3) := dk_17 5 155 (dk_at dksX4_init_1 9 rfl rfl)
theorem dX4_init_35 : decode cX4_init 35 = .ok (.newarray .int, 2) := dk_188_10 (dk_at dksX4_init_1 12 rfl rfl)
theorem dX4_init_37 : decode cX4_init 37 = .ok (.putfield 19, 3) := dk_181 0 19 (dk_at dksX4_init_1 14 rfl rfl)
theorem dX4_init_40 : decode cX4_init 40 = .ok (.aload_n 0, 1) := dk_42 (dk_at dksX4_init_1 17 rfl rfl)
theorem dX4_init_41 : decode cX4_init 41 = .ok (.sipush 1435, 3) := dk_17 5 155 (dk_at dksX4_init_1 18 rfl rfl)
theorem dX4_init_44 : decode cX4_init 44 = .ok (.newarray .int, 2) := dk_188_10 (dk_at dksX4_init_1 21 rfl rfl)
theorem dX4_init_46 : decode cX4_init 46 = .ok (.putfield 22, 3) := dk_181 0 22 (dk_at dksX4_init_2 0 rfl rfl)
theorem dX4_init_49 : decode cX4_init 49 = .ok (.aload_n 0, 1) := dk_42 (dk_at dksX4_init_2 3 rfl rfl)
theorem dX4_init_50 : decode cX4_init 50 = .ok (.sipush 1435, 3) := dk_17 5 155 (dk_at dksX4_init_2 4 rfl rfl)
theorem dX4_init_53 : decode cX4_init 53 = .ok (.newarray .int, 2) := dk_188_10 (dk_at dksX4_init_2 7 rfl rfl)
theorem dX4_init_55 : decode cX4_init 55 = .ok (.putfield 25, 3) := dk_181 0 25 (dk_at dksX4_init_2 9 rfl rfl)
theorem dX4_init_58 : decode cX4_init 58 = .ok (.aload_n 0, 1) := dk_42 (dk_at dksX4_init_2 12 rfl rfl)
theorem dX4_init_59 : decode cX4_init 59 = .ok (.sipush 14350, 3) := dk_17 56 14 (dk_at dksX4_init_2 13 rfl rfl)
theorem dX4_init_62 : decode cX4_init 62 = .ok (.newarray .int, 2) := dk_188_10 (dk_at dksX4_init_2 16 rfl rfl)
theorem dX4_init_64 : decode cX4_init 64 = .ok (.putfield 28, 3) := dk_181 0 28 (dk_at dksX4_init_2 18 rfl rfl)
theorem dX4_init_67 : decode cX4_init 67 = .ok (.aload_n 0, 1) := dk_42 (dk_at dksX4_init_2 21 rfl rfl)
theorem dX4_init_68 : decode cX4_init 68 = .ok (.bipush 6, 2) := dk_16 6 (dk_at dksX4_init_2 22 rfl rfl)
theorem dX4_init_70 : decode cX4_init 70 = .ok (.newarray .long, 2) := dk_188_11 (dk_at dksX4_init_3 0 rfl rfl)
theorem dX4_init_72 : decode cX4_init 72 = .ok (.putfield 31, 3) := dk_181 0 31 (dk_at dksX4_init_3 2 rfl rfl)
theorem dX4_init_75 : decode cX4_init 75 = .ok (.aload_n 0, 1) := dk_42 (dk_at dksX4_init_3 5 rfl rfl)
theorem dX4_init_76 : decode cX4_init 76 = .ok (.bipush 12, 2) := dk_16 12 (dk_at dksX4_init_3 6 rfl rfl)
theorem dX4_init_78 : decode cX4_init 78 = .ok (.newarray .long, 2) := dk_188_11 (dk_at dksX4_init_3 8 rfl rfl)
theorem dX4_init_80 : decode cX4_init 80 = .ok (.putfield 35, 3) := dk_181 0 35 (dk_at dksX4_init_3 10 rfl rfl)
theorem dX4_init_83 : decode cX4_init 83 = .ok (.aload_n 0, 1) := dk_42 (dk_at dksX4_init_3 13 rfl rfl)
theorem dX4_init_84 : decode cX4_init 84 = .ok (.bipush 16, 2) := dk_16 16 (dk_at dksX4_init_3 14 rfl rfl)
theorem dX4_init_86 : decode cX4_init 86 = .ok (.newarray .long, 2) := dk_188_11 (dk_at dksX4_init_3 16 rfl rfl)
theorem dX4_init_88 : decode cX4_init 88 = .ok (.putfield 38, 3) := dk_181 0 38 (dk_at dksX4_init_3 18 rfl rfl)
theorem dX4_init_91 : decode cX4_init 91 = .ok (.aload_n 0, 1) := dk_42 (dk_at dksX4_init_3 21 rfl rfl)
theorem dX4_init_92 : decode cX4_init 92 = .ok (.sipush 900, 3) := dk_17 3 132 (dk_at dksX4_init_4 0 rfl rfl)
theorem dX4_init_95 : decode cX4_init 95 = .ok (.newarray .byte, 2) := dk_188_8 (dk_at dksX4_init_4 3 rfl rfl)
theorem dX4_init_97 : decode cX4_init 97 = .ok (.putfield 41, 3) := dk_181 0 41 (dk_at dksX4_init_4 5 rfl rfl)
theorem dX4_init_100 : decode cX4_init 100 = .ok (.aload_n 0, 1) := dk_42 (dk_at dksX4_init_4 8 rfl rfl)
theorem dX4_init_101 : decode cX4_init 101 = .ok (.iconst (-1), 1) := dk_2 (dk_at dksX4_init_4 9 rfl rfl)
theorem dX4_init_102 : decode cX4_init 102 = .ok (.putfield 45, 3) := dk_181 0 45 (dk_at dksX4_init_4 10 rfl rfl)
theorem dX4_init_105 : decode cX4_init 105 = .ok (.aload_n 0, 1) := dk_42 (dk_at dksX4_init_4 13 rfl rfl)
theorem dX4_init_106 : decode cX4_init 106 = .ok (.bipush 6, 2) := dk_16 6 (dk_at dksX4_init_4 14 rfl rfl)
theorem dX4_init_108 : decode cX4_init 108 = .ok (.newarray .long, 2) := dk_188_11 (dk_at dksX4_init_4 16 rfl rfl)
theorem dX4_init_110 : decode cX4_init 110 = .ok (.putfield 49, 3) := dk_181 0 49 (dk_at dksX4_init_4 18 rfl rfl)
theorem dX4_init_113 : decode cX4_init 113 = .ok (.aload_n 0, 1) := dk_42 (dk_at dksX4_init_4 21 rfl rfl)
theorem dX4_init_114 : decode cX4_init 114 = .ok (.bipush 12, 2) := dk_16 12 (dk_at dksX4_init_4 22 rfl rfl)
theorem dX4_init_116 : decode cX4_init 116 = .ok (.newarray .long, 2) := dk_188_11 (dk_at dksX4_init_5 0 rfl rfl)
theorem dX4_init_118 : decode cX4_init 118 = .ok (.putfield 52, 3) := dk_181 0 52 (dk_at dksX4_init_5 2 rfl rfl)
theorem dX4_init_121 : decode cX4_init 121 = .ok (.aload_n 0, 1) := dk_42 (dk_at dksX4_init_5 5 rfl rfl)
theorem dX4_init_122 : decode cX4_init 122 = .ok (.bipush 16, 2) := dk_16 16 (dk_at dksX4_init_5 6 rfl rfl)
theorem dX4_init_124 : decode cX4_init 124 = .ok (.newarray .long, 2) := dk_188_11 (dk_at dksX4_init_5 8 rfl rfl)
theorem dX4_init_126 : decode cX4_init 126 = .ok (.putfield 55, 3) := dk_181 0 55 (dk_at dksX4_init_5 10 rfl rfl)
theorem dX4_init_129 : decode cX4_init 129 = .ok (.aload_n 0, 1) := dk_42 (dk_at dksX4_init_5 13 rfl rfl)
theorem dX4_init_130 : decode cX4_init 130 = .ok (.sipush 300, 3) := dk_17 1 44 (dk_at dksX4_init_5 14 rfl rfl)
theorem dX4_init_133 : decode cX4_init 133 = .ok (.newarray .byte, 2) := dk_188_8 (dk_at dksX4_init_5 17 rfl rfl)
theorem dX4_init_135 : decode cX4_init 135 = .ok (.putfield 58, 3) := dk_181 0 58 (dk_at dksX4_init_5 19 rfl rfl)
theorem dX4_init_138 : decode cX4_init 138 = .ok (.aload_n 0, 1) := dk_42 (dk_at dksX4_init_5 22 rfl rfl)
theorem dX4_init_139 : decode cX4_init 139 = .ok (.invokevirtual 61, 3) := dk_182 0 61 (dk_at dksX4_init_6 0 rfl rfl)
theorem dX4_init_142 : decode cX4_init 142 = .ok (.aload_n 0, 1) := dk_42 (dk_at dksX4_init_6 3 rfl rfl)
theorem dX4_init_143 : decode cX4_init 143 = .ok (.invokevirtual 64, 3) := dk_182 0 64 (dk_at dksX4_init_6 4 rfl rfl)
theorem dX4_init_146 : decode cX4_init 146 = .ok (.return_, 1) := dk_177 (dk_at dksX4_init_6 7 rfl rfl)
abbrev cX4_clears : ByteArray := prog_21_method_2_code
def yX4_clears : MethodName := ⟨RX4, "clears", "()V"⟩
def dkwX4_clears_3 : List UInt8 := [132, 1, 1, 167, 255, 232, 177]
abbrev dktX4_clears_3 : List UInt8 := dkwX4_clears_3 ++ []
def dkwX4_clears_2 : List UInt8 := [79, 3, 60, 27, 16, 6, 162, 0, 24, 42, 180, 0, 13, 16, 114, 27, 96, 16, 10, 27, 4, 96, 104, 79]
abbrev dktX4_clears_2 : List UInt8 := dkwX4_clears_2 ++ dktX4_clears_3
def dkwX4_clears_1 : List UInt8 := [180, 0, 13, 16, 111, 16, 30, 79, 42, 180, 0, 13, 16, 112, 16, 24, 79, 42, 180, 0, 13, 16, 113, 8]
abbrev dktX4_clears_1 : List UInt8 := dkwX4_clears_1 ++ dktX4_clears_2
def dkwX4_clears_0 : List UInt8 := [3, 60, 27, 17, 0, 130, 162, 0, 16, 42, 180, 0, 13, 27, 3, 79, 132, 1, 1, 167, 255, 239, 42]
abbrev dktX4_clears_0 : List UInt8 := dkwX4_clears_0 ++ dktX4_clears_1
theorem dksX4_clears_0 : cX4_clears.data.toList.drop 0 = dktX4_clears_0 := by decide +kernel
theorem dksX4_clears_1 : cX4_clears.data.toList.drop 23 = dktX4_clears_1 := dk_seg dksX4_clears_0 23 rfl rfl
theorem dksX4_clears_2 : cX4_clears.data.toList.drop 47 = dktX4_clears_2 := dk_seg dksX4_clears_1 24 rfl rfl
theorem dksX4_clears_3 : cX4_clears.data.toList.drop 71 = dktX4_clears_3 := dk_seg dksX4_clears_2 24 rfl rfl
theorem dX4_clears_0 : decode cX4_clears 0 = .ok (.iconst 0, 1) := dk_3 (dk_at dksX4_clears_0 0 rfl rfl)
theorem dX4_clears_1 : decode cX4_clears 1 = .ok (.istore_n 1, 1) := dk_60 (dk_at dksX4_clears_0 1 rfl rfl)
theorem dX4_clears_2 : decode cX4_clears 2 = .ok (.iload_n 1, 1) := dk_27 (dk_at dksX4_clears_0 2 rfl rfl)
theorem dX4_clears_3 : decode cX4_clears 3 = .ok (.sipush 130, 3) := dk_17 0 130 (dk_at dksX4_clears_0 3 rfl rfl)
theorem dX4_clears_6 : decode cX4_clears 6 = .ok (.if_icmp .ge 16, 3) := dk_162 0 16 (dk_at dksX4_clears_0 6 rfl rfl)
theorem dX4_clears_9 : decode cX4_clears 9 = .ok (.aload_n 0, 1) := dk_42 (dk_at dksX4_clears_0 9 rfl rfl)
theorem dX4_clears_10 : decode cX4_clears 10 = .ok (.getfield 13, 3) := dk_180 0 13 (dk_at dksX4_clears_0 10 rfl rfl)
theorem dX4_clears_13 : decode cX4_clears 13 = .ok (.iload_n 1, 1) := dk_27 (dk_at dksX4_clears_0 13 rfl rfl)
theorem dX4_clears_14 : decode cX4_clears 14 = .ok (.iconst 0, 1) := dk_3 (dk_at dksX4_clears_0 14 rfl rfl)
theorem dX4_clears_15 : decode cX4_clears 15 = .ok (.iastore, 1) := dk_79 (dk_at dksX4_clears_0 15 rfl rfl)
theorem dX4_clears_16 : decode cX4_clears 16 = .ok (.iinc 1 1, 3) := dk_132 1 1 (dk_at dksX4_clears_0 16 rfl rfl)
theorem dX4_clears_19 : decode cX4_clears 19 = .ok (.goto (-17), 3) := dk_167 255 239 (dk_at dksX4_clears_0 19 rfl rfl)
theorem dX4_clears_22 : decode cX4_clears 22 = .ok (.aload_n 0, 1) := dk_42 (dk_at dksX4_clears_0 22 rfl rfl)
theorem dX4_clears_23 : decode cX4_clears 23 = .ok (.getfield 13, 3) := dk_180 0 13 (dk_at dksX4_clears_1 0 rfl rfl)
theorem dX4_clears_26 : decode cX4_clears 26 = .ok (.bipush 111, 2) := dk_16 111 (dk_at dksX4_clears_1 3 rfl rfl)
theorem dX4_clears_28 : decode cX4_clears 28 = .ok (.bipush 30, 2) := dk_16 30 (dk_at dksX4_clears_1 5 rfl rfl)
theorem dX4_clears_30 : decode cX4_clears 30 = .ok (.iastore, 1) := dk_79 (dk_at dksX4_clears_1 7 rfl rfl)
theorem dX4_clears_31 : decode cX4_clears 31 = .ok (.aload_n 0, 1) := dk_42 (dk_at dksX4_clears_1 8 rfl rfl)
theorem dX4_clears_32 : decode cX4_clears 32 = .ok (.getfield 13, 3) := dk_180 0 13 (dk_at dksX4_clears_1 9 rfl rfl)
theorem dX4_clears_35 : decode cX4_clears 35 = .ok (.bipush 112, 2) := dk_16 112 (dk_at dksX4_clears_1 12 rfl rfl)
theorem dX4_clears_37 : decode cX4_clears 37 = .ok (.bipush 24, 2) := dk_16 24 (dk_at dksX4_clears_1 14 rfl rfl)
theorem dX4_clears_39 : decode cX4_clears 39 = .ok (.iastore, 1) := dk_79 (dk_at dksX4_clears_1 16 rfl rfl)
theorem dX4_clears_40 : decode cX4_clears 40 = .ok (.aload_n 0, 1) := dk_42 (dk_at dksX4_clears_1 17 rfl rfl)
theorem dX4_clears_41 : decode cX4_clears 41 = .ok (.getfield 13, 3) := dk_180 0 13 (dk_at dksX4_clears_1 18 rfl rfl)
theorem dX4_clears_44 : decode cX4_clears 44 = .ok (.bipush 113, 2) := dk_16 113 (dk_at dksX4_clears_1 21 rfl rfl)
theorem dX4_clears_46 : decode cX4_clears 46 = .ok (.iconst 5, 1) := dk_8 (dk_at dksX4_clears_1 23 rfl rfl)
theorem dX4_clears_47 : decode cX4_clears 47 = .ok (.iastore, 1) := dk_79 (dk_at dksX4_clears_2 0 rfl rfl)
theorem dX4_clears_48 : decode cX4_clears 48 = .ok (.iconst 0, 1) := dk_3 (dk_at dksX4_clears_2 1 rfl rfl)
theorem dX4_clears_49 : decode cX4_clears 49 = .ok (.istore_n 1, 1) := dk_60 (dk_at dksX4_clears_2 2 rfl rfl)
theorem dX4_clears_50 : decode cX4_clears 50 = .ok (.iload_n 1, 1) := dk_27 (dk_at dksX4_clears_2 3 rfl rfl)
theorem dX4_clears_51 : decode cX4_clears 51 = .ok (.bipush 6, 2) := dk_16 6 (dk_at dksX4_clears_2 4 rfl rfl)
theorem dX4_clears_53 : decode cX4_clears 53 = .ok (.if_icmp .ge 24, 3) := dk_162 0 24 (dk_at dksX4_clears_2 6 rfl rfl)
theorem dX4_clears_56 : decode cX4_clears 56 = .ok (.aload_n 0, 1) := dk_42 (dk_at dksX4_clears_2 9 rfl rfl)
theorem dX4_clears_57 : decode cX4_clears 57 = .ok (.getfield 13, 3) := dk_180 0 13 (dk_at dksX4_clears_2 10 rfl rfl)
theorem dX4_clears_60 : decode cX4_clears 60 = .ok (.bipush 114, 2) := dk_16 114 (dk_at dksX4_clears_2 13 rfl rfl)
theorem dX4_clears_62 : decode cX4_clears 62 = .ok (.iload_n 1, 1) := dk_27 (dk_at dksX4_clears_2 15 rfl rfl)
theorem dX4_clears_63 : decode cX4_clears 63 = .ok (.iadd, 1) := dk_96 (dk_at dksX4_clears_2 16 rfl rfl)
theorem dX4_clears_64 : decode cX4_clears 64 = .ok (.bipush 10, 2) := dk_16 10 (dk_at dksX4_clears_2 17 rfl rfl)
theorem dX4_clears_66 : decode cX4_clears 66 = .ok (.iload_n 1, 1) := dk_27 (dk_at dksX4_clears_2 19 rfl rfl)
theorem dX4_clears_67 : decode cX4_clears 67 = .ok (.iconst 1, 1) := dk_4 (dk_at dksX4_clears_2 20 rfl rfl)
theorem dX4_clears_68 : decode cX4_clears 68 = .ok (.iadd, 1) := dk_96 (dk_at dksX4_clears_2 21 rfl rfl)
theorem dX4_clears_69 : decode cX4_clears 69 = .ok (.imul, 1) := dk_104 (dk_at dksX4_clears_2 22 rfl rfl)
theorem dX4_clears_70 : decode cX4_clears 70 = .ok (.iastore, 1) := dk_79 (dk_at dksX4_clears_2 23 rfl rfl)
theorem dX4_clears_71 : decode cX4_clears 71 = .ok (.iinc 1 1, 3) := dk_132 1 1 (dk_at dksX4_clears_3 0 rfl rfl)
theorem dX4_clears_74 : decode cX4_clears 74 = .ok (.goto (-24), 3) := dk_167 255 232 (dk_at dksX4_clears_3 3 rfl rfl)
theorem dX4_clears_77 : decode cX4_clears 77 = .ok (.return_, 1) := dk_177 (dk_at dksX4_clears_3 6 rfl rfl)
abbrev cX4_takesDraft : ByteArray := prog_21_method_3_code
def yX4_takesDraft : MethodName := ⟨RX4, "takesDraft", "()V"⟩
def dkwX4_takesDraft_7 : List UInt8 := [181, 0, 70, 42, 3, 181, 0, 73, 177]
abbrev dktX4_takesDraft_7 : List UInt8 := dkwX4_takesDraft_7 ++ []
def dkwX4_takesDraft_6 : List UInt8 := [8, 27, 96, 42, 180, 0, 7, 6, 27, 96, 46, 79, 132, 1, 1, 167, 255, 231, 42, 182, 0, 67, 42, 3]
abbrev dktX4_takesDraft_6 : List UInt8 := dkwX4_takesDraft_6 ++ dktX4_takesDraft_7
def dkwX4_takesDraft_5 : List UInt8 := [180, 0, 16, 27, 3, 79, 132, 1, 1, 167, 255, 239, 3, 60, 27, 16, 6, 162, 0, 25, 42, 180, 0, 16]
abbrev dktX4_takesDraft_5 : List UInt8 := dkwX4_takesDraft_5 ++ dktX4_takesDraft_6
def dkwX4_takesDraft_4 : List UInt8 := [180, 0, 55, 27, 47, 80, 132, 1, 1, 167, 255, 235, 3, 60, 27, 17, 5, 155, 162, 0, 16, 42]
abbrev dktX4_takesDraft_4 : List UInt8 := dkwX4_takesDraft_4 ++ dktX4_takesDraft_5
def dkwX4_takesDraft_3 : List UInt8 := [47, 80, 132, 1, 1, 167, 255, 235, 3, 60, 27, 16, 16, 162, 0, 21, 42, 180, 0, 38, 27, 42]
abbrev dktX4_takesDraft_3 : List UInt8 := dkwX4_takesDraft_3 ++ dktX4_takesDraft_4
def dkwX4_takesDraft_2 : List UInt8 := [132, 1, 1, 167, 255, 235, 3, 60, 27, 16, 12, 162, 0, 21, 42, 180, 0, 35, 27, 42, 180, 0, 52, 27]
abbrev dktX4_takesDraft_2 : List UInt8 := dkwX4_takesDraft_2 ++ dktX4_takesDraft_3
def dkwX4_takesDraft_1 : List UInt8 := [167, 255, 234, 3, 60, 27, 16, 6, 162, 0, 21, 42, 180, 0, 31, 27, 42, 180, 0, 49, 27, 47, 80]
abbrev dktX4_takesDraft_1 : List UInt8 := dkwX4_takesDraft_1 ++ dktX4_takesDraft_2
def dkwX4_takesDraft_0 : List UInt8 := [3, 60, 27, 17, 0, 130, 162, 0, 21, 42, 180, 0, 7, 27, 42, 180, 0, 13, 27, 46, 79, 132, 1, 1]
abbrev dktX4_takesDraft_0 : List UInt8 := dkwX4_takesDraft_0 ++ dktX4_takesDraft_1
theorem dksX4_takesDraft_0 : cX4_takesDraft.data.toList.drop 0 = dktX4_takesDraft_0 := by decide +kernel
theorem dksX4_takesDraft_1 : cX4_takesDraft.data.toList.drop 24 = dktX4_takesDraft_1 := dk_seg dksX4_takesDraft_0 24 rfl rfl
theorem dksX4_takesDraft_2 : cX4_takesDraft.data.toList.drop 47 = dktX4_takesDraft_2 := dk_seg dksX4_takesDraft_1 23 rfl rfl
theorem dksX4_takesDraft_3 : cX4_takesDraft.data.toList.drop 71 = dktX4_takesDraft_3 := dk_seg dksX4_takesDraft_2 24 rfl rfl
theorem dksX4_takesDraft_4 : cX4_takesDraft.data.toList.drop 93 = dktX4_takesDraft_4 := dk_seg dksX4_takesDraft_3 22 rfl rfl
theorem dksX4_takesDraft_5 : cX4_takesDraft.data.toList.drop 115 = dktX4_takesDraft_5 := dk_seg dksX4_takesDraft_4 22 rfl rfl
theorem dksX4_takesDraft_6 : cX4_takesDraft.data.toList.drop 139 = dktX4_takesDraft_6 := dk_seg dksX4_takesDraft_5 24 rfl rfl
theorem dksX4_takesDraft_7 : cX4_takesDraft.data.toList.drop 163 = dktX4_takesDraft_7 := dk_seg dksX4_takesDraft_6 24 rfl rfl
theorem dX4_takesDraft_0 : decode cX4_takesDraft 0 = .ok (.iconst 0, 1) := dk_3 (dk_at dksX4_takesDraft_0 0 rfl rfl)
theorem dX4_takesDraft_1 : decode cX4_takesDraft 1 = .ok (.istore_n 1, 1) := dk_60 (dk_at dksX4_takesDraft_0 1 rfl rfl)
theorem dX4_takesDraft_2 : decode cX4_takesDraft 2 = .ok (.iload_n 1, 1) := dk_27 (dk_at dksX4_takesDraft_0 2 rfl rfl)
theorem dX4_takesDraft_3 : decode cX4_takesDraft 3 = .ok (.sipush 130, 3) := dk_17 0 130 (dk_at dksX4_takesDraft_0 3 rfl rfl)
theorem dX4_takesDraft_6 : decode cX4_takesDraft 6 = .ok (.if_icmp .ge 21, 3) := dk_162 0 21 (dk_at dksX4_takesDraft_0 6 rfl rfl)
theorem dX4_takesDraft_9 : decode cX4_takesDraft 9 = .ok (.aload_n 0, 1) := dk_42 (dk_at dksX4_takesDraft_0 9 rfl rfl)
theorem dX4_takesDraft_10 : decode cX4_takesDraft 10 = .ok (.getfield 7, 3) := dk_180 0 7 (dk_at dksX4_takesDraft_0 10 rfl rfl)
theorem dX4_takesDraft_13 : decode cX4_takesDraft 13 = .ok (.iload_n 1, 1) := dk_27 (dk_at dksX4_takesDraft_0 13 rfl rfl)
theorem dX4_takesDraft_14 : decode cX4_takesDraft 14 = .ok (.aload_n 0, 1) := dk_42 (dk_at dksX4_takesDraft_0 14 rfl rfl)
theorem dX4_takesDraft_15 : decode cX4_takesDraft 15 = .ok (.getfield 13, 3) := dk_180 0 13 (dk_at dksX4_takesDraft_0 15 rfl rfl)
theorem dX4_takesDraft_18 : decode cX4_takesDraft 18 = .ok (.iload_n 1, 1) := dk_27 (dk_at dksX4_takesDraft_0 18 rfl rfl)
theorem dX4_takesDraft_19 : decode cX4_takesDraft 19 = .ok (.iaload, 1) := dk_46 (dk_at dksX4_takesDraft_0 19 rfl rfl)
theorem dX4_takesDraft_20 : decode cX4_takesDraft 20 = .ok (.iastore, 1) := dk_79 (dk_at dksX4_takesDraft_0 20 rfl rfl)
theorem dX4_takesDraft_21 : decode cX4_takesDraft 21 = .ok (.iinc 1 1, 3) := dk_132 1 1 (dk_at dksX4_takesDraft_0 21 rfl rfl)
theorem dX4_takesDraft_24 : decode cX4_takesDraft 24 = .ok (.goto (-22), 3) := dk_167 255 234 (dk_at dksX4_takesDraft_1 0 rfl rfl)
theorem dX4_takesDraft_27 : decode cX4_takesDraft 27 = .ok (.iconst 0, 1) := dk_3 (dk_at dksX4_takesDraft_1 3 rfl rfl)
theorem dX4_takesDraft_28 : decode cX4_takesDraft 28 = .ok (.istore_n 1, 1) := dk_60 (dk_at dksX4_takesDraft_1 4 rfl rfl)
theorem dX4_takesDraft_29 : decode cX4_takesDraft 29 = .ok (.iload_n 1, 1) := dk_27 (dk_at dksX4_takesDraft_1 5 rfl rfl)
theorem dX4_takesDraft_30 : decode cX4_takesDraft 30 = .ok (.bipush 6, 2) := dk_16 6 (dk_at dksX4_takesDraft_1 6 rfl rfl)
theorem dX4_takesDraft_32 : decode cX4_takesDraft 32 = .ok (.if_icmp .ge 21, 3) := dk_162 0 21 (dk_at dksX4_takesDraft_1 8 rfl rfl)
theorem dX4_takesDraft_35 : decode cX4_takesDraft 35 = .ok (.aload_n 0, 1) := dk_42 (dk_at dksX4_takesDraft_1 11 rfl rfl)
theorem dX4_takesDraft_36 : decode cX4_takesDraft 36 = .ok (.getfield 31, 3) := dk_180 0 31 (dk_at dksX4_takesDraft_1 12 rfl rfl)
theorem dX4_takesDraft_39 : decode cX4_takesDraft 39 = .ok (.iload_n 1, 1) := dk_27 (dk_at dksX4_takesDraft_1 15 rfl rfl)
theorem dX4_takesDraft_40 : decode cX4_takesDraft 40 = .ok (.aload_n 0, 1) := dk_42 (dk_at dksX4_takesDraft_1 16 rfl rfl)
theorem dX4_takesDraft_41 : decode cX4_takesDraft 41 = .ok (.getfield 49, 3) := dk_180 0 49 (dk_at dksX4_takesDraft_1 17 rfl rfl)
theorem dX4_takesDraft_44 : decode cX4_takesDraft 44 = .ok (.iload_n 1, 1) := dk_27 (dk_at dksX4_takesDraft_1 20 rfl rfl)
theorem dX4_takesDraft_45 : decode cX4_takesDraft 45 = .ok (.laload, 1) := dk_47 (dk_at dksX4_takesDraft_1 21 rfl rfl)
theorem dX4_takesDraft_46 : decode cX4_takesDraft 46 = .ok (.lastore, 1) := dk_80 (dk_at dksX4_takesDraft_1 22 rfl rfl)
theorem dX4_takesDraft_47 : decode cX4_takesDraft 47 = .ok (.iinc 1 1, 3) := dk_132 1 1 (dk_at dksX4_takesDraft_2 0 rfl rfl)
theorem dX4_takesDraft_50 : decode cX4_takesDraft 50 = .ok (.goto (-21), 3) := dk_167 255 235 (dk_at dksX4_takesDraft_2 3 rfl rfl)
theorem dX4_takesDraft_53 : decode cX4_takesDraft 53 = .ok (.iconst 0, 1) := dk_3 (dk_at dksX4_takesDraft_2 6 rfl rfl)
theorem dX4_takesDraft_54 : decode cX4_takesDraft 54 = .ok (.istore_n 1, 1) := dk_60 (dk_at dksX4_takesDraft_2 7 rfl rfl)
theorem dX4_takesDraft_55 : decode cX4_takesDraft 55 = .ok (.iload_n 1, 1) := dk_27 (dk_at dksX4_takesDraft_2 8 rfl rfl)
theorem dX4_takesDraft_56 : decode cX4_takesDraft 56 = .ok (.bipush 12, 2) := dk_16 12 (dk_at dksX4_takesDraft_2 9 rfl rfl)
theorem dX4_takesDraft_58 : decode cX4_takesDraft 58 = .ok (.if_icmp .ge 21, 3) := dk_162 0 21 (dk_at dksX4_takesDraft_2 11 rfl rfl)
theorem dX4_takesDraft_61 : decode cX4_takesDraft 61 = .ok (.aload_n 0, 1) := dk_42 (dk_at dksX4_takesDraft_2 14 rfl rfl)
theorem dX4_takesDraft_62 : decode cX4_takesDraft 62 = .ok (.getfield 35, 3) := dk_180 0 35 (dk_at dksX4_takesDraft_2 15 rfl rfl)
theorem dX4_takesDraft_65 : decode cX4_takesDraft 65 = .ok (.iload_n 1, 1) := dk_27 (dk_at dksX4_takesDraft_2 18 rfl rfl)
theorem dX4_takesDraft_66 : decode cX4_takesDraft 66 = .ok (.aload_n 0, 1) := dk_42 (dk_at dksX4_takesDraft_2 19 rfl rfl)
theorem dX4_takesDraft_67 : decode cX4_takesDraft 67 = .ok (.getfield 52, 3) := dk_180 0 52 (dk_at dksX4_takesDraft_2 20 rfl rfl)
theorem dX4_takesDraft_70 : decode cX4_takesDraft 70 = .ok (.iload_n 1, 1) := dk_27 (dk_at dksX4_takesDraft_2 23 rfl rfl)
theorem dX4_takesDraft_71 : decode cX4_takesDraft 71 = .ok (.laload, 1) := dk_47 (dk_at dksX4_takesDraft_3 0 rfl rfl)
theorem dX4_takesDraft_72 : decode cX4_takesDraft 72 = .ok (.lastore, 1) := dk_80 (dk_at dksX4_takesDraft_3 1 rfl rfl)
theorem dX4_takesDraft_73 : decode cX4_takesDraft 73 = .ok (.iinc 1 1, 3) := dk_132 1 1 (dk_at dksX4_takesDraft_3 2 rfl rfl)
theorem dX4_takesDraft_76 : decode cX4_takesDraft 76 = .ok (.goto (-21), 3) := dk_167 255 235 (dk_at dksX4_takesDraft_3 5 rfl rfl)
theorem dX4_takesDraft_79 : decode cX4_takesDraft 79 = .ok (.iconst 0, 1) := dk_3 (dk_at dksX4_takesDraft_3 8 rfl rfl)
theorem dX4_takesDraft_80 : decode cX4_takesDraft 80 = .ok (.istore_n 1, 1) := dk_60 (dk_at dksX4_takesDraft_3 9 rfl rfl)
theorem dX4_takesDraft_81 : decode cX4_takesDraft 81 = .ok (.iload_n 1, 1) := dk_27 (dk_at dksX4_takesDraft_3 10 rfl rfl)
theorem dX4_takesDraft_82 : decode cX4_takesDraft 82 = .ok (.bipush 16, 2) := dk_16 16 (dk_at dksX4_takesDraft_3 11 rfl rfl)
theorem dX4_takesDraft_84 : decode cX4_takesDraft 84 = .ok (.if_icmp .ge 21, 3) := dk_162 0 21 (dk_at dksX4_takesDraft_3 13 rfl rfl)
theorem dX4_takesDraft_87 : decode cX4_takesDraft 87 = .ok (.aload_n 0, 1) := dk_42 (dk_at dksX4_takesDraft_3 16 rfl rfl)
theorem dX4_takesDraft_88 : decode cX4_takesDraft 88 = .ok (.getfield 38, 3) := dk_180 0 38 (dk_at dksX4_takesDraft_3 17 rfl rfl)
theorem dX4_takesDraft_91 : decode cX4_takesDraft 91 = .ok (.iload_n 1, 1) := dk_27 (dk_at dksX4_takesDraft_3 20 rfl rfl)
theorem dX4_takesDraft_92 : decode cX4_takesDraft 92 = .ok (.aload_n 0, 1) := dk_42 (dk_at dksX4_takesDraft_3 21 rfl rfl)
theorem dX4_takesDraft_93 : decode cX4_takesDraft 93 = .ok (.getfield 55, 3) := dk_180 0 55 (dk_at dksX4_takesDraft_4 0 rfl rfl)
theorem dX4_takesDraft_96 : decode cX4_takesDraft 96 = .ok (.iload_n 1, 1) := dk_27 (dk_at dksX4_takesDraft_4 3 rfl rfl)
theorem dX4_takesDraft_97 : decode cX4_takesDraft 97 = .ok (.laload, 1) := dk_47 (dk_at dksX4_takesDraft_4 4 rfl rfl)
theorem dX4_takesDraft_98 : decode cX4_takesDraft 98 = .ok (.lastore, 1) := dk_80 (dk_at dksX4_takesDraft_4 5 rfl rfl)
theorem dX4_takesDraft_99 : decode cX4_takesDraft 99 = .ok (.iinc 1 1, 3) := dk_132 1 1 (dk_at dksX4_takesDraft_4 6 rfl rfl)
theorem dX4_takesDraft_102 : decode cX4_takesDraft 102 = .ok (.goto (-21), 3) := dk_167 255 235 (dk_at dksX4_takesDraft_4 9 rfl rfl)
theorem dX4_takesDraft_105 : decode cX4_takesDraft 105 = .ok (.iconst 0, 1) := dk_3 (dk_at dksX4_takesDraft_4 12 rfl rfl)
theorem dX4_takesDraft_106 : decode cX4_takesDraft 106 = .ok (.istore_n 1, 1) := dk_60 (dk_at dksX4_takesDraft_4 13 rfl rfl)
theorem dX4_takesDraft_107 : decode cX4_takesDraft 107 = .ok (.iload_n 1, 1) := dk_27 (dk_at dksX4_takesDraft_4 14 rfl rfl)
theorem dX4_takesDraft_108 : decode cX4_takesDraft 108 = .ok (.sipush 1435, 3) := dk_17 5 155 (dk_at dksX4_takesDraft_4 15 rfl rfl)
theorem dX4_takesDraft_111 : decode cX4_takesDraft 111 = .ok (.if_icmp .ge 16, 3) := dk_162 0 16 (dk_at dksX4_takesDraft_4 18 rfl rfl)
theorem dX4_takesDraft_114 : decode cX4_takesDraft 114 = .ok (.aload_n 0, 1) := dk_42 (dk_at dksX4_takesDraft_4 21 rfl rfl)
theorem dX4_takesDraft_115 : decode cX4_takesDraft 115 = .ok (.getfield 16, 3) := dk_180 0 16 (dk_at dksX4_takesDraft_5 0 rfl rfl)
theorem dX4_takesDraft_118 : decode cX4_takesDraft 118 = .ok (.iload_n 1, 1) := dk_27 (dk_at dksX4_takesDraft_5 3 rfl rfl)
theorem dX4_takesDraft_119 : decode cX4_takesDraft 119 = .ok (.iconst 0, 1) := dk_3 (dk_at dksX4_takesDraft_5 4 rfl rfl)
theorem dX4_takesDraft_120 : decode cX4_takesDraft 120 = .ok (.iastore, 1) := dk_79 (dk_at dksX4_takesDraft_5 5 rfl rfl)
theorem dX4_takesDraft_121 : decode cX4_takesDraft 121 = .ok (.iinc 1 1, 3) := dk_132 1 1 (dk_at dksX4_takesDraft_5 6 rfl rfl)
theorem dX4_takesDraft_124 : decode cX4_takesDraft 124 = .ok (.goto (-17), 3) := dk_167 255 239 (dk_at dksX4_takesDraft_5 9 rfl rfl)
theorem dX4_takesDraft_127 : decode cX4_takesDraft 127 = .ok (.iconst 0, 1) := dk_3 (dk_at dksX4_takesDraft_5 12 rfl rfl)
theorem dX4_takesDraft_128 : decode cX4_takesDraft 128 = .ok (.istore_n 1, 1) := dk_60 (dk_at dksX4_takesDraft_5 13 rfl rfl)
theorem dX4_takesDraft_129 : decode cX4_takesDraft 129 = .ok (.iload_n 1, 1) := dk_27 (dk_at dksX4_takesDraft_5 14 rfl rfl)
theorem dX4_takesDraft_130 : decode cX4_takesDraft 130 = .ok (.bipush 6, 2) := dk_16 6 (dk_at dksX4_takesDraft_5 15 rfl rfl)
theorem dX4_takesDraft_132 : decode cX4_takesDraft 132 = .ok (.if_icmp .ge 25, 3) := dk_162 0 25 (dk_at dksX4_takesDraft_5 17 rfl rfl)
theorem dX4_takesDraft_135 : decode cX4_takesDraft 135 = .ok (.aload_n 0, 1) := dk_42 (dk_at dksX4_takesDraft_5 20 rfl rfl)
theorem dX4_takesDraft_136 : decode cX4_takesDraft 136 = .ok (.getfield 16, 3) := dk_180 0 16 (dk_at dksX4_takesDraft_5 21 rfl rfl)
theorem dX4_takesDraft_139 : decode cX4_takesDraft 139 = .ok (.iconst 5, 1) := dk_8 (dk_at dksX4_takesDraft_6 0 rfl rfl)
theorem dX4_takesDraft_140 : decode cX4_takesDraft 140 = .ok (.iload_n 1, 1) := dk_27 (dk_at dksX4_takesDraft_6 1 rfl rfl)
theorem dX4_takesDraft_141 : decode cX4_takesDraft 141 = .ok (.iadd, 1) := dk_96 (dk_at dksX4_takesDraft_6 2 rfl rfl)
theorem dX4_takesDraft_142 : decode cX4_takesDraft 142 = .ok (.aload_n 0, 1) := dk_42 (dk_at dksX4_takesDraft_6 3 rfl rfl)
theorem dX4_takesDraft_143 : decode cX4_takesDraft 143 = .ok (.getfield 7, 3) := dk_180 0 7 (dk_at dksX4_takesDraft_6 4 rfl rfl)
theorem dX4_takesDraft_146 : decode cX4_takesDraft 146 = .ok (.iconst 3, 1) := dk_6 (dk_at dksX4_takesDraft_6 7 rfl rfl)
theorem dX4_takesDraft_147 : decode cX4_takesDraft 147 = .ok (.iload_n 1, 1) := dk_27 (dk_at dksX4_takesDraft_6 8 rfl rfl)
theorem dX4_takesDraft_148 : decode cX4_takesDraft 148 = .ok (.iadd, 1) := dk_96 (dk_at dksX4_takesDraft_6 9 rfl rfl)
theorem dX4_takesDraft_149 : decode cX4_takesDraft 149 = .ok (.iaload, 1) := dk_46 (dk_at dksX4_takesDraft_6 10 rfl rfl)
theorem dX4_takesDraft_150 : decode cX4_takesDraft 150 = .ok (.iastore, 1) := dk_79 (dk_at dksX4_takesDraft_6 11 rfl rfl)
theorem dX4_takesDraft_151 : decode cX4_takesDraft 151 = .ok (.iinc 1 1, 3) := dk_132 1 1 (dk_at dksX4_takesDraft_6 12 rfl rfl)
theorem dX4_takesDraft_154 : decode cX4_takesDraft 154 = .ok (.goto (-25), 3) := dk_167 255 231 (dk_at dksX4_takesDraft_6 15 rfl rfl)
theorem dX4_takesDraft_157 : decode cX4_takesDraft 157 = .ok (.aload_n 0, 1) := dk_42 (dk_at dksX4_takesDraft_6 18 rfl rfl)
theorem dX4_takesDraft_158 : decode cX4_takesDraft 158 = .ok (.invokevirtual 67, 3) := dk_182 0 67 (dk_at dksX4_takesDraft_6 19 rfl rfl)
theorem dX4_takesDraft_161 : decode cX4_takesDraft 161 = .ok (.aload_n 0, 1) := dk_42 (dk_at dksX4_takesDraft_6 22 rfl rfl)
theorem dX4_takesDraft_162 : decode cX4_takesDraft 162 = .ok (.iconst 0, 1) := dk_3 (dk_at dksX4_takesDraft_6 23 rfl rfl)
theorem dX4_takesDraft_163 : decode cX4_takesDraft 163 = .ok (.putfield 70, 3) := dk_181 0 70 (dk_at dksX4_takesDraft_7 0 rfl rfl)
theorem dX4_takesDraft_166 : decode cX4_takesDraft 166 = .ok (.aload_n 0, 1) := dk_42 (dk_at dksX4_takesDraft_7 3 rfl rfl)
theorem dX4_takesDraft_167 : decode cX4_takesDraft 167 = .ok (.iconst 0, 1) := dk_3 (dk_at dksX4_takesDraft_7 4 rfl rfl)
theorem dX4_takesDraft_168 : decode cX4_takesDraft 168 = .ok (.putfield 73, 3) := dk_181 0 73 (dk_at dksX4_takesDraft_7 5 rfl rfl)
theorem dX4_takesDraft_171 : decode cX4_takesDraft 171 = .ok (.return_, 1) := dk_177 (dk_at dksX4_takesDraft_7 8 rfl rfl)
abbrev cX4_laysBooks : ByteArray := prog_21_method_4_code
def yX4_laysBooks : MethodName := ⟨RX4, "laysBooks", "()V"⟩
def dkwX4_laysBooks_1 : List UInt8 := [46, 79, 132, 1, 1, 167, 255, 229, 177]
abbrev dktX4_laysBooks_1 : List UInt8 := dkwX4_laysBooks_1 ++ []
def dkwX4_laysBooks_0 : List UInt8 := [3, 60, 27, 16, 16, 162, 0, 27, 42, 180, 0, 16, 16, 23, 27, 96, 42, 180, 0, 7, 16, 95, 27, 96]
abbrev dktX4_laysBooks_0 : List UInt8 := dkwX4_laysBooks_0 ++ dktX4_laysBooks_1
theorem dksX4_laysBooks_0 : cX4_laysBooks.data.toList.drop 0 = dktX4_laysBooks_0 := by decide +kernel
theorem dksX4_laysBooks_1 : cX4_laysBooks.data.toList.drop 24 = dktX4_laysBooks_1 := dk_seg dksX4_laysBooks_0 24 rfl rfl
theorem dX4_laysBooks_0 : decode cX4_laysBooks 0 = .ok (.iconst 0, 1) := dk_3 (dk_at dksX4_laysBooks_0 0 rfl rfl)
theorem dX4_laysBooks_1 : decode cX4_laysBooks 1 = .ok (.istore_n 1, 1) := dk_60 (dk_at dksX4_laysBooks_0 1 rfl rfl)
theorem dX4_laysBooks_2 : decode cX4_laysBooks 2 = .ok (.iload_n 1, 1) := dk_27 (dk_at dksX4_laysBooks_0 2 rfl rfl)
theorem dX4_laysBooks_3 : decode cX4_laysBooks 3 = .ok (.bipush 16, 2) := dk_16 16 (dk_at dksX4_laysBooks_0 3 rfl rfl)
theorem dX4_laysBooks_5 : decode cX4_laysBooks 5 = .ok (.if_icmp .ge 27, 3) := dk_162 0 27 (dk_at dksX4_laysBooks_0 5 rfl rfl)
theorem dX4_laysBooks_8 : decode cX4_laysBooks 8 = .ok (.aload_n 0, 1) := dk_42 (dk_at dksX4_laysBooks_0 8 rfl rfl)
theorem dX4_laysBooks_9 : decode cX4_laysBooks 9 = .ok (.getfield 16, 3) := dk_180 0 16 (dk_at dksX4_laysBooks_0 9 rfl rfl)
theorem dX4_laysBooks_12 : decode cX4_laysBooks 12 = .ok (.bipush 23, 2) := dk_16 23 (dk_at dksX4_laysBooks_0 12 rfl rfl)
theorem dX4_laysBooks_14 : decode cX4_laysBooks 14 = .ok (.iload_n 1, 1) := dk_27 (dk_at dksX4_laysBooks_0 14 rfl rfl)
theorem dX4_laysBooks_15 : decode cX4_laysBooks 15 = .ok (.iadd, 1) := dk_96 (dk_at dksX4_laysBooks_0 15 rfl rfl)
theorem dX4_laysBooks_16 : decode cX4_laysBooks 16 = .ok (.aload_n 0, 1) := dk_42 (dk_at dksX4_laysBooks_0 16 rfl rfl)
theorem dX4_laysBooks_17 : decode cX4_laysBooks 17 = .ok (.getfield 7, 3) := dk_180 0 7 (dk_at dksX4_laysBooks_0 17 rfl rfl)
theorem dX4_laysBooks_20 : decode cX4_laysBooks 20 = .ok (.bipush 95, 2) := dk_16 95 (dk_at dksX4_laysBooks_0 20 rfl rfl)
theorem dX4_laysBooks_22 : decode cX4_laysBooks 22 = .ok (.iload_n 1, 1) := dk_27 (dk_at dksX4_laysBooks_0 22 rfl rfl)
theorem dX4_laysBooks_23 : decode cX4_laysBooks 23 = .ok (.iadd, 1) := dk_96 (dk_at dksX4_laysBooks_0 23 rfl rfl)
theorem dX4_laysBooks_24 : decode cX4_laysBooks 24 = .ok (.iaload, 1) := dk_46 (dk_at dksX4_laysBooks_1 0 rfl rfl)
theorem dX4_laysBooks_25 : decode cX4_laysBooks 25 = .ok (.iastore, 1) := dk_79 (dk_at dksX4_laysBooks_1 1 rfl rfl)
theorem dX4_laysBooks_26 : decode cX4_laysBooks 26 = .ok (.iinc 1 1, 3) := dk_132 1 1 (dk_at dksX4_laysBooks_1 2 rfl rfl)
theorem dX4_laysBooks_29 : decode cX4_laysBooks 29 = .ok (.goto (-27), 3) := dk_167 255 229 (dk_at dksX4_laysBooks_1 5 rfl rfl)
theorem dX4_laysBooks_32 : decode cX4_laysBooks 32 = .ok (.return_, 1) := dk_177 (dk_at dksX4_laysBooks_1 8 rfl rfl)
abbrev cX4_thrown : ByteArray := prog_21_method_5_code
def yX4_thrown : MethodName := ⟨RX4, "thrown", "()I"⟩
theorem dX4_thrown_0 : decode cX4_thrown 0 = .ok (.aload_n 0, 1) := by decide +kernel
theorem dX4_thrown_1 : decode cX4_thrown 1 = .ok (.getfield 77, 3) := by decide +kernel
theorem dX4_thrown_4 : decode cX4_thrown 4 = .ok (.ireturn, 1) := by decide +kernel
abbrev cX4_undo : ByteArray := prog_21_method_13_code
def yX4_undo : MethodName := ⟨RX4, "undo", "()I"⟩
def dkwX4_undo_3 : List UInt8 := [180, 0, 70, 172]
abbrev dktX4_undo_3 : List UInt8 := dkwX4_undo_3 ++ []
def dkwX4_undo_2 : List UInt8 := [180, 0, 28, 17, 5, 155, 42, 180, 0, 70, 104, 27, 96, 46, 79, 132, 1, 1, 167, 255, 225, 42]
abbrev dktX4_undo_2 : List UInt8 := dkwX4_undo_2 ++ dktX4_undo_3
def dkwX4_undo_1 : List UInt8 := [180, 0, 70, 4, 100, 181, 0, 70, 3, 60, 27, 17, 5, 155, 162, 0, 30, 42, 180, 0, 16, 27, 42]
abbrev dktX4_undo_1 : List UInt8 := dkwX4_undo_1 ++ dktX4_undo_2
def dkwX4_undo_0 : List UInt8 := [42, 42, 180, 0, 70, 158, 0, 7, 4, 167, 0, 4, 3, 182, 0, 90, 154, 0, 5, 3, 172, 42, 42]
abbrev dktX4_undo_0 : List UInt8 := dkwX4_undo_0 ++ dktX4_undo_1
theorem dksX4_undo_0 : cX4_undo.data.toList.drop 0 = dktX4_undo_0 := by decide +kernel
theorem dksX4_undo_1 : cX4_undo.data.toList.drop 23 = dktX4_undo_1 := dk_seg dksX4_undo_0 23 rfl rfl
theorem dksX4_undo_2 : cX4_undo.data.toList.drop 46 = dktX4_undo_2 := dk_seg dksX4_undo_1 23 rfl rfl
theorem dksX4_undo_3 : cX4_undo.data.toList.drop 68 = dktX4_undo_3 := dk_seg dksX4_undo_2 22 rfl rfl
theorem dX4_undo_0 : decode cX4_undo 0 = .ok (.aload_n 0, 1) := dk_42 (dk_at dksX4_undo_0 0 rfl rfl)
theorem dX4_undo_1 : decode cX4_undo 1 = .ok (.aload_n 0, 1) := dk_42 (dk_at dksX4_undo_0 1 rfl rfl)
theorem dX4_undo_2 : decode cX4_undo 2 = .ok (.getfield 70, 3) := dk_180 0 70 (dk_at dksX4_undo_0 2 rfl rfl)
theorem dX4_undo_5 : decode cX4_undo 5 = .ok (.ifCond .le 7, 3) := dk_158 0 7 (dk_at dksX4_undo_0 5 rfl rfl)
theorem dX4_undo_8 : decode cX4_undo 8 = .ok (.iconst 1, 1) := dk_4 (dk_at dksX4_undo_0 8 rfl rfl)
theorem dX4_undo_9 : decode cX4_undo 9 = .ok (.goto 4, 3) := dk_167 0 4 (dk_at dksX4_undo_0 9 rfl rfl)
theorem dX4_undo_12 : decode cX4_undo 12 = .ok (.iconst 0, 1) := dk_3 (dk_at dksX4_undo_0 12 rfl rfl)
theorem dX4_undo_13 : decode cX4_undo 13 = .ok (.invokevirtual 90, 3) := dk_182 0 90 (dk_at dksX4_undo_0 13 rfl rfl)
theorem dX4_undo_16 : decode cX4_undo 16 = .ok (.ifCond .ne 5, 3) := dk_154 0 5 (dk_at dksX4_undo_0 16 rfl rfl)
theorem dX4_undo_19 : decode cX4_undo 19 = .ok (.iconst 0, 1) := dk_3 (dk_at dksX4_undo_0 19 rfl rfl)
theorem dX4_undo_20 : decode cX4_undo 20 = .ok (.ireturn, 1) := dk_172 (dk_at dksX4_undo_0 20 rfl rfl)
theorem dX4_undo_21 : decode cX4_undo 21 = .ok (.aload_n 0, 1) := dk_42 (dk_at dksX4_undo_0 21 rfl rfl)
theorem dX4_undo_22 : decode cX4_undo 22 = .ok (.aload_n 0, 1) := dk_42 (dk_at dksX4_undo_0 22 rfl rfl)
theorem dX4_undo_23 : decode cX4_undo 23 = .ok (.getfield 70, 3) := dk_180 0 70 (dk_at dksX4_undo_1 0 rfl rfl)
theorem dX4_undo_26 : decode cX4_undo 26 = .ok (.iconst 1, 1) := dk_4 (dk_at dksX4_undo_1 3 rfl rfl)
theorem dX4_undo_27 : decode cX4_undo 27 = .ok (.isub, 1) := dk_100 (dk_at dksX4_undo_1 4 rfl rfl)
theorem dX4_undo_28 : decode cX4_undo 28 = .ok (.putfield 70, 3) := dk_181 0 70 (dk_at dksX4_undo_1 5 rfl rfl)
theorem dX4_undo_31 : decode cX4_undo 31 = .ok (.iconst 0, 1) := dk_3 (dk_at dksX4_undo_1 8 rfl rfl)
theorem dX4_undo_32 : decode cX4_undo 32 = .ok (.istore_n 1, 1) := dk_60 (dk_at dksX4_undo_1 9 rfl rfl)
theorem dX4_undo_33 : decode cX4_undo 33 = .ok (.iload_n 1, 1) := dk_27 (dk_at dksX4_undo_1 10 rfl rfl)
theorem dX4_undo_34 : decode cX4_undo 34 = .ok (.sipush 1435, 3) := dk_17 5 155 (dk_at dksX4_undo_1 11 rfl rfl)
theorem dX4_undo_37 : decode cX4_undo 37 = .ok (.if_icmp .ge 30, 3) := dk_162 0 30 (dk_at dksX4_undo_1 14 rfl rfl)
theorem dX4_undo_40 : decode cX4_undo 40 = .ok (.aload_n 0, 1) := dk_42 (dk_at dksX4_undo_1 17 rfl rfl)
theorem dX4_undo_41 : decode cX4_undo 41 = .ok (.getfield 16, 3) := dk_180 0 16 (dk_at dksX4_undo_1 18 rfl rfl)
theorem dX4_undo_44 : decode cX4_undo 44 = .ok (.iload_n 1, 1) := dk_27 (dk_at dksX4_undo_1 21 rfl rfl)
theorem dX4_undo_45 : decode cX4_undo 45 = .ok (.aload_n 0, 1) := dk_42 (dk_at dksX4_undo_1 22 rfl rfl)
theorem dX4_undo_46 : decode cX4_undo 46 = .ok (.getfield 28, 3) := dk_180 0 28 (dk_at dksX4_undo_2 0 rfl rfl)
theorem dX4_undo_49 : decode cX4_undo 49 = .ok (.sipush 1435, 3) := dk_17 5 155 (dk_at dksX4_undo_2 3 rfl rfl)
theorem dX4_undo_52 : decode cX4_undo 52 = .ok (.aload_n 0, 1) := dk_42 (dk_at dksX4_undo_2 6 rfl rfl)
theorem dX4_undo_53 : decode cX4_undo 53 = .ok (.getfield 70, 3) := dk_180 0 70 (dk_at dksX4_undo_2 7 rfl rfl)
theorem dX4_undo_56 : decode cX4_undo 56 = .ok (.imul, 1) := dk_104 (dk_at dksX4_undo_2 10 rfl rfl)
theorem dX4_undo_57 : decode cX4_undo 57 = .ok (.iload_n 1, 1) := dk_27 (dk_at dksX4_undo_2 11 rfl rfl)
theorem dX4_undo_58 : decode cX4_undo 58 = .ok (.iadd, 1) := dk_96 (dk_at dksX4_undo_2 12 rfl rfl)
theorem dX4_undo_59 : decode cX4_undo 59 = .ok (.iaload, 1) := dk_46 (dk_at dksX4_undo_2 13 rfl rfl)
theorem dX4_undo_60 : decode cX4_undo 60 = .ok (.iastore, 1) := dk_79 (dk_at dksX4_undo_2 14 rfl rfl)
theorem dX4_undo_61 : decode cX4_undo 61 = .ok (.iinc 1 1, 3) := dk_132 1 1 (dk_at dksX4_undo_2 15 rfl rfl)
theorem dX4_undo_64 : decode cX4_undo 64 = .ok (.goto (-31), 3) := dk_167 255 225 (dk_at dksX4_undo_2 18 rfl rfl)
theorem dX4_undo_67 : decode cX4_undo 67 = .ok (.aload_n 0, 1) := dk_42 (dk_at dksX4_undo_2 21 rfl rfl)
theorem dX4_undo_68 : decode cX4_undo 68 = .ok (.getfield 70, 3) := dk_180 0 70 (dk_at dksX4_undo_3 0 rfl rfl)
theorem dX4_undo_71 : decode cX4_undo 71 = .ok (.ireturn, 1) := dk_172 (dk_at dksX4_undo_3 3 rfl rfl)
abbrev cX4_is : ByteArray := prog_21_method_6_code
def yX4_is : MethodName := ⟨RX4, "is", "(Z)Z"⟩
def dkwX4_is_0 : List UInt8 := [42, 27, 153, 0, 7, 3, 167, 0, 4, 4, 181, 0, 77, 27, 172]
abbrev dktX4_is_0 : List UInt8 := dkwX4_is_0 ++ []
theorem dksX4_is_0 : cX4_is.data.toList.drop 0 = dktX4_is_0 := by decide +kernel
theorem dX4_is_0 : decode cX4_is 0 = .ok (.aload_n 0, 1) := dk_42 (dk_at dksX4_is_0 0 rfl rfl)
theorem dX4_is_1 : decode cX4_is 1 = .ok (.iload_n 1, 1) := dk_27 (dk_at dksX4_is_0 1 rfl rfl)
theorem dX4_is_2 : decode cX4_is 2 = .ok (.ifCond .eq 7, 3) := dk_153 0 7 (dk_at dksX4_is_0 2 rfl rfl)
theorem dX4_is_5 : decode cX4_is 5 = .ok (.iconst 0, 1) := dk_3 (dk_at dksX4_is_0 5 rfl rfl)
theorem dX4_is_6 : decode cX4_is 6 = .ok (.goto 4, 3) := dk_167 0 4 (dk_at dksX4_is_0 6 rfl rfl)
theorem dX4_is_9 : decode cX4_is 9 = .ok (.iconst 1, 1) := dk_4 (dk_at dksX4_is_0 9 rfl rfl)
theorem dX4_is_10 : decode cX4_is 10 = .ok (.putfield 77, 3) := dk_181 0 77 (dk_at dksX4_is_0 10 rfl rfl)
theorem dX4_is_13 : decode cX4_is 13 = .ok (.iload_n 1, 1) := dk_27 (dk_at dksX4_is_0 13 rfl rfl)
theorem dX4_is_14 : decode cX4_is 14 = .ok (.ireturn, 1) := dk_172 (dk_at dksX4_is_0 14 rfl rfl)
abbrev cX4_saveState : ByteArray := prog_21_method_14_code
def yX4_saveState : MethodName := ⟨RX4, "saveState", "()I"⟩
def dkwX4_saveState_1 : List UInt8 := [180, 0, 16, 3, 46, 172]
abbrev dktX4_saveState_1 : List UInt8 := dkwX4_saveState_1 ++ []
def dkwX4_saveState_0 : List UInt8 := [42, 3, 181, 0, 77, 42, 180, 0, 16, 42, 180, 0, 25, 184, 0, 80, 42, 4, 181, 0, 73, 42]
abbrev dktX4_saveState_0 : List UInt8 := dkwX4_saveState_0 ++ dktX4_saveState_1
theorem dksX4_saveState_0 : cX4_saveState.data.toList.drop 0 = dktX4_saveState_0 := by decide +kernel
theorem dksX4_saveState_1 : cX4_saveState.data.toList.drop 22 = dktX4_saveState_1 := dk_seg dksX4_saveState_0 22 rfl rfl
theorem dX4_saveState_0 : decode cX4_saveState 0 = .ok (.aload_n 0, 1) := dk_42 (dk_at dksX4_saveState_0 0 rfl rfl)
theorem dX4_saveState_1 : decode cX4_saveState 1 = .ok (.iconst 0, 1) := dk_3 (dk_at dksX4_saveState_0 1 rfl rfl)
theorem dX4_saveState_2 : decode cX4_saveState 2 = .ok (.putfield 77, 3) := dk_181 0 77 (dk_at dksX4_saveState_0 2 rfl rfl)
theorem dX4_saveState_5 : decode cX4_saveState 5 = .ok (.aload_n 0, 1) := dk_42 (dk_at dksX4_saveState_0 5 rfl rfl)
theorem dX4_saveState_6 : decode cX4_saveState 6 = .ok (.getfield 16, 3) := dk_180 0 16 (dk_at dksX4_saveState_0 6 rfl rfl)
theorem dX4_saveState_9 : decode cX4_saveState 9 = .ok (.aload_n 0, 1) := dk_42 (dk_at dksX4_saveState_0 9 rfl rfl)
theorem dX4_saveState_10 : decode cX4_saveState 10 = .ok (.getfield 25, 3) := dk_180 0 25 (dk_at dksX4_saveState_0 10 rfl rfl)
theorem dX4_saveState_13 : decode cX4_saveState 13 = .ok (.invokestatic 80, 3) := dk_184 0 80 (dk_at dksX4_saveState_0 13 rfl rfl)
theorem dX4_saveState_16 : decode cX4_saveState 16 = .ok (.aload_n 0, 1) := dk_42 (dk_at dksX4_saveState_0 16 rfl rfl)
theorem dX4_saveState_17 : decode cX4_saveState 17 = .ok (.iconst 1, 1) := dk_4 (dk_at dksX4_saveState_0 17 rfl rfl)
theorem dX4_saveState_18 : decode cX4_saveState 18 = .ok (.putfield 73, 3) := dk_181 0 73 (dk_at dksX4_saveState_0 18 rfl rfl)
theorem dX4_saveState_21 : decode cX4_saveState 21 = .ok (.aload_n 0, 1) := dk_42 (dk_at dksX4_saveState_0 21 rfl rfl)
theorem dX4_saveState_22 : decode cX4_saveState 22 = .ok (.getfield 16, 3) := dk_180 0 16 (dk_at dksX4_saveState_1 0 rfl rfl)
theorem dX4_saveState_25 : decode cX4_saveState 25 = .ok (.iconst 0, 1) := dk_3 (dk_at dksX4_saveState_1 3 rfl rfl)
theorem dX4_saveState_26 : decode cX4_saveState 26 = .ok (.iaload, 1) := dk_46 (dk_at dksX4_saveState_1 4 rfl rfl)
theorem dX4_saveState_27 : decode cX4_saveState 27 = .ok (.ireturn, 1) := dk_172 (dk_at dksX4_saveState_1 5 rfl rfl)
abbrev cX4_copies : ByteArray := prog_21_method_9_code
def yX4_copies : MethodName := ⟨RX4, "copies", "([I[I)V"⟩
def dkwX4_copies_0 : List UInt8 := [3, 61, 28, 17, 5, 155, 162, 0, 15, 43, 28, 42, 28, 46, 79, 132, 2, 1, 167, 255, 240, 177]
abbrev dktX4_copies_0 : List UInt8 := dkwX4_copies_0 ++ []
theorem dksX4_copies_0 : cX4_copies.data.toList.drop 0 = dktX4_copies_0 := by decide +kernel
theorem dX4_copies_0 : decode cX4_copies 0 = .ok (.iconst 0, 1) := dk_3 (dk_at dksX4_copies_0 0 rfl rfl)
theorem dX4_copies_1 : decode cX4_copies 1 = .ok (.istore_n 2, 1) := dk_61 (dk_at dksX4_copies_0 1 rfl rfl)
theorem dX4_copies_2 : decode cX4_copies 2 = .ok (.iload_n 2, 1) := dk_28 (dk_at dksX4_copies_0 2 rfl rfl)
theorem dX4_copies_3 : decode cX4_copies 3 = .ok (.sipush 1435, 3) := dk_17 5 155 (dk_at dksX4_copies_0 3 rfl rfl)
theorem dX4_copies_6 : decode cX4_copies 6 = .ok (.if_icmp .ge 15, 3) := dk_162 0 15 (dk_at dksX4_copies_0 6 rfl rfl)
theorem dX4_copies_9 : decode cX4_copies 9 = .ok (.aload_n 1, 1) := dk_43 (dk_at dksX4_copies_0 9 rfl rfl)
theorem dX4_copies_10 : decode cX4_copies 10 = .ok (.iload_n 2, 1) := dk_28 (dk_at dksX4_copies_0 10 rfl rfl)
theorem dX4_copies_11 : decode cX4_copies 11 = .ok (.aload_n 0, 1) := dk_42 (dk_at dksX4_copies_0 11 rfl rfl)
theorem dX4_copies_12 : decode cX4_copies 12 = .ok (.iload_n 2, 1) := dk_28 (dk_at dksX4_copies_0 12 rfl rfl)
theorem dX4_copies_13 : decode cX4_copies 13 = .ok (.iaload, 1) := dk_46 (dk_at dksX4_copies_0 13 rfl rfl)
theorem dX4_copies_14 : decode cX4_copies 14 = .ok (.iastore, 1) := dk_79 (dk_at dksX4_copies_0 14 rfl rfl)
theorem dX4_copies_15 : decode cX4_copies 15 = .ok (.iinc 2 1, 3) := dk_132 2 1 (dk_at dksX4_copies_0 15 rfl rfl)
theorem dX4_copies_18 : decode cX4_copies 18 = .ok (.goto (-16), 3) := dk_167 255 240 (dk_at dksX4_copies_0 18 rfl rfl)
theorem dX4_copies_21 : decode cX4_copies 21 = .ok (.return_, 1) := dk_177 (dk_at dksX4_copies_0 21 rfl rfl)
abbrev cX4_restoreState : ByteArray := prog_21_method_15_code
def yX4_restoreState : MethodName := ⟨RX4, "restoreState", "()I"⟩
def dkwX4_restoreState_1 : List UInt8 := [42, 3, 181, 0, 70, 42, 180, 0, 16, 3, 46, 172]
abbrev dktX4_restoreState_1 : List UInt8 := dkwX4_restoreState_1 ++ []
def dkwX4_restoreState_0 : List UInt8 := [42, 42, 180, 0, 73, 182, 0, 90, 154, 0, 5, 3, 172, 42, 180, 0, 25, 42, 180, 0, 16, 184, 0, 80]
abbrev dktX4_restoreState_0 : List UInt8 := dkwX4_restoreState_0 ++ dktX4_restoreState_1
theorem dksX4_restoreState_0 : cX4_restoreState.data.toList.drop 0 = dktX4_restoreState_0 := by decide +kernel
theorem dksX4_restoreState_1 : cX4_restoreState.data.toList.drop 24 = dktX4_restoreState_1 := dk_seg dksX4_restoreState_0 24 rfl rfl
theorem dX4_restoreState_0 : decode cX4_restoreState 0 = .ok (.aload_n 0, 1) := dk_42 (dk_at dksX4_restoreState_0 0 rfl rfl)
theorem dX4_restoreState_1 : decode cX4_restoreState 1 = .ok (.aload_n 0, 1) := dk_42 (dk_at dksX4_restoreState_0 1 rfl rfl)
theorem dX4_restoreState_2 : decode cX4_restoreState 2 = .ok (.getfield 73, 3) := dk_180 0 73 (dk_at dksX4_restoreState_0 2 rfl rfl)
theorem dX4_restoreState_5 : decode cX4_restoreState 5 = .ok (.invokevirtual 90, 3) := dk_182 0 90 (dk_at dksX4_restoreState_0 5 rfl rfl)
theorem dX4_restoreState_8 : decode cX4_restoreState 8 = .ok (.ifCond .ne 5, 3) := dk_154 0 5 (dk_at dksX4_restoreState_0 8 rfl rfl)
theorem dX4_restoreState_11 : decode cX4_restoreState 11 = .ok (.iconst 0, 1) := dk_3 (dk_at dksX4_restoreState_0 11 rfl rfl)
theorem dX4_restoreState_12 : decode cX4_restoreState 12 = .ok (.ireturn, 1) := dk_172 (dk_at dksX4_restoreState_0 12 rfl rfl)
theorem dX4_restoreState_13 : decode cX4_restoreState 13 = .ok (.aload_n 0, 1) := dk_42 (dk_at dksX4_restoreState_0 13 rfl rfl)
theorem dX4_restoreState_14 : decode cX4_restoreState 14 = .ok (.getfield 25, 3) := dk_180 0 25 (dk_at dksX4_restoreState_0 14 rfl rfl)
theorem dX4_restoreState_17 : decode cX4_restoreState 17 = .ok (.aload_n 0, 1) := dk_42 (dk_at dksX4_restoreState_0 17 rfl rfl)
theorem dX4_restoreState_18 : decode cX4_restoreState 18 = .ok (.getfield 16, 3) := dk_180 0 16 (dk_at dksX4_restoreState_0 18 rfl rfl)
theorem dX4_restoreState_21 : decode cX4_restoreState 21 = .ok (.invokestatic 80, 3) := dk_184 0 80 (dk_at dksX4_restoreState_0 21 rfl rfl)
theorem dX4_restoreState_24 : decode cX4_restoreState 24 = .ok (.aload_n 0, 1) := dk_42 (dk_at dksX4_restoreState_1 0 rfl rfl)
theorem dX4_restoreState_25 : decode cX4_restoreState 25 = .ok (.iconst 0, 1) := dk_3 (dk_at dksX4_restoreState_1 1 rfl rfl)
theorem dX4_restoreState_26 : decode cX4_restoreState 26 = .ok (.putfield 70, 3) := dk_181 0 70 (dk_at dksX4_restoreState_1 2 rfl rfl)
theorem dX4_restoreState_29 : decode cX4_restoreState 29 = .ok (.aload_n 0, 1) := dk_42 (dk_at dksX4_restoreState_1 5 rfl rfl)
theorem dX4_restoreState_30 : decode cX4_restoreState 30 = .ok (.getfield 16, 3) := dk_180 0 16 (dk_at dksX4_restoreState_1 6 rfl rfl)
theorem dX4_restoreState_33 : decode cX4_restoreState 33 = .ok (.iconst 0, 1) := dk_3 (dk_at dksX4_restoreState_1 9 rfl rfl)
theorem dX4_restoreState_34 : decode cX4_restoreState 34 = .ok (.iaload, 1) := dk_46 (dk_at dksX4_restoreState_1 10 rfl rfl)
theorem dX4_restoreState_35 : decode cX4_restoreState 35 = .ok (.ireturn, 1) := dk_172 (dk_at dksX4_restoreState_1 11 rfl rfl)
abbrev cX4_pass : ByteArray := prog_21_method_33_code
def yX4_pass : MethodName := ⟨RX4, "pass", "(I)I"⟩
def dkwX4_pass_1 : List UInt8 := [180, 0, 16, 3, 46, 27, 96, 182, 0, 151, 42, 182, 0, 87, 42, 180, 0, 16, 3, 46, 172]
abbrev dktX4_pass_1 : List UInt8 := dkwX4_pass_1 ++ []
def dkwX4_pass_0 : List UInt8 := [42, 27, 133, 10, 20, 0, 142, 184, 0, 144, 182, 0, 90, 154, 0, 5, 3, 172, 42, 182, 0, 148, 42, 42]
abbrev dktX4_pass_0 : List UInt8 := dkwX4_pass_0 ++ dktX4_pass_1
theorem dksX4_pass_0 : cX4_pass.data.toList.drop 0 = dktX4_pass_0 := by decide +kernel
theorem dksX4_pass_1 : cX4_pass.data.toList.drop 24 = dktX4_pass_1 := dk_seg dksX4_pass_0 24 rfl rfl
theorem dX4_pass_0 : decode cX4_pass 0 = .ok (.aload_n 0, 1) := dk_42 (dk_at dksX4_pass_0 0 rfl rfl)
theorem dX4_pass_1 : decode cX4_pass 1 = .ok (.iload_n 1, 1) := dk_27 (dk_at dksX4_pass_0 1 rfl rfl)
theorem dX4_pass_2 : decode cX4_pass 2 = .ok (.i2l, 1) := dk_133 (dk_at dksX4_pass_0 2 rfl rfl)
theorem dX4_pass_3 : decode cX4_pass 3 = .ok (.lconst 1, 1) := dk_10 (dk_at dksX4_pass_0 3 rfl rfl)
theorem dX4_pass_4 : decode cX4_pass 4 = .ok (.ldc2_w 142, 3) := dk_20 0 142 (dk_at dksX4_pass_0 4 rfl rfl)
theorem dX4_pass_7 : decode cX4_pass 7 = .ok (.invokestatic 144, 3) := dk_184 0 144 (dk_at dksX4_pass_0 7 rfl rfl)
theorem dX4_pass_10 : decode cX4_pass 10 = .ok (.invokevirtual 90, 3) := dk_182 0 90 (dk_at dksX4_pass_0 10 rfl rfl)
theorem dX4_pass_13 : decode cX4_pass 13 = .ok (.ifCond .ne 5, 3) := dk_154 0 5 (dk_at dksX4_pass_0 13 rfl rfl)
theorem dX4_pass_16 : decode cX4_pass 16 = .ok (.iconst 0, 1) := dk_3 (dk_at dksX4_pass_0 16 rfl rfl)
theorem dX4_pass_17 : decode cX4_pass 17 = .ok (.ireturn, 1) := dk_172 (dk_at dksX4_pass_0 17 rfl rfl)
theorem dX4_pass_18 : decode cX4_pass 18 = .ok (.aload_n 0, 1) := dk_42 (dk_at dksX4_pass_0 18 rfl rfl)
theorem dX4_pass_19 : decode cX4_pass 19 = .ok (.invokevirtual 148, 3) := dk_182 0 148 (dk_at dksX4_pass_0 19 rfl rfl)
theorem dX4_pass_22 : decode cX4_pass 22 = .ok (.aload_n 0, 1) := dk_42 (dk_at dksX4_pass_0 22 rfl rfl)
theorem dX4_pass_23 : decode cX4_pass 23 = .ok (.aload_n 0, 1) := dk_42 (dk_at dksX4_pass_0 23 rfl rfl)
theorem dX4_pass_24 : decode cX4_pass 24 = .ok (.getfield 16, 3) := dk_180 0 16 (dk_at dksX4_pass_1 0 rfl rfl)
theorem dX4_pass_27 : decode cX4_pass 27 = .ok (.iconst 0, 1) := dk_3 (dk_at dksX4_pass_1 3 rfl rfl)
theorem dX4_pass_28 : decode cX4_pass 28 = .ok (.iaload, 1) := dk_46 (dk_at dksX4_pass_1 4 rfl rfl)
theorem dX4_pass_29 : decode cX4_pass 29 = .ok (.iload_n 1, 1) := dk_27 (dk_at dksX4_pass_1 5 rfl rfl)
theorem dX4_pass_30 : decode cX4_pass 30 = .ok (.iadd, 1) := dk_96 (dk_at dksX4_pass_1 6 rfl rfl)
theorem dX4_pass_31 : decode cX4_pass 31 = .ok (.invokevirtual 151, 3) := dk_182 0 151 (dk_at dksX4_pass_1 7 rfl rfl)
theorem dX4_pass_34 : decode cX4_pass 34 = .ok (.aload_n 0, 1) := dk_42 (dk_at dksX4_pass_1 10 rfl rfl)
theorem dX4_pass_35 : decode cX4_pass 35 = .ok (.invokevirtual 87, 3) := dk_182 0 87 (dk_at dksX4_pass_1 11 rfl rfl)
theorem dX4_pass_38 : decode cX4_pass 38 = .ok (.aload_n 0, 1) := dk_42 (dk_at dksX4_pass_1 14 rfl rfl)
theorem dX4_pass_39 : decode cX4_pass 39 = .ok (.getfield 16, 3) := dk_180 0 16 (dk_at dksX4_pass_1 15 rfl rfl)
theorem dX4_pass_42 : decode cX4_pass 42 = .ok (.iconst 0, 1) := dk_3 (dk_at dksX4_pass_1 18 rfl rfl)
theorem dX4_pass_43 : decode cX4_pass 43 = .ok (.iaload, 1) := dk_46 (dk_at dksX4_pass_1 19 rfl rfl)
theorem dX4_pass_44 : decode cX4_pass 44 = .ok (.ireturn, 1) := dk_172 (dk_at dksX4_pass_1 20 rfl rfl)
abbrev cX4_isIn : ByteArray := prog_21_method_8_code
def yX4_isIn : MethodName := ⟨RX4, "isIn", "(JJJ)Z"⟩
def dkwX4_isIn_0 : List UInt8 := [30, 32, 148, 155, 0, 14, 30, 22, 4, 148, 157, 0, 7, 4, 167, 0, 4, 3, 172]
abbrev dktX4_isIn_0 : List UInt8 := dkwX4_isIn_0 ++ []
theorem dksX4_isIn_0 : cX4_isIn.data.toList.drop 0 = dktX4_isIn_0 := by decide +kernel
theorem dX4_isIn_0 : decode cX4_isIn 0 = .ok (.lload_n 0, 1) := dk_30 (dk_at dksX4_isIn_0 0 rfl rfl)
theorem dX4_isIn_1 : decode cX4_isIn 1 = .ok (.lload_n 2, 1) := dk_32 (dk_at dksX4_isIn_0 1 rfl rfl)
theorem dX4_isIn_2 : decode cX4_isIn 2 = .ok (.lcmp, 1) := dk_148 (dk_at dksX4_isIn_0 2 rfl rfl)
theorem dX4_isIn_3 : decode cX4_isIn 3 = .ok (.ifCond .lt 14, 3) := dk_155 0 14 (dk_at dksX4_isIn_0 3 rfl rfl)
theorem dX4_isIn_6 : decode cX4_isIn 6 = .ok (.lload_n 0, 1) := dk_30 (dk_at dksX4_isIn_0 6 rfl rfl)
theorem dX4_isIn_7 : decode cX4_isIn 7 = .ok (.lload 4, 2) := dk_22 4 (dk_at dksX4_isIn_0 7 rfl rfl)
theorem dX4_isIn_9 : decode cX4_isIn 9 = .ok (.lcmp, 1) := dk_148 (dk_at dksX4_isIn_0 9 rfl rfl)
theorem dX4_isIn_10 : decode cX4_isIn 10 = .ok (.ifCond .gt 7, 3) := dk_157 0 7 (dk_at dksX4_isIn_0 10 rfl rfl)
theorem dX4_isIn_13 : decode cX4_isIn 13 = .ok (.iconst 1, 1) := dk_4 (dk_at dksX4_isIn_0 13 rfl rfl)
theorem dX4_isIn_14 : decode cX4_isIn 14 = .ok (.goto 4, 3) := dk_167 0 4 (dk_at dksX4_isIn_0 14 rfl rfl)
theorem dX4_isIn_17 : decode cX4_isIn 17 = .ok (.iconst 0, 1) := dk_3 (dk_at dksX4_isIn_0 17 rfl rfl)
theorem dX4_isIn_18 : decode cX4_isIn 18 = .ok (.ireturn, 1) := dk_172 (dk_at dksX4_isIn_0 18 rfl rfl)
abbrev cX4_starts : ByteArray := prog_21_method_10_code
def yX4_starts : MethodName := ⟨RX4, "starts", "()V"⟩
def dkwX4_starts_0 : List UInt8 := [42, 180, 0, 16, 42, 180, 0, 19, 184, 0, 80, 177]
abbrev dktX4_starts_0 : List UInt8 := dkwX4_starts_0 ++ []
theorem dksX4_starts_0 : cX4_starts.data.toList.drop 0 = dktX4_starts_0 := by decide +kernel
theorem dX4_starts_0 : decode cX4_starts 0 = .ok (.aload_n 0, 1) := dk_42 (dk_at dksX4_starts_0 0 rfl rfl)
theorem dX4_starts_1 : decode cX4_starts 1 = .ok (.getfield 16, 3) := dk_180 0 16 (dk_at dksX4_starts_0 1 rfl rfl)
theorem dX4_starts_4 : decode cX4_starts 4 = .ok (.aload_n 0, 1) := dk_42 (dk_at dksX4_starts_0 4 rfl rfl)
theorem dX4_starts_5 : decode cX4_starts 5 = .ok (.getfield 19, 3) := dk_180 0 19 (dk_at dksX4_starts_0 5 rfl rfl)
theorem dX4_starts_8 : decode cX4_starts 8 = .ok (.invokestatic 80, 3) := dk_184 0 80 (dk_at dksX4_starts_0 8 rfl rfl)
theorem dX4_starts_11 : decode cX4_starts 11 = .ok (.return_, 1) := dk_177 (dk_at dksX4_starts_0 11 rfl rfl)
abbrev cX4_goesTo : ByteArray := prog_21_method_32_code
def yX4_goesTo : MethodName := ⟨RX4, "goesTo", "(I)V"⟩
def dkwX4_goesTo_1 : List UInt8 := [182, 0, 135, 61, 167, 255, 235, 42, 180, 0, 16, 3, 27, 79, 177]
abbrev dktX4_goesTo_1 : List UInt8 := dkwX4_goesTo_1 ++ []
def dkwX4_goesTo_0 : List UInt8 := [42, 182, 0, 135, 61, 28, 27, 163, 0, 22, 42, 180, 0, 16, 3, 28, 79, 42, 182, 0, 139, 42]
abbrev dktX4_goesTo_0 : List UInt8 := dkwX4_goesTo_0 ++ dktX4_goesTo_1
theorem dksX4_goesTo_0 : cX4_goesTo.data.toList.drop 0 = dktX4_goesTo_0 := by decide +kernel
theorem dksX4_goesTo_1 : cX4_goesTo.data.toList.drop 22 = dktX4_goesTo_1 := dk_seg dksX4_goesTo_0 22 rfl rfl
theorem dX4_goesTo_0 : decode cX4_goesTo 0 = .ok (.aload_n 0, 1) := dk_42 (dk_at dksX4_goesTo_0 0 rfl rfl)
theorem dX4_goesTo_1 : decode cX4_goesTo 1 = .ok (.invokevirtual 135, 3) := dk_182 0 135 (dk_at dksX4_goesTo_0 1 rfl rfl)
theorem dX4_goesTo_4 : decode cX4_goesTo 4 = .ok (.istore_n 2, 1) := dk_61 (dk_at dksX4_goesTo_0 4 rfl rfl)
theorem dX4_goesTo_5 : decode cX4_goesTo 5 = .ok (.iload_n 2, 1) := dk_28 (dk_at dksX4_goesTo_0 5 rfl rfl)
theorem dX4_goesTo_6 : decode cX4_goesTo 6 = .ok (.iload_n 1, 1) := dk_27 (dk_at dksX4_goesTo_0 6 rfl rfl)
theorem dX4_goesTo_7 : decode cX4_goesTo 7 = .ok (.if_icmp .gt 22, 3) := dk_163 0 22 (dk_at dksX4_goesTo_0 7 rfl rfl)
theorem dX4_goesTo_10 : decode cX4_goesTo 10 = .ok (.aload_n 0, 1) := dk_42 (dk_at dksX4_goesTo_0 10 rfl rfl)
theorem dX4_goesTo_11 : decode cX4_goesTo 11 = .ok (.getfield 16, 3) := dk_180 0 16 (dk_at dksX4_goesTo_0 11 rfl rfl)
theorem dX4_goesTo_14 : decode cX4_goesTo 14 = .ok (.iconst 0, 1) := dk_3 (dk_at dksX4_goesTo_0 14 rfl rfl)
theorem dX4_goesTo_15 : decode cX4_goesTo 15 = .ok (.iload_n 2, 1) := dk_28 (dk_at dksX4_goesTo_0 15 rfl rfl)
theorem dX4_goesTo_16 : decode cX4_goesTo 16 = .ok (.iastore, 1) := dk_79 (dk_at dksX4_goesTo_0 16 rfl rfl)
theorem dX4_goesTo_17 : decode cX4_goesTo 17 = .ok (.aload_n 0, 1) := dk_42 (dk_at dksX4_goesTo_0 17 rfl rfl)
theorem dX4_goesTo_18 : decode cX4_goesTo 18 = .ok (.invokevirtual 139, 3) := dk_182 0 139 (dk_at dksX4_goesTo_0 18 rfl rfl)
theorem dX4_goesTo_21 : decode cX4_goesTo 21 = .ok (.aload_n 0, 1) := dk_42 (dk_at dksX4_goesTo_0 21 rfl rfl)
theorem dX4_goesTo_22 : decode cX4_goesTo 22 = .ok (.invokevirtual 135, 3) := dk_182 0 135 (dk_at dksX4_goesTo_1 0 rfl rfl)
theorem dX4_goesTo_25 : decode cX4_goesTo 25 = .ok (.istore_n 2, 1) := dk_61 (dk_at dksX4_goesTo_1 3 rfl rfl)
theorem dX4_goesTo_26 : decode cX4_goesTo 26 = .ok (.goto (-21), 3) := dk_167 255 235 (dk_at dksX4_goesTo_1 4 rfl rfl)
theorem dX4_goesTo_29 : decode cX4_goesTo 29 = .ok (.aload_n 0, 1) := dk_42 (dk_at dksX4_goesTo_1 7 rfl rfl)
theorem dX4_goesTo_30 : decode cX4_goesTo 30 = .ok (.getfield 16, 3) := dk_180 0 16 (dk_at dksX4_goesTo_1 8 rfl rfl)
theorem dX4_goesTo_33 : decode cX4_goesTo 33 = .ok (.iconst 0, 1) := dk_3 (dk_at dksX4_goesTo_1 11 rfl rfl)
theorem dX4_goesTo_34 : decode cX4_goesTo 34 = .ok (.iload_n 1, 1) := dk_27 (dk_at dksX4_goesTo_1 12 rfl rfl)
theorem dX4_goesTo_35 : decode cX4_goesTo 35 = .ok (.iastore, 1) := dk_79 (dk_at dksX4_goesTo_1 13 rfl rfl)
theorem dX4_goesTo_36 : decode cX4_goesTo 36 = .ok (.return_, 1) := dk_177 (dk_at dksX4_goesTo_1 14 rfl rfl)
abbrev cX4_nextDue : ByteArray := prog_21_method_30_code
def yX4_nextDue : MethodName := ⟨RX4, "nextDue", "()I"⟩
def dkwX4_nextDue_3 : List UInt8 := [162, 0, 10, 42, 28, 8, 182, 0, 102, 60, 132, 2, 1, 167, 255, 192, 27, 172]
abbrev dktX4_nextDue_3 : List UInt8 := dkwX4_nextDue_3 ++ []
def dkwX4_nextDue_2 : List UInt8 := [162, 0, 10, 42, 28, 7, 182, 0, 102, 60, 29, 4, 160, 0, 20, 42, 28, 8, 182, 0, 102, 27]
abbrev dktX4_nextDue_2 : List UInt8 := dkwX4_nextDue_2 ++ dktX4_nextDue_3
def dkwX4_nextDue_1 : List UInt8 := [162, 0, 60, 42, 28, 5, 182, 0, 102, 62, 29, 5, 160, 0, 20, 42, 28, 7, 182, 0, 102, 27]
abbrev dktX4_nextDue_1 : List UInt8 := dkwX4_nextDue_1 ++ dktX4_nextDue_2
def dkwX4_nextDue_0 : List UInt8 := [42, 180, 0, 16, 3, 46, 18, 134, 108, 4, 96, 18, 134, 104, 60, 3, 61, 28, 42, 180, 0, 16, 4, 46]
abbrev dktX4_nextDue_0 : List UInt8 := dkwX4_nextDue_0 ++ dktX4_nextDue_1
theorem dksX4_nextDue_0 : cX4_nextDue.data.toList.drop 0 = dktX4_nextDue_0 := by decide +kernel
theorem dksX4_nextDue_1 : cX4_nextDue.data.toList.drop 24 = dktX4_nextDue_1 := dk_seg dksX4_nextDue_0 24 rfl rfl
theorem dksX4_nextDue_2 : cX4_nextDue.data.toList.drop 46 = dktX4_nextDue_2 := dk_seg dksX4_nextDue_1 22 rfl rfl
theorem dksX4_nextDue_3 : cX4_nextDue.data.toList.drop 68 = dktX4_nextDue_3 := dk_seg dksX4_nextDue_2 22 rfl rfl
theorem dX4_nextDue_0 : decode cX4_nextDue 0 = .ok (.aload_n 0, 1) := dk_42 (dk_at dksX4_nextDue_0 0 rfl rfl)
theorem dX4_nextDue_1 : decode cX4_nextDue 1 = .ok (.getfield 16, 3) := dk_180 0 16 (dk_at dksX4_nextDue_0 1 rfl rfl)
theorem dX4_nextDue_4 : decode cX4_nextDue 4 = .ok (.iconst 0, 1) := dk_3 (dk_at dksX4_nextDue_0 4 rfl rfl)
theorem dX4_nextDue_5 : decode cX4_nextDue 5 = .ok (.iaload, 1) := dk_46 (dk_at dksX4_nextDue_0 5 rfl rfl)
theorem dX4_nextDue_6 : decode cX4_nextDue 6 = .ok (.ldc 134, 2) := dk_18 134 (dk_at dksX4_nextDue_0 6 rfl rfl)
theorem dX4_nextDue_8 : decode cX4_nextDue 8 = .ok (.idiv, 1) := dk_108 (dk_at dksX4_nextDue_0 8 rfl rfl)
theorem dX4_nextDue_9 : decode cX4_nextDue 9 = .ok (.iconst 1, 1) := dk_4 (dk_at dksX4_nextDue_0 9 rfl rfl)
theorem dX4_nextDue_10 : decode cX4_nextDue 10 = .ok (.iadd, 1) := dk_96 (dk_at dksX4_nextDue_0 10 rfl rfl)
theorem dX4_nextDue_11 : decode cX4_nextDue 11 = .ok (.ldc 134, 2) := dk_18 134 (dk_at dksX4_nextDue_0 11 rfl rfl)
theorem dX4_nextDue_13 : decode cX4_nextDue 13 = .ok (.imul, 1) := dk_104 (dk_at dksX4_nextDue_0 13 rfl rfl)
theorem dX4_nextDue_14 : decode cX4_nextDue 14 = .ok (.istore_n 1, 1) := dk_60 (dk_at dksX4_nextDue_0 14 rfl rfl)
theorem dX4_nextDue_15 : decode cX4_nextDue 15 = .ok (.iconst 0, 1) := dk_3 (dk_at dksX4_nextDue_0 15 rfl rfl)
theorem dX4_nextDue_16 : decode cX4_nextDue 16 = .ok (.istore_n 2, 1) := dk_61 (dk_at dksX4_nextDue_0 16 rfl rfl)
theorem dX4_nextDue_17 : decode cX4_nextDue 17 = .ok (.iload_n 2, 1) := dk_28 (dk_at dksX4_nextDue_0 17 rfl rfl)
theorem dX4_nextDue_18 : decode cX4_nextDue 18 = .ok (.aload_n 0, 1) := dk_42 (dk_at dksX4_nextDue_0 18 rfl rfl)
theorem dX4_nextDue_19 : decode cX4_nextDue 19 = .ok (.getfield 16, 3) := dk_180 0 16 (dk_at dksX4_nextDue_0 19 rfl rfl)
theorem dX4_nextDue_22 : decode cX4_nextDue 22 = .ok (.iconst 1, 1) := dk_4 (dk_at dksX4_nextDue_0 22 rfl rfl)
theorem dX4_nextDue_23 : decode cX4_nextDue 23 = .ok (.iaload, 1) := dk_46 (dk_at dksX4_nextDue_0 23 rfl rfl)
theorem dX4_nextDue_24 : decode cX4_nextDue 24 = .ok (.if_icmp .ge 60, 3) := dk_162 0 60 (dk_at dksX4_nextDue_1 0 rfl rfl)
theorem dX4_nextDue_27 : decode cX4_nextDue 27 = .ok (.aload_n 0, 1) := dk_42 (dk_at dksX4_nextDue_1 3 rfl rfl)
theorem dX4_nextDue_28 : decode cX4_nextDue 28 = .ok (.iload_n 2, 1) := dk_28 (dk_at dksX4_nextDue_1 4 rfl rfl)
theorem dX4_nextDue_29 : decode cX4_nextDue 29 = .ok (.iconst 2, 1) := dk_5 (dk_at dksX4_nextDue_1 5 rfl rfl)
theorem dX4_nextDue_30 : decode cX4_nextDue 30 = .ok (.invokevirtual 102, 3) := dk_182 0 102 (dk_at dksX4_nextDue_1 6 rfl rfl)
theorem dX4_nextDue_33 : decode cX4_nextDue 33 = .ok (.istore_n 3, 1) := dk_62 (dk_at dksX4_nextDue_1 9 rfl rfl)
theorem dX4_nextDue_34 : decode cX4_nextDue 34 = .ok (.iload_n 3, 1) := dk_29 (dk_at dksX4_nextDue_1 10 rfl rfl)
theorem dX4_nextDue_35 : decode cX4_nextDue 35 = .ok (.iconst 2, 1) := dk_5 (dk_at dksX4_nextDue_1 11 rfl rfl)
theorem dX4_nextDue_36 : decode cX4_nextDue 36 = .ok (.if_icmp .ne 20, 3) := dk_160 0 20 (dk_at dksX4_nextDue_1 12 rfl rfl)
theorem dX4_nextDue_39 : decode cX4_nextDue 39 = .ok (.aload_n 0, 1) := dk_42 (dk_at dksX4_nextDue_1 15 rfl rfl)
theorem dX4_nextDue_40 : decode cX4_nextDue 40 = .ok (.iload_n 2, 1) := dk_28 (dk_at dksX4_nextDue_1 16 rfl rfl)
theorem dX4_nextDue_41 : decode cX4_nextDue 41 = .ok (.iconst 4, 1) := dk_7 (dk_at dksX4_nextDue_1 17 rfl rfl)
theorem dX4_nextDue_42 : decode cX4_nextDue 42 = .ok (.invokevirtual 102, 3) := dk_182 0 102 (dk_at dksX4_nextDue_1 18 rfl rfl)
theorem dX4_nextDue_45 : decode cX4_nextDue 45 = .ok (.iload_n 1, 1) := dk_27 (dk_at dksX4_nextDue_1 21 rfl rfl)
theorem dX4_nextDue_46 : decode cX4_nextDue 46 = .ok (.if_icmp .ge 10, 3) := dk_162 0 10 (dk_at dksX4_nextDue_2 0 rfl rfl)
theorem dX4_nextDue_49 : decode cX4_nextDue 49 = .ok (.aload_n 0, 1) := dk_42 (dk_at dksX4_nextDue_2 3 rfl rfl)
theorem dX4_nextDue_50 : decode cX4_nextDue 50 = .ok (.iload_n 2, 1) := dk_28 (dk_at dksX4_nextDue_2 4 rfl rfl)
theorem dX4_nextDue_51 : decode cX4_nextDue 51 = .ok (.iconst 4, 1) := dk_7 (dk_at dksX4_nextDue_2 5 rfl rfl)
theorem dX4_nextDue_52 : decode cX4_nextDue 52 = .ok (.invokevirtual 102, 3) := dk_182 0 102 (dk_at dksX4_nextDue_2 6 rfl rfl)
theorem dX4_nextDue_55 : decode cX4_nextDue 55 = .ok (.istore_n 1, 1) := dk_60 (dk_at dksX4_nextDue_2 9 rfl rfl)
theorem dX4_nextDue_56 : decode cX4_nextDue 56 = .ok (.iload_n 3, 1) := dk_29 (dk_at dksX4_nextDue_2 10 rfl rfl)
theorem dX4_nextDue_57 : decode cX4_nextDue 57 = .ok (.iconst 1, 1) := dk_4 (dk_at dksX4_nextDue_2 11 rfl rfl)
theorem dX4_nextDue_58 : decode cX4_nextDue 58 = .ok (.if_icmp .ne 20, 3) := dk_160 0 20 (dk_at dksX4_nextDue_2 12 rfl rfl)
theorem dX4_nextDue_61 : decode cX4_nextDue 61 = .ok (.aload_n 0, 1) := dk_42 (dk_at dksX4_nextDue_2 15 rfl rfl)
theorem dX4_nextDue_62 : decode cX4_nextDue 62 = .ok (.iload_n 2, 1) := dk_28 (dk_at dksX4_nextDue_2 16 rfl rfl)
theorem dX4_nextDue_63 : decode cX4_nextDue 63 = .ok (.iconst 5, 1) := dk_8 (dk_at dksX4_nextDue_2 17 rfl rfl)
theorem dX4_nextDue_64 : decode cX4_nextDue 64 = .ok (.invokevirtual 102, 3) := dk_182 0 102 (dk_at dksX4_nextDue_2 18 rfl rfl)
theorem dX4_nextDue_67 : decode cX4_nextDue 67 = .ok (.iload_n 1, 1) := dk_27 (dk_at dksX4_nextDue_2 21 rfl rfl)
theorem dX4_nextDue_68 : decode cX4_nextDue 68 = .ok (.if_icmp .ge 10, 3) := dk_162 0 10 (dk_at dksX4_nextDue_3 0 rfl rfl)
theorem dX4_nextDue_71 : decode cX4_nextDue 71 = .ok (.aload_n 0, 1) := dk_42 (dk_at dksX4_nextDue_3 3 rfl rfl)
theorem dX4_nextDue_72 : decode cX4_nextDue 72 = .ok (.iload_n 2, 1) := dk_28 (dk_at dksX4_nextDue_3 4 rfl rfl)
theorem dX4_nextDue_73 : decode cX4_nextDue 73 = .ok (.iconst 5, 1) := dk_8 (dk_at dksX4_nextDue_3 5 rfl rfl)
theorem dX4_nextDue_74 : decode cX4_nextDue 74 = .ok (.invokevirtual 102, 3) := dk_182 0 102 (dk_at dksX4_nextDue_3 6 rfl rfl)
theorem dX4_nextDue_77 : decode cX4_nextDue 77 = .ok (.istore_n 1, 1) := dk_60 (dk_at dksX4_nextDue_3 9 rfl rfl)
theorem dX4_nextDue_78 : decode cX4_nextDue 78 = .ok (.iinc 2 1, 3) := dk_132 2 1 (dk_at dksX4_nextDue_3 10 rfl rfl)
theorem dX4_nextDue_81 : decode cX4_nextDue 81 = .ok (.goto (-64), 3) := dk_167 255 192 (dk_at dksX4_nextDue_3 13 rfl rfl)
theorem dX4_nextDue_84 : decode cX4_nextDue 84 = .ok (.iload_n 1, 1) := dk_27 (dk_at dksX4_nextDue_3 16 rfl rfl)
theorem dX4_nextDue_85 : decode cX4_nextDue 85 = .ok (.ireturn, 1) := dk_172 (dk_at dksX4_nextDue_3 17 rfl rfl)
abbrev cX4_ofPermit : ByteArray := prog_21_method_17_code
def yX4_ofPermit : MethodName := ⟨RX4, "ofPermit", "(II)I"⟩
def dkwX4_ofPermit_0 : List UInt8 := [42, 180, 0, 16, 42, 27, 28, 182, 0, 94, 46, 172]
abbrev dktX4_ofPermit_0 : List UInt8 := dkwX4_ofPermit_0 ++ []
theorem dksX4_ofPermit_0 : cX4_ofPermit.data.toList.drop 0 = dktX4_ofPermit_0 := by decide +kernel
theorem dX4_ofPermit_0 : decode cX4_ofPermit 0 = .ok (.aload_n 0, 1) := dk_42 (dk_at dksX4_ofPermit_0 0 rfl rfl)
theorem dX4_ofPermit_1 : decode cX4_ofPermit 1 = .ok (.getfield 16, 3) := dk_180 0 16 (dk_at dksX4_ofPermit_0 1 rfl rfl)
theorem dX4_ofPermit_4 : decode cX4_ofPermit 4 = .ok (.aload_n 0, 1) := dk_42 (dk_at dksX4_ofPermit_0 4 rfl rfl)
theorem dX4_ofPermit_5 : decode cX4_ofPermit 5 = .ok (.iload_n 1, 1) := dk_27 (dk_at dksX4_ofPermit_0 5 rfl rfl)
theorem dX4_ofPermit_6 : decode cX4_ofPermit 6 = .ok (.iload_n 2, 1) := dk_28 (dk_at dksX4_ofPermit_0 6 rfl rfl)
theorem dX4_ofPermit_7 : decode cX4_ofPermit 7 = .ok (.invokevirtual 94, 3) := dk_182 0 94 (dk_at dksX4_ofPermit_0 7 rfl rfl)
theorem dX4_ofPermit_10 : decode cX4_ofPermit 10 = .ok (.iaload, 1) := dk_46 (dk_at dksX4_ofPermit_0 10 rfl rfl)
theorem dX4_ofPermit_11 : decode cX4_ofPermit 11 = .ok (.ireturn, 1) := dk_172 (dk_at dksX4_ofPermit_0 11 rfl rfl)
abbrev cX4_permitAt : ByteArray := prog_21_method_16_code
def yX4_permitAt : MethodName := ⟨RX4, "permitAt", "(II)I"⟩
def dkwX4_permitAt_0 : List UInt8 := [16, 40, 16, 7, 27, 104, 96, 28, 96, 172]
abbrev dktX4_permitAt_0 : List UInt8 := dkwX4_permitAt_0 ++ []
theorem dksX4_permitAt_0 : cX4_permitAt.data.toList.drop 0 = dktX4_permitAt_0 := by decide +kernel
theorem dX4_permitAt_0 : decode cX4_permitAt 0 = .ok (.bipush 40, 2) := dk_16 40 (dk_at dksX4_permitAt_0 0 rfl rfl)
theorem dX4_permitAt_2 : decode cX4_permitAt 2 = .ok (.bipush 7, 2) := dk_16 7 (dk_at dksX4_permitAt_0 2 rfl rfl)
theorem dX4_permitAt_4 : decode cX4_permitAt 4 = .ok (.iload_n 1, 1) := dk_27 (dk_at dksX4_permitAt_0 4 rfl rfl)
theorem dX4_permitAt_5 : decode cX4_permitAt 5 = .ok (.imul, 1) := dk_104 (dk_at dksX4_permitAt_0 5 rfl rfl)
theorem dX4_permitAt_6 : decode cX4_permitAt 6 = .ok (.iadd, 1) := dk_96 (dk_at dksX4_permitAt_0 6 rfl rfl)
theorem dX4_permitAt_7 : decode cX4_permitAt 7 = .ok (.iload_n 2, 1) := dk_28 (dk_at dksX4_permitAt_0 7 rfl rfl)
theorem dX4_permitAt_8 : decode cX4_permitAt 8 = .ok (.iadd, 1) := dk_96 (dk_at dksX4_permitAt_0 8 rfl rfl)
theorem dX4_permitAt_9 : decode cX4_permitAt 9 = .ok (.ireturn, 1) := dk_172 (dk_at dksX4_permitAt_0 9 rfl rfl)
abbrev cX4_happens : ByteArray := prog_21_method_31_code
def yX4_happens : MethodName := ⟨RX4, "happens", "()V"⟩
def dkwX4_happens_5 : List UInt8 := [132, 1, 1, 167, 255, 206, 42, 182, 0, 84, 177]
abbrev dktX4_happens_5 : List UInt8 := dkwX4_happens_5 ++ []
def dkwX4_happens_4 : List UInt8 := [182, 0, 102, 42, 180, 0, 16, 3, 46, 160, 0, 15, 42, 180, 0, 16, 42, 27, 5, 182, 0, 94, 8, 79]
abbrev dktX4_happens_4 : List UInt8 := dkwX4_happens_4 ++ dktX4_happens_5
def dkwX4_happens_3 : List UInt8 := [60, 27, 42, 180, 0, 16, 4, 46, 162, 0, 46, 42, 27, 5, 182, 0, 102, 4, 160, 0, 30, 42, 27, 8]
abbrev dktX4_happens_3 : List UInt8 := dkwX4_happens_3 ++ dktX4_happens_4
def dkwX4_happens_2 : List UInt8 := [3, 46, 160, 0, 15, 42, 180, 0, 16, 42, 27, 5, 182, 0, 94, 6, 79, 132, 1, 1, 167, 255, 206, 3]
abbrev dktX4_happens_2 : List UInt8 := dkwX4_happens_2 ++ dktX4_happens_3
def dkwX4_happens_1 : List UInt8 := [46, 162, 0, 46, 42, 27, 5, 182, 0, 102, 5, 160, 0, 30, 42, 27, 7, 182, 0, 102, 42, 180, 0, 16]
abbrev dktX4_happens_1 : List UInt8 := dkwX4_happens_1 ++ dktX4_happens_2
def dkwX4_happens_0 : List UInt8 := [42, 180, 0, 16, 3, 46, 18, 134, 112, 154, 0, 7, 42, 182, 0, 67, 3, 60, 27, 42, 180, 0, 16, 4]
abbrev dktX4_happens_0 : List UInt8 := dkwX4_happens_0 ++ dktX4_happens_1
theorem dksX4_happens_0 : cX4_happens.data.toList.drop 0 = dktX4_happens_0 := by decide +kernel
theorem dksX4_happens_1 : cX4_happens.data.toList.drop 24 = dktX4_happens_1 := dk_seg dksX4_happens_0 24 rfl rfl
theorem dksX4_happens_2 : cX4_happens.data.toList.drop 48 = dktX4_happens_2 := dk_seg dksX4_happens_1 24 rfl rfl
theorem dksX4_happens_3 : cX4_happens.data.toList.drop 72 = dktX4_happens_3 := dk_seg dksX4_happens_2 24 rfl rfl
theorem dksX4_happens_4 : cX4_happens.data.toList.drop 96 = dktX4_happens_4 := dk_seg dksX4_happens_3 24 rfl rfl
theorem dksX4_happens_5 : cX4_happens.data.toList.drop 120 = dktX4_happens_5 := dk_seg dksX4_happens_4 24 rfl rfl
theorem dX4_happens_0 : decode cX4_happens 0 = .ok (.aload_n 0, 1) := dk_42 (dk_at dksX4_happens_0 0 rfl rfl)
theorem dX4_happens_1 : decode cX4_happens 1 = .ok (.getfield 16, 3) := dk_180 0 16 (dk_at dksX4_happens_0 1 rfl rfl)
theorem dX4_happens_4 : decode cX4_happens 4 = .ok (.iconst 0, 1) := dk_3 (dk_at dksX4_happens_0 4 rfl rfl)
theorem dX4_happens_5 : decode cX4_happens 5 = .ok (.iaload, 1) := dk_46 (dk_at dksX4_happens_0 5 rfl rfl)
theorem dX4_happens_6 : decode cX4_happens 6 = .ok (.ldc 134, 2) := dk_18 134 (dk_at dksX4_happens_0 6 rfl rfl)
theorem dX4_happens_8 : decode cX4_happens 8 = .ok (.irem, 1) := dk_112 (dk_at dksX4_happens_0 8 rfl rfl)
theorem dX4_happens_9 : decode cX4_happens 9 = .ok (.ifCond .ne 7, 3) := dk_154 0 7 (dk_at dksX4_happens_0 9 rfl rfl)
theorem dX4_happens_12 : decode cX4_happens 12 = .ok (.aload_n 0, 1) := dk_42 (dk_at dksX4_happens_0 12 rfl rfl)
theorem dX4_happens_13 : decode cX4_happens 13 = .ok (.invokevirtual 67, 3) := dk_182 0 67 (dk_at dksX4_happens_0 13 rfl rfl)
theorem dX4_happens_16 : decode cX4_happens 16 = .ok (.iconst 0, 1) := dk_3 (dk_at dksX4_happens_0 16 rfl rfl)
theorem dX4_happens_17 : decode cX4_happens 17 = .ok (.istore_n 1, 1) := dk_60 (dk_at dksX4_happens_0 17 rfl rfl)
theorem dX4_happens_18 : decode cX4_happens 18 = .ok (.iload_n 1, 1) := dk_27 (dk_at dksX4_happens_0 18 rfl rfl)
theorem dX4_happens_19 : decode cX4_happens 19 = .ok (.aload_n 0, 1) := dk_42 (dk_at dksX4_happens_0 19 rfl rfl)
theorem dX4_happens_20 : decode cX4_happens 20 = .ok (.getfield 16, 3) := dk_180 0 16 (dk_at dksX4_happens_0 20 rfl rfl)
theorem dX4_happens_23 : decode cX4_happens 23 = .ok (.iconst 1, 1) := dk_4 (dk_at dksX4_happens_0 23 rfl rfl)
theorem dX4_happens_24 : decode cX4_happens 24 = .ok (.iaload, 1) := dk_46 (dk_at dksX4_happens_1 0 rfl rfl)
theorem dX4_happens_25 : decode cX4_happens 25 = .ok (.if_icmp .ge 46, 3) := dk_162 0 46 (dk_at dksX4_happens_1 1 rfl rfl)
theorem dX4_happens_28 : decode cX4_happens 28 = .ok (.aload_n 0, 1) := dk_42 (dk_at dksX4_happens_1 4 rfl rfl)
theorem dX4_happens_29 : decode cX4_happens 29 = .ok (.iload_n 1, 1) := dk_27 (dk_at dksX4_happens_1 5 rfl rfl)
theorem dX4_happens_30 : decode cX4_happens 30 = .ok (.iconst 2, 1) := dk_5 (dk_at dksX4_happens_1 6 rfl rfl)
theorem dX4_happens_31 : decode cX4_happens 31 = .ok (.invokevirtual 102, 3) := dk_182 0 102 (dk_at dksX4_happens_1 7 rfl rfl)
theorem dX4_happens_34 : decode cX4_happens 34 = .ok (.iconst 2, 1) := dk_5 (dk_at dksX4_happens_1 10 rfl rfl)
theorem dX4_happens_35 : decode cX4_happens 35 = .ok (.if_icmp .ne 30, 3) := dk_160 0 30 (dk_at dksX4_happens_1 11 rfl rfl)
theorem dX4_happens_38 : decode cX4_happens 38 = .ok (.aload_n 0, 1) := dk_42 (dk_at dksX4_happens_1 14 rfl rfl)
theorem dX4_happens_39 : decode cX4_happens 39 = .ok (.iload_n 1, 1) := dk_27 (dk_at dksX4_happens_1 15 rfl rfl)
theorem dX4_happens_40 : decode cX4_happens 40 = .ok (.iconst 4, 1) := dk_7 (dk_at dksX4_happens_1 16 rfl rfl)
theorem dX4_happens_41 : decode cX4_happens 41 = .ok (.invokevirtual 102, 3) := dk_182 0 102 (dk_at dksX4_happens_1 17 rfl rfl)
theorem dX4_happens_44 : decode cX4_happens 44 = .ok (.aload_n 0, 1) := dk_42 (dk_at dksX4_happens_1 20 rfl rfl)
theorem dX4_happens_45 : decode cX4_happens 45 = .ok (.getfield 16, 3) := dk_180 0 16 (dk_at dksX4_happens_1 21 rfl rfl)
theorem dX4_happens_48 : decode cX4_happens 48 = .ok (.iconst 0, 1) := dk_3 (dk_at dksX4_happens_2 0 rfl rfl)
theorem dX4_happens_49 : decode cX4_happens 49 = .ok (.iaload, 1) := dk_46 (dk_at dksX4_happens_2 1 rfl rfl)
theorem dX4_happens_50 : decode cX4_happens 50 = .ok (.if_icmp .ne 15, 3) := dk_160 0 15 (dk_at dksX4_happens_2 2 rfl rfl)
theorem dX4_happens_53 : decode cX4_happens 53 = .ok (.aload_n 0, 1) := dk_42 (dk_at dksX4_happens_2 5 rfl rfl)
theorem dX4_happens_54 : decode cX4_happens 54 = .ok (.getfield 16, 3) := dk_180 0 16 (dk_at dksX4_happens_2 6 rfl rfl)
theorem dX4_happens_57 : decode cX4_happens 57 = .ok (.aload_n 0, 1) := dk_42 (dk_at dksX4_happens_2 9 rfl rfl)
theorem dX4_happens_58 : decode cX4_happens 58 = .ok (.iload_n 1, 1) := dk_27 (dk_at dksX4_happens_2 10 rfl rfl)
theorem dX4_happens_59 : decode cX4_happens 59 = .ok (.iconst 2, 1) := dk_5 (dk_at dksX4_happens_2 11 rfl rfl)
theorem dX4_happens_60 : decode cX4_happens 60 = .ok (.invokevirtual 94, 3) := dk_182 0 94 (dk_at dksX4_happens_2 12 rfl rfl)
theorem dX4_happens_63 : decode cX4_happens 63 = .ok (.iconst 3, 1) := dk_6 (dk_at dksX4_happens_2 15 rfl rfl)
theorem dX4_happens_64 : decode cX4_happens 64 = .ok (.iastore, 1) := dk_79 (dk_at dksX4_happens_2 16 rfl rfl)
theorem dX4_happens_65 : decode cX4_happens 65 = .ok (.iinc 1 1, 3) := dk_132 1 1 (dk_at dksX4_happens_2 17 rfl rfl)
theorem dX4_happens_68 : decode cX4_happens 68 = .ok (.goto (-50), 3) := dk_167 255 206 (dk_at dksX4_happens_2 20 rfl rfl)
theorem dX4_happens_71 : decode cX4_happens 71 = .ok (.iconst 0, 1) := dk_3 (dk_at dksX4_happens_2 23 rfl rfl)
theorem dX4_happens_72 : decode cX4_happens 72 = .ok (.istore_n 1, 1) := dk_60 (dk_at dksX4_happens_3 0 rfl rfl)
theorem dX4_happens_73 : decode cX4_happens 73 = .ok (.iload_n 1, 1) := dk_27 (dk_at dksX4_happens_3 1 rfl rfl)
theorem dX4_happens_74 : decode cX4_happens 74 = .ok (.aload_n 0, 1) := dk_42 (dk_at dksX4_happens_3 2 rfl rfl)
theorem dX4_happens_75 : decode cX4_happens 75 = .ok (.getfield 16, 3) := dk_180 0 16 (dk_at dksX4_happens_3 3 rfl rfl)
theorem dX4_happens_78 : decode cX4_happens 78 = .ok (.iconst 1, 1) := dk_4 (dk_at dksX4_happens_3 6 rfl rfl)
theorem dX4_happens_79 : decode cX4_happens 79 = .ok (.iaload, 1) := dk_46 (dk_at dksX4_happens_3 7 rfl rfl)
theorem dX4_happens_80 : decode cX4_happens 80 = .ok (.if_icmp .ge 46, 3) := dk_162 0 46 (dk_at dksX4_happens_3 8 rfl rfl)
theorem dX4_happens_83 : decode cX4_happens 83 = .ok (.aload_n 0, 1) := dk_42 (dk_at dksX4_happens_3 11 rfl rfl)
theorem dX4_happens_84 : decode cX4_happens 84 = .ok (.iload_n 1, 1) := dk_27 (dk_at dksX4_happens_3 12 rfl rfl)
theorem dX4_happens_85 : decode cX4_happens 85 = .ok (.iconst 2, 1) := dk_5 (dk_at dksX4_happens_3 13 rfl rfl)
theorem dX4_happens_86 : decode cX4_happens 86 = .ok (.invokevirtual 102, 3) := dk_182 0 102 (dk_at dksX4_happens_3 14 rfl rfl)
theorem dX4_happens_89 : decode cX4_happens 89 = .ok (.iconst 1, 1) := dk_4 (dk_at dksX4_happens_3 17 rfl rfl)
theorem dX4_happens_90 : decode cX4_happens 90 = .ok (.if_icmp .ne 30, 3) := dk_160 0 30 (dk_at dksX4_happens_3 18 rfl rfl)
theorem dX4_happens_93 : decode cX4_happens 93 = .ok (.aload_n 0, 1) := dk_42 (dk_at dksX4_happens_3 21 rfl rfl)
theorem dX4_happens_94 : decode cX4_happens 94 = .ok (.iload_n 1, 1) := dk_27 (dk_at dksX4_happens_3 22 rfl rfl)
theorem dX4_happens_95 : decode cX4_happens 95 = .ok (.iconst 5, 1) := dk_8 (dk_at dksX4_happens_3 23 rfl rfl)
theorem dX4_happens_96 : decode cX4_happens 96 = .ok (.invokevirtual 102, 3) := dk_182 0 102 (dk_at dksX4_happens_4 0 rfl rfl)
theorem dX4_happens_99 : decode cX4_happens 99 = .ok (.aload_n 0, 1) := dk_42 (dk_at dksX4_happens_4 3 rfl rfl)
theorem dX4_happens_100 : decode cX4_happens 100 = .ok (.getfield 16, 3) := dk_180 0 16 (dk_at dksX4_happens_4 4 rfl rfl)
theorem dX4_happens_103 : decode cX4_happens 103 = .ok (.iconst 0, 1) := dk_3 (dk_at dksX4_happens_4 7 rfl rfl)
theorem dX4_happens_104 : decode cX4_happens 104 = .ok (.iaload, 1) := dk_46 (dk_at dksX4_happens_4 8 rfl rfl)
theorem dX4_happens_105 : decode cX4_happens 105 = .ok (.if_icmp .ne 15, 3) := dk_160 0 15 (dk_at dksX4_happens_4 9 rfl rfl)
theorem dX4_happens_108 : decode cX4_happens 108 = .ok (.aload_n 0, 1) := dk_42 (dk_at dksX4_happens_4 12 rfl rfl)
theorem dX4_happens_109 : decode cX4_happens 109 = .ok (.getfield 16, 3) := dk_180 0 16 (dk_at dksX4_happens_4 13 rfl rfl)
theorem dX4_happens_112 : decode cX4_happens 112 = .ok (.aload_n 0, 1) := dk_42 (dk_at dksX4_happens_4 16 rfl rfl)
theorem dX4_happens_113 : decode cX4_happens 113 = .ok (.iload_n 1, 1) := dk_27 (dk_at dksX4_happens_4 17 rfl rfl)
theorem dX4_happens_114 : decode cX4_happens 114 = .ok (.iconst 2, 1) := dk_5 (dk_at dksX4_happens_4 18 rfl rfl)
theorem dX4_happens_115 : decode cX4_happens 115 = .ok (.invokevirtual 94, 3) := dk_182 0 94 (dk_at dksX4_happens_4 19 rfl rfl)
theorem dX4_happens_118 : decode cX4_happens 118 = .ok (.iconst 5, 1) := dk_8 (dk_at dksX4_happens_4 22 rfl rfl)
theorem dX4_happens_119 : decode cX4_happens 119 = .ok (.iastore, 1) := dk_79 (dk_at dksX4_happens_4 23 rfl rfl)
theorem dX4_happens_120 : decode cX4_happens 120 = .ok (.iinc 1 1, 3) := dk_132 1 1 (dk_at dksX4_happens_5 0 rfl rfl)
theorem dX4_happens_123 : decode cX4_happens 123 = .ok (.goto (-50), 3) := dk_167 255 206 (dk_at dksX4_happens_5 3 rfl rfl)
theorem dX4_happens_126 : decode cX4_happens 126 = .ok (.aload_n 0, 1) := dk_42 (dk_at dksX4_happens_5 6 rfl rfl)
theorem dX4_happens_127 : decode cX4_happens 127 = .ok (.invokevirtual 84, 3) := dk_182 0 84 (dk_at dksX4_happens_5 7 rfl rfl)
theorem dX4_happens_130 : decode cX4_happens 130 = .ok (.return_, 1) := dk_177 (dk_at dksX4_happens_5 10 rfl rfl)
abbrev cX4_offers : ByteArray := prog_21_method_29_code
def yX4_offers : MethodName := ⟨RX4, "offers", "()V"⟩
def dkwX4_offers_4 : List UInt8 := [167, 255, 165, 177]
abbrev dktX4_offers_4 : List UInt8 := dkwX4_offers_4 ++ []
def dkwX4_offers_3 : List UInt8 := [180, 0, 7, 16, 112, 46, 104, 96, 79, 42, 27, 3, 182, 0, 128, 61, 167, 255, 188, 132, 1, 1]
abbrev dktX4_offers_3 : List UInt8 := dkwX4_offers_3 ++ dktX4_offers_4
def dkwX4_offers_2 : List UInt8 := [182, 0, 94, 4, 79, 42, 180, 0, 16, 42, 28, 8, 182, 0, 94, 42, 180, 0, 16, 3, 46, 16, 60, 42]
abbrev dktX4_offers_2 : List UInt8 := dkwX4_offers_2 ++ dktX4_offers_3
def dkwX4_offers_1 : List UInt8 := [42, 27, 182, 0, 131, 42, 180, 0, 16, 8, 27, 96, 46, 162, 0, 53, 42, 180, 0, 16, 42, 28, 5]
abbrev dktX4_offers_1 : List UInt8 := dkwX4_offers_1 ++ dktX4_offers_2
def dkwX4_offers_0 : List UInt8 := [3, 60, 27, 42, 180, 0, 7, 3, 46, 162, 0, 87, 42, 27, 3, 182, 0, 128, 61, 28, 2, 159, 0, 69]
abbrev dktX4_offers_0 : List UInt8 := dkwX4_offers_0 ++ dktX4_offers_1
theorem dksX4_offers_0 : cX4_offers.data.toList.drop 0 = dktX4_offers_0 := by decide +kernel
theorem dksX4_offers_1 : cX4_offers.data.toList.drop 24 = dktX4_offers_1 := dk_seg dksX4_offers_0 24 rfl rfl
theorem dksX4_offers_2 : cX4_offers.data.toList.drop 47 = dktX4_offers_2 := dk_seg dksX4_offers_1 23 rfl rfl
theorem dksX4_offers_3 : cX4_offers.data.toList.drop 71 = dktX4_offers_3 := dk_seg dksX4_offers_2 24 rfl rfl
theorem dksX4_offers_4 : cX4_offers.data.toList.drop 93 = dktX4_offers_4 := dk_seg dksX4_offers_3 22 rfl rfl
theorem dX4_offers_0 : decode cX4_offers 0 = .ok (.iconst 0, 1) := dk_3 (dk_at dksX4_offers_0 0 rfl rfl)
theorem dX4_offers_1 : decode cX4_offers 1 = .ok (.istore_n 1, 1) := dk_60 (dk_at dksX4_offers_0 1 rfl rfl)
theorem dX4_offers_2 : decode cX4_offers 2 = .ok (.iload_n 1, 1) := dk_27 (dk_at dksX4_offers_0 2 rfl rfl)
theorem dX4_offers_3 : decode cX4_offers 3 = .ok (.aload_n 0, 1) := dk_42 (dk_at dksX4_offers_0 3 rfl rfl)
theorem dX4_offers_4 : decode cX4_offers 4 = .ok (.getfield 7, 3) := dk_180 0 7 (dk_at dksX4_offers_0 4 rfl rfl)
theorem dX4_offers_7 : decode cX4_offers 7 = .ok (.iconst 0, 1) := dk_3 (dk_at dksX4_offers_0 7 rfl rfl)
theorem dX4_offers_8 : decode cX4_offers 8 = .ok (.iaload, 1) := dk_46 (dk_at dksX4_offers_0 8 rfl rfl)
theorem dX4_offers_9 : decode cX4_offers 9 = .ok (.if_icmp .ge 87, 3) := dk_162 0 87 (dk_at dksX4_offers_0 9 rfl rfl)
theorem dX4_offers_12 : decode cX4_offers 12 = .ok (.aload_n 0, 1) := dk_42 (dk_at dksX4_offers_0 12 rfl rfl)
theorem dX4_offers_13 : decode cX4_offers 13 = .ok (.iload_n 1, 1) := dk_27 (dk_at dksX4_offers_0 13 rfl rfl)
theorem dX4_offers_14 : decode cX4_offers 14 = .ok (.iconst 0, 1) := dk_3 (dk_at dksX4_offers_0 14 rfl rfl)
theorem dX4_offers_15 : decode cX4_offers 15 = .ok (.invokevirtual 128, 3) := dk_182 0 128 (dk_at dksX4_offers_0 15 rfl rfl)
theorem dX4_offers_18 : decode cX4_offers 18 = .ok (.istore_n 2, 1) := dk_61 (dk_at dksX4_offers_0 18 rfl rfl)
theorem dX4_offers_19 : decode cX4_offers 19 = .ok (.iload_n 2, 1) := dk_28 (dk_at dksX4_offers_0 19 rfl rfl)
theorem dX4_offers_20 : decode cX4_offers 20 = .ok (.iconst (-1), 1) := dk_2 (dk_at dksX4_offers_0 20 rfl rfl)
theorem dX4_offers_21 : decode cX4_offers 21 = .ok (.if_icmp .eq 69, 3) := dk_159 0 69 (dk_at dksX4_offers_0 21 rfl rfl)
theorem dX4_offers_24 : decode cX4_offers 24 = .ok (.aload_n 0, 1) := dk_42 (dk_at dksX4_offers_1 0 rfl rfl)
theorem dX4_offers_25 : decode cX4_offers 25 = .ok (.iload_n 1, 1) := dk_27 (dk_at dksX4_offers_1 1 rfl rfl)
theorem dX4_offers_26 : decode cX4_offers 26 = .ok (.invokevirtual 131, 3) := dk_182 0 131 (dk_at dksX4_offers_1 2 rfl rfl)
theorem dX4_offers_29 : decode cX4_offers 29 = .ok (.aload_n 0, 1) := dk_42 (dk_at dksX4_offers_1 5 rfl rfl)
theorem dX4_offers_30 : decode cX4_offers 30 = .ok (.getfield 16, 3) := dk_180 0 16 (dk_at dksX4_offers_1 6 rfl rfl)
theorem dX4_offers_33 : decode cX4_offers 33 = .ok (.iconst 5, 1) := dk_8 (dk_at dksX4_offers_1 9 rfl rfl)
theorem dX4_offers_34 : decode cX4_offers 34 = .ok (.iload_n 1, 1) := dk_27 (dk_at dksX4_offers_1 10 rfl rfl)
theorem dX4_offers_35 : decode cX4_offers 35 = .ok (.iadd, 1) := dk_96 (dk_at dksX4_offers_1 11 rfl rfl)
theorem dX4_offers_36 : decode cX4_offers 36 = .ok (.iaload, 1) := dk_46 (dk_at dksX4_offers_1 12 rfl rfl)
theorem dX4_offers_37 : decode cX4_offers 37 = .ok (.if_icmp .ge 53, 3) := dk_162 0 53 (dk_at dksX4_offers_1 13 rfl rfl)
theorem dX4_offers_40 : decode cX4_offers 40 = .ok (.aload_n 0, 1) := dk_42 (dk_at dksX4_offers_1 16 rfl rfl)
theorem dX4_offers_41 : decode cX4_offers 41 = .ok (.getfield 16, 3) := dk_180 0 16 (dk_at dksX4_offers_1 17 rfl rfl)
theorem dX4_offers_44 : decode cX4_offers 44 = .ok (.aload_n 0, 1) := dk_42 (dk_at dksX4_offers_1 20 rfl rfl)
theorem dX4_offers_45 : decode cX4_offers 45 = .ok (.iload_n 2, 1) := dk_28 (dk_at dksX4_offers_1 21 rfl rfl)
theorem dX4_offers_46 : decode cX4_offers 46 = .ok (.iconst 2, 1) := dk_5 (dk_at dksX4_offers_1 22 rfl rfl)
theorem dX4_offers_47 : decode cX4_offers 47 = .ok (.invokevirtual 94, 3) := dk_182 0 94 (dk_at dksX4_offers_2 0 rfl rfl)
theorem dX4_offers_50 : decode cX4_offers 50 = .ok (.iconst 1, 1) := dk_4 (dk_at dksX4_offers_2 3 rfl rfl)
theorem dX4_offers_51 : decode cX4_offers 51 = .ok (.iastore, 1) := dk_79 (dk_at dksX4_offers_2 4 rfl rfl)
theorem dX4_offers_52 : decode cX4_offers 52 = .ok (.aload_n 0, 1) := dk_42 (dk_at dksX4_offers_2 5 rfl rfl)
theorem dX4_offers_53 : decode cX4_offers 53 = .ok (.getfield 16, 3) := dk_180 0 16 (dk_at dksX4_offers_2 6 rfl rfl)
theorem dX4_offers_56 : decode cX4_offers 56 = .ok (.aload_n 0, 1) := dk_42 (dk_at dksX4_offers_2 9 rfl rfl)
theorem dX4_offers_57 : decode cX4_offers 57 = .ok (.iload_n 2, 1) := dk_28 (dk_at dksX4_offers_2 10 rfl rfl)
theorem dX4_offers_58 : decode cX4_offers 58 = .ok (.iconst 5, 1) := dk_8 (dk_at dksX4_offers_2 11 rfl rfl)
theorem dX4_offers_59 : decode cX4_offers 59 = .ok (.invokevirtual 94, 3) := dk_182 0 94 (dk_at dksX4_offers_2 12 rfl rfl)
theorem dX4_offers_62 : decode cX4_offers 62 = .ok (.aload_n 0, 1) := dk_42 (dk_at dksX4_offers_2 15 rfl rfl)
theorem dX4_offers_63 : decode cX4_offers 63 = .ok (.getfield 16, 3) := dk_180 0 16 (dk_at dksX4_offers_2 16 rfl rfl)
theorem dX4_offers_66 : decode cX4_offers 66 = .ok (.iconst 0, 1) := dk_3 (dk_at dksX4_offers_2 19 rfl rfl)
theorem dX4_offers_67 : decode cX4_offers 67 = .ok (.iaload, 1) := dk_46 (dk_at dksX4_offers_2 20 rfl rfl)
theorem dX4_offers_68 : decode cX4_offers 68 = .ok (.bipush 60, 2) := dk_16 60 (dk_at dksX4_offers_2 21 rfl rfl)
theorem dX4_offers_70 : decode cX4_offers 70 = .ok (.aload_n 0, 1) := dk_42 (dk_at dksX4_offers_2 23 rfl rfl)
theorem dX4_offers_71 : decode cX4_offers 71 = .ok (.getfield 7, 3) := dk_180 0 7 (dk_at dksX4_offers_3 0 rfl rfl)
theorem dX4_offers_74 : decode cX4_offers 74 = .ok (.bipush 112, 2) := dk_16 112 (dk_at dksX4_offers_3 3 rfl rfl)
theorem dX4_offers_76 : decode cX4_offers 76 = .ok (.iaload, 1) := dk_46 (dk_at dksX4_offers_3 5 rfl rfl)
theorem dX4_offers_77 : decode cX4_offers 77 = .ok (.imul, 1) := dk_104 (dk_at dksX4_offers_3 6 rfl rfl)
theorem dX4_offers_78 : decode cX4_offers 78 = .ok (.iadd, 1) := dk_96 (dk_at dksX4_offers_3 7 rfl rfl)
theorem dX4_offers_79 : decode cX4_offers 79 = .ok (.iastore, 1) := dk_79 (dk_at dksX4_offers_3 8 rfl rfl)
theorem dX4_offers_80 : decode cX4_offers 80 = .ok (.aload_n 0, 1) := dk_42 (dk_at dksX4_offers_3 9 rfl rfl)
theorem dX4_offers_81 : decode cX4_offers 81 = .ok (.iload_n 1, 1) := dk_27 (dk_at dksX4_offers_3 10 rfl rfl)
theorem dX4_offers_82 : decode cX4_offers 82 = .ok (.iconst 0, 1) := dk_3 (dk_at dksX4_offers_3 11 rfl rfl)
theorem dX4_offers_83 : decode cX4_offers 83 = .ok (.invokevirtual 128, 3) := dk_182 0 128 (dk_at dksX4_offers_3 12 rfl rfl)
theorem dX4_offers_86 : decode cX4_offers 86 = .ok (.istore_n 2, 1) := dk_61 (dk_at dksX4_offers_3 15 rfl rfl)
theorem dX4_offers_87 : decode cX4_offers 87 = .ok (.goto (-68), 3) := dk_167 255 188 (dk_at dksX4_offers_3 16 rfl rfl)
theorem dX4_offers_90 : decode cX4_offers 90 = .ok (.iinc 1 1, 3) := dk_132 1 1 (dk_at dksX4_offers_3 19 rfl rfl)
theorem dX4_offers_93 : decode cX4_offers 93 = .ok (.goto (-91), 3) := dk_167 255 165 (dk_at dksX4_offers_4 0 rfl rfl)
theorem dX4_offers_96 : decode cX4_offers 96 = .ok (.return_, 1) := dk_177 (dk_at dksX4_offers_4 3 rfl rfl)
abbrev cX4_waitingAt : ByteArray := prog_21_method_28_code
def yX4_waitingAt : MethodName := ⟨RX4, "waitingAt", "(II)I"⟩
def dkwX4_waitingAt_1 : List UInt8 := [182, 0, 125, 28, 160, 0, 5, 29, 172, 132, 3, 1, 167, 255, 223, 2, 172]
abbrev dktX4_waitingAt_1 : List UInt8 := dkwX4_waitingAt_1 ++ []
def dkwX4_waitingAt_0 : List UInt8 := [3, 62, 29, 42, 180, 0, 16, 4, 46, 162, 0, 29, 42, 29, 27, 182, 0, 121, 153, 0, 14, 42, 29]
abbrev dktX4_waitingAt_0 : List UInt8 := dkwX4_waitingAt_0 ++ dktX4_waitingAt_1
theorem dksX4_waitingAt_0 : cX4_waitingAt.data.toList.drop 0 = dktX4_waitingAt_0 := by decide +kernel
theorem dksX4_waitingAt_1 : cX4_waitingAt.data.toList.drop 23 = dktX4_waitingAt_1 := dk_seg dksX4_waitingAt_0 23 rfl rfl
theorem dX4_waitingAt_0 : decode cX4_waitingAt 0 = .ok (.iconst 0, 1) := dk_3 (dk_at dksX4_waitingAt_0 0 rfl rfl)
theorem dX4_waitingAt_1 : decode cX4_waitingAt 1 = .ok (.istore_n 3, 1) := dk_62 (dk_at dksX4_waitingAt_0 1 rfl rfl)
theorem dX4_waitingAt_2 : decode cX4_waitingAt 2 = .ok (.iload_n 3, 1) := dk_29 (dk_at dksX4_waitingAt_0 2 rfl rfl)
theorem dX4_waitingAt_3 : decode cX4_waitingAt 3 = .ok (.aload_n 0, 1) := dk_42 (dk_at dksX4_waitingAt_0 3 rfl rfl)
theorem dX4_waitingAt_4 : decode cX4_waitingAt 4 = .ok (.getfield 16, 3) := dk_180 0 16 (dk_at dksX4_waitingAt_0 4 rfl rfl)
theorem dX4_waitingAt_7 : decode cX4_waitingAt 7 = .ok (.iconst 1, 1) := dk_4 (dk_at dksX4_waitingAt_0 7 rfl rfl)
theorem dX4_waitingAt_8 : decode cX4_waitingAt 8 = .ok (.iaload, 1) := dk_46 (dk_at dksX4_waitingAt_0 8 rfl rfl)
theorem dX4_waitingAt_9 : decode cX4_waitingAt 9 = .ok (.if_icmp .ge 29, 3) := dk_162 0 29 (dk_at dksX4_waitingAt_0 9 rfl rfl)
theorem dX4_waitingAt_12 : decode cX4_waitingAt 12 = .ok (.aload_n 0, 1) := dk_42 (dk_at dksX4_waitingAt_0 12 rfl rfl)
theorem dX4_waitingAt_13 : decode cX4_waitingAt 13 = .ok (.iload_n 3, 1) := dk_29 (dk_at dksX4_waitingAt_0 13 rfl rfl)
theorem dX4_waitingAt_14 : decode cX4_waitingAt 14 = .ok (.iload_n 1, 1) := dk_27 (dk_at dksX4_waitingAt_0 14 rfl rfl)
theorem dX4_waitingAt_15 : decode cX4_waitingAt 15 = .ok (.invokevirtual 121, 3) := dk_182 0 121 (dk_at dksX4_waitingAt_0 15 rfl rfl)
theorem dX4_waitingAt_18 : decode cX4_waitingAt 18 = .ok (.ifCond .eq 14, 3) := dk_153 0 14 (dk_at dksX4_waitingAt_0 18 rfl rfl)
theorem dX4_waitingAt_21 : decode cX4_waitingAt 21 = .ok (.aload_n 0, 1) := dk_42 (dk_at dksX4_waitingAt_0 21 rfl rfl)
theorem dX4_waitingAt_22 : decode cX4_waitingAt 22 = .ok (.iload_n 3, 1) := dk_29 (dk_at dksX4_waitingAt_0 22 rfl rfl)
theorem dX4_waitingAt_23 : decode cX4_waitingAt 23 = .ok (.invokevirtual 125, 3) := dk_182 0 125 (dk_at dksX4_waitingAt_1 0 rfl rfl)
theorem dX4_waitingAt_26 : decode cX4_waitingAt 26 = .ok (.iload_n 2, 1) := dk_28 (dk_at dksX4_waitingAt_1 3 rfl rfl)
theorem dX4_waitingAt_27 : decode cX4_waitingAt 27 = .ok (.if_icmp .ne 5, 3) := dk_160 0 5 (dk_at dksX4_waitingAt_1 4 rfl rfl)
theorem dX4_waitingAt_30 : decode cX4_waitingAt 30 = .ok (.iload_n 3, 1) := dk_29 (dk_at dksX4_waitingAt_1 7 rfl rfl)
theorem dX4_waitingAt_31 : decode cX4_waitingAt 31 = .ok (.ireturn, 1) := dk_172 (dk_at dksX4_waitingAt_1 8 rfl rfl)
theorem dX4_waitingAt_32 : decode cX4_waitingAt 32 = .ok (.iinc 3 1, 3) := dk_132 3 1 (dk_at dksX4_waitingAt_1 9 rfl rfl)
theorem dX4_waitingAt_35 : decode cX4_waitingAt 35 = .ok (.goto (-33), 3) := dk_167 255 223 (dk_at dksX4_waitingAt_1 12 rfl rfl)
theorem dX4_waitingAt_38 : decode cX4_waitingAt 38 = .ok (.iconst (-1), 1) := dk_2 (dk_at dksX4_waitingAt_1 15 rfl rfl)
theorem dX4_waitingAt_39 : decode cX4_waitingAt 39 = .ok (.ireturn, 1) := dk_172 (dk_at dksX4_waitingAt_1 16 rfl rfl)
abbrev cX4_isWaiting : ByteArray := prog_21_method_26_code
def yX4_isWaiting : MethodName := ⟨RX4, "isWaiting", "(II)Z"⟩
def dkwX4_isWaiting_0 : List UInt8 := [42, 27, 182, 0, 108, 28, 160, 0, 16, 42, 27, 5, 182, 0, 102, 154, 0, 7, 4, 167, 0, 4, 3, 172]
abbrev dktX4_isWaiting_0 : List UInt8 := dkwX4_isWaiting_0 ++ []
theorem dksX4_isWaiting_0 : cX4_isWaiting.data.toList.drop 0 = dktX4_isWaiting_0 := by decide +kernel
theorem dX4_isWaiting_0 : decode cX4_isWaiting 0 = .ok (.aload_n 0, 1) := dk_42 (dk_at dksX4_isWaiting_0 0 rfl rfl)
theorem dX4_isWaiting_1 : decode cX4_isWaiting 1 = .ok (.iload_n 1, 1) := dk_27 (dk_at dksX4_isWaiting_0 1 rfl rfl)
theorem dX4_isWaiting_2 : decode cX4_isWaiting 2 = .ok (.invokevirtual 108, 3) := dk_182 0 108 (dk_at dksX4_isWaiting_0 2 rfl rfl)
theorem dX4_isWaiting_5 : decode cX4_isWaiting 5 = .ok (.iload_n 2, 1) := dk_28 (dk_at dksX4_isWaiting_0 5 rfl rfl)
theorem dX4_isWaiting_6 : decode cX4_isWaiting 6 = .ok (.if_icmp .ne 16, 3) := dk_160 0 16 (dk_at dksX4_isWaiting_0 6 rfl rfl)
theorem dX4_isWaiting_9 : decode cX4_isWaiting 9 = .ok (.aload_n 0, 1) := dk_42 (dk_at dksX4_isWaiting_0 9 rfl rfl)
theorem dX4_isWaiting_10 : decode cX4_isWaiting 10 = .ok (.iload_n 1, 1) := dk_27 (dk_at dksX4_isWaiting_0 10 rfl rfl)
theorem dX4_isWaiting_11 : decode cX4_isWaiting 11 = .ok (.iconst 2, 1) := dk_5 (dk_at dksX4_isWaiting_0 11 rfl rfl)
theorem dX4_isWaiting_12 : decode cX4_isWaiting 12 = .ok (.invokevirtual 102, 3) := dk_182 0 102 (dk_at dksX4_isWaiting_0 12 rfl rfl)
theorem dX4_isWaiting_15 : decode cX4_isWaiting 15 = .ok (.ifCond .ne 7, 3) := dk_154 0 7 (dk_at dksX4_isWaiting_0 15 rfl rfl)
theorem dX4_isWaiting_18 : decode cX4_isWaiting 18 = .ok (.iconst 1, 1) := dk_4 (dk_at dksX4_isWaiting_0 18 rfl rfl)
theorem dX4_isWaiting_19 : decode cX4_isWaiting 19 = .ok (.goto 4, 3) := dk_167 0 4 (dk_at dksX4_isWaiting_0 19 rfl rfl)
theorem dX4_isWaiting_22 : decode cX4_isWaiting 22 = .ok (.iconst 0, 1) := dk_3 (dk_at dksX4_isWaiting_0 22 rfl rfl)
theorem dX4_isWaiting_23 : decode cX4_isWaiting 23 = .ok (.ireturn, 1) := dk_172 (dk_at dksX4_isWaiting_0 23 rfl rfl)
abbrev cX4_zoneOf : ByteArray := prog_21_method_20_code
def yX4_zoneOf : MethodName := ⟨RX4, "zoneOf", "(I)I"⟩
def dkwX4_zoneOf_0 : List UInt8 := [42, 42, 27, 3, 182, 0, 102, 182, 0, 105, 172]
abbrev dktX4_zoneOf_0 : List UInt8 := dkwX4_zoneOf_0 ++ []
theorem dksX4_zoneOf_0 : cX4_zoneOf.data.toList.drop 0 = dktX4_zoneOf_0 := by decide +kernel
theorem dX4_zoneOf_0 : decode cX4_zoneOf 0 = .ok (.aload_n 0, 1) := dk_42 (dk_at dksX4_zoneOf_0 0 rfl rfl)
theorem dX4_zoneOf_1 : decode cX4_zoneOf 1 = .ok (.aload_n 0, 1) := dk_42 (dk_at dksX4_zoneOf_0 1 rfl rfl)
theorem dX4_zoneOf_2 : decode cX4_zoneOf 2 = .ok (.iload_n 1, 1) := dk_27 (dk_at dksX4_zoneOf_0 2 rfl rfl)
theorem dX4_zoneOf_3 : decode cX4_zoneOf 3 = .ok (.iconst 0, 1) := dk_3 (dk_at dksX4_zoneOf_0 3 rfl rfl)
theorem dX4_zoneOf_4 : decode cX4_zoneOf 4 = .ok (.invokevirtual 102, 3) := dk_182 0 102 (dk_at dksX4_zoneOf_0 4 rfl rfl)
theorem dX4_zoneOf_7 : decode cX4_zoneOf 7 = .ok (.invokevirtual 105, 3) := dk_182 0 105 (dk_at dksX4_zoneOf_0 7 rfl rfl)
theorem dX4_zoneOf_10 : decode cX4_zoneOf 10 = .ok (.ireturn, 1) := dk_172 (dk_at dksX4_zoneOf_0 10 rfl rfl)
abbrev cX4_zoneOfHouse : ByteArray := prog_21_method_19_code
def yX4_zoneOfHouse : MethodName := ⟨RX4, "zoneOfHouse", "(I)I"⟩
def dkwX4_zoneOfHouse_0 : List UInt8 := [42, 42, 180, 0, 7, 16, 63, 27, 96, 46, 182, 0, 98, 172]
abbrev dktX4_zoneOfHouse_0 : List UInt8 := dkwX4_zoneOfHouse_0 ++ []
theorem dksX4_zoneOfHouse_0 : cX4_zoneOfHouse.data.toList.drop 0 = dktX4_zoneOfHouse_0 := by decide +kernel
theorem dX4_zoneOfHouse_0 : decode cX4_zoneOfHouse 0 = .ok (.aload_n 0, 1) := dk_42 (dk_at dksX4_zoneOfHouse_0 0 rfl rfl)
theorem dX4_zoneOfHouse_1 : decode cX4_zoneOfHouse 1 = .ok (.aload_n 0, 1) := dk_42 (dk_at dksX4_zoneOfHouse_0 1 rfl rfl)
theorem dX4_zoneOfHouse_2 : decode cX4_zoneOfHouse 2 = .ok (.getfield 7, 3) := dk_180 0 7 (dk_at dksX4_zoneOfHouse_0 2 rfl rfl)
theorem dX4_zoneOfHouse_5 : decode cX4_zoneOfHouse 5 = .ok (.bipush 63, 2) := dk_16 63 (dk_at dksX4_zoneOfHouse_0 5 rfl rfl)
theorem dX4_zoneOfHouse_7 : decode cX4_zoneOfHouse 7 = .ok (.iload_n 1, 1) := dk_27 (dk_at dksX4_zoneOfHouse_0 7 rfl rfl)
theorem dX4_zoneOfHouse_8 : decode cX4_zoneOfHouse 8 = .ok (.iadd, 1) := dk_96 (dk_at dksX4_zoneOfHouse_0 8 rfl rfl)
theorem dX4_zoneOfHouse_9 : decode cX4_zoneOfHouse 9 = .ok (.iaload, 1) := dk_46 (dk_at dksX4_zoneOfHouse_0 9 rfl rfl)
theorem dX4_zoneOfHouse_10 : decode cX4_zoneOfHouse 10 = .ok (.invokevirtual 98, 3) := dk_182 0 98 (dk_at dksX4_zoneOfHouse_0 10 rfl rfl)
theorem dX4_zoneOfHouse_13 : decode cX4_zoneOfHouse 13 = .ok (.ireturn, 1) := dk_172 (dk_at dksX4_zoneOfHouse_0 13 rfl rfl)
abbrev cX4_zoneOfStreet : ByteArray := prog_21_method_18_code
def yX4_zoneOfStreet : MethodName := ⟨RX4, "zoneOfStreet", "(I)I"⟩
def dkwX4_zoneOfStreet_0 : List UInt8 := [42, 180, 0, 7, 16, 27, 27, 96, 46, 172]
abbrev dktX4_zoneOfStreet_0 : List UInt8 := dkwX4_zoneOfStreet_0 ++ []
theorem dksX4_zoneOfStreet_0 : cX4_zoneOfStreet.data.toList.drop 0 = dktX4_zoneOfStreet_0 := by decide +kernel
theorem dX4_zoneOfStreet_0 : decode cX4_zoneOfStreet 0 = .ok (.aload_n 0, 1) := dk_42 (dk_at dksX4_zoneOfStreet_0 0 rfl rfl)
theorem dX4_zoneOfStreet_1 : decode cX4_zoneOfStreet 1 = .ok (.getfield 7, 3) := dk_180 0 7 (dk_at dksX4_zoneOfStreet_0 1 rfl rfl)
theorem dX4_zoneOfStreet_4 : decode cX4_zoneOfStreet 4 = .ok (.bipush 27, 2) := dk_16 27 (dk_at dksX4_zoneOfStreet_0 4 rfl rfl)
theorem dX4_zoneOfStreet_6 : decode cX4_zoneOfStreet 6 = .ok (.iload_n 1, 1) := dk_27 (dk_at dksX4_zoneOfStreet_0 6 rfl rfl)
theorem dX4_zoneOfStreet_7 : decode cX4_zoneOfStreet 7 = .ok (.iadd, 1) := dk_96 (dk_at dksX4_zoneOfStreet_0 7 rfl rfl)
theorem dX4_zoneOfStreet_8 : decode cX4_zoneOfStreet 8 = .ok (.iaload, 1) := dk_46 (dk_at dksX4_zoneOfStreet_0 8 rfl rfl)
theorem dX4_zoneOfStreet_9 : decode cX4_zoneOfStreet 9 = .ok (.ireturn, 1) := dk_172 (dk_at dksX4_zoneOfStreet_0 9 rfl rfl)
abbrev cX4_ahead : ByteArray := prog_21_method_27_code
def yX4_ahead : MethodName := ⟨RX4, "ahead", "(I)I"⟩
def dkwX4_ahead_4 : List UInt8 := [167, 255, 186, 21, 4, 172]
abbrev dktX4_ahead_4 : List UInt8 := dkwX4_ahead_4 ++ []
def dkwX4_ahead_3 : List UInt8 := [161, 0, 15, 21, 6, 29, 160, 0, 15, 21, 5, 27, 162, 0, 9, 21, 4, 4, 96, 54, 4, 132, 5, 1]
abbrev dktX4_ahead_3 : List UInt8 := dkwX4_ahead_3 ++ dktX4_ahead_4
def dkwX4_ahead_2 : List UInt8 := [154, 0, 6, 167, 0, 40, 42, 42, 21, 5, 3, 182, 0, 102, 182, 0, 118, 54, 6, 21, 6, 29]
abbrev dktX4_ahead_2 : List UInt8 := dkwX4_ahead_2 ++ dktX4_ahead_3
def dkwX4_ahead_1 : List UInt8 := [21, 5, 42, 180, 0, 16, 4, 46, 162, 0, 65, 21, 5, 27, 159, 0, 53, 42, 21, 5, 28, 182, 0, 121]
abbrev dktX4_ahead_1 : List UInt8 := dkwX4_ahead_1 ++ dktX4_ahead_2
def dkwX4_ahead_0 : List UInt8 := [42, 27, 182, 0, 108, 61, 42, 42, 27, 3, 182, 0, 102, 182, 0, 118, 62, 3, 54, 4, 3, 54, 5]
abbrev dktX4_ahead_0 : List UInt8 := dkwX4_ahead_0 ++ dktX4_ahead_1
theorem dksX4_ahead_0 : cX4_ahead.data.toList.drop 0 = dktX4_ahead_0 := by decide +kernel
theorem dksX4_ahead_1 : cX4_ahead.data.toList.drop 23 = dktX4_ahead_1 := dk_seg dksX4_ahead_0 23 rfl rfl
theorem dksX4_ahead_2 : cX4_ahead.data.toList.drop 47 = dktX4_ahead_2 := dk_seg dksX4_ahead_1 24 rfl rfl
theorem dksX4_ahead_3 : cX4_ahead.data.toList.drop 69 = dktX4_ahead_3 := dk_seg dksX4_ahead_2 22 rfl rfl
theorem dksX4_ahead_4 : cX4_ahead.data.toList.drop 93 = dktX4_ahead_4 := dk_seg dksX4_ahead_3 24 rfl rfl
theorem dX4_ahead_0 : decode cX4_ahead 0 = .ok (.aload_n 0, 1) := dk_42 (dk_at dksX4_ahead_0 0 rfl rfl)
theorem dX4_ahead_1 : decode cX4_ahead 1 = .ok (.iload_n 1, 1) := dk_27 (dk_at dksX4_ahead_0 1 rfl rfl)
theorem dX4_ahead_2 : decode cX4_ahead 2 = .ok (.invokevirtual 108, 3) := dk_182 0 108 (dk_at dksX4_ahead_0 2 rfl rfl)
theorem dX4_ahead_5 : decode cX4_ahead 5 = .ok (.istore_n 2, 1) := dk_61 (dk_at dksX4_ahead_0 5 rfl rfl)
theorem dX4_ahead_6 : decode cX4_ahead 6 = .ok (.aload_n 0, 1) := dk_42 (dk_at dksX4_ahead_0 6 rfl rfl)
theorem dX4_ahead_7 : decode cX4_ahead 7 = .ok (.aload_n 0, 1) := dk_42 (dk_at dksX4_ahead_0 7 rfl rfl)
theorem dX4_ahead_8 : decode cX4_ahead 8 = .ok (.iload_n 1, 1) := dk_27 (dk_at dksX4_ahead_0 8 rfl rfl)
theorem dX4_ahead_9 : decode cX4_ahead 9 = .ok (.iconst 0, 1) := dk_3 (dk_at dksX4_ahead_0 9 rfl rfl)
theorem dX4_ahead_10 : decode cX4_ahead 10 = .ok (.invokevirtual 102, 3) := dk_182 0 102 (dk_at dksX4_ahead_0 10 rfl rfl)
theorem dX4_ahead_13 : decode cX4_ahead 13 = .ok (.invokevirtual 118, 3) := dk_182 0 118 (dk_at dksX4_ahead_0 13 rfl rfl)
theorem dX4_ahead_16 : decode cX4_ahead 16 = .ok (.istore_n 3, 1) := dk_62 (dk_at dksX4_ahead_0 16 rfl rfl)
theorem dX4_ahead_17 : decode cX4_ahead 17 = .ok (.iconst 0, 1) := dk_3 (dk_at dksX4_ahead_0 17 rfl rfl)
theorem dX4_ahead_18 : decode cX4_ahead 18 = .ok (.istore 4, 2) := dk_54 4 (dk_at dksX4_ahead_0 18 rfl rfl)
theorem dX4_ahead_20 : decode cX4_ahead 20 = .ok (.iconst 0, 1) := dk_3 (dk_at dksX4_ahead_0 20 rfl rfl)
theorem dX4_ahead_21 : decode cX4_ahead 21 = .ok (.istore 5, 2) := dk_54 5 (dk_at dksX4_ahead_0 21 rfl rfl)
theorem dX4_ahead_23 : decode cX4_ahead 23 = .ok (.iload 5, 2) := dk_21 5 (dk_at dksX4_ahead_1 0 rfl rfl)
theorem dX4_ahead_25 : decode cX4_ahead 25 = .ok (.aload_n 0, 1) := dk_42 (dk_at dksX4_ahead_1 2 rfl rfl)
theorem dX4_ahead_26 : decode cX4_ahead 26 = .ok (.getfield 16, 3) := dk_180 0 16 (dk_at dksX4_ahead_1 3 rfl rfl)
theorem dX4_ahead_29 : decode cX4_ahead 29 = .ok (.iconst 1, 1) := dk_4 (dk_at dksX4_ahead_1 6 rfl rfl)
theorem dX4_ahead_30 : decode cX4_ahead 30 = .ok (.iaload, 1) := dk_46 (dk_at dksX4_ahead_1 7 rfl rfl)
theorem dX4_ahead_31 : decode cX4_ahead 31 = .ok (.if_icmp .ge 65, 3) := dk_162 0 65 (dk_at dksX4_ahead_1 8 rfl rfl)
theorem dX4_ahead_34 : decode cX4_ahead 34 = .ok (.iload 5, 2) := dk_21 5 (dk_at dksX4_ahead_1 11 rfl rfl)
theorem dX4_ahead_36 : decode cX4_ahead 36 = .ok (.iload_n 1, 1) := dk_27 (dk_at dksX4_ahead_1 13 rfl rfl)
theorem dX4_ahead_37 : decode cX4_ahead 37 = .ok (.if_icmp .eq 53, 3) := dk_159 0 53 (dk_at dksX4_ahead_1 14 rfl rfl)
theorem dX4_ahead_40 : decode cX4_ahead 40 = .ok (.aload_n 0, 1) := dk_42 (dk_at dksX4_ahead_1 17 rfl rfl)
theorem dX4_ahead_41 : decode cX4_ahead 41 = .ok (.iload 5, 2) := dk_21 5 (dk_at dksX4_ahead_1 18 rfl rfl)
theorem dX4_ahead_43 : decode cX4_ahead 43 = .ok (.iload_n 2, 1) := dk_28 (dk_at dksX4_ahead_1 20 rfl rfl)
theorem dX4_ahead_44 : decode cX4_ahead 44 = .ok (.invokevirtual 121, 3) := dk_182 0 121 (dk_at dksX4_ahead_1 21 rfl rfl)
theorem dX4_ahead_47 : decode cX4_ahead 47 = .ok (.ifCond .ne 6, 3) := dk_154 0 6 (dk_at dksX4_ahead_2 0 rfl rfl)
theorem dX4_ahead_50 : decode cX4_ahead 50 = .ok (.goto 40, 3) := dk_167 0 40 (dk_at dksX4_ahead_2 3 rfl rfl)
theorem dX4_ahead_53 : decode cX4_ahead 53 = .ok (.aload_n 0, 1) := dk_42 (dk_at dksX4_ahead_2 6 rfl rfl)
theorem dX4_ahead_54 : decode cX4_ahead 54 = .ok (.aload_n 0, 1) := dk_42 (dk_at dksX4_ahead_2 7 rfl rfl)
theorem dX4_ahead_55 : decode cX4_ahead 55 = .ok (.iload 5, 2) := dk_21 5 (dk_at dksX4_ahead_2 8 rfl rfl)
theorem dX4_ahead_57 : decode cX4_ahead 57 = .ok (.iconst 0, 1) := dk_3 (dk_at dksX4_ahead_2 10 rfl rfl)
theorem dX4_ahead_58 : decode cX4_ahead 58 = .ok (.invokevirtual 102, 3) := dk_182 0 102 (dk_at dksX4_ahead_2 11 rfl rfl)
theorem dX4_ahead_61 : decode cX4_ahead 61 = .ok (.invokevirtual 118, 3) := dk_182 0 118 (dk_at dksX4_ahead_2 14 rfl rfl)
theorem dX4_ahead_64 : decode cX4_ahead 64 = .ok (.istore 6, 2) := dk_54 6 (dk_at dksX4_ahead_2 17 rfl rfl)
theorem dX4_ahead_66 : decode cX4_ahead 66 = .ok (.iload 6, 2) := dk_21 6 (dk_at dksX4_ahead_2 19 rfl rfl)
theorem dX4_ahead_68 : decode cX4_ahead 68 = .ok (.iload_n 3, 1) := dk_29 (dk_at dksX4_ahead_2 21 rfl rfl)
theorem dX4_ahead_69 : decode cX4_ahead 69 = .ok (.if_icmp .lt 15, 3) := dk_161 0 15 (dk_at dksX4_ahead_3 0 rfl rfl)
theorem dX4_ahead_72 : decode cX4_ahead 72 = .ok (.iload 6, 2) := dk_21 6 (dk_at dksX4_ahead_3 3 rfl rfl)
theorem dX4_ahead_74 : decode cX4_ahead 74 = .ok (.iload_n 3, 1) := dk_29 (dk_at dksX4_ahead_3 5 rfl rfl)
theorem dX4_ahead_75 : decode cX4_ahead 75 = .ok (.if_icmp .ne 15, 3) := dk_160 0 15 (dk_at dksX4_ahead_3 6 rfl rfl)
theorem dX4_ahead_78 : decode cX4_ahead 78 = .ok (.iload 5, 2) := dk_21 5 (dk_at dksX4_ahead_3 9 rfl rfl)
theorem dX4_ahead_80 : decode cX4_ahead 80 = .ok (.iload_n 1, 1) := dk_27 (dk_at dksX4_ahead_3 11 rfl rfl)
theorem dX4_ahead_81 : decode cX4_ahead 81 = .ok (.if_icmp .ge 9, 3) := dk_162 0 9 (dk_at dksX4_ahead_3 12 rfl rfl)
theorem dX4_ahead_84 : decode cX4_ahead 84 = .ok (.iload 4, 2) := dk_21 4 (dk_at dksX4_ahead_3 15 rfl rfl)
theorem dX4_ahead_86 : decode cX4_ahead 86 = .ok (.iconst 1, 1) := dk_4 (dk_at dksX4_ahead_3 17 rfl rfl)
theorem dX4_ahead_87 : decode cX4_ahead 87 = .ok (.iadd, 1) := dk_96 (dk_at dksX4_ahead_3 18 rfl rfl)
theorem dX4_ahead_88 : decode cX4_ahead 88 = .ok (.istore 4, 2) := dk_54 4 (dk_at dksX4_ahead_3 19 rfl rfl)
theorem dX4_ahead_90 : decode cX4_ahead 90 = .ok (.iinc 5 1, 3) := dk_132 5 1 (dk_at dksX4_ahead_3 21 rfl rfl)
theorem dX4_ahead_93 : decode cX4_ahead 93 = .ok (.goto (-70), 3) := dk_167 255 186 (dk_at dksX4_ahead_4 0 rfl rfl)
theorem dX4_ahead_96 : decode cX4_ahead 96 = .ok (.iload 4, 2) := dk_21 4 (dk_at dksX4_ahead_4 3 rfl rfl)
theorem dX4_ahead_98 : decode cX4_ahead 98 = .ok (.ireturn, 1) := dk_172 (dk_at dksX4_ahead_4 5 rfl rfl)
abbrev cX4_validOfHouse : ByteArray := prog_21_method_24_code
def yX4_validOfHouse : MethodName := ⟨RX4, "validOfHouse", "(I)I"⟩
def dkwX4_validOfHouse_1 : List UInt8 := [42, 29, 5, 182, 0, 102, 5, 160, 0, 7, 28, 4, 96, 61, 132, 3, 1, 167, 255, 219, 28, 172]
abbrev dktX4_validOfHouse_1 : List UInt8 := dkwX4_validOfHouse_1 ++ []
def dkwX4_validOfHouse_0 : List UInt8 := [3, 61, 3, 62, 29, 42, 180, 0, 16, 4, 46, 162, 0, 33, 42, 29, 3, 182, 0, 102, 27, 160, 0, 17]
abbrev dktX4_validOfHouse_0 : List UInt8 := dkwX4_validOfHouse_0 ++ dktX4_validOfHouse_1
theorem dksX4_validOfHouse_0 : cX4_validOfHouse.data.toList.drop 0 = dktX4_validOfHouse_0 := by decide +kernel
theorem dksX4_validOfHouse_1 : cX4_validOfHouse.data.toList.drop 24 = dktX4_validOfHouse_1 := dk_seg dksX4_validOfHouse_0 24 rfl rfl
theorem dX4_validOfHouse_0 : decode cX4_validOfHouse 0 = .ok (.iconst 0, 1) := dk_3 (dk_at dksX4_validOfHouse_0 0 rfl rfl)
theorem dX4_validOfHouse_1 : decode cX4_validOfHouse 1 = .ok (.istore_n 2, 1) := dk_61 (dk_at dksX4_validOfHouse_0 1 rfl rfl)
theorem dX4_validOfHouse_2 : decode cX4_validOfHouse 2 = .ok (.iconst 0, 1) := dk_3 (dk_at dksX4_validOfHouse_0 2 rfl rfl)
theorem dX4_validOfHouse_3 : decode cX4_validOfHouse 3 = .ok (.istore_n 3, 1) := dk_62 (dk_at dksX4_validOfHouse_0 3 rfl rfl)
theorem dX4_validOfHouse_4 : decode cX4_validOfHouse 4 = .ok (.iload_n 3, 1) := dk_29 (dk_at dksX4_validOfHouse_0 4 rfl rfl)
theorem dX4_validOfHouse_5 : decode cX4_validOfHouse 5 = .ok (.aload_n 0, 1) := dk_42 (dk_at dksX4_validOfHouse_0 5 rfl rfl)
theorem dX4_validOfHouse_6 : decode cX4_validOfHouse 6 = .ok (.getfield 16, 3) := dk_180 0 16 (dk_at dksX4_validOfHouse_0 6 rfl rfl)
theorem dX4_validOfHouse_9 : decode cX4_validOfHouse 9 = .ok (.iconst 1, 1) := dk_4 (dk_at dksX4_validOfHouse_0 9 rfl rfl)
theorem dX4_validOfHouse_10 : decode cX4_validOfHouse 10 = .ok (.iaload, 1) := dk_46 (dk_at dksX4_validOfHouse_0 10 rfl rfl)
theorem dX4_validOfHouse_11 : decode cX4_validOfHouse 11 = .ok (.if_icmp .ge 33, 3) := dk_162 0 33 (dk_at dksX4_validOfHouse_0 11 rfl rfl)
theorem dX4_validOfHouse_14 : decode cX4_validOfHouse 14 = .ok (.aload_n 0, 1) := dk_42 (dk_at dksX4_validOfHouse_0 14 rfl rfl)
theorem dX4_validOfHouse_15 : decode cX4_validOfHouse 15 = .ok (.iload_n 3, 1) := dk_29 (dk_at dksX4_validOfHouse_0 15 rfl rfl)
theorem dX4_validOfHouse_16 : decode cX4_validOfHouse 16 = .ok (.iconst 0, 1) := dk_3 (dk_at dksX4_validOfHouse_0 16 rfl rfl)
theorem dX4_validOfHouse_17 : decode cX4_validOfHouse 17 = .ok (.invokevirtual 102, 3) := dk_182 0 102 (dk_at dksX4_validOfHouse_0 17 rfl rfl)
theorem dX4_validOfHouse_20 : decode cX4_validOfHouse 20 = .ok (.iload_n 1, 1) := dk_27 (dk_at dksX4_validOfHouse_0 20 rfl rfl)
theorem dX4_validOfHouse_21 : decode cX4_validOfHouse 21 = .ok (.if_icmp .ne 17, 3) := dk_160 0 17 (dk_at dksX4_validOfHouse_0 21 rfl rfl)
theorem dX4_validOfHouse_24 : decode cX4_validOfHouse 24 = .ok (.aload_n 0, 1) := dk_42 (dk_at dksX4_validOfHouse_1 0 rfl rfl)
theorem dX4_validOfHouse_25 : decode cX4_validOfHouse 25 = .ok (.iload_n 3, 1) := dk_29 (dk_at dksX4_validOfHouse_1 1 rfl rfl)
theorem dX4_validOfHouse_26 : decode cX4_validOfHouse 26 = .ok (.iconst 2, 1) := dk_5 (dk_at dksX4_validOfHouse_1 2 rfl rfl)
theorem dX4_validOfHouse_27 : decode cX4_validOfHouse 27 = .ok (.invokevirtual 102, 3) := dk_182 0 102 (dk_at dksX4_validOfHouse_1 3 rfl rfl)
theorem dX4_validOfHouse_30 : decode cX4_validOfHouse 30 = .ok (.iconst 2, 1) := dk_5 (dk_at dksX4_validOfHouse_1 6 rfl rfl)
theorem dX4_validOfHouse_31 : decode cX4_validOfHouse 31 = .ok (.if_icmp .ne 7, 3) := dk_160 0 7 (dk_at dksX4_validOfHouse_1 7 rfl rfl)
theorem dX4_validOfHouse_34 : decode cX4_validOfHouse 34 = .ok (.iload_n 2, 1) := dk_28 (dk_at dksX4_validOfHouse_1 10 rfl rfl)
theorem dX4_validOfHouse_35 : decode cX4_validOfHouse 35 = .ok (.iconst 1, 1) := dk_4 (dk_at dksX4_validOfHouse_1 11 rfl rfl)
theorem dX4_validOfHouse_36 : decode cX4_validOfHouse 36 = .ok (.iadd, 1) := dk_96 (dk_at dksX4_validOfHouse_1 12 rfl rfl)
theorem dX4_validOfHouse_37 : decode cX4_validOfHouse 37 = .ok (.istore_n 2, 1) := dk_61 (dk_at dksX4_validOfHouse_1 13 rfl rfl)
theorem dX4_validOfHouse_38 : decode cX4_validOfHouse 38 = .ok (.iinc 3 1, 3) := dk_132 3 1 (dk_at dksX4_validOfHouse_1 14 rfl rfl)
theorem dX4_validOfHouse_41 : decode cX4_validOfHouse 41 = .ok (.goto (-37), 3) := dk_167 255 219 (dk_at dksX4_validOfHouse_1 17 rfl rfl)
theorem dX4_validOfHouse_44 : decode cX4_validOfHouse 44 = .ok (.iload_n 2, 1) := dk_28 (dk_at dksX4_validOfHouse_1 20 rfl rfl)
theorem dX4_validOfHouse_45 : decode cX4_validOfHouse 45 = .ok (.ireturn, 1) := dk_172 (dk_at dksX4_validOfHouse_1 21 rfl rfl)
abbrev cX4_taken : ByteArray := prog_21_method_23_code
def yX4_taken : MethodName := ⟨RX4, "taken", "(I)I"⟩
def dkwX4_taken_0 : List UInt8 := [42, 27, 4, 182, 0, 111, 42, 27, 5, 182, 0, 111, 96, 172]
abbrev dktX4_taken_0 : List UInt8 := dkwX4_taken_0 ++ []
theorem dksX4_taken_0 : cX4_taken.data.toList.drop 0 = dktX4_taken_0 := by decide +kernel
theorem dX4_taken_0 : decode cX4_taken 0 = .ok (.aload_n 0, 1) := dk_42 (dk_at dksX4_taken_0 0 rfl rfl)
theorem dX4_taken_1 : decode cX4_taken 1 = .ok (.iload_n 1, 1) := dk_27 (dk_at dksX4_taken_0 1 rfl rfl)
theorem dX4_taken_2 : decode cX4_taken 2 = .ok (.iconst 1, 1) := dk_4 (dk_at dksX4_taken_0 2 rfl rfl)
theorem dX4_taken_3 : decode cX4_taken 3 = .ok (.invokevirtual 111, 3) := dk_182 0 111 (dk_at dksX4_taken_0 3 rfl rfl)
theorem dX4_taken_6 : decode cX4_taken 6 = .ok (.aload_n 0, 1) := dk_42 (dk_at dksX4_taken_0 6 rfl rfl)
theorem dX4_taken_7 : decode cX4_taken 7 = .ok (.iload_n 1, 1) := dk_27 (dk_at dksX4_taken_0 7 rfl rfl)
theorem dX4_taken_8 : decode cX4_taken 8 = .ok (.iconst 2, 1) := dk_5 (dk_at dksX4_taken_0 8 rfl rfl)
theorem dX4_taken_9 : decode cX4_taken 9 = .ok (.invokevirtual 111, 3) := dk_182 0 111 (dk_at dksX4_taken_0 9 rfl rfl)
theorem dX4_taken_12 : decode cX4_taken 12 = .ok (.iadd, 1) := dk_96 (dk_at dksX4_taken_0 12 rfl rfl)
theorem dX4_taken_13 : decode cX4_taken 13 = .ok (.ireturn, 1) := dk_172 (dk_at dksX4_taken_0 13 rfl rfl)
abbrev cX4_manyOf : ByteArray := prog_21_method_22_code
def yX4_manyOf : MethodName := ⟨RX4, "manyOf", "(II)I"⟩
def dkwX4_manyOf_2 : List UInt8 := [29, 172]
abbrev dktX4_manyOf_2 : List UInt8 := dkwX4_manyOf_2 ++ []
def dkwX4_manyOf_1 : List UInt8 := [160, 0, 18, 42, 21, 4, 5, 182, 0, 102, 28, 160, 0, 7, 29, 4, 96, 62, 132, 4, 1, 167, 255, 217]
abbrev dktX4_manyOf_1 : List UInt8 := dkwX4_manyOf_1 ++ dktX4_manyOf_2
def dkwX4_manyOf_0 : List UInt8 := [3, 62, 3, 54, 4, 21, 4, 42, 180, 0, 16, 4, 46, 162, 0, 34, 42, 21, 4, 182, 0, 108, 27]
abbrev dktX4_manyOf_0 : List UInt8 := dkwX4_manyOf_0 ++ dktX4_manyOf_1
theorem dksX4_manyOf_0 : cX4_manyOf.data.toList.drop 0 = dktX4_manyOf_0 := by decide +kernel
theorem dksX4_manyOf_1 : cX4_manyOf.data.toList.drop 23 = dktX4_manyOf_1 := dk_seg dksX4_manyOf_0 23 rfl rfl
theorem dksX4_manyOf_2 : cX4_manyOf.data.toList.drop 47 = dktX4_manyOf_2 := dk_seg dksX4_manyOf_1 24 rfl rfl
theorem dX4_manyOf_0 : decode cX4_manyOf 0 = .ok (.iconst 0, 1) := dk_3 (dk_at dksX4_manyOf_0 0 rfl rfl)
theorem dX4_manyOf_1 : decode cX4_manyOf 1 = .ok (.istore_n 3, 1) := dk_62 (dk_at dksX4_manyOf_0 1 rfl rfl)
theorem dX4_manyOf_2 : decode cX4_manyOf 2 = .ok (.iconst 0, 1) := dk_3 (dk_at dksX4_manyOf_0 2 rfl rfl)
theorem dX4_manyOf_3 : decode cX4_manyOf 3 = .ok (.istore 4, 2) := dk_54 4 (dk_at dksX4_manyOf_0 3 rfl rfl)
theorem dX4_manyOf_5 : decode cX4_manyOf 5 = .ok (.iload 4, 2) := dk_21 4 (dk_at dksX4_manyOf_0 5 rfl rfl)
theorem dX4_manyOf_7 : decode cX4_manyOf 7 = .ok (.aload_n 0, 1) := dk_42 (dk_at dksX4_manyOf_0 7 rfl rfl)
theorem dX4_manyOf_8 : decode cX4_manyOf 8 = .ok (.getfield 16, 3) := dk_180 0 16 (dk_at dksX4_manyOf_0 8 rfl rfl)
theorem dX4_manyOf_11 : decode cX4_manyOf 11 = .ok (.iconst 1, 1) := dk_4 (dk_at dksX4_manyOf_0 11 rfl rfl)
theorem dX4_manyOf_12 : decode cX4_manyOf 12 = .ok (.iaload, 1) := dk_46 (dk_at dksX4_manyOf_0 12 rfl rfl)
theorem dX4_manyOf_13 : decode cX4_manyOf 13 = .ok (.if_icmp .ge 34, 3) := dk_162 0 34 (dk_at dksX4_manyOf_0 13 rfl rfl)
theorem dX4_manyOf_16 : decode cX4_manyOf 16 = .ok (.aload_n 0, 1) := dk_42 (dk_at dksX4_manyOf_0 16 rfl rfl)
theorem dX4_manyOf_17 : decode cX4_manyOf 17 = .ok (.iload 4, 2) := dk_21 4 (dk_at dksX4_manyOf_0 17 rfl rfl)
theorem dX4_manyOf_19 : decode cX4_manyOf 19 = .ok (.invokevirtual 108, 3) := dk_182 0 108 (dk_at dksX4_manyOf_0 19 rfl rfl)
theorem dX4_manyOf_22 : decode cX4_manyOf 22 = .ok (.iload_n 1, 1) := dk_27 (dk_at dksX4_manyOf_0 22 rfl rfl)
theorem dX4_manyOf_23 : decode cX4_manyOf 23 = .ok (.if_icmp .ne 18, 3) := dk_160 0 18 (dk_at dksX4_manyOf_1 0 rfl rfl)
theorem dX4_manyOf_26 : decode cX4_manyOf 26 = .ok (.aload_n 0, 1) := dk_42 (dk_at dksX4_manyOf_1 3 rfl rfl)
theorem dX4_manyOf_27 : decode cX4_manyOf 27 = .ok (.iload 4, 2) := dk_21 4 (dk_at dksX4_manyOf_1 4 rfl rfl)
theorem dX4_manyOf_29 : decode cX4_manyOf 29 = .ok (.iconst 2, 1) := dk_5 (dk_at dksX4_manyOf_1 6 rfl rfl)
theorem dX4_manyOf_30 : decode cX4_manyOf 30 = .ok (.invokevirtual 102, 3) := dk_182 0 102 (dk_at dksX4_manyOf_1 7 rfl rfl)
theorem dX4_manyOf_33 : decode cX4_manyOf 33 = .ok (.iload_n 2, 1) := dk_28 (dk_at dksX4_manyOf_1 10 rfl rfl)
theorem dX4_manyOf_34 : decode cX4_manyOf 34 = .ok (.if_icmp .ne 7, 3) := dk_160 0 7 (dk_at dksX4_manyOf_1 11 rfl rfl)
theorem dX4_manyOf_37 : decode cX4_manyOf 37 = .ok (.iload_n 3, 1) := dk_29 (dk_at dksX4_manyOf_1 14 rfl rfl)
theorem dX4_manyOf_38 : decode cX4_manyOf 38 = .ok (.iconst 1, 1) := dk_4 (dk_at dksX4_manyOf_1 15 rfl rfl)
theorem dX4_manyOf_39 : decode cX4_manyOf 39 = .ok (.iadd, 1) := dk_96 (dk_at dksX4_manyOf_1 16 rfl rfl)
theorem dX4_manyOf_40 : decode cX4_manyOf 40 = .ok (.istore_n 3, 1) := dk_62 (dk_at dksX4_manyOf_1 17 rfl rfl)
theorem dX4_manyOf_41 : decode cX4_manyOf 41 = .ok (.iinc 4 1, 3) := dk_132 4 1 (dk_at dksX4_manyOf_1 18 rfl rfl)
theorem dX4_manyOf_44 : decode cX4_manyOf 44 = .ok (.goto (-39), 3) := dk_167 255 217 (dk_at dksX4_manyOf_1 21 rfl rfl)
theorem dX4_manyOf_47 : decode cX4_manyOf 47 = .ok (.iload_n 3, 1) := dk_29 (dk_at dksX4_manyOf_2 0 rfl rfl)
theorem dX4_manyOf_48 : decode cX4_manyOf 48 = .ok (.ireturn, 1) := dk_172 (dk_at dksX4_manyOf_2 1 rfl rfl)
abbrev cX4_keeps : ByteArray := prog_21_method_11_code
def yX4_keeps : MethodName := ⟨RX4, "keeps", "()V"⟩
def dkwX4_keeps_4 : List UInt8 := [181, 0, 70, 177]
abbrev dktX4_keeps_4 : List UInt8 := dkwX4_keeps_4 ++ []
def dkwX4_keeps_3 : List UInt8 := [27, 96, 42, 180, 0, 19, 27, 46, 79, 132, 1, 1, 167, 255, 225, 42, 42, 180, 0, 70, 4, 96]
abbrev dktX4_keeps_3 : List UInt8 := dkwX4_keeps_3 ++ dktX4_keeps_4
def dkwX4_keeps_2 : List UInt8 := [181, 0, 70, 3, 60, 27, 17, 5, 155, 162, 0, 30, 42, 180, 0, 28, 17, 5, 155, 42, 180, 0, 70, 104]
abbrev dktX4_keeps_2 : List UInt8 := dkwX4_keeps_2 ++ dktX4_keeps_3
def dkwX4_keeps_1 : List UInt8 := [180, 0, 28, 27, 17, 5, 155, 96, 46, 79, 132, 1, 1, 167, 255, 230, 42, 42, 180, 0, 70, 4, 100]
abbrev dktX4_keeps_1 : List UInt8 := dkwX4_keeps_1 ++ dktX4_keeps_2
def dkwX4_keeps_0 : List UInt8 := [42, 180, 0, 70, 16, 10, 160, 0, 44, 3, 60, 27, 17, 50, 115, 162, 0, 25, 42, 180, 0, 28, 27, 42]
abbrev dktX4_keeps_0 : List UInt8 := dkwX4_keeps_0 ++ dktX4_keeps_1
theorem dksX4_keeps_0 : cX4_keeps.data.toList.drop 0 = dktX4_keeps_0 := by decide +kernel
theorem dksX4_keeps_1 : cX4_keeps.data.toList.drop 24 = dktX4_keeps_1 := dk_seg dksX4_keeps_0 24 rfl rfl
theorem dksX4_keeps_2 : cX4_keeps.data.toList.drop 47 = dktX4_keeps_2 := dk_seg dksX4_keeps_1 23 rfl rfl
theorem dksX4_keeps_3 : cX4_keeps.data.toList.drop 71 = dktX4_keeps_3 := dk_seg dksX4_keeps_2 24 rfl rfl
theorem dksX4_keeps_4 : cX4_keeps.data.toList.drop 93 = dktX4_keeps_4 := dk_seg dksX4_keeps_3 22 rfl rfl
theorem dX4_keeps_0 : decode cX4_keeps 0 = .ok (.aload_n 0, 1) := dk_42 (dk_at dksX4_keeps_0 0 rfl rfl)
theorem dX4_keeps_1 : decode cX4_keeps 1 = .ok (.getfield 70, 3) := dk_180 0 70 (dk_at dksX4_keeps_0 1 rfl rfl)
theorem dX4_keeps_4 : decode cX4_keeps 4 = .ok (.bipush 10, 2) := dk_16 10 (dk_at dksX4_keeps_0 4 rfl rfl)
theorem dX4_keeps_6 : decode cX4_keeps 6 = .ok (.if_icmp .ne 44, 3) := dk_160 0 44 (dk_at dksX4_keeps_0 6 rfl rfl)
theorem dX4_keeps_9 : decode cX4_keeps 9 = .ok (.iconst 0, 1) := dk_3 (dk_at dksX4_keeps_0 9 rfl rfl)
theorem dX4_keeps_10 : decode cX4_keeps 10 = .ok (.istore_n 1, 1) := dk_60 (dk_at dksX4_keeps_0 10 rfl rfl)
theorem dX4_keeps_11 : decode cX4_keeps 11 = .ok (.iload_n 1, 1) := dk_27 (dk_at dksX4_keeps_0 11 rfl rfl)
theorem dX4_keeps_12 : decode cX4_keeps 12 = .ok (.sipush 12915, 3) := dk_17 50 115 (dk_at dksX4_keeps_0 12 rfl rfl)
theorem dX4_keeps_15 : decode cX4_keeps 15 = .ok (.if_icmp .ge 25, 3) := dk_162 0 25 (dk_at dksX4_keeps_0 15 rfl rfl)
theorem dX4_keeps_18 : decode cX4_keeps 18 = .ok (.aload_n 0, 1) := dk_42 (dk_at dksX4_keeps_0 18 rfl rfl)
theorem dX4_keeps_19 : decode cX4_keeps 19 = .ok (.getfield 28, 3) := dk_180 0 28 (dk_at dksX4_keeps_0 19 rfl rfl)
theorem dX4_keeps_22 : decode cX4_keeps 22 = .ok (.iload_n 1, 1) := dk_27 (dk_at dksX4_keeps_0 22 rfl rfl)
theorem dX4_keeps_23 : decode cX4_keeps 23 = .ok (.aload_n 0, 1) := dk_42 (dk_at dksX4_keeps_0 23 rfl rfl)
theorem dX4_keeps_24 : decode cX4_keeps 24 = .ok (.getfield 28, 3) := dk_180 0 28 (dk_at dksX4_keeps_1 0 rfl rfl)
theorem dX4_keeps_27 : decode cX4_keeps 27 = .ok (.iload_n 1, 1) := dk_27 (dk_at dksX4_keeps_1 3 rfl rfl)
theorem dX4_keeps_28 : decode cX4_keeps 28 = .ok (.sipush 1435, 3) := dk_17 5 155 (dk_at dksX4_keeps_1 4 rfl rfl)
theorem dX4_keeps_31 : decode cX4_keeps 31 = .ok (.iadd, 1) := dk_96 (dk_at dksX4_keeps_1 7 rfl rfl)
theorem dX4_keeps_32 : decode cX4_keeps 32 = .ok (.iaload, 1) := dk_46 (dk_at dksX4_keeps_1 8 rfl rfl)
theorem dX4_keeps_33 : decode cX4_keeps 33 = .ok (.iastore, 1) := dk_79 (dk_at dksX4_keeps_1 9 rfl rfl)
theorem dX4_keeps_34 : decode cX4_keeps 34 = .ok (.iinc 1 1, 3) := dk_132 1 1 (dk_at dksX4_keeps_1 10 rfl rfl)
theorem dX4_keeps_37 : decode cX4_keeps 37 = .ok (.goto (-26), 3) := dk_167 255 230 (dk_at dksX4_keeps_1 13 rfl rfl)
theorem dX4_keeps_40 : decode cX4_keeps 40 = .ok (.aload_n 0, 1) := dk_42 (dk_at dksX4_keeps_1 16 rfl rfl)
theorem dX4_keeps_41 : decode cX4_keeps 41 = .ok (.aload_n 0, 1) := dk_42 (dk_at dksX4_keeps_1 17 rfl rfl)
theorem dX4_keeps_42 : decode cX4_keeps 42 = .ok (.getfield 70, 3) := dk_180 0 70 (dk_at dksX4_keeps_1 18 rfl rfl)
theorem dX4_keeps_45 : decode cX4_keeps 45 = .ok (.iconst 1, 1) := dk_4 (dk_at dksX4_keeps_1 21 rfl rfl)
theorem dX4_keeps_46 : decode cX4_keeps 46 = .ok (.isub, 1) := dk_100 (dk_at dksX4_keeps_1 22 rfl rfl)
theorem dX4_keeps_47 : decode cX4_keeps 47 = .ok (.putfield 70, 3) := dk_181 0 70 (dk_at dksX4_keeps_2 0 rfl rfl)
theorem dX4_keeps_50 : decode cX4_keeps 50 = .ok (.iconst 0, 1) := dk_3 (dk_at dksX4_keeps_2 3 rfl rfl)
theorem dX4_keeps_51 : decode cX4_keeps 51 = .ok (.istore_n 1, 1) := dk_60 (dk_at dksX4_keeps_2 4 rfl rfl)
theorem dX4_keeps_52 : decode cX4_keeps 52 = .ok (.iload_n 1, 1) := dk_27 (dk_at dksX4_keeps_2 5 rfl rfl)
theorem dX4_keeps_53 : decode cX4_keeps 53 = .ok (.sipush 1435, 3) := dk_17 5 155 (dk_at dksX4_keeps_2 6 rfl rfl)
theorem dX4_keeps_56 : decode cX4_keeps 56 = .ok (.if_icmp .ge 30, 3) := dk_162 0 30 (dk_at dksX4_keeps_2 9 rfl rfl)
theorem dX4_keeps_59 : decode cX4_keeps 59 = .ok (.aload_n 0, 1) := dk_42 (dk_at dksX4_keeps_2 12 rfl rfl)
theorem dX4_keeps_60 : decode cX4_keeps 60 = .ok (.getfield 28, 3) := dk_180 0 28 (dk_at dksX4_keeps_2 13 rfl rfl)
theorem dX4_keeps_63 : decode cX4_keeps 63 = .ok (.sipush 1435, 3) := dk_17 5 155 (dk_at dksX4_keeps_2 16 rfl rfl)
theorem dX4_keeps_66 : decode cX4_keeps 66 = .ok (.aload_n 0, 1) := dk_42 (dk_at dksX4_keeps_2 19 rfl rfl)
theorem dX4_keeps_67 : decode cX4_keeps 67 = .ok (.getfield 70, 3) := dk_180 0 70 (dk_at dksX4_keeps_2 20 rfl rfl)
theorem dX4_keeps_70 : decode cX4_keeps 70 = .ok (.imul, 1) := dk_104 (dk_at dksX4_keeps_2 23 rfl rfl)
theorem dX4_keeps_71 : decode cX4_keeps 71 = .ok (.iload_n 1, 1) := dk_27 (dk_at dksX4_keeps_3 0 rfl rfl)
theorem dX4_keeps_72 : decode cX4_keeps 72 = .ok (.iadd, 1) := dk_96 (dk_at dksX4_keeps_3 1 rfl rfl)
theorem dX4_keeps_73 : decode cX4_keeps 73 = .ok (.aload_n 0, 1) := dk_42 (dk_at dksX4_keeps_3 2 rfl rfl)
theorem dX4_keeps_74 : decode cX4_keeps 74 = .ok (.getfield 19, 3) := dk_180 0 19 (dk_at dksX4_keeps_3 3 rfl rfl)
theorem dX4_keeps_77 : decode cX4_keeps 77 = .ok (.iload_n 1, 1) := dk_27 (dk_at dksX4_keeps_3 6 rfl rfl)
theorem dX4_keeps_78 : decode cX4_keeps 78 = .ok (.iaload, 1) := dk_46 (dk_at dksX4_keeps_3 7 rfl rfl)
theorem dX4_keeps_79 : decode cX4_keeps 79 = .ok (.iastore, 1) := dk_79 (dk_at dksX4_keeps_3 8 rfl rfl)
theorem dX4_keeps_80 : decode cX4_keeps 80 = .ok (.iinc 1 1, 3) := dk_132 1 1 (dk_at dksX4_keeps_3 9 rfl rfl)
theorem dX4_keeps_83 : decode cX4_keeps 83 = .ok (.goto (-31), 3) := dk_167 255 225 (dk_at dksX4_keeps_3 12 rfl rfl)
theorem dX4_keeps_86 : decode cX4_keeps 86 = .ok (.aload_n 0, 1) := dk_42 (dk_at dksX4_keeps_3 15 rfl rfl)
theorem dX4_keeps_87 : decode cX4_keeps 87 = .ok (.aload_n 0, 1) := dk_42 (dk_at dksX4_keeps_3 16 rfl rfl)
theorem dX4_keeps_88 : decode cX4_keeps 88 = .ok (.getfield 70, 3) := dk_180 0 70 (dk_at dksX4_keeps_3 17 rfl rfl)
theorem dX4_keeps_91 : decode cX4_keeps 91 = .ok (.iconst 1, 1) := dk_4 (dk_at dksX4_keeps_3 20 rfl rfl)
theorem dX4_keeps_92 : decode cX4_keeps 92 = .ok (.iadd, 1) := dk_96 (dk_at dksX4_keeps_3 21 rfl rfl)
theorem dX4_keeps_93 : decode cX4_keeps 93 = .ok (.putfield 70, 3) := dk_181 0 70 (dk_at dksX4_keeps_4 0 rfl rfl)
theorem dX4_keeps_96 : decode cX4_keeps 96 = .ok (.return_, 1) := dk_177 (dk_at dksX4_keeps_4 3 rfl rfl)
abbrev cX4_apply : ByteArray := prog_21_method_40_code
def yX4_apply : MethodName := ⟨RX4, "apply", "(II)I"⟩
def dkwX4_apply_8 : List UInt8 := [42, 29, 182, 0, 173, 172]
abbrev dktX4_apply_8 : List UInt8 := dkwX4_apply_8 ++ []
def dkwX4_apply_7 : List UInt8 := [180, 0, 16, 42, 29, 8, 182, 0, 94, 2, 79, 42, 180, 0, 16, 42, 29, 16, 6, 182, 0, 94, 3, 79]
abbrev dktX4_apply_7 : List UInt8 := dkwX4_apply_7 ++ dktX4_apply_8
def dkwX4_apply_6 : List UInt8 := [182, 0, 94, 42, 180, 0, 16, 3, 46, 79, 42, 180, 0, 16, 42, 29, 7, 182, 0, 94, 2, 79, 42]
abbrev dktX4_apply_6 : List UInt8 := dkwX4_apply_6 ++ dktX4_apply_7
def dkwX4_apply_5 : List UInt8 := [182, 0, 94, 28, 79, 42, 180, 0, 16, 42, 29, 5, 182, 0, 94, 3, 79, 42, 180, 0, 16, 42, 29, 6]
abbrev dktX4_apply_5 : List UInt8 := dkwX4_apply_5 ++ dktX4_apply_6
def dkwX4_apply_4 : List UInt8 := [29, 4, 96, 79, 42, 180, 0, 16, 42, 29, 3, 182, 0, 94, 27, 79, 42, 180, 0, 16, 42, 29, 4]
abbrev dktX4_apply_4 : List UInt8 := dkwX4_apply_4 ++ dktX4_apply_5
def dkwX4_apply_3 : List UInt8 := [182, 0, 163, 154, 0, 5, 3, 172, 42, 182, 0, 148, 42, 180, 0, 16, 4, 46, 62, 42, 180, 0, 16, 4]
abbrev dktX4_apply_3 : List UInt8 := dkwX4_apply_3 ++ dktX4_apply_4
def dkwX4_apply_2 : List UInt8 := [182, 0, 170, 2, 160, 0, 18, 42, 180, 0, 16, 4, 46, 16, 60, 162, 0, 7, 4, 167, 0, 4, 3, 6]
abbrev dktX4_apply_2 : List UInt8 := dkwX4_apply_2 ++ dktX4_apply_3
def dkwX4_apply_1 : List UInt8 := [3, 172, 42, 42, 27, 182, 0, 167, 42, 180, 0, 7, 16, 79, 27, 96, 46, 162, 0, 27, 42, 28]
abbrev dktX4_apply_1 : List UInt8 := dkwX4_apply_1 ++ dktX4_apply_2
def dkwX4_apply_0 : List UInt8 := [42, 42, 27, 182, 0, 157, 182, 0, 90, 153, 0, 15, 42, 28, 184, 0, 160, 5, 182, 0, 163, 154, 0, 5]
abbrev dktX4_apply_0 : List UInt8 := dkwX4_apply_0 ++ dktX4_apply_1
theorem dksX4_apply_0 : cX4_apply.data.toList.drop 0 = dktX4_apply_0 := by decide +kernel
theorem dksX4_apply_1 : cX4_apply.data.toList.drop 24 = dktX4_apply_1 := dk_seg dksX4_apply_0 24 rfl rfl
theorem dksX4_apply_2 : cX4_apply.data.toList.drop 46 = dktX4_apply_2 := dk_seg dksX4_apply_1 22 rfl rfl
theorem dksX4_apply_3 : cX4_apply.data.toList.drop 70 = dktX4_apply_3 := dk_seg dksX4_apply_2 24 rfl rfl
theorem dksX4_apply_4 : cX4_apply.data.toList.drop 94 = dktX4_apply_4 := dk_seg dksX4_apply_3 24 rfl rfl
theorem dksX4_apply_5 : cX4_apply.data.toList.drop 117 = dktX4_apply_5 := dk_seg dksX4_apply_4 23 rfl rfl
theorem dksX4_apply_6 : cX4_apply.data.toList.drop 141 = dktX4_apply_6 := dk_seg dksX4_apply_5 24 rfl rfl
theorem dksX4_apply_7 : cX4_apply.data.toList.drop 164 = dktX4_apply_7 := dk_seg dksX4_apply_6 23 rfl rfl
theorem dksX4_apply_8 : cX4_apply.data.toList.drop 188 = dktX4_apply_8 := dk_seg dksX4_apply_7 24 rfl rfl
theorem dX4_apply_0 : decode cX4_apply 0 = .ok (.aload_n 0, 1) := dk_42 (dk_at dksX4_apply_0 0 rfl rfl)
theorem dX4_apply_1 : decode cX4_apply 1 = .ok (.aload_n 0, 1) := dk_42 (dk_at dksX4_apply_0 1 rfl rfl)
theorem dX4_apply_2 : decode cX4_apply 2 = .ok (.iload_n 1, 1) := dk_27 (dk_at dksX4_apply_0 2 rfl rfl)
theorem dX4_apply_3 : decode cX4_apply 3 = .ok (.invokevirtual 157, 3) := dk_182 0 157 (dk_at dksX4_apply_0 3 rfl rfl)
theorem dX4_apply_6 : decode cX4_apply 6 = .ok (.invokevirtual 90, 3) := dk_182 0 90 (dk_at dksX4_apply_0 6 rfl rfl)
theorem dX4_apply_9 : decode cX4_apply 9 = .ok (.ifCond .eq 15, 3) := dk_153 0 15 (dk_at dksX4_apply_0 9 rfl rfl)
theorem dX4_apply_12 : decode cX4_apply 12 = .ok (.aload_n 0, 1) := dk_42 (dk_at dksX4_apply_0 12 rfl rfl)
theorem dX4_apply_13 : decode cX4_apply 13 = .ok (.iload_n 2, 1) := dk_28 (dk_at dksX4_apply_0 13 rfl rfl)
theorem dX4_apply_14 : decode cX4_apply 14 = .ok (.invokestatic 160, 3) := dk_184 0 160 (dk_at dksX4_apply_0 14 rfl rfl)
theorem dX4_apply_17 : decode cX4_apply 17 = .ok (.iconst 2, 1) := dk_5 (dk_at dksX4_apply_0 17 rfl rfl)
theorem dX4_apply_18 : decode cX4_apply 18 = .ok (.invokevirtual 163, 3) := dk_182 0 163 (dk_at dksX4_apply_0 18 rfl rfl)
theorem dX4_apply_21 : decode cX4_apply 21 = .ok (.ifCond .ne 5, 3) := dk_154 0 5 (dk_at dksX4_apply_0 21 rfl rfl)
theorem dX4_apply_24 : decode cX4_apply 24 = .ok (.iconst 0, 1) := dk_3 (dk_at dksX4_apply_1 0 rfl rfl)
theorem dX4_apply_25 : decode cX4_apply 25 = .ok (.ireturn, 1) := dk_172 (dk_at dksX4_apply_1 1 rfl rfl)
theorem dX4_apply_26 : decode cX4_apply 26 = .ok (.aload_n 0, 1) := dk_42 (dk_at dksX4_apply_1 2 rfl rfl)
theorem dX4_apply_27 : decode cX4_apply 27 = .ok (.aload_n 0, 1) := dk_42 (dk_at dksX4_apply_1 3 rfl rfl)
theorem dX4_apply_28 : decode cX4_apply 28 = .ok (.iload_n 1, 1) := dk_27 (dk_at dksX4_apply_1 4 rfl rfl)
theorem dX4_apply_29 : decode cX4_apply 29 = .ok (.invokevirtual 167, 3) := dk_182 0 167 (dk_at dksX4_apply_1 5 rfl rfl)
theorem dX4_apply_32 : decode cX4_apply 32 = .ok (.aload_n 0, 1) := dk_42 (dk_at dksX4_apply_1 8 rfl rfl)
theorem dX4_apply_33 : decode cX4_apply 33 = .ok (.getfield 7, 3) := dk_180 0 7 (dk_at dksX4_apply_1 9 rfl rfl)
theorem dX4_apply_36 : decode cX4_apply 36 = .ok (.bipush 79, 2) := dk_16 79 (dk_at dksX4_apply_1 12 rfl rfl)
theorem dX4_apply_38 : decode cX4_apply 38 = .ok (.iload_n 1, 1) := dk_27 (dk_at dksX4_apply_1 14 rfl rfl)
theorem dX4_apply_39 : decode cX4_apply 39 = .ok (.iadd, 1) := dk_96 (dk_at dksX4_apply_1 15 rfl rfl)
theorem dX4_apply_40 : decode cX4_apply 40 = .ok (.iaload, 1) := dk_46 (dk_at dksX4_apply_1 16 rfl rfl)
theorem dX4_apply_41 : decode cX4_apply 41 = .ok (.if_icmp .ge 27, 3) := dk_162 0 27 (dk_at dksX4_apply_1 17 rfl rfl)
theorem dX4_apply_44 : decode cX4_apply 44 = .ok (.aload_n 0, 1) := dk_42 (dk_at dksX4_apply_1 20 rfl rfl)
theorem dX4_apply_45 : decode cX4_apply 45 = .ok (.iload_n 2, 1) := dk_28 (dk_at dksX4_apply_1 21 rfl rfl)
theorem dX4_apply_46 : decode cX4_apply 46 = .ok (.invokevirtual 170, 3) := dk_182 0 170 (dk_at dksX4_apply_2 0 rfl rfl)
theorem dX4_apply_49 : decode cX4_apply 49 = .ok (.iconst (-1), 1) := dk_2 (dk_at dksX4_apply_2 3 rfl rfl)
theorem dX4_apply_50 : decode cX4_apply 50 = .ok (.if_icmp .ne 18, 3) := dk_160 0 18 (dk_at dksX4_apply_2 4 rfl rfl)
theorem dX4_apply_53 : decode cX4_apply 53 = .ok (.aload_n 0, 1) := dk_42 (dk_at dksX4_apply_2 7 rfl rfl)
theorem dX4_apply_54 : decode cX4_apply 54 = .ok (.getfield 16, 3) := dk_180 0 16 (dk_at dksX4_apply_2 8 rfl rfl)
theorem dX4_apply_57 : decode cX4_apply 57 = .ok (.iconst 1, 1) := dk_4 (dk_at dksX4_apply_2 11 rfl rfl)
theorem dX4_apply_58 : decode cX4_apply 58 = .ok (.iaload, 1) := dk_46 (dk_at dksX4_apply_2 12 rfl rfl)
theorem dX4_apply_59 : decode cX4_apply 59 = .ok (.bipush 60, 2) := dk_16 60 (dk_at dksX4_apply_2 13 rfl rfl)
theorem dX4_apply_61 : decode cX4_apply 61 = .ok (.if_icmp .ge 7, 3) := dk_162 0 7 (dk_at dksX4_apply_2 15 rfl rfl)
theorem dX4_apply_64 : decode cX4_apply 64 = .ok (.iconst 1, 1) := dk_4 (dk_at dksX4_apply_2 18 rfl rfl)
theorem dX4_apply_65 : decode cX4_apply 65 = .ok (.goto 4, 3) := dk_167 0 4 (dk_at dksX4_apply_2 19 rfl rfl)
theorem dX4_apply_68 : decode cX4_apply 68 = .ok (.iconst 0, 1) := dk_3 (dk_at dksX4_apply_2 22 rfl rfl)
theorem dX4_apply_69 : decode cX4_apply 69 = .ok (.iconst 3, 1) := dk_6 (dk_at dksX4_apply_2 23 rfl rfl)
theorem dX4_apply_70 : decode cX4_apply 70 = .ok (.invokevirtual 163, 3) := dk_182 0 163 (dk_at dksX4_apply_3 0 rfl rfl)
theorem dX4_apply_73 : decode cX4_apply 73 = .ok (.ifCond .ne 5, 3) := dk_154 0 5 (dk_at dksX4_apply_3 3 rfl rfl)
theorem dX4_apply_76 : decode cX4_apply 76 = .ok (.iconst 0, 1) := dk_3 (dk_at dksX4_apply_3 6 rfl rfl)
theorem dX4_apply_77 : decode cX4_apply 77 = .ok (.ireturn, 1) := dk_172 (dk_at dksX4_apply_3 7 rfl rfl)
theorem dX4_apply_78 : decode cX4_apply 78 = .ok (.aload_n 0, 1) := dk_42 (dk_at dksX4_apply_3 8 rfl rfl)
theorem dX4_apply_79 : decode cX4_apply 79 = .ok (.invokevirtual 148, 3) := dk_182 0 148 (dk_at dksX4_apply_3 9 rfl rfl)
theorem dX4_apply_82 : decode cX4_apply 82 = .ok (.aload_n 0, 1) := dk_42 (dk_at dksX4_apply_3 12 rfl rfl)
theorem dX4_apply_83 : decode cX4_apply 83 = .ok (.getfield 16, 3) := dk_180 0 16 (dk_at dksX4_apply_3 13 rfl rfl)
theorem dX4_apply_86 : decode cX4_apply 86 = .ok (.iconst 1, 1) := dk_4 (dk_at dksX4_apply_3 16 rfl rfl)
theorem dX4_apply_87 : decode cX4_apply 87 = .ok (.iaload, 1) := dk_46 (dk_at dksX4_apply_3 17 rfl rfl)
theorem dX4_apply_88 : decode cX4_apply 88 = .ok (.istore_n 3, 1) := dk_62 (dk_at dksX4_apply_3 18 rfl rfl)
theorem dX4_apply_89 : decode cX4_apply 89 = .ok (.aload_n 0, 1) := dk_42 (dk_at dksX4_apply_3 19 rfl rfl)
theorem dX4_apply_90 : decode cX4_apply 90 = .ok (.getfield 16, 3) := dk_180 0 16 (dk_at dksX4_apply_3 20 rfl rfl)
theorem dX4_apply_93 : decode cX4_apply 93 = .ok (.iconst 1, 1) := dk_4 (dk_at dksX4_apply_3 23 rfl rfl)
theorem dX4_apply_94 : decode cX4_apply 94 = .ok (.iload_n 3, 1) := dk_29 (dk_at dksX4_apply_4 0 rfl rfl)
theorem dX4_apply_95 : decode cX4_apply 95 = .ok (.iconst 1, 1) := dk_4 (dk_at dksX4_apply_4 1 rfl rfl)
theorem dX4_apply_96 : decode cX4_apply 96 = .ok (.iadd, 1) := dk_96 (dk_at dksX4_apply_4 2 rfl rfl)
theorem dX4_apply_97 : decode cX4_apply 97 = .ok (.iastore, 1) := dk_79 (dk_at dksX4_apply_4 3 rfl rfl)
theorem dX4_apply_98 : decode cX4_apply 98 = .ok (.aload_n 0, 1) := dk_42 (dk_at dksX4_apply_4 4 rfl rfl)
theorem dX4_apply_99 : decode cX4_apply 99 = .ok (.getfield 16, 3) := dk_180 0 16 (dk_at dksX4_apply_4 5 rfl rfl)
theorem dX4_apply_102 : decode cX4_apply 102 = .ok (.aload_n 0, 1) := dk_42 (dk_at dksX4_apply_4 8 rfl rfl)
theorem dX4_apply_103 : decode cX4_apply 103 = .ok (.iload_n 3, 1) := dk_29 (dk_at dksX4_apply_4 9 rfl rfl)
theorem dX4_apply_104 : decode cX4_apply 104 = .ok (.iconst 0, 1) := dk_3 (dk_at dksX4_apply_4 10 rfl rfl)
theorem dX4_apply_105 : decode cX4_apply 105 = .ok (.invokevirtual 94, 3) := dk_182 0 94 (dk_at dksX4_apply_4 11 rfl rfl)
theorem dX4_apply_108 : decode cX4_apply 108 = .ok (.iload_n 1, 1) := dk_27 (dk_at dksX4_apply_4 14 rfl rfl)
theorem dX4_apply_109 : decode cX4_apply 109 = .ok (.iastore, 1) := dk_79 (dk_at dksX4_apply_4 15 rfl rfl)
theorem dX4_apply_110 : decode cX4_apply 110 = .ok (.aload_n 0, 1) := dk_42 (dk_at dksX4_apply_4 16 rfl rfl)
theorem dX4_apply_111 : decode cX4_apply 111 = .ok (.getfield 16, 3) := dk_180 0 16 (dk_at dksX4_apply_4 17 rfl rfl)
theorem dX4_apply_114 : decode cX4_apply 114 = .ok (.aload_n 0, 1) := dk_42 (dk_at dksX4_apply_4 20 rfl rfl)
theorem dX4_apply_115 : decode cX4_apply 115 = .ok (.iload_n 3, 1) := dk_29 (dk_at dksX4_apply_4 21 rfl rfl)
theorem dX4_apply_116 : decode cX4_apply 116 = .ok (.iconst 1, 1) := dk_4 (dk_at dksX4_apply_4 22 rfl rfl)
theorem dX4_apply_117 : decode cX4_apply 117 = .ok (.invokevirtual 94, 3) := dk_182 0 94 (dk_at dksX4_apply_5 0 rfl rfl)
theorem dX4_apply_120 : decode cX4_apply 120 = .ok (.iload_n 2, 1) := dk_28 (dk_at dksX4_apply_5 3 rfl rfl)
theorem dX4_apply_121 : decode cX4_apply 121 = .ok (.iastore, 1) := dk_79 (dk_at dksX4_apply_5 4 rfl rfl)
theorem dX4_apply_122 : decode cX4_apply 122 = .ok (.aload_n 0, 1) := dk_42 (dk_at dksX4_apply_5 5 rfl rfl)
theorem dX4_apply_123 : decode cX4_apply 123 = .ok (.getfield 16, 3) := dk_180 0 16 (dk_at dksX4_apply_5 6 rfl rfl)
theorem dX4_apply_126 : decode cX4_apply 126 = .ok (.aload_n 0, 1) := dk_42 (dk_at dksX4_apply_5 9 rfl rfl)
theorem dX4_apply_127 : decode cX4_apply 127 = .ok (.iload_n 3, 1) := dk_29 (dk_at dksX4_apply_5 10 rfl rfl)
theorem dX4_apply_128 : decode cX4_apply 128 = .ok (.iconst 2, 1) := dk_5 (dk_at dksX4_apply_5 11 rfl rfl)
theorem dX4_apply_129 : decode cX4_apply 129 = .ok (.invokevirtual 94, 3) := dk_182 0 94 (dk_at dksX4_apply_5 12 rfl rfl)
theorem dX4_apply_132 : decode cX4_apply 132 = .ok (.iconst 0, 1) := dk_3 (dk_at dksX4_apply_5 15 rfl rfl)
theorem dX4_apply_133 : decode cX4_apply 133 = .ok (.iastore, 1) := dk_79 (dk_at dksX4_apply_5 16 rfl rfl)
theorem dX4_apply_134 : decode cX4_apply 134 = .ok (.aload_n 0, 1) := dk_42 (dk_at dksX4_apply_5 17 rfl rfl)
theorem dX4_apply_135 : decode cX4_apply 135 = .ok (.getfield 16, 3) := dk_180 0 16 (dk_at dksX4_apply_5 18 rfl rfl)
theorem dX4_apply_138 : decode cX4_apply 138 = .ok (.aload_n 0, 1) := dk_42 (dk_at dksX4_apply_5 21 rfl rfl)
theorem dX4_apply_139 : decode cX4_apply 139 = .ok (.iload_n 3, 1) := dk_29 (dk_at dksX4_apply_5 22 rfl rfl)
theorem dX4_apply_140 : decode cX4_apply 140 = .ok (.iconst 3, 1) := dk_6 (dk_at dksX4_apply_5 23 rfl rfl)
theorem dX4_apply_141 : decode cX4_apply 141 = .ok (.invokevirtual 94, 3) := dk_182 0 94 (dk_at dksX4_apply_6 0 rfl rfl)
theorem dX4_apply_144 : decode cX4_apply 144 = .ok (.aload_n 0, 1) := dk_42 (dk_at dksX4_apply_6 3 rfl rfl)
theorem dX4_apply_145 : decode cX4_apply 145 = .ok (.getfield 16, 3) := dk_180 0 16 (dk_at dksX4_apply_6 4 rfl rfl)
theorem dX4_apply_148 : decode cX4_apply 148 = .ok (.iconst 0, 1) := dk_3 (dk_at dksX4_apply_6 7 rfl rfl)
theorem dX4_apply_149 : decode cX4_apply 149 = .ok (.iaload, 1) := dk_46 (dk_at dksX4_apply_6 8 rfl rfl)
theorem dX4_apply_150 : decode cX4_apply 150 = .ok (.iastore, 1) := dk_79 (dk_at dksX4_apply_6 9 rfl rfl)
theorem dX4_apply_151 : decode cX4_apply 151 = .ok (.aload_n 0, 1) := dk_42 (dk_at dksX4_apply_6 10 rfl rfl)
theorem dX4_apply_152 : decode cX4_apply 152 = .ok (.getfield 16, 3) := dk_180 0 16 (dk_at dksX4_apply_6 11 rfl rfl)
theorem dX4_apply_155 : decode cX4_apply 155 = .ok (.aload_n 0, 1) := dk_42 (dk_at dksX4_apply_6 14 rfl rfl)
theorem dX4_apply_156 : decode cX4_apply 156 = .ok (.iload_n 3, 1) := dk_29 (dk_at dksX4_apply_6 15 rfl rfl)
theorem dX4_apply_157 : decode cX4_apply 157 = .ok (.iconst 4, 1) := dk_7 (dk_at dksX4_apply_6 16 rfl rfl)
theorem dX4_apply_158 : decode cX4_apply 158 = .ok (.invokevirtual 94, 3) := dk_182 0 94 (dk_at dksX4_apply_6 17 rfl rfl)
theorem dX4_apply_161 : decode cX4_apply 161 = .ok (.iconst (-1), 1) := dk_2 (dk_at dksX4_apply_6 20 rfl rfl)
theorem dX4_apply_162 : decode cX4_apply 162 = .ok (.iastore, 1) := dk_79 (dk_at dksX4_apply_6 21 rfl rfl)
theorem dX4_apply_163 : decode cX4_apply 163 = .ok (.aload_n 0, 1) := dk_42 (dk_at dksX4_apply_6 22 rfl rfl)
theorem dX4_apply_164 : decode cX4_apply 164 = .ok (.getfield 16, 3) := dk_180 0 16 (dk_at dksX4_apply_7 0 rfl rfl)
theorem dX4_apply_167 : decode cX4_apply 167 = .ok (.aload_n 0, 1) := dk_42 (dk_at dksX4_apply_7 3 rfl rfl)
theorem dX4_apply_168 : decode cX4_apply 168 = .ok (.iload_n 3, 1) := dk_29 (dk_at dksX4_apply_7 4 rfl rfl)
theorem dX4_apply_169 : decode cX4_apply 169 = .ok (.iconst 5, 1) := dk_8 (dk_at dksX4_apply_7 5 rfl rfl)
theorem dX4_apply_170 : decode cX4_apply 170 = .ok (.invokevirtual 94, 3) := dk_182 0 94 (dk_at dksX4_apply_7 6 rfl rfl)
theorem dX4_apply_173 : decode cX4_apply 173 = .ok (.iconst (-1), 1) := dk_2 (dk_at dksX4_apply_7 9 rfl rfl)
theorem dX4_apply_174 : decode cX4_apply 174 = .ok (.iastore, 1) := dk_79 (dk_at dksX4_apply_7 10 rfl rfl)
theorem dX4_apply_175 : decode cX4_apply 175 = .ok (.aload_n 0, 1) := dk_42 (dk_at dksX4_apply_7 11 rfl rfl)
theorem dX4_apply_176 : decode cX4_apply 176 = .ok (.getfield 16, 3) := dk_180 0 16 (dk_at dksX4_apply_7 12 rfl rfl)
theorem dX4_apply_179 : decode cX4_apply 179 = .ok (.aload_n 0, 1) := dk_42 (dk_at dksX4_apply_7 15 rfl rfl)
theorem dX4_apply_180 : decode cX4_apply 180 = .ok (.iload_n 3, 1) := dk_29 (dk_at dksX4_apply_7 16 rfl rfl)
theorem dX4_apply_181 : decode cX4_apply 181 = .ok (.bipush 6, 2) := dk_16 6 (dk_at dksX4_apply_7 17 rfl rfl)
theorem dX4_apply_183 : decode cX4_apply 183 = .ok (.invokevirtual 94, 3) := dk_182 0 94 (dk_at dksX4_apply_7 19 rfl rfl)
theorem dX4_apply_186 : decode cX4_apply 186 = .ok (.iconst 0, 1) := dk_3 (dk_at dksX4_apply_7 22 rfl rfl)
theorem dX4_apply_187 : decode cX4_apply 187 = .ok (.iastore, 1) := dk_79 (dk_at dksX4_apply_7 23 rfl rfl)
theorem dX4_apply_188 : decode cX4_apply 188 = .ok (.aload_n 0, 1) := dk_42 (dk_at dksX4_apply_8 0 rfl rfl)
theorem dX4_apply_189 : decode cX4_apply 189 = .ok (.iload_n 3, 1) := dk_29 (dk_at dksX4_apply_8 1 rfl rfl)
theorem dX4_apply_190 : decode cX4_apply 190 = .ok (.invokevirtual 173, 3) := dk_182 0 173 (dk_at dksX4_apply_8 2 rfl rfl)
theorem dX4_apply_193 : decode cX4_apply 193 = .ok (.ireturn, 1) := dk_172 (dk_at dksX4_apply_8 5 rfl rfl)
abbrev cX4_isHouse : ByteArray := prog_21_method_35_code
def yX4_isHouse : MethodName := ⟨RX4, "isHouse", "(I)Z"⟩
def dkwX4_isHouse_0 : List UInt8 := [27, 133, 9, 42, 180, 0, 7, 5, 46, 4, 100, 133, 184, 0, 144, 172]
abbrev dktX4_isHouse_0 : List UInt8 := dkwX4_isHouse_0 ++ []
theorem dksX4_isHouse_0 : cX4_isHouse.data.toList.drop 0 = dktX4_isHouse_0 := by decide +kernel
theorem dX4_isHouse_0 : decode cX4_isHouse 0 = .ok (.iload_n 1, 1) := dk_27 (dk_at dksX4_isHouse_0 0 rfl rfl)
theorem dX4_isHouse_1 : decode cX4_isHouse 1 = .ok (.i2l, 1) := dk_133 (dk_at dksX4_isHouse_0 1 rfl rfl)
theorem dX4_isHouse_2 : decode cX4_isHouse 2 = .ok (.lconst 0, 1) := dk_9 (dk_at dksX4_isHouse_0 2 rfl rfl)
theorem dX4_isHouse_3 : decode cX4_isHouse 3 = .ok (.aload_n 0, 1) := dk_42 (dk_at dksX4_isHouse_0 3 rfl rfl)
theorem dX4_isHouse_4 : decode cX4_isHouse 4 = .ok (.getfield 7, 3) := dk_180 0 7 (dk_at dksX4_isHouse_0 4 rfl rfl)
theorem dX4_isHouse_7 : decode cX4_isHouse 7 = .ok (.iconst 2, 1) := dk_5 (dk_at dksX4_isHouse_0 7 rfl rfl)
theorem dX4_isHouse_8 : decode cX4_isHouse 8 = .ok (.iaload, 1) := dk_46 (dk_at dksX4_isHouse_0 8 rfl rfl)
theorem dX4_isHouse_9 : decode cX4_isHouse 9 = .ok (.iconst 1, 1) := dk_4 (dk_at dksX4_isHouse_0 9 rfl rfl)
theorem dX4_isHouse_10 : decode cX4_isHouse 10 = .ok (.isub, 1) := dk_100 (dk_at dksX4_isHouse_0 10 rfl rfl)
theorem dX4_isHouse_11 : decode cX4_isHouse 11 = .ok (.i2l, 1) := dk_133 (dk_at dksX4_isHouse_0 11 rfl rfl)
theorem dX4_isHouse_12 : decode cX4_isHouse 12 = .ok (.invokestatic 144, 3) := dk_184 0 144 (dk_at dksX4_isHouse_0 12 rfl rfl)
theorem dX4_isHouse_15 : decode cX4_isHouse 15 = .ok (.ireturn, 1) := dk_172 (dk_at dksX4_isHouse_0 15 rfl rfl)
abbrev cX4_isPlate : ByteArray := prog_21_method_38_code
def yX4_isPlate : MethodName := ⟨RX4, "isPlate", "(I)Z"⟩
def dkwX4_isPlate_0 : List UInt8 := [26, 133, 10, 20, 0, 155, 184, 0, 144, 172]
abbrev dktX4_isPlate_0 : List UInt8 := dkwX4_isPlate_0 ++ []
theorem dksX4_isPlate_0 : cX4_isPlate.data.toList.drop 0 = dktX4_isPlate_0 := by decide +kernel
theorem dX4_isPlate_0 : decode cX4_isPlate 0 = .ok (.iload_n 0, 1) := dk_26 (dk_at dksX4_isPlate_0 0 rfl rfl)
theorem dX4_isPlate_1 : decode cX4_isPlate 1 = .ok (.i2l, 1) := dk_133 (dk_at dksX4_isPlate_0 1 rfl rfl)
theorem dX4_isPlate_2 : decode cX4_isPlate 2 = .ok (.lconst 1, 1) := dk_10 (dk_at dksX4_isPlate_0 2 rfl rfl)
theorem dX4_isPlate_3 : decode cX4_isPlate 3 = .ok (.ldc2_w 155, 3) := dk_20 0 155 (dk_at dksX4_isPlate_0 3 rfl rfl)
theorem dX4_isPlate_6 : decode cX4_isPlate 6 = .ok (.invokestatic 144, 3) := dk_184 0 144 (dk_at dksX4_isPlate_0 6 rfl rfl)
theorem dX4_isPlate_9 : decode cX4_isPlate 9 = .ok (.ireturn, 1) := dk_172 (dk_at dksX4_isPlate_0 9 rfl rfl)
abbrev cX4_may : ByteArray := prog_21_method_7_code
def yX4_may : MethodName := ⟨RX4, "may", "(ZI)Z"⟩
def dkwX4_may_0 : List UInt8 := [42, 27, 153, 0, 7, 3, 167, 0, 4, 28, 181, 0, 77, 27, 172]
abbrev dktX4_may_0 : List UInt8 := dkwX4_may_0 ++ []
theorem dksX4_may_0 : cX4_may.data.toList.drop 0 = dktX4_may_0 := by decide +kernel
theorem dX4_may_0 : decode cX4_may 0 = .ok (.aload_n 0, 1) := dk_42 (dk_at dksX4_may_0 0 rfl rfl)
theorem dX4_may_1 : decode cX4_may 1 = .ok (.iload_n 1, 1) := dk_27 (dk_at dksX4_may_0 1 rfl rfl)
theorem dX4_may_2 : decode cX4_may 2 = .ok (.ifCond .eq 7, 3) := dk_153 0 7 (dk_at dksX4_may_0 2 rfl rfl)
theorem dX4_may_5 : decode cX4_may 5 = .ok (.iconst 0, 1) := dk_3 (dk_at dksX4_may_0 5 rfl rfl)
theorem dX4_may_6 : decode cX4_may 6 = .ok (.goto 4, 3) := dk_167 0 4 (dk_at dksX4_may_0 6 rfl rfl)
theorem dX4_may_9 : decode cX4_may 9 = .ok (.iload_n 2, 1) := dk_28 (dk_at dksX4_may_0 9 rfl rfl)
theorem dX4_may_10 : decode cX4_may 10 = .ok (.putfield 77, 3) := dk_181 0 77 (dk_at dksX4_may_0 10 rfl rfl)
theorem dX4_may_13 : decode cX4_may 13 = .ok (.iload_n 1, 1) := dk_27 (dk_at dksX4_may_0 13 rfl rfl)
theorem dX4_may_14 : decode cX4_may 14 = .ok (.ireturn, 1) := dk_172 (dk_at dksX4_may_0 14 rfl rfl)
abbrev cX4_activeOfHouse : ByteArray := prog_21_method_25_code
def yX4_activeOfHouse : MethodName := ⟨RX4, "activeOfHouse", "(I)I"⟩
def dkwX4_activeOfHouse_1 : List UInt8 := [42, 29, 182, 0, 114, 153, 0, 7, 28, 4, 96, 61, 132, 3, 1, 167, 255, 221, 28, 172]
abbrev dktX4_activeOfHouse_1 : List UInt8 := dkwX4_activeOfHouse_1 ++ []
def dkwX4_activeOfHouse_0 : List UInt8 := [3, 61, 3, 62, 29, 42, 180, 0, 16, 4, 46, 162, 0, 31, 42, 29, 3, 182, 0, 102, 27, 160, 0, 15]
abbrev dktX4_activeOfHouse_0 : List UInt8 := dkwX4_activeOfHouse_0 ++ dktX4_activeOfHouse_1
theorem dksX4_activeOfHouse_0 : cX4_activeOfHouse.data.toList.drop 0 = dktX4_activeOfHouse_0 := by decide +kernel
theorem dksX4_activeOfHouse_1 : cX4_activeOfHouse.data.toList.drop 24 = dktX4_activeOfHouse_1 := dk_seg dksX4_activeOfHouse_0 24 rfl rfl
theorem dX4_activeOfHouse_0 : decode cX4_activeOfHouse 0 = .ok (.iconst 0, 1) := dk_3 (dk_at dksX4_activeOfHouse_0 0 rfl rfl)
theorem dX4_activeOfHouse_1 : decode cX4_activeOfHouse 1 = .ok (.istore_n 2, 1) := dk_61 (dk_at dksX4_activeOfHouse_0 1 rfl rfl)
theorem dX4_activeOfHouse_2 : decode cX4_activeOfHouse 2 = .ok (.iconst 0, 1) := dk_3 (dk_at dksX4_activeOfHouse_0 2 rfl rfl)
theorem dX4_activeOfHouse_3 : decode cX4_activeOfHouse 3 = .ok (.istore_n 3, 1) := dk_62 (dk_at dksX4_activeOfHouse_0 3 rfl rfl)
theorem dX4_activeOfHouse_4 : decode cX4_activeOfHouse 4 = .ok (.iload_n 3, 1) := dk_29 (dk_at dksX4_activeOfHouse_0 4 rfl rfl)
theorem dX4_activeOfHouse_5 : decode cX4_activeOfHouse 5 = .ok (.aload_n 0, 1) := dk_42 (dk_at dksX4_activeOfHouse_0 5 rfl rfl)
theorem dX4_activeOfHouse_6 : decode cX4_activeOfHouse 6 = .ok (.getfield 16, 3) := dk_180 0 16 (dk_at dksX4_activeOfHouse_0 6 rfl rfl)
theorem dX4_activeOfHouse_9 : decode cX4_activeOfHouse 9 = .ok (.iconst 1, 1) := dk_4 (dk_at dksX4_activeOfHouse_0 9 rfl rfl)
theorem dX4_activeOfHouse_10 : decode cX4_activeOfHouse 10 = .ok (.iaload, 1) := dk_46 (dk_at dksX4_activeOfHouse_0 10 rfl rfl)
theorem dX4_activeOfHouse_11 : decode cX4_activeOfHouse 11 = .ok (.if_icmp .ge 31, 3) := dk_162 0 31 (dk_at dksX4_activeOfHouse_0 11 rfl rfl)
theorem dX4_activeOfHouse_14 : decode cX4_activeOfHouse 14 = .ok (.aload_n 0, 1) := dk_42 (dk_at dksX4_activeOfHouse_0 14 rfl rfl)
theorem dX4_activeOfHouse_15 : decode cX4_activeOfHouse 15 = .ok (.iload_n 3, 1) := dk_29 (dk_at dksX4_activeOfHouse_0 15 rfl rfl)
theorem dX4_activeOfHouse_16 : decode cX4_activeOfHouse 16 = .ok (.iconst 0, 1) := dk_3 (dk_at dksX4_activeOfHouse_0 16 rfl rfl)
theorem dX4_activeOfHouse_17 : decode cX4_activeOfHouse 17 = .ok (.invokevirtual 102, 3) := dk_182 0 102 (dk_at dksX4_activeOfHouse_0 17 rfl rfl)
theorem dX4_activeOfHouse_20 : decode cX4_activeOfHouse 20 = .ok (.iload_n 1, 1) := dk_27 (dk_at dksX4_activeOfHouse_0 20 rfl rfl)
theorem dX4_activeOfHouse_21 : decode cX4_activeOfHouse 21 = .ok (.if_icmp .ne 15, 3) := dk_160 0 15 (dk_at dksX4_activeOfHouse_0 21 rfl rfl)
theorem dX4_activeOfHouse_24 : decode cX4_activeOfHouse 24 = .ok (.aload_n 0, 1) := dk_42 (dk_at dksX4_activeOfHouse_1 0 rfl rfl)
theorem dX4_activeOfHouse_25 : decode cX4_activeOfHouse 25 = .ok (.iload_n 3, 1) := dk_29 (dk_at dksX4_activeOfHouse_1 1 rfl rfl)
theorem dX4_activeOfHouse_26 : decode cX4_activeOfHouse 26 = .ok (.invokevirtual 114, 3) := dk_182 0 114 (dk_at dksX4_activeOfHouse_1 2 rfl rfl)
theorem dX4_activeOfHouse_29 : decode cX4_activeOfHouse 29 = .ok (.ifCond .eq 7, 3) := dk_153 0 7 (dk_at dksX4_activeOfHouse_1 5 rfl rfl)
theorem dX4_activeOfHouse_32 : decode cX4_activeOfHouse 32 = .ok (.iload_n 2, 1) := dk_28 (dk_at dksX4_activeOfHouse_1 8 rfl rfl)
theorem dX4_activeOfHouse_33 : decode cX4_activeOfHouse 33 = .ok (.iconst 1, 1) := dk_4 (dk_at dksX4_activeOfHouse_1 9 rfl rfl)
theorem dX4_activeOfHouse_34 : decode cX4_activeOfHouse 34 = .ok (.iadd, 1) := dk_96 (dk_at dksX4_activeOfHouse_1 10 rfl rfl)
theorem dX4_activeOfHouse_35 : decode cX4_activeOfHouse 35 = .ok (.istore_n 2, 1) := dk_61 (dk_at dksX4_activeOfHouse_1 11 rfl rfl)
theorem dX4_activeOfHouse_36 : decode cX4_activeOfHouse 36 = .ok (.iinc 3 1, 3) := dk_132 3 1 (dk_at dksX4_activeOfHouse_1 12 rfl rfl)
theorem dX4_activeOfHouse_39 : decode cX4_activeOfHouse 39 = .ok (.goto (-35), 3) := dk_167 255 221 (dk_at dksX4_activeOfHouse_1 15 rfl rfl)
theorem dX4_activeOfHouse_42 : decode cX4_activeOfHouse 42 = .ok (.iload_n 2, 1) := dk_28 (dk_at dksX4_activeOfHouse_1 18 rfl rfl)
theorem dX4_activeOfHouse_43 : decode cX4_activeOfHouse 43 = .ok (.ireturn, 1) := dk_172 (dk_at dksX4_activeOfHouse_1 19 rfl rfl)
abbrev cX4_isActive : ByteArray := prog_21_method_21_code
def yX4_isActive : MethodName := ⟨RX4, "isActive", "(I)Z"⟩
def dkwX4_isActive_0 : List UInt8 := [42, 27, 5, 182, 0, 102, 5, 163, 0, 7, 4, 167, 0, 4, 3, 172]
abbrev dktX4_isActive_0 : List UInt8 := dkwX4_isActive_0 ++ []
theorem dksX4_isActive_0 : cX4_isActive.data.toList.drop 0 = dktX4_isActive_0 := by decide +kernel
theorem dX4_isActive_0 : decode cX4_isActive 0 = .ok (.aload_n 0, 1) := dk_42 (dk_at dksX4_isActive_0 0 rfl rfl)
theorem dX4_isActive_1 : decode cX4_isActive 1 = .ok (.iload_n 1, 1) := dk_27 (dk_at dksX4_isActive_0 1 rfl rfl)
theorem dX4_isActive_2 : decode cX4_isActive 2 = .ok (.iconst 2, 1) := dk_5 (dk_at dksX4_isActive_0 2 rfl rfl)
theorem dX4_isActive_3 : decode cX4_isActive 3 = .ok (.invokevirtual 102, 3) := dk_182 0 102 (dk_at dksX4_isActive_0 3 rfl rfl)
theorem dX4_isActive_6 : decode cX4_isActive 6 = .ok (.iconst 2, 1) := dk_5 (dk_at dksX4_isActive_0 6 rfl rfl)
theorem dX4_isActive_7 : decode cX4_isActive 7 = .ok (.if_icmp .gt 7, 3) := dk_163 0 7 (dk_at dksX4_isActive_0 7 rfl rfl)
theorem dX4_isActive_10 : decode cX4_isActive 10 = .ok (.iconst 1, 1) := dk_4 (dk_at dksX4_isActive_0 10 rfl rfl)
theorem dX4_isActive_11 : decode cX4_isActive 11 = .ok (.goto 4, 3) := dk_167 0 4 (dk_at dksX4_isActive_0 11 rfl rfl)
theorem dX4_isActive_14 : decode cX4_isActive 14 = .ok (.iconst 0, 1) := dk_3 (dk_at dksX4_isActive_0 14 rfl rfl)
theorem dX4_isActive_15 : decode cX4_isActive 15 = .ok (.ireturn, 1) := dk_172 (dk_at dksX4_isActive_0 15 rfl rfl)
abbrev cX4_activeOf : ByteArray := prog_21_method_39_code
def yX4_activeOf : MethodName := ⟨RX4, "activeOf", "(I)I"⟩
def dkwX4_activeOf_1 : List UInt8 := [182, 0, 114, 153, 0, 5, 28, 172, 132, 2, 1, 167, 255, 223, 2, 172]
abbrev dktX4_activeOf_1 : List UInt8 := dkwX4_activeOf_1 ++ []
def dkwX4_activeOf_0 : List UInt8 := [3, 61, 28, 42, 180, 0, 16, 4, 46, 162, 0, 29, 42, 28, 4, 182, 0, 102, 27, 160, 0, 13, 42, 28]
abbrev dktX4_activeOf_0 : List UInt8 := dkwX4_activeOf_0 ++ dktX4_activeOf_1
theorem dksX4_activeOf_0 : cX4_activeOf.data.toList.drop 0 = dktX4_activeOf_0 := by decide +kernel
theorem dksX4_activeOf_1 : cX4_activeOf.data.toList.drop 24 = dktX4_activeOf_1 := dk_seg dksX4_activeOf_0 24 rfl rfl
theorem dX4_activeOf_0 : decode cX4_activeOf 0 = .ok (.iconst 0, 1) := dk_3 (dk_at dksX4_activeOf_0 0 rfl rfl)
theorem dX4_activeOf_1 : decode cX4_activeOf 1 = .ok (.istore_n 2, 1) := dk_61 (dk_at dksX4_activeOf_0 1 rfl rfl)
theorem dX4_activeOf_2 : decode cX4_activeOf 2 = .ok (.iload_n 2, 1) := dk_28 (dk_at dksX4_activeOf_0 2 rfl rfl)
theorem dX4_activeOf_3 : decode cX4_activeOf 3 = .ok (.aload_n 0, 1) := dk_42 (dk_at dksX4_activeOf_0 3 rfl rfl)
theorem dX4_activeOf_4 : decode cX4_activeOf 4 = .ok (.getfield 16, 3) := dk_180 0 16 (dk_at dksX4_activeOf_0 4 rfl rfl)
theorem dX4_activeOf_7 : decode cX4_activeOf 7 = .ok (.iconst 1, 1) := dk_4 (dk_at dksX4_activeOf_0 7 rfl rfl)
theorem dX4_activeOf_8 : decode cX4_activeOf 8 = .ok (.iaload, 1) := dk_46 (dk_at dksX4_activeOf_0 8 rfl rfl)
theorem dX4_activeOf_9 : decode cX4_activeOf 9 = .ok (.if_icmp .ge 29, 3) := dk_162 0 29 (dk_at dksX4_activeOf_0 9 rfl rfl)
theorem dX4_activeOf_12 : decode cX4_activeOf 12 = .ok (.aload_n 0, 1) := dk_42 (dk_at dksX4_activeOf_0 12 rfl rfl)
theorem dX4_activeOf_13 : decode cX4_activeOf 13 = .ok (.iload_n 2, 1) := dk_28 (dk_at dksX4_activeOf_0 13 rfl rfl)
theorem dX4_activeOf_14 : decode cX4_activeOf 14 = .ok (.iconst 1, 1) := dk_4 (dk_at dksX4_activeOf_0 14 rfl rfl)
theorem dX4_activeOf_15 : decode cX4_activeOf 15 = .ok (.invokevirtual 102, 3) := dk_182 0 102 (dk_at dksX4_activeOf_0 15 rfl rfl)
theorem dX4_activeOf_18 : decode cX4_activeOf 18 = .ok (.iload_n 1, 1) := dk_27 (dk_at dksX4_activeOf_0 18 rfl rfl)
theorem dX4_activeOf_19 : decode cX4_activeOf 19 = .ok (.if_icmp .ne 13, 3) := dk_160 0 13 (dk_at dksX4_activeOf_0 19 rfl rfl)
theorem dX4_activeOf_22 : decode cX4_activeOf 22 = .ok (.aload_n 0, 1) := dk_42 (dk_at dksX4_activeOf_0 22 rfl rfl)
theorem dX4_activeOf_23 : decode cX4_activeOf 23 = .ok (.iload_n 2, 1) := dk_28 (dk_at dksX4_activeOf_0 23 rfl rfl)
theorem dX4_activeOf_24 : decode cX4_activeOf 24 = .ok (.invokevirtual 114, 3) := dk_182 0 114 (dk_at dksX4_activeOf_1 0 rfl rfl)
theorem dX4_activeOf_27 : decode cX4_activeOf 27 = .ok (.ifCond .eq 5, 3) := dk_153 0 5 (dk_at dksX4_activeOf_1 3 rfl rfl)
theorem dX4_activeOf_30 : decode cX4_activeOf 30 = .ok (.iload_n 2, 1) := dk_28 (dk_at dksX4_activeOf_1 6 rfl rfl)
theorem dX4_activeOf_31 : decode cX4_activeOf 31 = .ok (.ireturn, 1) := dk_172 (dk_at dksX4_activeOf_1 7 rfl rfl)
theorem dX4_activeOf_32 : decode cX4_activeOf 32 = .ok (.iinc 2 1, 3) := dk_132 2 1 (dk_at dksX4_activeOf_1 8 rfl rfl)
theorem dX4_activeOf_35 : decode cX4_activeOf 35 = .ok (.goto (-33), 3) := dk_167 255 223 (dk_at dksX4_activeOf_1 11 rfl rfl)
theorem dX4_activeOf_38 : decode cX4_activeOf 38 = .ok (.iconst (-1), 1) := dk_2 (dk_at dksX4_activeOf_1 14 rfl rfl)
theorem dX4_activeOf_39 : decode cX4_activeOf 39 = .ok (.ireturn, 1) := dk_172 (dk_at dksX4_activeOf_1 15 rfl rfl)
abbrev cX4_done : ByteArray := prog_21_method_12_code
def yX4_done : MethodName := ⟨RX4, "done", "(I)I"⟩
def dkwX4_done_0 : List UInt8 := [42, 182, 0, 84, 42, 182, 0, 87, 27, 172]
abbrev dktX4_done_0 : List UInt8 := dkwX4_done_0 ++ []
theorem dksX4_done_0 : cX4_done.data.toList.drop 0 = dktX4_done_0 := by decide +kernel
theorem dX4_done_0 : decode cX4_done 0 = .ok (.aload_n 0, 1) := dk_42 (dk_at dksX4_done_0 0 rfl rfl)
theorem dX4_done_1 : decode cX4_done 1 = .ok (.invokevirtual 84, 3) := dk_182 0 84 (dk_at dksX4_done_0 1 rfl rfl)
theorem dX4_done_4 : decode cX4_done 4 = .ok (.aload_n 0, 1) := dk_42 (dk_at dksX4_done_0 4 rfl rfl)
theorem dX4_done_5 : decode cX4_done 5 = .ok (.invokevirtual 87, 3) := dk_182 0 87 (dk_at dksX4_done_0 5 rfl rfl)
theorem dX4_done_8 : decode cX4_done 8 = .ok (.iload_n 1, 1) := dk_27 (dk_at dksX4_done_0 8 rfl rfl)
theorem dX4_done_9 : decode cX4_done 9 = .ok (.ireturn, 1) := dk_172 (dk_at dksX4_done_0 9 rfl rfl)
abbrev cX4_accept : ByteArray := prog_21_method_41_code
def yX4_accept : MethodName := ⟨RX4, "accept", "(I)I"⟩
def dkwX4_accept_3 : List UInt8 := [42, 180, 0, 7, 16, 111, 46, 104, 96, 79, 42, 42, 27, 7, 182, 0, 102, 182, 0, 173, 172]
abbrev dktX4_accept_3 : List UInt8 := dkwX4_accept_3 ++ []
def dkwX4_accept_2 : List UInt8 := [182, 0, 94, 5, 79, 42, 180, 0, 16, 42, 27, 7, 182, 0, 94, 42, 180, 0, 16, 3, 46, 17, 5, 160]
abbrev dktX4_accept_2 : List UInt8 := dkwX4_accept_2 ++ dktX4_accept_3
def dkwX4_accept_1 : List UInt8 := [167, 0, 4, 3, 5, 182, 0, 163, 154, 0, 5, 3, 172, 42, 182, 0, 148, 42, 180, 0, 16, 42, 27, 5]
abbrev dktX4_accept_1 : List UInt8 := dkwX4_accept_1 ++ dktX4_accept_2
def dkwX4_accept_0 : List UInt8 := [42, 42, 27, 182, 0, 176, 182, 0, 90, 153, 0, 26, 42, 42, 27, 5, 182, 0, 102, 4, 160, 0, 7, 4]
abbrev dktX4_accept_0 : List UInt8 := dkwX4_accept_0 ++ dktX4_accept_1
theorem dksX4_accept_0 : cX4_accept.data.toList.drop 0 = dktX4_accept_0 := by decide +kernel
theorem dksX4_accept_1 : cX4_accept.data.toList.drop 24 = dktX4_accept_1 := dk_seg dksX4_accept_0 24 rfl rfl
theorem dksX4_accept_2 : cX4_accept.data.toList.drop 48 = dktX4_accept_2 := dk_seg dksX4_accept_1 24 rfl rfl
theorem dksX4_accept_3 : cX4_accept.data.toList.drop 72 = dktX4_accept_3 := dk_seg dksX4_accept_2 24 rfl rfl
theorem dX4_accept_0 : decode cX4_accept 0 = .ok (.aload_n 0, 1) := dk_42 (dk_at dksX4_accept_0 0 rfl rfl)
theorem dX4_accept_1 : decode cX4_accept 1 = .ok (.aload_n 0, 1) := dk_42 (dk_at dksX4_accept_0 1 rfl rfl)
theorem dX4_accept_2 : decode cX4_accept 2 = .ok (.iload_n 1, 1) := dk_27 (dk_at dksX4_accept_0 2 rfl rfl)
theorem dX4_accept_3 : decode cX4_accept 3 = .ok (.invokevirtual 176, 3) := dk_182 0 176 (dk_at dksX4_accept_0 3 rfl rfl)
theorem dX4_accept_6 : decode cX4_accept 6 = .ok (.invokevirtual 90, 3) := dk_182 0 90 (dk_at dksX4_accept_0 6 rfl rfl)
theorem dX4_accept_9 : decode cX4_accept 9 = .ok (.ifCond .eq 26, 3) := dk_153 0 26 (dk_at dksX4_accept_0 9 rfl rfl)
theorem dX4_accept_12 : decode cX4_accept 12 = .ok (.aload_n 0, 1) := dk_42 (dk_at dksX4_accept_0 12 rfl rfl)
theorem dX4_accept_13 : decode cX4_accept 13 = .ok (.aload_n 0, 1) := dk_42 (dk_at dksX4_accept_0 13 rfl rfl)
theorem dX4_accept_14 : decode cX4_accept 14 = .ok (.iload_n 1, 1) := dk_27 (dk_at dksX4_accept_0 14 rfl rfl)
theorem dX4_accept_15 : decode cX4_accept 15 = .ok (.iconst 2, 1) := dk_5 (dk_at dksX4_accept_0 15 rfl rfl)
theorem dX4_accept_16 : decode cX4_accept 16 = .ok (.invokevirtual 102, 3) := dk_182 0 102 (dk_at dksX4_accept_0 16 rfl rfl)
theorem dX4_accept_19 : decode cX4_accept 19 = .ok (.iconst 1, 1) := dk_4 (dk_at dksX4_accept_0 19 rfl rfl)
theorem dX4_accept_20 : decode cX4_accept 20 = .ok (.if_icmp .ne 7, 3) := dk_160 0 7 (dk_at dksX4_accept_0 20 rfl rfl)
theorem dX4_accept_23 : decode cX4_accept 23 = .ok (.iconst 1, 1) := dk_4 (dk_at dksX4_accept_0 23 rfl rfl)
theorem dX4_accept_24 : decode cX4_accept 24 = .ok (.goto 4, 3) := dk_167 0 4 (dk_at dksX4_accept_1 0 rfl rfl)
theorem dX4_accept_27 : decode cX4_accept 27 = .ok (.iconst 0, 1) := dk_3 (dk_at dksX4_accept_1 3 rfl rfl)
theorem dX4_accept_28 : decode cX4_accept 28 = .ok (.iconst 2, 1) := dk_5 (dk_at dksX4_accept_1 4 rfl rfl)
theorem dX4_accept_29 : decode cX4_accept 29 = .ok (.invokevirtual 163, 3) := dk_182 0 163 (dk_at dksX4_accept_1 5 rfl rfl)
theorem dX4_accept_32 : decode cX4_accept 32 = .ok (.ifCond .ne 5, 3) := dk_154 0 5 (dk_at dksX4_accept_1 8 rfl rfl)
theorem dX4_accept_35 : decode cX4_accept 35 = .ok (.iconst 0, 1) := dk_3 (dk_at dksX4_accept_1 11 rfl rfl)
theorem dX4_accept_36 : decode cX4_accept 36 = .ok (.ireturn, 1) := dk_172 (dk_at dksX4_accept_1 12 rfl rfl)
theorem dX4_accept_37 : decode cX4_accept 37 = .ok (.aload_n 0, 1) := dk_42 (dk_at dksX4_accept_1 13 rfl rfl)
theorem dX4_accept_38 : decode cX4_accept 38 = .ok (.invokevirtual 148, 3) := dk_182 0 148 (dk_at dksX4_accept_1 14 rfl rfl)
theorem dX4_accept_41 : decode cX4_accept 41 = .ok (.aload_n 0, 1) := dk_42 (dk_at dksX4_accept_1 17 rfl rfl)
theorem dX4_accept_42 : decode cX4_accept 42 = .ok (.getfield 16, 3) := dk_180 0 16 (dk_at dksX4_accept_1 18 rfl rfl)
theorem dX4_accept_45 : decode cX4_accept 45 = .ok (.aload_n 0, 1) := dk_42 (dk_at dksX4_accept_1 21 rfl rfl)
theorem dX4_accept_46 : decode cX4_accept 46 = .ok (.iload_n 1, 1) := dk_27 (dk_at dksX4_accept_1 22 rfl rfl)
theorem dX4_accept_47 : decode cX4_accept 47 = .ok (.iconst 2, 1) := dk_5 (dk_at dksX4_accept_1 23 rfl rfl)
theorem dX4_accept_48 : decode cX4_accept 48 = .ok (.invokevirtual 94, 3) := dk_182 0 94 (dk_at dksX4_accept_2 0 rfl rfl)
theorem dX4_accept_51 : decode cX4_accept 51 = .ok (.iconst 2, 1) := dk_5 (dk_at dksX4_accept_2 3 rfl rfl)
theorem dX4_accept_52 : decode cX4_accept 52 = .ok (.iastore, 1) := dk_79 (dk_at dksX4_accept_2 4 rfl rfl)
theorem dX4_accept_53 : decode cX4_accept 53 = .ok (.aload_n 0, 1) := dk_42 (dk_at dksX4_accept_2 5 rfl rfl)
theorem dX4_accept_54 : decode cX4_accept 54 = .ok (.getfield 16, 3) := dk_180 0 16 (dk_at dksX4_accept_2 6 rfl rfl)
theorem dX4_accept_57 : decode cX4_accept 57 = .ok (.aload_n 0, 1) := dk_42 (dk_at dksX4_accept_2 9 rfl rfl)
theorem dX4_accept_58 : decode cX4_accept 58 = .ok (.iload_n 1, 1) := dk_27 (dk_at dksX4_accept_2 10 rfl rfl)
theorem dX4_accept_59 : decode cX4_accept 59 = .ok (.iconst 4, 1) := dk_7 (dk_at dksX4_accept_2 11 rfl rfl)
theorem dX4_accept_60 : decode cX4_accept 60 = .ok (.invokevirtual 94, 3) := dk_182 0 94 (dk_at dksX4_accept_2 12 rfl rfl)
theorem dX4_accept_63 : decode cX4_accept 63 = .ok (.aload_n 0, 1) := dk_42 (dk_at dksX4_accept_2 15 rfl rfl)
theorem dX4_accept_64 : decode cX4_accept 64 = .ok (.getfield 16, 3) := dk_180 0 16 (dk_at dksX4_accept_2 16 rfl rfl)
theorem dX4_accept_67 : decode cX4_accept 67 = .ok (.iconst 0, 1) := dk_3 (dk_at dksX4_accept_2 19 rfl rfl)
theorem dX4_accept_68 : decode cX4_accept 68 = .ok (.iaload, 1) := dk_46 (dk_at dksX4_accept_2 20 rfl rfl)
theorem dX4_accept_69 : decode cX4_accept 69 = .ok (.sipush 1440, 3) := dk_17 5 160 (dk_at dksX4_accept_2 21 rfl rfl)
theorem dX4_accept_72 : decode cX4_accept 72 = .ok (.aload_n 0, 1) := dk_42 (dk_at dksX4_accept_3 0 rfl rfl)
theorem dX4_accept_73 : decode cX4_accept 73 = .ok (.getfield 7, 3) := dk_180 0 7 (dk_at dksX4_accept_3 1 rfl rfl)
theorem dX4_accept_76 : decode cX4_accept 76 = .ok (.bipush 111, 2) := dk_16 111 (dk_at dksX4_accept_3 4 rfl rfl)
theorem dX4_accept_78 : decode cX4_accept 78 = .ok (.iaload, 1) := dk_46 (dk_at dksX4_accept_3 6 rfl rfl)
theorem dX4_accept_79 : decode cX4_accept 79 = .ok (.imul, 1) := dk_104 (dk_at dksX4_accept_3 7 rfl rfl)
theorem dX4_accept_80 : decode cX4_accept 80 = .ok (.iadd, 1) := dk_96 (dk_at dksX4_accept_3 8 rfl rfl)
theorem dX4_accept_81 : decode cX4_accept 81 = .ok (.iastore, 1) := dk_79 (dk_at dksX4_accept_3 9 rfl rfl)
theorem dX4_accept_82 : decode cX4_accept 82 = .ok (.aload_n 0, 1) := dk_42 (dk_at dksX4_accept_3 10 rfl rfl)
theorem dX4_accept_83 : decode cX4_accept 83 = .ok (.aload_n 0, 1) := dk_42 (dk_at dksX4_accept_3 11 rfl rfl)
theorem dX4_accept_84 : decode cX4_accept 84 = .ok (.iload_n 1, 1) := dk_27 (dk_at dksX4_accept_3 12 rfl rfl)
theorem dX4_accept_85 : decode cX4_accept 85 = .ok (.iconst 4, 1) := dk_7 (dk_at dksX4_accept_3 13 rfl rfl)
theorem dX4_accept_86 : decode cX4_accept 86 = .ok (.invokevirtual 102, 3) := dk_182 0 102 (dk_at dksX4_accept_3 14 rfl rfl)
theorem dX4_accept_89 : decode cX4_accept 89 = .ok (.invokevirtual 173, 3) := dk_182 0 173 (dk_at dksX4_accept_3 17 rfl rfl)
theorem dX4_accept_92 : decode cX4_accept 92 = .ok (.ireturn, 1) := dk_172 (dk_at dksX4_accept_3 20 rfl rfl)
abbrev cX4_isPermit : ByteArray := prog_21_method_34_code
def yX4_isPermit : MethodName := ⟨RX4, "isPermit", "(I)Z"⟩
def dkwX4_isPermit_0 : List UInt8 := [27, 133, 9, 42, 180, 0, 16, 4, 46, 4, 100, 133, 184, 0, 144, 172]
abbrev dktX4_isPermit_0 : List UInt8 := dkwX4_isPermit_0 ++ []
theorem dksX4_isPermit_0 : cX4_isPermit.data.toList.drop 0 = dktX4_isPermit_0 := by decide +kernel
theorem dX4_isPermit_0 : decode cX4_isPermit 0 = .ok (.iload_n 1, 1) := dk_27 (dk_at dksX4_isPermit_0 0 rfl rfl)
theorem dX4_isPermit_1 : decode cX4_isPermit 1 = .ok (.i2l, 1) := dk_133 (dk_at dksX4_isPermit_0 1 rfl rfl)
theorem dX4_isPermit_2 : decode cX4_isPermit 2 = .ok (.lconst 0, 1) := dk_9 (dk_at dksX4_isPermit_0 2 rfl rfl)
theorem dX4_isPermit_3 : decode cX4_isPermit 3 = .ok (.aload_n 0, 1) := dk_42 (dk_at dksX4_isPermit_0 3 rfl rfl)
theorem dX4_isPermit_4 : decode cX4_isPermit 4 = .ok (.getfield 16, 3) := dk_180 0 16 (dk_at dksX4_isPermit_0 4 rfl rfl)
theorem dX4_isPermit_7 : decode cX4_isPermit 7 = .ok (.iconst 1, 1) := dk_4 (dk_at dksX4_isPermit_0 7 rfl rfl)
theorem dX4_isPermit_8 : decode cX4_isPermit 8 = .ok (.iaload, 1) := dk_46 (dk_at dksX4_isPermit_0 8 rfl rfl)
theorem dX4_isPermit_9 : decode cX4_isPermit 9 = .ok (.iconst 1, 1) := dk_4 (dk_at dksX4_isPermit_0 9 rfl rfl)
theorem dX4_isPermit_10 : decode cX4_isPermit 10 = .ok (.isub, 1) := dk_100 (dk_at dksX4_isPermit_0 10 rfl rfl)
theorem dX4_isPermit_11 : decode cX4_isPermit 11 = .ok (.i2l, 1) := dk_133 (dk_at dksX4_isPermit_0 11 rfl rfl)
theorem dX4_isPermit_12 : decode cX4_isPermit 12 = .ok (.invokestatic 144, 3) := dk_184 0 144 (dk_at dksX4_isPermit_0 12 rfl rfl)
theorem dX4_isPermit_15 : decode cX4_isPermit 15 = .ok (.ireturn, 1) := dk_172 (dk_at dksX4_isPermit_0 15 rfl rfl)
abbrev cX4_renew : ByteArray := prog_21_method_42_code
def yX4_renew : MethodName := ⟨RX4, "renew", "(I)I"⟩
def dkwX4_renew_5 : List UInt8 := [79, 42, 42, 27, 7, 182, 0, 102, 182, 0, 173, 172]
abbrev dktX4_renew_5 : List UInt8 := dkwX4_renew_5 ++ []
def dkwX4_renew_4 : List UInt8 := [46, 104, 96, 79, 42, 180, 0, 16, 42, 27, 16, 6, 182, 0, 94, 42, 27, 16, 6, 182, 0, 102, 4, 96]
abbrev dktX4_renew_4 : List UInt8 := dkwX4_renew_4 ++ dktX4_renew_5
def dkwX4_renew_3 : List UInt8 := [180, 0, 16, 42, 27, 7, 182, 0, 94, 42, 27, 7, 182, 0, 102, 17, 5, 160, 42, 180, 0, 7, 16, 111]
abbrev dktX4_renew_3 : List UInt8 := dkwX4_renew_3 ++ dktX4_renew_4
def dkwX4_renew_2 : List UInt8 := [163, 0, 7, 4, 167, 0, 4, 3, 5, 182, 0, 163, 154, 0, 5, 3, 172, 42, 182, 0, 148, 42]
abbrev dktX4_renew_2 : List UInt8 := dkwX4_renew_2 ++ dktX4_renew_3
def dkwX4_renew_1 : List UInt8 := [27, 7, 182, 0, 102, 42, 180, 0, 16, 3, 46, 17, 5, 160, 42, 180, 0, 7, 16, 113, 46, 104, 96]
abbrev dktX4_renew_1 : List UInt8 := dkwX4_renew_1 ++ dktX4_renew_2
def dkwX4_renew_0 : List UInt8 := [42, 42, 27, 182, 0, 176, 182, 0, 90, 153, 0, 53, 42, 42, 27, 5, 182, 0, 102, 5, 160, 0, 34, 42]
abbrev dktX4_renew_0 : List UInt8 := dkwX4_renew_0 ++ dktX4_renew_1
theorem dksX4_renew_0 : cX4_renew.data.toList.drop 0 = dktX4_renew_0 := by decide +kernel
theorem dksX4_renew_1 : cX4_renew.data.toList.drop 24 = dktX4_renew_1 := dk_seg dksX4_renew_0 24 rfl rfl
theorem dksX4_renew_2 : cX4_renew.data.toList.drop 47 = dktX4_renew_2 := dk_seg dksX4_renew_1 23 rfl rfl
theorem dksX4_renew_3 : cX4_renew.data.toList.drop 69 = dktX4_renew_3 := dk_seg dksX4_renew_2 22 rfl rfl
theorem dksX4_renew_4 : cX4_renew.data.toList.drop 93 = dktX4_renew_4 := dk_seg dksX4_renew_3 24 rfl rfl
theorem dksX4_renew_5 : cX4_renew.data.toList.drop 117 = dktX4_renew_5 := dk_seg dksX4_renew_4 24 rfl rfl
theorem dX4_renew_0 : decode cX4_renew 0 = .ok (.aload_n 0, 1) := dk_42 (dk_at dksX4_renew_0 0 rfl rfl)
theorem dX4_renew_1 : decode cX4_renew 1 = .ok (.aload_n 0, 1) := dk_42 (dk_at dksX4_renew_0 1 rfl rfl)
theorem dX4_renew_2 : decode cX4_renew 2 = .ok (.iload_n 1, 1) := dk_27 (dk_at dksX4_renew_0 2 rfl rfl)
theorem dX4_renew_3 : decode cX4_renew 3 = .ok (.invokevirtual 176, 3) := dk_182 0 176 (dk_at dksX4_renew_0 3 rfl rfl)
theorem dX4_renew_6 : decode cX4_renew 6 = .ok (.invokevirtual 90, 3) := dk_182 0 90 (dk_at dksX4_renew_0 6 rfl rfl)
theorem dX4_renew_9 : decode cX4_renew 9 = .ok (.ifCond .eq 53, 3) := dk_153 0 53 (dk_at dksX4_renew_0 9 rfl rfl)
theorem dX4_renew_12 : decode cX4_renew 12 = .ok (.aload_n 0, 1) := dk_42 (dk_at dksX4_renew_0 12 rfl rfl)
theorem dX4_renew_13 : decode cX4_renew 13 = .ok (.aload_n 0, 1) := dk_42 (dk_at dksX4_renew_0 13 rfl rfl)
theorem dX4_renew_14 : decode cX4_renew 14 = .ok (.iload_n 1, 1) := dk_27 (dk_at dksX4_renew_0 14 rfl rfl)
theorem dX4_renew_15 : decode cX4_renew 15 = .ok (.iconst 2, 1) := dk_5 (dk_at dksX4_renew_0 15 rfl rfl)
theorem dX4_renew_16 : decode cX4_renew 16 = .ok (.invokevirtual 102, 3) := dk_182 0 102 (dk_at dksX4_renew_0 16 rfl rfl)
theorem dX4_renew_19 : decode cX4_renew 19 = .ok (.iconst 2, 1) := dk_5 (dk_at dksX4_renew_0 19 rfl rfl)
theorem dX4_renew_20 : decode cX4_renew 20 = .ok (.if_icmp .ne 34, 3) := dk_160 0 34 (dk_at dksX4_renew_0 20 rfl rfl)
theorem dX4_renew_23 : decode cX4_renew 23 = .ok (.aload_n 0, 1) := dk_42 (dk_at dksX4_renew_0 23 rfl rfl)
theorem dX4_renew_24 : decode cX4_renew 24 = .ok (.iload_n 1, 1) := dk_27 (dk_at dksX4_renew_1 0 rfl rfl)
theorem dX4_renew_25 : decode cX4_renew 25 = .ok (.iconst 4, 1) := dk_7 (dk_at dksX4_renew_1 1 rfl rfl)
theorem dX4_renew_26 : decode cX4_renew 26 = .ok (.invokevirtual 102, 3) := dk_182 0 102 (dk_at dksX4_renew_1 2 rfl rfl)
theorem dX4_renew_29 : decode cX4_renew 29 = .ok (.aload_n 0, 1) := dk_42 (dk_at dksX4_renew_1 5 rfl rfl)
theorem dX4_renew_30 : decode cX4_renew 30 = .ok (.getfield 16, 3) := dk_180 0 16 (dk_at dksX4_renew_1 6 rfl rfl)
theorem dX4_renew_33 : decode cX4_renew 33 = .ok (.iconst 0, 1) := dk_3 (dk_at dksX4_renew_1 9 rfl rfl)
theorem dX4_renew_34 : decode cX4_renew 34 = .ok (.iaload, 1) := dk_46 (dk_at dksX4_renew_1 10 rfl rfl)
theorem dX4_renew_35 : decode cX4_renew 35 = .ok (.sipush 1440, 3) := dk_17 5 160 (dk_at dksX4_renew_1 11 rfl rfl)
theorem dX4_renew_38 : decode cX4_renew 38 = .ok (.aload_n 0, 1) := dk_42 (dk_at dksX4_renew_1 14 rfl rfl)
theorem dX4_renew_39 : decode cX4_renew 39 = .ok (.getfield 7, 3) := dk_180 0 7 (dk_at dksX4_renew_1 15 rfl rfl)
theorem dX4_renew_42 : decode cX4_renew 42 = .ok (.bipush 113, 2) := dk_16 113 (dk_at dksX4_renew_1 18 rfl rfl)
theorem dX4_renew_44 : decode cX4_renew 44 = .ok (.iaload, 1) := dk_46 (dk_at dksX4_renew_1 20 rfl rfl)
theorem dX4_renew_45 : decode cX4_renew 45 = .ok (.imul, 1) := dk_104 (dk_at dksX4_renew_1 21 rfl rfl)
theorem dX4_renew_46 : decode cX4_renew 46 = .ok (.iadd, 1) := dk_96 (dk_at dksX4_renew_1 22 rfl rfl)
theorem dX4_renew_47 : decode cX4_renew 47 = .ok (.if_icmp .gt 7, 3) := dk_163 0 7 (dk_at dksX4_renew_2 0 rfl rfl)
theorem dX4_renew_50 : decode cX4_renew 50 = .ok (.iconst 1, 1) := dk_4 (dk_at dksX4_renew_2 3 rfl rfl)
theorem dX4_renew_51 : decode cX4_renew 51 = .ok (.goto 4, 3) := dk_167 0 4 (dk_at dksX4_renew_2 4 rfl rfl)
theorem dX4_renew_54 : decode cX4_renew 54 = .ok (.iconst 0, 1) := dk_3 (dk_at dksX4_renew_2 7 rfl rfl)
theorem dX4_renew_55 : decode cX4_renew 55 = .ok (.iconst 2, 1) := dk_5 (dk_at dksX4_renew_2 8 rfl rfl)
theorem dX4_renew_56 : decode cX4_renew 56 = .ok (.invokevirtual 163, 3) := dk_182 0 163 (dk_at dksX4_renew_2 9 rfl rfl)
theorem dX4_renew_59 : decode cX4_renew 59 = .ok (.ifCond .ne 5, 3) := dk_154 0 5 (dk_at dksX4_renew_2 12 rfl rfl)
theorem dX4_renew_62 : decode cX4_renew 62 = .ok (.iconst 0, 1) := dk_3 (dk_at dksX4_renew_2 15 rfl rfl)
theorem dX4_renew_63 : decode cX4_renew 63 = .ok (.ireturn, 1) := dk_172 (dk_at dksX4_renew_2 16 rfl rfl)
theorem dX4_renew_64 : decode cX4_renew 64 = .ok (.aload_n 0, 1) := dk_42 (dk_at dksX4_renew_2 17 rfl rfl)
theorem dX4_renew_65 : decode cX4_renew 65 = .ok (.invokevirtual 148, 3) := dk_182 0 148 (dk_at dksX4_renew_2 18 rfl rfl)
theorem dX4_renew_68 : decode cX4_renew 68 = .ok (.aload_n 0, 1) := dk_42 (dk_at dksX4_renew_2 21 rfl rfl)
theorem dX4_renew_69 : decode cX4_renew 69 = .ok (.getfield 16, 3) := dk_180 0 16 (dk_at dksX4_renew_3 0 rfl rfl)
theorem dX4_renew_72 : decode cX4_renew 72 = .ok (.aload_n 0, 1) := dk_42 (dk_at dksX4_renew_3 3 rfl rfl)
theorem dX4_renew_73 : decode cX4_renew 73 = .ok (.iload_n 1, 1) := dk_27 (dk_at dksX4_renew_3 4 rfl rfl)
theorem dX4_renew_74 : decode cX4_renew 74 = .ok (.iconst 4, 1) := dk_7 (dk_at dksX4_renew_3 5 rfl rfl)
theorem dX4_renew_75 : decode cX4_renew 75 = .ok (.invokevirtual 94, 3) := dk_182 0 94 (dk_at dksX4_renew_3 6 rfl rfl)
theorem dX4_renew_78 : decode cX4_renew 78 = .ok (.aload_n 0, 1) := dk_42 (dk_at dksX4_renew_3 9 rfl rfl)
theorem dX4_renew_79 : decode cX4_renew 79 = .ok (.iload_n 1, 1) := dk_27 (dk_at dksX4_renew_3 10 rfl rfl)
theorem dX4_renew_80 : decode cX4_renew 80 = .ok (.iconst 4, 1) := dk_7 (dk_at dksX4_renew_3 11 rfl rfl)
theorem dX4_renew_81 : decode cX4_renew 81 = .ok (.invokevirtual 102, 3) := dk_182 0 102 (dk_at dksX4_renew_3 12 rfl rfl)
theorem dX4_renew_84 : decode cX4_renew 84 = .ok (.sipush 1440, 3) := dk_17 5 160 (dk_at dksX4_renew_3 15 rfl rfl)
theorem dX4_renew_87 : decode cX4_renew 87 = .ok (.aload_n 0, 1) := dk_42 (dk_at dksX4_renew_3 18 rfl rfl)
theorem dX4_renew_88 : decode cX4_renew 88 = .ok (.getfield 7, 3) := dk_180 0 7 (dk_at dksX4_renew_3 19 rfl rfl)
theorem dX4_renew_91 : decode cX4_renew 91 = .ok (.bipush 111, 2) := dk_16 111 (dk_at dksX4_renew_3 22 rfl rfl)
theorem dX4_renew_93 : decode cX4_renew 93 = .ok (.iaload, 1) := dk_46 (dk_at dksX4_renew_4 0 rfl rfl)
theorem dX4_renew_94 : decode cX4_renew 94 = .ok (.imul, 1) := dk_104 (dk_at dksX4_renew_4 1 rfl rfl)
theorem dX4_renew_95 : decode cX4_renew 95 = .ok (.iadd, 1) := dk_96 (dk_at dksX4_renew_4 2 rfl rfl)
theorem dX4_renew_96 : decode cX4_renew 96 = .ok (.iastore, 1) := dk_79 (dk_at dksX4_renew_4 3 rfl rfl)
theorem dX4_renew_97 : decode cX4_renew 97 = .ok (.aload_n 0, 1) := dk_42 (dk_at dksX4_renew_4 4 rfl rfl)
theorem dX4_renew_98 : decode cX4_renew 98 = .ok (.getfield 16, 3) := dk_180 0 16 (dk_at dksX4_renew_4 5 rfl rfl)
theorem dX4_renew_101 : decode cX4_renew 101 = .ok (.aload_n 0, 1) := dk_42 (dk_at dksX4_renew_4 8 rfl rfl)
theorem dX4_renew_102 : decode cX4_renew 102 = .ok (.iload_n 1, 1) := dk_27 (dk_at dksX4_renew_4 9 rfl rfl)
theorem dX4_renew_103 : decode cX4_renew 103 = .ok (.bipush 6, 2) := dk_16 6 (dk_at dksX4_renew_4 10 rfl rfl)
theorem dX4_renew_105 : decode cX4_renew 105 = .ok (.invokevirtual 94, 3) := dk_182 0 94 (dk_at dksX4_renew_4 12 rfl rfl)
theorem dX4_renew_108 : decode cX4_renew 108 = .ok (.aload_n 0, 1) := dk_42 (dk_at dksX4_renew_4 15 rfl rfl)
theorem dX4_renew_109 : decode cX4_renew 109 = .ok (.iload_n 1, 1) := dk_27 (dk_at dksX4_renew_4 16 rfl rfl)
theorem dX4_renew_110 : decode cX4_renew 110 = .ok (.bipush 6, 2) := dk_16 6 (dk_at dksX4_renew_4 17 rfl rfl)
theorem dX4_renew_112 : decode cX4_renew 112 = .ok (.invokevirtual 102, 3) := dk_182 0 102 (dk_at dksX4_renew_4 19 rfl rfl)
theorem dX4_renew_115 : decode cX4_renew 115 = .ok (.iconst 1, 1) := dk_4 (dk_at dksX4_renew_4 22 rfl rfl)
theorem dX4_renew_116 : decode cX4_renew 116 = .ok (.iadd, 1) := dk_96 (dk_at dksX4_renew_4 23 rfl rfl)
theorem dX4_renew_117 : decode cX4_renew 117 = .ok (.iastore, 1) := dk_79 (dk_at dksX4_renew_5 0 rfl rfl)
theorem dX4_renew_118 : decode cX4_renew 118 = .ok (.aload_n 0, 1) := dk_42 (dk_at dksX4_renew_5 1 rfl rfl)
theorem dX4_renew_119 : decode cX4_renew 119 = .ok (.aload_n 0, 1) := dk_42 (dk_at dksX4_renew_5 2 rfl rfl)
theorem dX4_renew_120 : decode cX4_renew 120 = .ok (.iload_n 1, 1) := dk_27 (dk_at dksX4_renew_5 3 rfl rfl)
theorem dX4_renew_121 : decode cX4_renew 121 = .ok (.iconst 4, 1) := dk_7 (dk_at dksX4_renew_5 4 rfl rfl)
theorem dX4_renew_122 : decode cX4_renew 122 = .ok (.invokevirtual 102, 3) := dk_182 0 102 (dk_at dksX4_renew_5 5 rfl rfl)
theorem dX4_renew_125 : decode cX4_renew 125 = .ok (.invokevirtual 173, 3) := dk_182 0 173 (dk_at dksX4_renew_5 8 rfl rfl)
theorem dX4_renew_128 : decode cX4_renew 128 = .ok (.ireturn, 1) := dk_172 (dk_at dksX4_renew_5 11 rfl rfl)
abbrev cX4_cancel : ByteArray := prog_21_method_43_code
def yX4_cancel : MethodName := ⟨RX4, "cancel", "(I)I"⟩
def dkwX4_cancel_2 : List UInt8 := [182, 0, 94, 7, 79, 42, 28, 182, 0, 173, 172]
abbrev dktX4_cancel_2 : List UInt8 := dkwX4_cancel_2 ++ []
def dkwX4_cancel_1 : List UInt8 := [154, 0, 5, 3, 172, 42, 182, 0, 148, 42, 27, 5, 182, 0, 102, 61, 42, 180, 0, 16, 42, 27, 5]
abbrev dktX4_cancel_1 : List UInt8 := dkwX4_cancel_1 ++ dktX4_cancel_2
def dkwX4_cancel_0 : List UInt8 := [42, 42, 27, 182, 0, 176, 182, 0, 90, 153, 0, 16, 42, 42, 27, 182, 0, 114, 5, 182, 0, 163]
abbrev dktX4_cancel_0 : List UInt8 := dkwX4_cancel_0 ++ dktX4_cancel_1
theorem dksX4_cancel_0 : cX4_cancel.data.toList.drop 0 = dktX4_cancel_0 := by decide +kernel
theorem dksX4_cancel_1 : cX4_cancel.data.toList.drop 22 = dktX4_cancel_1 := dk_seg dksX4_cancel_0 22 rfl rfl
theorem dksX4_cancel_2 : cX4_cancel.data.toList.drop 45 = dktX4_cancel_2 := dk_seg dksX4_cancel_1 23 rfl rfl
theorem dX4_cancel_0 : decode cX4_cancel 0 = .ok (.aload_n 0, 1) := dk_42 (dk_at dksX4_cancel_0 0 rfl rfl)
theorem dX4_cancel_1 : decode cX4_cancel 1 = .ok (.aload_n 0, 1) := dk_42 (dk_at dksX4_cancel_0 1 rfl rfl)
theorem dX4_cancel_2 : decode cX4_cancel 2 = .ok (.iload_n 1, 1) := dk_27 (dk_at dksX4_cancel_0 2 rfl rfl)
theorem dX4_cancel_3 : decode cX4_cancel 3 = .ok (.invokevirtual 176, 3) := dk_182 0 176 (dk_at dksX4_cancel_0 3 rfl rfl)
theorem dX4_cancel_6 : decode cX4_cancel 6 = .ok (.invokevirtual 90, 3) := dk_182 0 90 (dk_at dksX4_cancel_0 6 rfl rfl)
theorem dX4_cancel_9 : decode cX4_cancel 9 = .ok (.ifCond .eq 16, 3) := dk_153 0 16 (dk_at dksX4_cancel_0 9 rfl rfl)
theorem dX4_cancel_12 : decode cX4_cancel 12 = .ok (.aload_n 0, 1) := dk_42 (dk_at dksX4_cancel_0 12 rfl rfl)
theorem dX4_cancel_13 : decode cX4_cancel 13 = .ok (.aload_n 0, 1) := dk_42 (dk_at dksX4_cancel_0 13 rfl rfl)
theorem dX4_cancel_14 : decode cX4_cancel 14 = .ok (.iload_n 1, 1) := dk_27 (dk_at dksX4_cancel_0 14 rfl rfl)
theorem dX4_cancel_15 : decode cX4_cancel 15 = .ok (.invokevirtual 114, 3) := dk_182 0 114 (dk_at dksX4_cancel_0 15 rfl rfl)
theorem dX4_cancel_18 : decode cX4_cancel 18 = .ok (.iconst 2, 1) := dk_5 (dk_at dksX4_cancel_0 18 rfl rfl)
theorem dX4_cancel_19 : decode cX4_cancel 19 = .ok (.invokevirtual 163, 3) := dk_182 0 163 (dk_at dksX4_cancel_0 19 rfl rfl)
theorem dX4_cancel_22 : decode cX4_cancel 22 = .ok (.ifCond .ne 5, 3) := dk_154 0 5 (dk_at dksX4_cancel_1 0 rfl rfl)
theorem dX4_cancel_25 : decode cX4_cancel 25 = .ok (.iconst 0, 1) := dk_3 (dk_at dksX4_cancel_1 3 rfl rfl)
theorem dX4_cancel_26 : decode cX4_cancel 26 = .ok (.ireturn, 1) := dk_172 (dk_at dksX4_cancel_1 4 rfl rfl)
theorem dX4_cancel_27 : decode cX4_cancel 27 = .ok (.aload_n 0, 1) := dk_42 (dk_at dksX4_cancel_1 5 rfl rfl)
theorem dX4_cancel_28 : decode cX4_cancel 28 = .ok (.invokevirtual 148, 3) := dk_182 0 148 (dk_at dksX4_cancel_1 6 rfl rfl)
theorem dX4_cancel_31 : decode cX4_cancel 31 = .ok (.aload_n 0, 1) := dk_42 (dk_at dksX4_cancel_1 9 rfl rfl)
theorem dX4_cancel_32 : decode cX4_cancel 32 = .ok (.iload_n 1, 1) := dk_27 (dk_at dksX4_cancel_1 10 rfl rfl)
theorem dX4_cancel_33 : decode cX4_cancel 33 = .ok (.iconst 2, 1) := dk_5 (dk_at dksX4_cancel_1 11 rfl rfl)
theorem dX4_cancel_34 : decode cX4_cancel 34 = .ok (.invokevirtual 102, 3) := dk_182 0 102 (dk_at dksX4_cancel_1 12 rfl rfl)
theorem dX4_cancel_37 : decode cX4_cancel 37 = .ok (.istore_n 2, 1) := dk_61 (dk_at dksX4_cancel_1 15 rfl rfl)
theorem dX4_cancel_38 : decode cX4_cancel 38 = .ok (.aload_n 0, 1) := dk_42 (dk_at dksX4_cancel_1 16 rfl rfl)
theorem dX4_cancel_39 : decode cX4_cancel 39 = .ok (.getfield 16, 3) := dk_180 0 16 (dk_at dksX4_cancel_1 17 rfl rfl)
theorem dX4_cancel_42 : decode cX4_cancel 42 = .ok (.aload_n 0, 1) := dk_42 (dk_at dksX4_cancel_1 20 rfl rfl)
theorem dX4_cancel_43 : decode cX4_cancel 43 = .ok (.iload_n 1, 1) := dk_27 (dk_at dksX4_cancel_1 21 rfl rfl)
theorem dX4_cancel_44 : decode cX4_cancel 44 = .ok (.iconst 2, 1) := dk_5 (dk_at dksX4_cancel_1 22 rfl rfl)
theorem dX4_cancel_45 : decode cX4_cancel 45 = .ok (.invokevirtual 94, 3) := dk_182 0 94 (dk_at dksX4_cancel_2 0 rfl rfl)
theorem dX4_cancel_48 : decode cX4_cancel 48 = .ok (.iconst 4, 1) := dk_7 (dk_at dksX4_cancel_2 3 rfl rfl)
theorem dX4_cancel_49 : decode cX4_cancel 49 = .ok (.iastore, 1) := dk_79 (dk_at dksX4_cancel_2 4 rfl rfl)
theorem dX4_cancel_50 : decode cX4_cancel 50 = .ok (.aload_n 0, 1) := dk_42 (dk_at dksX4_cancel_2 5 rfl rfl)
theorem dX4_cancel_51 : decode cX4_cancel 51 = .ok (.iload_n 2, 1) := dk_28 (dk_at dksX4_cancel_2 6 rfl rfl)
theorem dX4_cancel_52 : decode cX4_cancel 52 = .ok (.invokevirtual 173, 3) := dk_182 0 173 (dk_at dksX4_cancel_2 7 rfl rfl)
theorem dX4_cancel_55 : decode cX4_cancel 55 = .ok (.ireturn, 1) := dk_172 (dk_at dksX4_cancel_2 10 rfl rfl)
abbrev cX4_permit : ByteArray := prog_21_method_44_code
def yX4_permit : MethodName := ⟨RX4, "permit", "(II)I"⟩
def dkwX4_permit_5 : List UInt8 := [172, 42, 27, 16, 6, 182, 0, 102, 172]
abbrev dktX4_permit_5 : List UInt8 := dkwX4_permit_5 ++ []
def dkwX4_permit_4 : List UInt8 := [182, 0, 102, 172, 42, 27, 6, 182, 0, 102, 172, 42, 27, 7, 182, 0, 102, 172, 42, 27, 8, 182, 0, 102]
abbrev dktX4_permit_4 : List UInt8 := dkwX4_permit_4 ++ dktX4_permit_5
def dkwX4_permit_3 : List UInt8 := [42, 27, 3, 182, 0, 102, 172, 42, 27, 4, 182, 0, 102, 172, 42, 27, 182, 0, 108, 172, 42, 27, 5]
abbrev dktX4_permit_3 : List UInt8 := dkwX4_permit_3 ++ dktX4_permit_4
def dkwX4_permit_2 : List UInt8 := [170, 0, 0, 0, 89, 0, 0, 0, 0, 0, 0, 0, 6, 0, 0, 0, 41, 0, 0, 0, 48, 0, 0, 0, 55, 0, 0, 0, 61, 0, 0, 0, 68, 0, 0, 0, 75, 0, 0, 0, 82]
abbrev dktX4_permit_2 : List UInt8 := dkwX4_permit_2 ++ dktX4_permit_3
def dkwX4_permit_1 : List UInt8 := [167, 0, 4, 3, 182, 0, 90, 154, 0, 5, 3, 172, 28]
abbrev dktX4_permit_1 : List UInt8 := dkwX4_permit_1 ++ dktX4_permit_2
def dkwX4_permit_0 : List UInt8 := [42, 42, 27, 182, 0, 176, 153, 0, 19, 28, 133, 9, 20, 0, 179, 184, 0, 144, 153, 0, 7, 4]
abbrev dktX4_permit_0 : List UInt8 := dkwX4_permit_0 ++ dktX4_permit_1
theorem dksX4_permit_0 : cX4_permit.data.toList.drop 0 = dktX4_permit_0 := by decide +kernel
theorem dksX4_permit_1 : cX4_permit.data.toList.drop 22 = dktX4_permit_1 := dk_seg dksX4_permit_0 22 rfl rfl
theorem dksX4_permit_2 : cX4_permit.data.toList.drop 35 = dktX4_permit_2 := dk_seg dksX4_permit_1 13 rfl rfl
theorem dksX4_permit_3 : cX4_permit.data.toList.drop 76 = dktX4_permit_3 := dk_seg dksX4_permit_2 41 rfl rfl
theorem dksX4_permit_4 : cX4_permit.data.toList.drop 99 = dktX4_permit_4 := dk_seg dksX4_permit_3 23 rfl rfl
theorem dksX4_permit_5 : cX4_permit.data.toList.drop 123 = dktX4_permit_5 := dk_seg dksX4_permit_4 24 rfl rfl
theorem dX4_permit_0 : decode cX4_permit 0 = .ok (.aload_n 0, 1) := dk_42 (dk_at dksX4_permit_0 0 rfl rfl)
theorem dX4_permit_1 : decode cX4_permit 1 = .ok (.aload_n 0, 1) := dk_42 (dk_at dksX4_permit_0 1 rfl rfl)
theorem dX4_permit_2 : decode cX4_permit 2 = .ok (.iload_n 1, 1) := dk_27 (dk_at dksX4_permit_0 2 rfl rfl)
theorem dX4_permit_3 : decode cX4_permit 3 = .ok (.invokevirtual 176, 3) := dk_182 0 176 (dk_at dksX4_permit_0 3 rfl rfl)
theorem dX4_permit_6 : decode cX4_permit 6 = .ok (.ifCond .eq 19, 3) := dk_153 0 19 (dk_at dksX4_permit_0 6 rfl rfl)
theorem dX4_permit_9 : decode cX4_permit 9 = .ok (.iload_n 2, 1) := dk_28 (dk_at dksX4_permit_0 9 rfl rfl)
theorem dX4_permit_10 : decode cX4_permit 10 = .ok (.i2l, 1) := dk_133 (dk_at dksX4_permit_0 10 rfl rfl)
theorem dX4_permit_11 : decode cX4_permit 11 = .ok (.lconst 0, 1) := dk_9 (dk_at dksX4_permit_0 11 rfl rfl)
theorem dX4_permit_12 : decode cX4_permit 12 = .ok (.ldc2_w 179, 3) := dk_20 0 179 (dk_at dksX4_permit_0 12 rfl rfl)
theorem dX4_permit_15 : decode cX4_permit 15 = .ok (.invokestatic 144, 3) := dk_184 0 144 (dk_at dksX4_permit_0 15 rfl rfl)
theorem dX4_permit_18 : decode cX4_permit 18 = .ok (.ifCond .eq 7, 3) := dk_153 0 7 (dk_at dksX4_permit_0 18 rfl rfl)
theorem dX4_permit_21 : decode cX4_permit 21 = .ok (.iconst 1, 1) := dk_4 (dk_at dksX4_permit_0 21 rfl rfl)
theorem dX4_permit_22 : decode cX4_permit 22 = .ok (.goto 4, 3) := dk_167 0 4 (dk_at dksX4_permit_1 0 rfl rfl)
theorem dX4_permit_25 : decode cX4_permit 25 = .ok (.iconst 0, 1) := dk_3 (dk_at dksX4_permit_1 3 rfl rfl)
theorem dX4_permit_26 : decode cX4_permit 26 = .ok (.invokevirtual 90, 3) := dk_182 0 90 (dk_at dksX4_permit_1 4 rfl rfl)
theorem dX4_permit_29 : decode cX4_permit 29 = .ok (.ifCond .ne 5, 3) := dk_154 0 5 (dk_at dksX4_permit_1 7 rfl rfl)
theorem dX4_permit_32 : decode cX4_permit 32 = .ok (.iconst 0, 1) := dk_3 (dk_at dksX4_permit_1 10 rfl rfl)
theorem dX4_permit_33 : decode cX4_permit 33 = .ok (.ireturn, 1) := dk_172 (dk_at dksX4_permit_1 11 rfl rfl)
theorem dX4_permit_34 : decode cX4_permit 34 = .ok (.iload_n 2, 1) := dk_28 (dk_at dksX4_permit_1 12 rfl rfl)
theorem dX4_permit_35 : decode cX4_permit 35 = .ok (.tableswitch 89 0 6 #[41, 48, 55, 61, 68, 75, 82], 41) := by decide +kernel
theorem dX4_permit_76 : decode cX4_permit 76 = .ok (.aload_n 0, 1) := dk_42 (dk_at dksX4_permit_3 0 rfl rfl)
theorem dX4_permit_77 : decode cX4_permit 77 = .ok (.iload_n 1, 1) := dk_27 (dk_at dksX4_permit_3 1 rfl rfl)
theorem dX4_permit_78 : decode cX4_permit 78 = .ok (.iconst 0, 1) := dk_3 (dk_at dksX4_permit_3 2 rfl rfl)
theorem dX4_permit_79 : decode cX4_permit 79 = .ok (.invokevirtual 102, 3) := dk_182 0 102 (dk_at dksX4_permit_3 3 rfl rfl)
theorem dX4_permit_82 : decode cX4_permit 82 = .ok (.ireturn, 1) := dk_172 (dk_at dksX4_permit_3 6 rfl rfl)
theorem dX4_permit_83 : decode cX4_permit 83 = .ok (.aload_n 0, 1) := dk_42 (dk_at dksX4_permit_3 7 rfl rfl)
theorem dX4_permit_84 : decode cX4_permit 84 = .ok (.iload_n 1, 1) := dk_27 (dk_at dksX4_permit_3 8 rfl rfl)
theorem dX4_permit_85 : decode cX4_permit 85 = .ok (.iconst 1, 1) := dk_4 (dk_at dksX4_permit_3 9 rfl rfl)
theorem dX4_permit_86 : decode cX4_permit 86 = .ok (.invokevirtual 102, 3) := dk_182 0 102 (dk_at dksX4_permit_3 10 rfl rfl)
theorem dX4_permit_89 : decode cX4_permit 89 = .ok (.ireturn, 1) := dk_172 (dk_at dksX4_permit_3 13 rfl rfl)
theorem dX4_permit_90 : decode cX4_permit 90 = .ok (.aload_n 0, 1) := dk_42 (dk_at dksX4_permit_3 14 rfl rfl)
theorem dX4_permit_91 : decode cX4_permit 91 = .ok (.iload_n 1, 1) := dk_27 (dk_at dksX4_permit_3 15 rfl rfl)
theorem dX4_permit_92 : decode cX4_permit 92 = .ok (.invokevirtual 108, 3) := dk_182 0 108 (dk_at dksX4_permit_3 16 rfl rfl)
theorem dX4_permit_95 : decode cX4_permit 95 = .ok (.ireturn, 1) := dk_172 (dk_at dksX4_permit_3 19 rfl rfl)
theorem dX4_permit_96 : decode cX4_permit 96 = .ok (.aload_n 0, 1) := dk_42 (dk_at dksX4_permit_3 20 rfl rfl)
theorem dX4_permit_97 : decode cX4_permit 97 = .ok (.iload_n 1, 1) := dk_27 (dk_at dksX4_permit_3 21 rfl rfl)
theorem dX4_permit_98 : decode cX4_permit 98 = .ok (.iconst 2, 1) := dk_5 (dk_at dksX4_permit_3 22 rfl rfl)
theorem dX4_permit_99 : decode cX4_permit 99 = .ok (.invokevirtual 102, 3) := dk_182 0 102 (dk_at dksX4_permit_4 0 rfl rfl)
theorem dX4_permit_102 : decode cX4_permit 102 = .ok (.ireturn, 1) := dk_172 (dk_at dksX4_permit_4 3 rfl rfl)
theorem dX4_permit_103 : decode cX4_permit 103 = .ok (.aload_n 0, 1) := dk_42 (dk_at dksX4_permit_4 4 rfl rfl)
theorem dX4_permit_104 : decode cX4_permit 104 = .ok (.iload_n 1, 1) := dk_27 (dk_at dksX4_permit_4 5 rfl rfl)
theorem dX4_permit_105 : decode cX4_permit 105 = .ok (.iconst 3, 1) := dk_6 (dk_at dksX4_permit_4 6 rfl rfl)
theorem dX4_permit_106 : decode cX4_permit 106 = .ok (.invokevirtual 102, 3) := dk_182 0 102 (dk_at dksX4_permit_4 7 rfl rfl)
theorem dX4_permit_109 : decode cX4_permit 109 = .ok (.ireturn, 1) := dk_172 (dk_at dksX4_permit_4 10 rfl rfl)
theorem dX4_permit_110 : decode cX4_permit 110 = .ok (.aload_n 0, 1) := dk_42 (dk_at dksX4_permit_4 11 rfl rfl)
theorem dX4_permit_111 : decode cX4_permit 111 = .ok (.iload_n 1, 1) := dk_27 (dk_at dksX4_permit_4 12 rfl rfl)
theorem dX4_permit_112 : decode cX4_permit 112 = .ok (.iconst 4, 1) := dk_7 (dk_at dksX4_permit_4 13 rfl rfl)
theorem dX4_permit_113 : decode cX4_permit 113 = .ok (.invokevirtual 102, 3) := dk_182 0 102 (dk_at dksX4_permit_4 14 rfl rfl)
theorem dX4_permit_116 : decode cX4_permit 116 = .ok (.ireturn, 1) := dk_172 (dk_at dksX4_permit_4 17 rfl rfl)
theorem dX4_permit_117 : decode cX4_permit 117 = .ok (.aload_n 0, 1) := dk_42 (dk_at dksX4_permit_4 18 rfl rfl)
theorem dX4_permit_118 : decode cX4_permit 118 = .ok (.iload_n 1, 1) := dk_27 (dk_at dksX4_permit_4 19 rfl rfl)
theorem dX4_permit_119 : decode cX4_permit 119 = .ok (.iconst 5, 1) := dk_8 (dk_at dksX4_permit_4 20 rfl rfl)
theorem dX4_permit_120 : decode cX4_permit 120 = .ok (.invokevirtual 102, 3) := dk_182 0 102 (dk_at dksX4_permit_4 21 rfl rfl)
theorem dX4_permit_123 : decode cX4_permit 123 = .ok (.ireturn, 1) := dk_172 (dk_at dksX4_permit_5 0 rfl rfl)
theorem dX4_permit_124 : decode cX4_permit 124 = .ok (.aload_n 0, 1) := dk_42 (dk_at dksX4_permit_5 1 rfl rfl)
theorem dX4_permit_125 : decode cX4_permit 125 = .ok (.iload_n 1, 1) := dk_27 (dk_at dksX4_permit_5 2 rfl rfl)
theorem dX4_permit_126 : decode cX4_permit 126 = .ok (.bipush 6, 2) := dk_16 6 (dk_at dksX4_permit_5 3 rfl rfl)
theorem dX4_permit_128 : decode cX4_permit 128 = .ok (.invokevirtual 102, 3) := dk_182 0 102 (dk_at dksX4_permit_5 5 rfl rfl)
theorem dX4_permit_131 : decode cX4_permit 131 = .ok (.ireturn, 1) := dk_172 (dk_at dksX4_permit_5 8 rfl rfl)
abbrev cX4_waiting : ByteArray := prog_21_method_45_code
def yX4_waiting : MethodName := ⟨RX4, "waiting", "(II)I"⟩
def dkwX4_waiting_1 : List UInt8 := [133, 184, 0, 144, 5, 182, 0, 163, 154, 0, 5, 3, 172, 42, 27, 28, 182, 0, 128, 172]
abbrev dktX4_waiting_1 : List UInt8 := dkwX4_waiting_1 ++ []
def dkwX4_waiting_0 : List UInt8 := [42, 42, 27, 182, 0, 181, 182, 0, 90, 153, 0, 26, 42, 28, 133, 9, 42, 27, 3, 182, 0, 111, 4, 100]
abbrev dktX4_waiting_0 : List UInt8 := dkwX4_waiting_0 ++ dktX4_waiting_1
theorem dksX4_waiting_0 : cX4_waiting.data.toList.drop 0 = dktX4_waiting_0 := by decide +kernel
theorem dksX4_waiting_1 : cX4_waiting.data.toList.drop 24 = dktX4_waiting_1 := dk_seg dksX4_waiting_0 24 rfl rfl
theorem dX4_waiting_0 : decode cX4_waiting 0 = .ok (.aload_n 0, 1) := dk_42 (dk_at dksX4_waiting_0 0 rfl rfl)
theorem dX4_waiting_1 : decode cX4_waiting 1 = .ok (.aload_n 0, 1) := dk_42 (dk_at dksX4_waiting_0 1 rfl rfl)
theorem dX4_waiting_2 : decode cX4_waiting 2 = .ok (.iload_n 1, 1) := dk_27 (dk_at dksX4_waiting_0 2 rfl rfl)
theorem dX4_waiting_3 : decode cX4_waiting 3 = .ok (.invokevirtual 181, 3) := dk_182 0 181 (dk_at dksX4_waiting_0 3 rfl rfl)
theorem dX4_waiting_6 : decode cX4_waiting 6 = .ok (.invokevirtual 90, 3) := dk_182 0 90 (dk_at dksX4_waiting_0 6 rfl rfl)
theorem dX4_waiting_9 : decode cX4_waiting 9 = .ok (.ifCond .eq 26, 3) := dk_153 0 26 (dk_at dksX4_waiting_0 9 rfl rfl)
theorem dX4_waiting_12 : decode cX4_waiting 12 = .ok (.aload_n 0, 1) := dk_42 (dk_at dksX4_waiting_0 12 rfl rfl)
theorem dX4_waiting_13 : decode cX4_waiting 13 = .ok (.iload_n 2, 1) := dk_28 (dk_at dksX4_waiting_0 13 rfl rfl)
theorem dX4_waiting_14 : decode cX4_waiting 14 = .ok (.i2l, 1) := dk_133 (dk_at dksX4_waiting_0 14 rfl rfl)
theorem dX4_waiting_15 : decode cX4_waiting 15 = .ok (.lconst 0, 1) := dk_9 (dk_at dksX4_waiting_0 15 rfl rfl)
theorem dX4_waiting_16 : decode cX4_waiting 16 = .ok (.aload_n 0, 1) := dk_42 (dk_at dksX4_waiting_0 16 rfl rfl)
theorem dX4_waiting_17 : decode cX4_waiting 17 = .ok (.iload_n 1, 1) := dk_27 (dk_at dksX4_waiting_0 17 rfl rfl)
theorem dX4_waiting_18 : decode cX4_waiting 18 = .ok (.iconst 0, 1) := dk_3 (dk_at dksX4_waiting_0 18 rfl rfl)
theorem dX4_waiting_19 : decode cX4_waiting 19 = .ok (.invokevirtual 111, 3) := dk_182 0 111 (dk_at dksX4_waiting_0 19 rfl rfl)
theorem dX4_waiting_22 : decode cX4_waiting 22 = .ok (.iconst 1, 1) := dk_4 (dk_at dksX4_waiting_0 22 rfl rfl)
theorem dX4_waiting_23 : decode cX4_waiting 23 = .ok (.isub, 1) := dk_100 (dk_at dksX4_waiting_0 23 rfl rfl)
theorem dX4_waiting_24 : decode cX4_waiting 24 = .ok (.i2l, 1) := dk_133 (dk_at dksX4_waiting_1 0 rfl rfl)
theorem dX4_waiting_25 : decode cX4_waiting 25 = .ok (.invokestatic 144, 3) := dk_184 0 144 (dk_at dksX4_waiting_1 1 rfl rfl)
theorem dX4_waiting_28 : decode cX4_waiting 28 = .ok (.iconst 2, 1) := dk_5 (dk_at dksX4_waiting_1 4 rfl rfl)
theorem dX4_waiting_29 : decode cX4_waiting 29 = .ok (.invokevirtual 163, 3) := dk_182 0 163 (dk_at dksX4_waiting_1 5 rfl rfl)
theorem dX4_waiting_32 : decode cX4_waiting 32 = .ok (.ifCond .ne 5, 3) := dk_154 0 5 (dk_at dksX4_waiting_1 8 rfl rfl)
theorem dX4_waiting_35 : decode cX4_waiting 35 = .ok (.iconst 0, 1) := dk_3 (dk_at dksX4_waiting_1 11 rfl rfl)
theorem dX4_waiting_36 : decode cX4_waiting 36 = .ok (.ireturn, 1) := dk_172 (dk_at dksX4_waiting_1 12 rfl rfl)
theorem dX4_waiting_37 : decode cX4_waiting 37 = .ok (.aload_n 0, 1) := dk_42 (dk_at dksX4_waiting_1 13 rfl rfl)
theorem dX4_waiting_38 : decode cX4_waiting 38 = .ok (.iload_n 1, 1) := dk_27 (dk_at dksX4_waiting_1 14 rfl rfl)
theorem dX4_waiting_39 : decode cX4_waiting 39 = .ok (.iload_n 2, 1) := dk_28 (dk_at dksX4_waiting_1 15 rfl rfl)
theorem dX4_waiting_40 : decode cX4_waiting 40 = .ok (.invokevirtual 128, 3) := dk_182 0 128 (dk_at dksX4_waiting_1 16 rfl rfl)
theorem dX4_waiting_43 : decode cX4_waiting 43 = .ok (.ireturn, 1) := dk_172 (dk_at dksX4_waiting_1 19 rfl rfl)
abbrev cX4_isZone : ByteArray := prog_21_method_37_code
def yX4_isZone : MethodName := ⟨RX4, "isZone", "(I)Z"⟩
def dkwX4_isZone_0 : List UInt8 := [27, 133, 9, 42, 180, 0, 7, 3, 46, 4, 100, 133, 184, 0, 144, 172]
abbrev dktX4_isZone_0 : List UInt8 := dkwX4_isZone_0 ++ []
theorem dksX4_isZone_0 : cX4_isZone.data.toList.drop 0 = dktX4_isZone_0 := by decide +kernel
theorem dX4_isZone_0 : decode cX4_isZone 0 = .ok (.iload_n 1, 1) := dk_27 (dk_at dksX4_isZone_0 0 rfl rfl)
theorem dX4_isZone_1 : decode cX4_isZone 1 = .ok (.i2l, 1) := dk_133 (dk_at dksX4_isZone_0 1 rfl rfl)
theorem dX4_isZone_2 : decode cX4_isZone 2 = .ok (.lconst 0, 1) := dk_9 (dk_at dksX4_isZone_0 2 rfl rfl)
theorem dX4_isZone_3 : decode cX4_isZone 3 = .ok (.aload_n 0, 1) := dk_42 (dk_at dksX4_isZone_0 3 rfl rfl)
theorem dX4_isZone_4 : decode cX4_isZone 4 = .ok (.getfield 7, 3) := dk_180 0 7 (dk_at dksX4_isZone_0 4 rfl rfl)
theorem dX4_isZone_7 : decode cX4_isZone 7 = .ok (.iconst 0, 1) := dk_3 (dk_at dksX4_isZone_0 7 rfl rfl)
theorem dX4_isZone_8 : decode cX4_isZone 8 = .ok (.iaload, 1) := dk_46 (dk_at dksX4_isZone_0 8 rfl rfl)
theorem dX4_isZone_9 : decode cX4_isZone 9 = .ok (.iconst 1, 1) := dk_4 (dk_at dksX4_isZone_0 9 rfl rfl)
theorem dX4_isZone_10 : decode cX4_isZone 10 = .ok (.isub, 1) := dk_100 (dk_at dksX4_isZone_0 10 rfl rfl)
theorem dX4_isZone_11 : decode cX4_isZone 11 = .ok (.i2l, 1) := dk_133 (dk_at dksX4_isZone_0 11 rfl rfl)
theorem dX4_isZone_12 : decode cX4_isZone 12 = .ok (.invokestatic 144, 3) := dk_184 0 144 (dk_at dksX4_isZone_0 12 rfl rfl)
theorem dX4_isZone_15 : decode cX4_isZone 15 = .ok (.ireturn, 1) := dk_172 (dk_at dksX4_isZone_0 15 rfl rfl)
abbrev cX4_waitingPlace : ByteArray := prog_21_method_46_code
def yX4_waitingPlace : MethodName := ⟨RX4, "waitingPlace", "(I)I"⟩
def dkwX4_waitingPlace_1 : List UInt8 := [27, 182, 0, 125, 167, 0, 4, 2, 172]
abbrev dktX4_waitingPlace_1 : List UInt8 := dkwX4_waitingPlace_1 ++ []
def dkwX4_waitingPlace_0 : List UInt8 := [42, 42, 27, 182, 0, 176, 182, 0, 90, 154, 0, 5, 3, 172, 42, 27, 5, 182, 0, 102, 154, 0, 11, 42]
abbrev dktX4_waitingPlace_0 : List UInt8 := dkwX4_waitingPlace_0 ++ dktX4_waitingPlace_1
theorem dksX4_waitingPlace_0 : cX4_waitingPlace.data.toList.drop 0 = dktX4_waitingPlace_0 := by decide +kernel
theorem dksX4_waitingPlace_1 : cX4_waitingPlace.data.toList.drop 24 = dktX4_waitingPlace_1 := dk_seg dksX4_waitingPlace_0 24 rfl rfl
theorem dX4_waitingPlace_0 : decode cX4_waitingPlace 0 = .ok (.aload_n 0, 1) := dk_42 (dk_at dksX4_waitingPlace_0 0 rfl rfl)
theorem dX4_waitingPlace_1 : decode cX4_waitingPlace 1 = .ok (.aload_n 0, 1) := dk_42 (dk_at dksX4_waitingPlace_0 1 rfl rfl)
theorem dX4_waitingPlace_2 : decode cX4_waitingPlace 2 = .ok (.iload_n 1, 1) := dk_27 (dk_at dksX4_waitingPlace_0 2 rfl rfl)
theorem dX4_waitingPlace_3 : decode cX4_waitingPlace 3 = .ok (.invokevirtual 176, 3) := dk_182 0 176 (dk_at dksX4_waitingPlace_0 3 rfl rfl)
theorem dX4_waitingPlace_6 : decode cX4_waitingPlace 6 = .ok (.invokevirtual 90, 3) := dk_182 0 90 (dk_at dksX4_waitingPlace_0 6 rfl rfl)
theorem dX4_waitingPlace_9 : decode cX4_waitingPlace 9 = .ok (.ifCond .ne 5, 3) := dk_154 0 5 (dk_at dksX4_waitingPlace_0 9 rfl rfl)
theorem dX4_waitingPlace_12 : decode cX4_waitingPlace 12 = .ok (.iconst 0, 1) := dk_3 (dk_at dksX4_waitingPlace_0 12 rfl rfl)
theorem dX4_waitingPlace_13 : decode cX4_waitingPlace 13 = .ok (.ireturn, 1) := dk_172 (dk_at dksX4_waitingPlace_0 13 rfl rfl)
theorem dX4_waitingPlace_14 : decode cX4_waitingPlace 14 = .ok (.aload_n 0, 1) := dk_42 (dk_at dksX4_waitingPlace_0 14 rfl rfl)
theorem dX4_waitingPlace_15 : decode cX4_waitingPlace 15 = .ok (.iload_n 1, 1) := dk_27 (dk_at dksX4_waitingPlace_0 15 rfl rfl)
theorem dX4_waitingPlace_16 : decode cX4_waitingPlace 16 = .ok (.iconst 2, 1) := dk_5 (dk_at dksX4_waitingPlace_0 16 rfl rfl)
theorem dX4_waitingPlace_17 : decode cX4_waitingPlace 17 = .ok (.invokevirtual 102, 3) := dk_182 0 102 (dk_at dksX4_waitingPlace_0 17 rfl rfl)
theorem dX4_waitingPlace_20 : decode cX4_waitingPlace 20 = .ok (.ifCond .ne 11, 3) := dk_154 0 11 (dk_at dksX4_waitingPlace_0 20 rfl rfl)
theorem dX4_waitingPlace_23 : decode cX4_waitingPlace 23 = .ok (.aload_n 0, 1) := dk_42 (dk_at dksX4_waitingPlace_0 23 rfl rfl)
theorem dX4_waitingPlace_24 : decode cX4_waitingPlace 24 = .ok (.iload_n 1, 1) := dk_27 (dk_at dksX4_waitingPlace_1 0 rfl rfl)
theorem dX4_waitingPlace_25 : decode cX4_waitingPlace 25 = .ok (.invokevirtual 125, 3) := dk_182 0 125 (dk_at dksX4_waitingPlace_1 1 rfl rfl)
theorem dX4_waitingPlace_28 : decode cX4_waitingPlace 28 = .ok (.goto 4, 3) := dk_167 0 4 (dk_at dksX4_waitingPlace_1 4 rfl rfl)
theorem dX4_waitingPlace_31 : decode cX4_waitingPlace 31 = .ok (.iconst (-1), 1) := dk_2 (dk_at dksX4_waitingPlace_1 7 rfl rfl)
theorem dX4_waitingPlace_32 : decode cX4_waitingPlace 32 = .ok (.ireturn, 1) := dk_172 (dk_at dksX4_waitingPlace_1 8 rfl rfl)
abbrev cX4_permitOf : ByteArray := prog_21_method_47_code
def yX4_permitOf : MethodName := ⟨RX4, "permitOf", "(I)I"⟩
def dkwX4_permitOf_0 : List UInt8 := [42, 3, 181, 0, 77, 42, 27, 182, 0, 170, 172]
abbrev dktX4_permitOf_0 : List UInt8 := dkwX4_permitOf_0 ++ []
theorem dksX4_permitOf_0 : cX4_permitOf.data.toList.drop 0 = dktX4_permitOf_0 := by decide +kernel
theorem dX4_permitOf_0 : decode cX4_permitOf 0 = .ok (.aload_n 0, 1) := dk_42 (dk_at dksX4_permitOf_0 0 rfl rfl)
theorem dX4_permitOf_1 : decode cX4_permitOf 1 = .ok (.iconst 0, 1) := dk_3 (dk_at dksX4_permitOf_0 1 rfl rfl)
theorem dX4_permitOf_2 : decode cX4_permitOf 2 = .ok (.putfield 77, 3) := dk_181 0 77 (dk_at dksX4_permitOf_0 2 rfl rfl)
theorem dX4_permitOf_5 : decode cX4_permitOf 5 = .ok (.aload_n 0, 1) := dk_42 (dk_at dksX4_permitOf_0 5 rfl rfl)
theorem dX4_permitOf_6 : decode cX4_permitOf 6 = .ok (.iload_n 1, 1) := dk_27 (dk_at dksX4_permitOf_0 6 rfl rfl)
theorem dX4_permitOf_7 : decode cX4_permitOf 7 = .ok (.invokevirtual 170, 3) := dk_182 0 170 (dk_at dksX4_permitOf_0 7 rfl rfl)
theorem dX4_permitOf_10 : decode cX4_permitOf 10 = .ok (.ireturn, 1) := dk_172 (dk_at dksX4_permitOf_0 10 rfl rfl)
abbrev cX4_nextToExpire : ByteArray := prog_21_method_48_code
def yX4_nextToExpire : MethodName := ⟨RX4, "nextToExpire", "(I)I"⟩
def dkwX4_nextToExpire_3 : List UInt8 := [61, 132, 3, 1, 167, 255, 199, 28, 172]
abbrev dktX4_nextToExpire_3 : List UInt8 := dkwX4_nextToExpire_3 ++ []
def dkwX4_nextToExpire_2 : List UInt8 := [167, 0, 25, 28, 2, 159, 0, 18, 42, 29, 7, 182, 0, 102, 42, 28, 7, 182, 0, 102, 162, 0, 5, 29]
abbrev dktX4_nextToExpire_2 : List UInt8 := dkwX4_nextToExpire_2 ++ dktX4_nextToExpire_3
def dkwX4_nextToExpire_1 : List UInt8 := [46, 162, 0, 53, 42, 29, 182, 0, 108, 27, 160, 0, 38, 42, 29, 5, 182, 0, 102, 5, 159, 0, 6]
abbrev dktX4_nextToExpire_1 : List UInt8 := dkwX4_nextToExpire_1 ++ dktX4_nextToExpire_2
def dkwX4_nextToExpire_0 : List UInt8 := [42, 42, 27, 182, 0, 181, 182, 0, 90, 154, 0, 5, 3, 172, 2, 61, 3, 62, 29, 42, 180, 0, 16, 4]
abbrev dktX4_nextToExpire_0 : List UInt8 := dkwX4_nextToExpire_0 ++ dktX4_nextToExpire_1
theorem dksX4_nextToExpire_0 : cX4_nextToExpire.data.toList.drop 0 = dktX4_nextToExpire_0 := by decide +kernel
theorem dksX4_nextToExpire_1 : cX4_nextToExpire.data.toList.drop 24 = dktX4_nextToExpire_1 := dk_seg dksX4_nextToExpire_0 24 rfl rfl
theorem dksX4_nextToExpire_2 : cX4_nextToExpire.data.toList.drop 47 = dktX4_nextToExpire_2 := dk_seg dksX4_nextToExpire_1 23 rfl rfl
theorem dksX4_nextToExpire_3 : cX4_nextToExpire.data.toList.drop 71 = dktX4_nextToExpire_3 := dk_seg dksX4_nextToExpire_2 24 rfl rfl
theorem dX4_nextToExpire_0 : decode cX4_nextToExpire 0 = .ok (.aload_n 0, 1) := dk_42 (dk_at dksX4_nextToExpire_0 0 rfl rfl)
theorem dX4_nextToExpire_1 : decode cX4_nextToExpire 1 = .ok (.aload_n 0, 1) := dk_42 (dk_at dksX4_nextToExpire_0 1 rfl rfl)
theorem dX4_nextToExpire_2 : decode cX4_nextToExpire 2 = .ok (.iload_n 1, 1) := dk_27 (dk_at dksX4_nextToExpire_0 2 rfl rfl)
theorem dX4_nextToExpire_3 : decode cX4_nextToExpire 3 = .ok (.invokevirtual 181, 3) := dk_182 0 181 (dk_at dksX4_nextToExpire_0 3 rfl rfl)
theorem dX4_nextToExpire_6 : decode cX4_nextToExpire 6 = .ok (.invokevirtual 90, 3) := dk_182 0 90 (dk_at dksX4_nextToExpire_0 6 rfl rfl)
theorem dX4_nextToExpire_9 : decode cX4_nextToExpire 9 = .ok (.ifCond .ne 5, 3) := dk_154 0 5 (dk_at dksX4_nextToExpire_0 9 rfl rfl)
theorem dX4_nextToExpire_12 : decode cX4_nextToExpire 12 = .ok (.iconst 0, 1) := dk_3 (dk_at dksX4_nextToExpire_0 12 rfl rfl)
theorem dX4_nextToExpire_13 : decode cX4_nextToExpire 13 = .ok (.ireturn, 1) := dk_172 (dk_at dksX4_nextToExpire_0 13 rfl rfl)
theorem dX4_nextToExpire_14 : decode cX4_nextToExpire 14 = .ok (.iconst (-1), 1) := dk_2 (dk_at dksX4_nextToExpire_0 14 rfl rfl)
theorem dX4_nextToExpire_15 : decode cX4_nextToExpire 15 = .ok (.istore_n 2, 1) := dk_61 (dk_at dksX4_nextToExpire_0 15 rfl rfl)
theorem dX4_nextToExpire_16 : decode cX4_nextToExpire 16 = .ok (.iconst 0, 1) := dk_3 (dk_at dksX4_nextToExpire_0 16 rfl rfl)
theorem dX4_nextToExpire_17 : decode cX4_nextToExpire 17 = .ok (.istore_n 3, 1) := dk_62 (dk_at dksX4_nextToExpire_0 17 rfl rfl)
theorem dX4_nextToExpire_18 : decode cX4_nextToExpire 18 = .ok (.iload_n 3, 1) := dk_29 (dk_at dksX4_nextToExpire_0 18 rfl rfl)
theorem dX4_nextToExpire_19 : decode cX4_nextToExpire 19 = .ok (.aload_n 0, 1) := dk_42 (dk_at dksX4_nextToExpire_0 19 rfl rfl)
theorem dX4_nextToExpire_20 : decode cX4_nextToExpire 20 = .ok (.getfield 16, 3) := dk_180 0 16 (dk_at dksX4_nextToExpire_0 20 rfl rfl)
theorem dX4_nextToExpire_23 : decode cX4_nextToExpire 23 = .ok (.iconst 1, 1) := dk_4 (dk_at dksX4_nextToExpire_0 23 rfl rfl)
theorem dX4_nextToExpire_24 : decode cX4_nextToExpire 24 = .ok (.iaload, 1) := dk_46 (dk_at dksX4_nextToExpire_1 0 rfl rfl)
theorem dX4_nextToExpire_25 : decode cX4_nextToExpire 25 = .ok (.if_icmp .ge 53, 3) := dk_162 0 53 (dk_at dksX4_nextToExpire_1 1 rfl rfl)
theorem dX4_nextToExpire_28 : decode cX4_nextToExpire 28 = .ok (.aload_n 0, 1) := dk_42 (dk_at dksX4_nextToExpire_1 4 rfl rfl)
theorem dX4_nextToExpire_29 : decode cX4_nextToExpire 29 = .ok (.iload_n 3, 1) := dk_29 (dk_at dksX4_nextToExpire_1 5 rfl rfl)
theorem dX4_nextToExpire_30 : decode cX4_nextToExpire 30 = .ok (.invokevirtual 108, 3) := dk_182 0 108 (dk_at dksX4_nextToExpire_1 6 rfl rfl)
theorem dX4_nextToExpire_33 : decode cX4_nextToExpire 33 = .ok (.iload_n 1, 1) := dk_27 (dk_at dksX4_nextToExpire_1 9 rfl rfl)
theorem dX4_nextToExpire_34 : decode cX4_nextToExpire 34 = .ok (.if_icmp .ne 38, 3) := dk_160 0 38 (dk_at dksX4_nextToExpire_1 10 rfl rfl)
theorem dX4_nextToExpire_37 : decode cX4_nextToExpire 37 = .ok (.aload_n 0, 1) := dk_42 (dk_at dksX4_nextToExpire_1 13 rfl rfl)
theorem dX4_nextToExpire_38 : decode cX4_nextToExpire 38 = .ok (.iload_n 3, 1) := dk_29 (dk_at dksX4_nextToExpire_1 14 rfl rfl)
theorem dX4_nextToExpire_39 : decode cX4_nextToExpire 39 = .ok (.iconst 2, 1) := dk_5 (dk_at dksX4_nextToExpire_1 15 rfl rfl)
theorem dX4_nextToExpire_40 : decode cX4_nextToExpire 40 = .ok (.invokevirtual 102, 3) := dk_182 0 102 (dk_at dksX4_nextToExpire_1 16 rfl rfl)
theorem dX4_nextToExpire_43 : decode cX4_nextToExpire 43 = .ok (.iconst 2, 1) := dk_5 (dk_at dksX4_nextToExpire_1 19 rfl rfl)
theorem dX4_nextToExpire_44 : decode cX4_nextToExpire 44 = .ok (.if_icmp .eq 6, 3) := dk_159 0 6 (dk_at dksX4_nextToExpire_1 20 rfl rfl)
theorem dX4_nextToExpire_47 : decode cX4_nextToExpire 47 = .ok (.goto 25, 3) := dk_167 0 25 (dk_at dksX4_nextToExpire_2 0 rfl rfl)
theorem dX4_nextToExpire_50 : decode cX4_nextToExpire 50 = .ok (.iload_n 2, 1) := dk_28 (dk_at dksX4_nextToExpire_2 3 rfl rfl)
theorem dX4_nextToExpire_51 : decode cX4_nextToExpire 51 = .ok (.iconst (-1), 1) := dk_2 (dk_at dksX4_nextToExpire_2 4 rfl rfl)
theorem dX4_nextToExpire_52 : decode cX4_nextToExpire 52 = .ok (.if_icmp .eq 18, 3) := dk_159 0 18 (dk_at dksX4_nextToExpire_2 5 rfl rfl)
theorem dX4_nextToExpire_55 : decode cX4_nextToExpire 55 = .ok (.aload_n 0, 1) := dk_42 (dk_at dksX4_nextToExpire_2 8 rfl rfl)
theorem dX4_nextToExpire_56 : decode cX4_nextToExpire 56 = .ok (.iload_n 3, 1) := dk_29 (dk_at dksX4_nextToExpire_2 9 rfl rfl)
theorem dX4_nextToExpire_57 : decode cX4_nextToExpire 57 = .ok (.iconst 4, 1) := dk_7 (dk_at dksX4_nextToExpire_2 10 rfl rfl)
theorem dX4_nextToExpire_58 : decode cX4_nextToExpire 58 = .ok (.invokevirtual 102, 3) := dk_182 0 102 (dk_at dksX4_nextToExpire_2 11 rfl rfl)
theorem dX4_nextToExpire_61 : decode cX4_nextToExpire 61 = .ok (.aload_n 0, 1) := dk_42 (dk_at dksX4_nextToExpire_2 14 rfl rfl)
theorem dX4_nextToExpire_62 : decode cX4_nextToExpire 62 = .ok (.iload_n 2, 1) := dk_28 (dk_at dksX4_nextToExpire_2 15 rfl rfl)
theorem dX4_nextToExpire_63 : decode cX4_nextToExpire 63 = .ok (.iconst 4, 1) := dk_7 (dk_at dksX4_nextToExpire_2 16 rfl rfl)
theorem dX4_nextToExpire_64 : decode cX4_nextToExpire 64 = .ok (.invokevirtual 102, 3) := dk_182 0 102 (dk_at dksX4_nextToExpire_2 17 rfl rfl)
theorem dX4_nextToExpire_67 : decode cX4_nextToExpire 67 = .ok (.if_icmp .ge 5, 3) := dk_162 0 5 (dk_at dksX4_nextToExpire_2 20 rfl rfl)
theorem dX4_nextToExpire_70 : decode cX4_nextToExpire 70 = .ok (.iload_n 3, 1) := dk_29 (dk_at dksX4_nextToExpire_2 23 rfl rfl)
theorem dX4_nextToExpire_71 : decode cX4_nextToExpire 71 = .ok (.istore_n 2, 1) := dk_61 (dk_at dksX4_nextToExpire_3 0 rfl rfl)
theorem dX4_nextToExpire_72 : decode cX4_nextToExpire 72 = .ok (.iinc 3 1, 3) := dk_132 3 1 (dk_at dksX4_nextToExpire_3 1 rfl rfl)
theorem dX4_nextToExpire_75 : decode cX4_nextToExpire 75 = .ok (.goto (-57), 3) := dk_167 255 199 (dk_at dksX4_nextToExpire_3 4 rfl rfl)
theorem dX4_nextToExpire_78 : decode cX4_nextToExpire 78 = .ok (.iload_n 2, 1) := dk_28 (dk_at dksX4_nextToExpire_3 7 rfl rfl)
theorem dX4_nextToExpire_79 : decode cX4_nextToExpire 79 = .ok (.ireturn, 1) := dk_172 (dk_at dksX4_nextToExpire_3 8 rfl rfl)
abbrev cX4_admit : ByteArray := prog_21_method_56_code
def yX4_admit : MethodName := ⟨RX4, "admit", "(III)I"⟩
def dkwX4_admit_8 : List UInt8 := [27, 96, 42, 180, 0, 16, 16, 23, 27, 96, 46, 29, 100, 79, 42, 21, 4, 182, 0, 173, 172]
abbrev dktX4_admit_8 : List UInt8 := dkwX4_admit_8 ++ []
def dkwX4_admit_7 : List UInt8 := [21, 4, 6, 182, 0, 184, 42, 180, 0, 16, 3, 46, 16, 60, 29, 104, 96, 79, 42, 180, 0, 16, 16, 23]
abbrev dktX4_admit_7 : List UInt8 := dkwX4_admit_7 ++ dktX4_admit_8
def dkwX4_admit_6 : List UInt8 := [79, 42, 180, 0, 16, 42, 21, 4, 5, 182, 0, 184, 42, 180, 0, 16, 3, 46, 79, 42, 180, 0, 16, 42]
abbrev dktX4_admit_6 : List UInt8 := dkwX4_admit_6 ++ dktX4_admit_7
def dkwX4_admit_5 : List UInt8 := [180, 0, 16, 42, 21, 4, 3, 182, 0, 184, 27, 79, 42, 180, 0, 16, 42, 21, 4, 4, 182, 0, 184, 28]
abbrev dktX4_admit_5 : List UInt8 := dkwX4_admit_5 ++ dktX4_admit_6
def dkwX4_admit_4 : List UInt8 := [172, 42, 182, 0, 148, 42, 180, 0, 16, 5, 46, 54, 4, 42, 180, 0, 16, 5, 21, 4, 4, 96, 79, 42]
abbrev dktX4_admit_4 : List UInt8 := dkwX4_admit_4 ++ dktX4_admit_5
def dkwX4_admit_3 : List UInt8 := [42, 180, 0, 16, 5, 46, 16, 60, 162, 0, 7, 4, 167, 0, 4, 3, 6, 182, 0, 163, 154, 0, 5, 3]
abbrev dktX4_admit_3 : List UInt8 := dkwX4_admit_3 ++ dktX4_admit_4
def dkwX4_admit_2 : List UInt8 := [27, 96, 46, 29, 161, 0, 35, 42, 27, 182, 0, 198, 5, 162, 0, 26, 42, 28, 182, 0, 201, 154, 0, 18]
abbrev dktX4_admit_2 : List UInt8 := dkwX4_admit_2 ++ dktX4_admit_3
def dkwX4_admit_1 : List UInt8 := [153, 0, 7, 4, 167, 0, 4, 3, 5, 182, 0, 163, 154, 0, 5, 3, 172, 42, 42, 180, 0, 16, 16, 23]
abbrev dktX4_admit_1 : List UInt8 := dkwX4_admit_1 ++ dktX4_admit_2
def dkwX4_admit_0 : List UInt8 := [42, 42, 27, 182, 0, 157, 182, 0, 90, 153, 0, 30, 42, 28, 184, 0, 160, 153, 0, 14, 29, 184, 0, 195]
abbrev dktX4_admit_0 : List UInt8 := dkwX4_admit_0 ++ dktX4_admit_1
theorem dksX4_admit_0 : cX4_admit.data.toList.drop 0 = dktX4_admit_0 := by decide +kernel
theorem dksX4_admit_1 : cX4_admit.data.toList.drop 24 = dktX4_admit_1 := dk_seg dksX4_admit_0 24 rfl rfl
theorem dksX4_admit_2 : cX4_admit.data.toList.drop 48 = dktX4_admit_2 := dk_seg dksX4_admit_1 24 rfl rfl
theorem dksX4_admit_3 : cX4_admit.data.toList.drop 72 = dktX4_admit_3 := dk_seg dksX4_admit_2 24 rfl rfl
theorem dksX4_admit_4 : cX4_admit.data.toList.drop 96 = dktX4_admit_4 := dk_seg dksX4_admit_3 24 rfl rfl
theorem dksX4_admit_5 : cX4_admit.data.toList.drop 120 = dktX4_admit_5 := dk_seg dksX4_admit_4 24 rfl rfl
theorem dksX4_admit_6 : cX4_admit.data.toList.drop 144 = dktX4_admit_6 := dk_seg dksX4_admit_5 24 rfl rfl
theorem dksX4_admit_7 : cX4_admit.data.toList.drop 168 = dktX4_admit_7 := dk_seg dksX4_admit_6 24 rfl rfl
theorem dksX4_admit_8 : cX4_admit.data.toList.drop 192 = dktX4_admit_8 := dk_seg dksX4_admit_7 24 rfl rfl
theorem dX4_admit_0 : decode cX4_admit 0 = .ok (.aload_n 0, 1) := dk_42 (dk_at dksX4_admit_0 0 rfl rfl)
theorem dX4_admit_1 : decode cX4_admit 1 = .ok (.aload_n 0, 1) := dk_42 (dk_at dksX4_admit_0 1 rfl rfl)
theorem dX4_admit_2 : decode cX4_admit 2 = .ok (.iload_n 1, 1) := dk_27 (dk_at dksX4_admit_0 2 rfl rfl)
theorem dX4_admit_3 : decode cX4_admit 3 = .ok (.invokevirtual 157, 3) := dk_182 0 157 (dk_at dksX4_admit_0 3 rfl rfl)
theorem dX4_admit_6 : decode cX4_admit 6 = .ok (.invokevirtual 90, 3) := dk_182 0 90 (dk_at dksX4_admit_0 6 rfl rfl)
theorem dX4_admit_9 : decode cX4_admit 9 = .ok (.ifCond .eq 30, 3) := dk_153 0 30 (dk_at dksX4_admit_0 9 rfl rfl)
theorem dX4_admit_12 : decode cX4_admit 12 = .ok (.aload_n 0, 1) := dk_42 (dk_at dksX4_admit_0 12 rfl rfl)
theorem dX4_admit_13 : decode cX4_admit 13 = .ok (.iload_n 2, 1) := dk_28 (dk_at dksX4_admit_0 13 rfl rfl)
theorem dX4_admit_14 : decode cX4_admit 14 = .ok (.invokestatic 160, 3) := dk_184 0 160 (dk_at dksX4_admit_0 14 rfl rfl)
theorem dX4_admit_17 : decode cX4_admit 17 = .ok (.ifCond .eq 14, 3) := dk_153 0 14 (dk_at dksX4_admit_0 17 rfl rfl)
theorem dX4_admit_20 : decode cX4_admit 20 = .ok (.iload_n 3, 1) := dk_29 (dk_at dksX4_admit_0 20 rfl rfl)
theorem dX4_admit_21 : decode cX4_admit 21 = .ok (.invokestatic 195, 3) := dk_184 0 195 (dk_at dksX4_admit_0 21 rfl rfl)
theorem dX4_admit_24 : decode cX4_admit 24 = .ok (.ifCond .eq 7, 3) := dk_153 0 7 (dk_at dksX4_admit_1 0 rfl rfl)
theorem dX4_admit_27 : decode cX4_admit 27 = .ok (.iconst 1, 1) := dk_4 (dk_at dksX4_admit_1 3 rfl rfl)
theorem dX4_admit_28 : decode cX4_admit 28 = .ok (.goto 4, 3) := dk_167 0 4 (dk_at dksX4_admit_1 4 rfl rfl)
theorem dX4_admit_31 : decode cX4_admit 31 = .ok (.iconst 0, 1) := dk_3 (dk_at dksX4_admit_1 7 rfl rfl)
theorem dX4_admit_32 : decode cX4_admit 32 = .ok (.iconst 2, 1) := dk_5 (dk_at dksX4_admit_1 8 rfl rfl)
theorem dX4_admit_33 : decode cX4_admit 33 = .ok (.invokevirtual 163, 3) := dk_182 0 163 (dk_at dksX4_admit_1 9 rfl rfl)
theorem dX4_admit_36 : decode cX4_admit 36 = .ok (.ifCond .ne 5, 3) := dk_154 0 5 (dk_at dksX4_admit_1 12 rfl rfl)
theorem dX4_admit_39 : decode cX4_admit 39 = .ok (.iconst 0, 1) := dk_3 (dk_at dksX4_admit_1 15 rfl rfl)
theorem dX4_admit_40 : decode cX4_admit 40 = .ok (.ireturn, 1) := dk_172 (dk_at dksX4_admit_1 16 rfl rfl)
theorem dX4_admit_41 : decode cX4_admit 41 = .ok (.aload_n 0, 1) := dk_42 (dk_at dksX4_admit_1 17 rfl rfl)
theorem dX4_admit_42 : decode cX4_admit 42 = .ok (.aload_n 0, 1) := dk_42 (dk_at dksX4_admit_1 18 rfl rfl)
theorem dX4_admit_43 : decode cX4_admit 43 = .ok (.getfield 16, 3) := dk_180 0 16 (dk_at dksX4_admit_1 19 rfl rfl)
theorem dX4_admit_46 : decode cX4_admit 46 = .ok (.bipush 23, 2) := dk_16 23 (dk_at dksX4_admit_1 22 rfl rfl)
theorem dX4_admit_48 : decode cX4_admit 48 = .ok (.iload_n 1, 1) := dk_27 (dk_at dksX4_admit_2 0 rfl rfl)
theorem dX4_admit_49 : decode cX4_admit 49 = .ok (.iadd, 1) := dk_96 (dk_at dksX4_admit_2 1 rfl rfl)
theorem dX4_admit_50 : decode cX4_admit 50 = .ok (.iaload, 1) := dk_46 (dk_at dksX4_admit_2 2 rfl rfl)
theorem dX4_admit_51 : decode cX4_admit 51 = .ok (.iload_n 3, 1) := dk_29 (dk_at dksX4_admit_2 3 rfl rfl)
theorem dX4_admit_52 : decode cX4_admit 52 = .ok (.if_icmp .lt 35, 3) := dk_161 0 35 (dk_at dksX4_admit_2 4 rfl rfl)
theorem dX4_admit_55 : decode cX4_admit 55 = .ok (.aload_n 0, 1) := dk_42 (dk_at dksX4_admit_2 7 rfl rfl)
theorem dX4_admit_56 : decode cX4_admit 56 = .ok (.iload_n 1, 1) := dk_27 (dk_at dksX4_admit_2 8 rfl rfl)
theorem dX4_admit_57 : decode cX4_admit 57 = .ok (.invokevirtual 198, 3) := dk_182 0 198 (dk_at dksX4_admit_2 9 rfl rfl)
theorem dX4_admit_60 : decode cX4_admit 60 = .ok (.iconst 2, 1) := dk_5 (dk_at dksX4_admit_2 12 rfl rfl)
theorem dX4_admit_61 : decode cX4_admit 61 = .ok (.if_icmp .ge 26, 3) := dk_162 0 26 (dk_at dksX4_admit_2 13 rfl rfl)
theorem dX4_admit_64 : decode cX4_admit 64 = .ok (.aload_n 0, 1) := dk_42 (dk_at dksX4_admit_2 16 rfl rfl)
theorem dX4_admit_65 : decode cX4_admit 65 = .ok (.iload_n 2, 1) := dk_28 (dk_at dksX4_admit_2 17 rfl rfl)
theorem dX4_admit_66 : decode cX4_admit 66 = .ok (.invokevirtual 201, 3) := dk_182 0 201 (dk_at dksX4_admit_2 18 rfl rfl)
theorem dX4_admit_69 : decode cX4_admit 69 = .ok (.ifCond .ne 18, 3) := dk_154 0 18 (dk_at dksX4_admit_2 21 rfl rfl)
theorem dX4_admit_72 : decode cX4_admit 72 = .ok (.aload_n 0, 1) := dk_42 (dk_at dksX4_admit_3 0 rfl rfl)
theorem dX4_admit_73 : decode cX4_admit 73 = .ok (.getfield 16, 3) := dk_180 0 16 (dk_at dksX4_admit_3 1 rfl rfl)
theorem dX4_admit_76 : decode cX4_admit 76 = .ok (.iconst 2, 1) := dk_5 (dk_at dksX4_admit_3 4 rfl rfl)
theorem dX4_admit_77 : decode cX4_admit 77 = .ok (.iaload, 1) := dk_46 (dk_at dksX4_admit_3 5 rfl rfl)
theorem dX4_admit_78 : decode cX4_admit 78 = .ok (.bipush 60, 2) := dk_16 60 (dk_at dksX4_admit_3 6 rfl rfl)
theorem dX4_admit_80 : decode cX4_admit 80 = .ok (.if_icmp .ge 7, 3) := dk_162 0 7 (dk_at dksX4_admit_3 8 rfl rfl)
theorem dX4_admit_83 : decode cX4_admit 83 = .ok (.iconst 1, 1) := dk_4 (dk_at dksX4_admit_3 11 rfl rfl)
theorem dX4_admit_84 : decode cX4_admit 84 = .ok (.goto 4, 3) := dk_167 0 4 (dk_at dksX4_admit_3 12 rfl rfl)
theorem dX4_admit_87 : decode cX4_admit 87 = .ok (.iconst 0, 1) := dk_3 (dk_at dksX4_admit_3 15 rfl rfl)
theorem dX4_admit_88 : decode cX4_admit 88 = .ok (.iconst 3, 1) := dk_6 (dk_at dksX4_admit_3 16 rfl rfl)
theorem dX4_admit_89 : decode cX4_admit 89 = .ok (.invokevirtual 163, 3) := dk_182 0 163 (dk_at dksX4_admit_3 17 rfl rfl)
theorem dX4_admit_92 : decode cX4_admit 92 = .ok (.ifCond .ne 5, 3) := dk_154 0 5 (dk_at dksX4_admit_3 20 rfl rfl)
theorem dX4_admit_95 : decode cX4_admit 95 = .ok (.iconst 0, 1) := dk_3 (dk_at dksX4_admit_3 23 rfl rfl)
theorem dX4_admit_96 : decode cX4_admit 96 = .ok (.ireturn, 1) := dk_172 (dk_at dksX4_admit_4 0 rfl rfl)
theorem dX4_admit_97 : decode cX4_admit 97 = .ok (.aload_n 0, 1) := dk_42 (dk_at dksX4_admit_4 1 rfl rfl)
theorem dX4_admit_98 : decode cX4_admit 98 = .ok (.invokevirtual 148, 3) := dk_182 0 148 (dk_at dksX4_admit_4 2 rfl rfl)
theorem dX4_admit_101 : decode cX4_admit 101 = .ok (.aload_n 0, 1) := dk_42 (dk_at dksX4_admit_4 5 rfl rfl)
theorem dX4_admit_102 : decode cX4_admit 102 = .ok (.getfield 16, 3) := dk_180 0 16 (dk_at dksX4_admit_4 6 rfl rfl)
theorem dX4_admit_105 : decode cX4_admit 105 = .ok (.iconst 2, 1) := dk_5 (dk_at dksX4_admit_4 9 rfl rfl)
theorem dX4_admit_106 : decode cX4_admit 106 = .ok (.iaload, 1) := dk_46 (dk_at dksX4_admit_4 10 rfl rfl)
theorem dX4_admit_107 : decode cX4_admit 107 = .ok (.istore 4, 2) := dk_54 4 (dk_at dksX4_admit_4 11 rfl rfl)
theorem dX4_admit_109 : decode cX4_admit 109 = .ok (.aload_n 0, 1) := dk_42 (dk_at dksX4_admit_4 13 rfl rfl)
theorem dX4_admit_110 : decode cX4_admit 110 = .ok (.getfield 16, 3) := dk_180 0 16 (dk_at dksX4_admit_4 14 rfl rfl)
theorem dX4_admit_113 : decode cX4_admit 113 = .ok (.iconst 2, 1) := dk_5 (dk_at dksX4_admit_4 17 rfl rfl)
theorem dX4_admit_114 : decode cX4_admit 114 = .ok (.iload 4, 2) := dk_21 4 (dk_at dksX4_admit_4 18 rfl rfl)
theorem dX4_admit_116 : decode cX4_admit 116 = .ok (.iconst 1, 1) := dk_4 (dk_at dksX4_admit_4 20 rfl rfl)
theorem dX4_admit_117 : decode cX4_admit 117 = .ok (.iadd, 1) := dk_96 (dk_at dksX4_admit_4 21 rfl rfl)
theorem dX4_admit_118 : decode cX4_admit 118 = .ok (.iastore, 1) := dk_79 (dk_at dksX4_admit_4 22 rfl rfl)
theorem dX4_admit_119 : decode cX4_admit 119 = .ok (.aload_n 0, 1) := dk_42 (dk_at dksX4_admit_4 23 rfl rfl)
theorem dX4_admit_120 : decode cX4_admit 120 = .ok (.getfield 16, 3) := dk_180 0 16 (dk_at dksX4_admit_5 0 rfl rfl)
theorem dX4_admit_123 : decode cX4_admit 123 = .ok (.aload_n 0, 1) := dk_42 (dk_at dksX4_admit_5 3 rfl rfl)
theorem dX4_admit_124 : decode cX4_admit 124 = .ok (.iload 4, 2) := dk_21 4 (dk_at dksX4_admit_5 4 rfl rfl)
theorem dX4_admit_126 : decode cX4_admit 126 = .ok (.iconst 0, 1) := dk_3 (dk_at dksX4_admit_5 6 rfl rfl)
theorem dX4_admit_127 : decode cX4_admit 127 = .ok (.invokevirtual 184, 3) := dk_182 0 184 (dk_at dksX4_admit_5 7 rfl rfl)
theorem dX4_admit_130 : decode cX4_admit 130 = .ok (.iload_n 1, 1) := dk_27 (dk_at dksX4_admit_5 10 rfl rfl)
theorem dX4_admit_131 : decode cX4_admit 131 = .ok (.iastore, 1) := dk_79 (dk_at dksX4_admit_5 11 rfl rfl)
theorem dX4_admit_132 : decode cX4_admit 132 = .ok (.aload_n 0, 1) := dk_42 (dk_at dksX4_admit_5 12 rfl rfl)
theorem dX4_admit_133 : decode cX4_admit 133 = .ok (.getfield 16, 3) := dk_180 0 16 (dk_at dksX4_admit_5 13 rfl rfl)
theorem dX4_admit_136 : decode cX4_admit 136 = .ok (.aload_n 0, 1) := dk_42 (dk_at dksX4_admit_5 16 rfl rfl)
theorem dX4_admit_137 : decode cX4_admit 137 = .ok (.iload 4, 2) := dk_21 4 (dk_at dksX4_admit_5 17 rfl rfl)
theorem dX4_admit_139 : decode cX4_admit 139 = .ok (.iconst 1, 1) := dk_4 (dk_at dksX4_admit_5 19 rfl rfl)
theorem dX4_admit_140 : decode cX4_admit 140 = .ok (.invokevirtual 184, 3) := dk_182 0 184 (dk_at dksX4_admit_5 20 rfl rfl)
theorem dX4_admit_143 : decode cX4_admit 143 = .ok (.iload_n 2, 1) := dk_28 (dk_at dksX4_admit_5 23 rfl rfl)
theorem dX4_admit_144 : decode cX4_admit 144 = .ok (.iastore, 1) := dk_79 (dk_at dksX4_admit_6 0 rfl rfl)
theorem dX4_admit_145 : decode cX4_admit 145 = .ok (.aload_n 0, 1) := dk_42 (dk_at dksX4_admit_6 1 rfl rfl)
theorem dX4_admit_146 : decode cX4_admit 146 = .ok (.getfield 16, 3) := dk_180 0 16 (dk_at dksX4_admit_6 2 rfl rfl)
theorem dX4_admit_149 : decode cX4_admit 149 = .ok (.aload_n 0, 1) := dk_42 (dk_at dksX4_admit_6 5 rfl rfl)
theorem dX4_admit_150 : decode cX4_admit 150 = .ok (.iload 4, 2) := dk_21 4 (dk_at dksX4_admit_6 6 rfl rfl)
theorem dX4_admit_152 : decode cX4_admit 152 = .ok (.iconst 2, 1) := dk_5 (dk_at dksX4_admit_6 8 rfl rfl)
theorem dX4_admit_153 : decode cX4_admit 153 = .ok (.invokevirtual 184, 3) := dk_182 0 184 (dk_at dksX4_admit_6 9 rfl rfl)
theorem dX4_admit_156 : decode cX4_admit 156 = .ok (.aload_n 0, 1) := dk_42 (dk_at dksX4_admit_6 12 rfl rfl)
theorem dX4_admit_157 : decode cX4_admit 157 = .ok (.getfield 16, 3) := dk_180 0 16 (dk_at dksX4_admit_6 13 rfl rfl)
theorem dX4_admit_160 : decode cX4_admit 160 = .ok (.iconst 0, 1) := dk_3 (dk_at dksX4_admit_6 16 rfl rfl)
theorem dX4_admit_161 : decode cX4_admit 161 = .ok (.iaload, 1) := dk_46 (dk_at dksX4_admit_6 17 rfl rfl)
theorem dX4_admit_162 : decode cX4_admit 162 = .ok (.iastore, 1) := dk_79 (dk_at dksX4_admit_6 18 rfl rfl)
theorem dX4_admit_163 : decode cX4_admit 163 = .ok (.aload_n 0, 1) := dk_42 (dk_at dksX4_admit_6 19 rfl rfl)
theorem dX4_admit_164 : decode cX4_admit 164 = .ok (.getfield 16, 3) := dk_180 0 16 (dk_at dksX4_admit_6 20 rfl rfl)
theorem dX4_admit_167 : decode cX4_admit 167 = .ok (.aload_n 0, 1) := dk_42 (dk_at dksX4_admit_6 23 rfl rfl)
theorem dX4_admit_168 : decode cX4_admit 168 = .ok (.iload 4, 2) := dk_21 4 (dk_at dksX4_admit_7 0 rfl rfl)
theorem dX4_admit_170 : decode cX4_admit 170 = .ok (.iconst 3, 1) := dk_6 (dk_at dksX4_admit_7 2 rfl rfl)
theorem dX4_admit_171 : decode cX4_admit 171 = .ok (.invokevirtual 184, 3) := dk_182 0 184 (dk_at dksX4_admit_7 3 rfl rfl)
theorem dX4_admit_174 : decode cX4_admit 174 = .ok (.aload_n 0, 1) := dk_42 (dk_at dksX4_admit_7 6 rfl rfl)
theorem dX4_admit_175 : decode cX4_admit 175 = .ok (.getfield 16, 3) := dk_180 0 16 (dk_at dksX4_admit_7 7 rfl rfl)
theorem dX4_admit_178 : decode cX4_admit 178 = .ok (.iconst 0, 1) := dk_3 (dk_at dksX4_admit_7 10 rfl rfl)
theorem dX4_admit_179 : decode cX4_admit 179 = .ok (.iaload, 1) := dk_46 (dk_at dksX4_admit_7 11 rfl rfl)
theorem dX4_admit_180 : decode cX4_admit 180 = .ok (.bipush 60, 2) := dk_16 60 (dk_at dksX4_admit_7 12 rfl rfl)
theorem dX4_admit_182 : decode cX4_admit 182 = .ok (.iload_n 3, 1) := dk_29 (dk_at dksX4_admit_7 14 rfl rfl)
theorem dX4_admit_183 : decode cX4_admit 183 = .ok (.imul, 1) := dk_104 (dk_at dksX4_admit_7 15 rfl rfl)
theorem dX4_admit_184 : decode cX4_admit 184 = .ok (.iadd, 1) := dk_96 (dk_at dksX4_admit_7 16 rfl rfl)
theorem dX4_admit_185 : decode cX4_admit 185 = .ok (.iastore, 1) := dk_79 (dk_at dksX4_admit_7 17 rfl rfl)
theorem dX4_admit_186 : decode cX4_admit 186 = .ok (.aload_n 0, 1) := dk_42 (dk_at dksX4_admit_7 18 rfl rfl)
theorem dX4_admit_187 : decode cX4_admit 187 = .ok (.getfield 16, 3) := dk_180 0 16 (dk_at dksX4_admit_7 19 rfl rfl)
theorem dX4_admit_190 : decode cX4_admit 190 = .ok (.bipush 23, 2) := dk_16 23 (dk_at dksX4_admit_7 22 rfl rfl)
theorem dX4_admit_192 : decode cX4_admit 192 = .ok (.iload_n 1, 1) := dk_27 (dk_at dksX4_admit_8 0 rfl rfl)
theorem dX4_admit_193 : decode cX4_admit 193 = .ok (.iadd, 1) := dk_96 (dk_at dksX4_admit_8 1 rfl rfl)
theorem dX4_admit_194 : decode cX4_admit 194 = .ok (.aload_n 0, 1) := dk_42 (dk_at dksX4_admit_8 2 rfl rfl)
theorem dX4_admit_195 : decode cX4_admit 195 = .ok (.getfield 16, 3) := dk_180 0 16 (dk_at dksX4_admit_8 3 rfl rfl)
theorem dX4_admit_198 : decode cX4_admit 198 = .ok (.bipush 23, 2) := dk_16 23 (dk_at dksX4_admit_8 6 rfl rfl)
theorem dX4_admit_200 : decode cX4_admit 200 = .ok (.iload_n 1, 1) := dk_27 (dk_at dksX4_admit_8 8 rfl rfl)
theorem dX4_admit_201 : decode cX4_admit 201 = .ok (.iadd, 1) := dk_96 (dk_at dksX4_admit_8 9 rfl rfl)
theorem dX4_admit_202 : decode cX4_admit 202 = .ok (.iaload, 1) := dk_46 (dk_at dksX4_admit_8 10 rfl rfl)
theorem dX4_admit_203 : decode cX4_admit 203 = .ok (.iload_n 3, 1) := dk_29 (dk_at dksX4_admit_8 11 rfl rfl)
theorem dX4_admit_204 : decode cX4_admit 204 = .ok (.isub, 1) := dk_100 (dk_at dksX4_admit_8 12 rfl rfl)
theorem dX4_admit_205 : decode cX4_admit 205 = .ok (.iastore, 1) := dk_79 (dk_at dksX4_admit_8 13 rfl rfl)
theorem dX4_admit_206 : decode cX4_admit 206 = .ok (.aload_n 0, 1) := dk_42 (dk_at dksX4_admit_8 14 rfl rfl)
theorem dX4_admit_207 : decode cX4_admit 207 = .ok (.iload 4, 2) := dk_21 4 (dk_at dksX4_admit_8 15 rfl rfl)
theorem dX4_admit_209 : decode cX4_admit 209 = .ok (.invokevirtual 173, 3) := dk_182 0 173 (dk_at dksX4_admit_8 17 rfl rfl)
theorem dX4_admit_212 : decode cX4_admit 212 = .ok (.ireturn, 1) := dk_172 (dk_at dksX4_admit_8 20 rfl rfl)
abbrev cX4_areHours : ByteArray := prog_21_method_55_code
def yX4_areHours : MethodName := ⟨RX4, "areHours", "(I)Z"⟩
def dkwX4_areHours_0 : List UInt8 := [26, 133, 10, 20, 0, 193, 184, 0, 144, 172]
abbrev dktX4_areHours_0 : List UInt8 := dkwX4_areHours_0 ++ []
theorem dksX4_areHours_0 : cX4_areHours.data.toList.drop 0 = dktX4_areHours_0 := by decide +kernel
theorem dX4_areHours_0 : decode cX4_areHours 0 = .ok (.iload_n 0, 1) := dk_26 (dk_at dksX4_areHours_0 0 rfl rfl)
theorem dX4_areHours_1 : decode cX4_areHours 1 = .ok (.i2l, 1) := dk_133 (dk_at dksX4_areHours_0 1 rfl rfl)
theorem dX4_areHours_2 : decode cX4_areHours 2 = .ok (.lconst 1, 1) := dk_10 (dk_at dksX4_areHours_0 2 rfl rfl)
theorem dX4_areHours_3 : decode cX4_areHours 3 = .ok (.ldc2_w 193, 3) := dk_20 0 193 (dk_at dksX4_areHours_0 3 rfl rfl)
theorem dX4_areHours_6 : decode cX4_areHours 6 = .ok (.invokestatic 144, 3) := dk_184 0 144 (dk_at dksX4_areHours_0 6 rfl rfl)
theorem dX4_areHours_9 : decode cX4_areHours 9 = .ok (.ireturn, 1) := dk_172 (dk_at dksX4_areHours_0 9 rfl rfl)
abbrev cX4_visitsOf : ByteArray := prog_21_method_53_code
def yX4_visitsOf : MethodName := ⟨RX4, "visitsOf", "(I)I"⟩
def dkwX4_visitsOf_1 : List UInt8 := [42, 29, 182, 0, 190, 153, 0, 7, 28, 4, 96, 61, 132, 3, 1, 167, 255, 221, 28, 172]
abbrev dktX4_visitsOf_1 : List UInt8 := dkwX4_visitsOf_1 ++ []
def dkwX4_visitsOf_0 : List UInt8 := [3, 61, 3, 62, 29, 42, 180, 0, 16, 5, 46, 162, 0, 31, 42, 29, 3, 182, 0, 187, 27, 160, 0, 15]
abbrev dktX4_visitsOf_0 : List UInt8 := dkwX4_visitsOf_0 ++ dktX4_visitsOf_1
theorem dksX4_visitsOf_0 : cX4_visitsOf.data.toList.drop 0 = dktX4_visitsOf_0 := by decide +kernel
theorem dksX4_visitsOf_1 : cX4_visitsOf.data.toList.drop 24 = dktX4_visitsOf_1 := dk_seg dksX4_visitsOf_0 24 rfl rfl
theorem dX4_visitsOf_0 : decode cX4_visitsOf 0 = .ok (.iconst 0, 1) := dk_3 (dk_at dksX4_visitsOf_0 0 rfl rfl)
theorem dX4_visitsOf_1 : decode cX4_visitsOf 1 = .ok (.istore_n 2, 1) := dk_61 (dk_at dksX4_visitsOf_0 1 rfl rfl)
theorem dX4_visitsOf_2 : decode cX4_visitsOf 2 = .ok (.iconst 0, 1) := dk_3 (dk_at dksX4_visitsOf_0 2 rfl rfl)
theorem dX4_visitsOf_3 : decode cX4_visitsOf 3 = .ok (.istore_n 3, 1) := dk_62 (dk_at dksX4_visitsOf_0 3 rfl rfl)
theorem dX4_visitsOf_4 : decode cX4_visitsOf 4 = .ok (.iload_n 3, 1) := dk_29 (dk_at dksX4_visitsOf_0 4 rfl rfl)
theorem dX4_visitsOf_5 : decode cX4_visitsOf 5 = .ok (.aload_n 0, 1) := dk_42 (dk_at dksX4_visitsOf_0 5 rfl rfl)
theorem dX4_visitsOf_6 : decode cX4_visitsOf 6 = .ok (.getfield 16, 3) := dk_180 0 16 (dk_at dksX4_visitsOf_0 6 rfl rfl)
theorem dX4_visitsOf_9 : decode cX4_visitsOf 9 = .ok (.iconst 2, 1) := dk_5 (dk_at dksX4_visitsOf_0 9 rfl rfl)
theorem dX4_visitsOf_10 : decode cX4_visitsOf 10 = .ok (.iaload, 1) := dk_46 (dk_at dksX4_visitsOf_0 10 rfl rfl)
theorem dX4_visitsOf_11 : decode cX4_visitsOf 11 = .ok (.if_icmp .ge 31, 3) := dk_162 0 31 (dk_at dksX4_visitsOf_0 11 rfl rfl)
theorem dX4_visitsOf_14 : decode cX4_visitsOf 14 = .ok (.aload_n 0, 1) := dk_42 (dk_at dksX4_visitsOf_0 14 rfl rfl)
theorem dX4_visitsOf_15 : decode cX4_visitsOf 15 = .ok (.iload_n 3, 1) := dk_29 (dk_at dksX4_visitsOf_0 15 rfl rfl)
theorem dX4_visitsOf_16 : decode cX4_visitsOf 16 = .ok (.iconst 0, 1) := dk_3 (dk_at dksX4_visitsOf_0 16 rfl rfl)
theorem dX4_visitsOf_17 : decode cX4_visitsOf 17 = .ok (.invokevirtual 187, 3) := dk_182 0 187 (dk_at dksX4_visitsOf_0 17 rfl rfl)
theorem dX4_visitsOf_20 : decode cX4_visitsOf 20 = .ok (.iload_n 1, 1) := dk_27 (dk_at dksX4_visitsOf_0 20 rfl rfl)
theorem dX4_visitsOf_21 : decode cX4_visitsOf 21 = .ok (.if_icmp .ne 15, 3) := dk_160 0 15 (dk_at dksX4_visitsOf_0 21 rfl rfl)
theorem dX4_visitsOf_24 : decode cX4_visitsOf 24 = .ok (.aload_n 0, 1) := dk_42 (dk_at dksX4_visitsOf_1 0 rfl rfl)
theorem dX4_visitsOf_25 : decode cX4_visitsOf 25 = .ok (.iload_n 3, 1) := dk_29 (dk_at dksX4_visitsOf_1 1 rfl rfl)
theorem dX4_visitsOf_26 : decode cX4_visitsOf 26 = .ok (.invokevirtual 190, 3) := dk_182 0 190 (dk_at dksX4_visitsOf_1 2 rfl rfl)
theorem dX4_visitsOf_29 : decode cX4_visitsOf 29 = .ok (.ifCond .eq 7, 3) := dk_153 0 7 (dk_at dksX4_visitsOf_1 5 rfl rfl)
theorem dX4_visitsOf_32 : decode cX4_visitsOf 32 = .ok (.iload_n 2, 1) := dk_28 (dk_at dksX4_visitsOf_1 8 rfl rfl)
theorem dX4_visitsOf_33 : decode cX4_visitsOf 33 = .ok (.iconst 1, 1) := dk_4 (dk_at dksX4_visitsOf_1 9 rfl rfl)
theorem dX4_visitsOf_34 : decode cX4_visitsOf 34 = .ok (.iadd, 1) := dk_96 (dk_at dksX4_visitsOf_1 10 rfl rfl)
theorem dX4_visitsOf_35 : decode cX4_visitsOf 35 = .ok (.istore_n 2, 1) := dk_61 (dk_at dksX4_visitsOf_1 11 rfl rfl)
theorem dX4_visitsOf_36 : decode cX4_visitsOf 36 = .ok (.iinc 3 1, 3) := dk_132 3 1 (dk_at dksX4_visitsOf_1 12 rfl rfl)
theorem dX4_visitsOf_39 : decode cX4_visitsOf 39 = .ok (.goto (-35), 3) := dk_167 255 221 (dk_at dksX4_visitsOf_1 15 rfl rfl)
theorem dX4_visitsOf_42 : decode cX4_visitsOf 42 = .ok (.iload_n 2, 1) := dk_28 (dk_at dksX4_visitsOf_1 18 rfl rfl)
theorem dX4_visitsOf_43 : decode cX4_visitsOf 43 = .ok (.ireturn, 1) := dk_172 (dk_at dksX4_visitsOf_1 19 rfl rfl)
abbrev cX4_ofVisit : ByteArray := prog_21_method_50_code
def yX4_ofVisit : MethodName := ⟨RX4, "ofVisit", "(II)I"⟩
def dkwX4_ofVisit_0 : List UInt8 := [42, 180, 0, 16, 42, 27, 28, 182, 0, 184, 46, 172]
abbrev dktX4_ofVisit_0 : List UInt8 := dkwX4_ofVisit_0 ++ []
theorem dksX4_ofVisit_0 : cX4_ofVisit.data.toList.drop 0 = dktX4_ofVisit_0 := by decide +kernel
theorem dX4_ofVisit_0 : decode cX4_ofVisit 0 = .ok (.aload_n 0, 1) := dk_42 (dk_at dksX4_ofVisit_0 0 rfl rfl)
theorem dX4_ofVisit_1 : decode cX4_ofVisit 1 = .ok (.getfield 16, 3) := dk_180 0 16 (dk_at dksX4_ofVisit_0 1 rfl rfl)
theorem dX4_ofVisit_4 : decode cX4_ofVisit 4 = .ok (.aload_n 0, 1) := dk_42 (dk_at dksX4_ofVisit_0 4 rfl rfl)
theorem dX4_ofVisit_5 : decode cX4_ofVisit 5 = .ok (.iload_n 1, 1) := dk_27 (dk_at dksX4_ofVisit_0 5 rfl rfl)
theorem dX4_ofVisit_6 : decode cX4_ofVisit 6 = .ok (.iload_n 2, 1) := dk_28 (dk_at dksX4_ofVisit_0 6 rfl rfl)
theorem dX4_ofVisit_7 : decode cX4_ofVisit 7 = .ok (.invokevirtual 184, 3) := dk_182 0 184 (dk_at dksX4_ofVisit_0 7 rfl rfl)
theorem dX4_ofVisit_10 : decode cX4_ofVisit 10 = .ok (.iaload, 1) := dk_46 (dk_at dksX4_ofVisit_0 10 rfl rfl)
theorem dX4_ofVisit_11 : decode cX4_ofVisit 11 = .ok (.ireturn, 1) := dk_172 (dk_at dksX4_ofVisit_0 11 rfl rfl)
abbrev cX4_visitAt : ByteArray := prog_21_method_49_code
def yX4_visitAt : MethodName := ⟨RX4, "visitAt", "(II)I"⟩
def dkwX4_visitAt_0 : List UInt8 := [17, 1, 204, 7, 27, 104, 96, 28, 96, 172]
abbrev dktX4_visitAt_0 : List UInt8 := dkwX4_visitAt_0 ++ []
theorem dksX4_visitAt_0 : cX4_visitAt.data.toList.drop 0 = dktX4_visitAt_0 := by decide +kernel
theorem dX4_visitAt_0 : decode cX4_visitAt 0 = .ok (.sipush 460, 3) := dk_17 1 204 (dk_at dksX4_visitAt_0 0 rfl rfl)
theorem dX4_visitAt_3 : decode cX4_visitAt 3 = .ok (.iconst 4, 1) := dk_7 (dk_at dksX4_visitAt_0 3 rfl rfl)
theorem dX4_visitAt_4 : decode cX4_visitAt 4 = .ok (.iload_n 1, 1) := dk_27 (dk_at dksX4_visitAt_0 4 rfl rfl)
theorem dX4_visitAt_5 : decode cX4_visitAt 5 = .ok (.imul, 1) := dk_104 (dk_at dksX4_visitAt_0 5 rfl rfl)
theorem dX4_visitAt_6 : decode cX4_visitAt 6 = .ok (.iadd, 1) := dk_96 (dk_at dksX4_visitAt_0 6 rfl rfl)
theorem dX4_visitAt_7 : decode cX4_visitAt 7 = .ok (.iload_n 2, 1) := dk_28 (dk_at dksX4_visitAt_0 7 rfl rfl)
theorem dX4_visitAt_8 : decode cX4_visitAt 8 = .ok (.iadd, 1) := dk_96 (dk_at dksX4_visitAt_0 8 rfl rfl)
theorem dX4_visitAt_9 : decode cX4_visitAt 9 = .ok (.ireturn, 1) := dk_172 (dk_at dksX4_visitAt_0 9 rfl rfl)
abbrev cX4_runs : ByteArray := prog_21_method_52_code
def yX4_runs : MethodName := ⟨RX4, "runs", "(I)Z"⟩
def dkwX4_runs_0 : List UInt8 := [42, 180, 0, 16, 3, 46, 42, 27, 6, 182, 0, 187, 162, 0, 7, 4, 167, 0, 4, 3, 172]
abbrev dktX4_runs_0 : List UInt8 := dkwX4_runs_0 ++ []
theorem dksX4_runs_0 : cX4_runs.data.toList.drop 0 = dktX4_runs_0 := by decide +kernel
theorem dX4_runs_0 : decode cX4_runs 0 = .ok (.aload_n 0, 1) := dk_42 (dk_at dksX4_runs_0 0 rfl rfl)
theorem dX4_runs_1 : decode cX4_runs 1 = .ok (.getfield 16, 3) := dk_180 0 16 (dk_at dksX4_runs_0 1 rfl rfl)
theorem dX4_runs_4 : decode cX4_runs 4 = .ok (.iconst 0, 1) := dk_3 (dk_at dksX4_runs_0 4 rfl rfl)
theorem dX4_runs_5 : decode cX4_runs 5 = .ok (.iaload, 1) := dk_46 (dk_at dksX4_runs_0 5 rfl rfl)
theorem dX4_runs_6 : decode cX4_runs 6 = .ok (.aload_n 0, 1) := dk_42 (dk_at dksX4_runs_0 6 rfl rfl)
theorem dX4_runs_7 : decode cX4_runs 7 = .ok (.iload_n 1, 1) := dk_27 (dk_at dksX4_runs_0 7 rfl rfl)
theorem dX4_runs_8 : decode cX4_runs 8 = .ok (.iconst 3, 1) := dk_6 (dk_at dksX4_runs_0 8 rfl rfl)
theorem dX4_runs_9 : decode cX4_runs 9 = .ok (.invokevirtual 187, 3) := dk_182 0 187 (dk_at dksX4_runs_0 9 rfl rfl)
theorem dX4_runs_12 : decode cX4_runs 12 = .ok (.if_icmp .ge 7, 3) := dk_162 0 7 (dk_at dksX4_runs_0 12 rfl rfl)
theorem dX4_runs_15 : decode cX4_runs 15 = .ok (.iconst 1, 1) := dk_4 (dk_at dksX4_runs_0 15 rfl rfl)
theorem dX4_runs_16 : decode cX4_runs 16 = .ok (.goto 4, 3) := dk_167 0 4 (dk_at dksX4_runs_0 16 rfl rfl)
theorem dX4_runs_19 : decode cX4_runs 19 = .ok (.iconst 0, 1) := dk_3 (dk_at dksX4_runs_0 19 rfl rfl)
theorem dX4_runs_20 : decode cX4_runs 20 = .ok (.ireturn, 1) := dk_172 (dk_at dksX4_runs_0 20 rfl rfl)
abbrev cX4_isVisiting : ByteArray := prog_21_method_54_code
def yX4_isVisiting : MethodName := ⟨RX4, "isVisiting", "(I)Z"⟩
def dkwX4_isVisiting_1 : List UInt8 := [182, 0, 190, 153, 0, 5, 4, 172, 132, 2, 1, 167, 255, 223, 3, 172]
abbrev dktX4_isVisiting_1 : List UInt8 := dkwX4_isVisiting_1 ++ []
def dkwX4_isVisiting_0 : List UInt8 := [3, 61, 28, 42, 180, 0, 16, 5, 46, 162, 0, 29, 42, 28, 4, 182, 0, 187, 27, 160, 0, 13, 42, 28]
abbrev dktX4_isVisiting_0 : List UInt8 := dkwX4_isVisiting_0 ++ dktX4_isVisiting_1
theorem dksX4_isVisiting_0 : cX4_isVisiting.data.toList.drop 0 = dktX4_isVisiting_0 := by decide +kernel
theorem dksX4_isVisiting_1 : cX4_isVisiting.data.toList.drop 24 = dktX4_isVisiting_1 := dk_seg dksX4_isVisiting_0 24 rfl rfl
theorem dX4_isVisiting_0 : decode cX4_isVisiting 0 = .ok (.iconst 0, 1) := dk_3 (dk_at dksX4_isVisiting_0 0 rfl rfl)
theorem dX4_isVisiting_1 : decode cX4_isVisiting 1 = .ok (.istore_n 2, 1) := dk_61 (dk_at dksX4_isVisiting_0 1 rfl rfl)
theorem dX4_isVisiting_2 : decode cX4_isVisiting 2 = .ok (.iload_n 2, 1) := dk_28 (dk_at dksX4_isVisiting_0 2 rfl rfl)
theorem dX4_isVisiting_3 : decode cX4_isVisiting 3 = .ok (.aload_n 0, 1) := dk_42 (dk_at dksX4_isVisiting_0 3 rfl rfl)
theorem dX4_isVisiting_4 : decode cX4_isVisiting 4 = .ok (.getfield 16, 3) := dk_180 0 16 (dk_at dksX4_isVisiting_0 4 rfl rfl)
theorem dX4_isVisiting_7 : decode cX4_isVisiting 7 = .ok (.iconst 2, 1) := dk_5 (dk_at dksX4_isVisiting_0 7 rfl rfl)
theorem dX4_isVisiting_8 : decode cX4_isVisiting 8 = .ok (.iaload, 1) := dk_46 (dk_at dksX4_isVisiting_0 8 rfl rfl)
theorem dX4_isVisiting_9 : decode cX4_isVisiting 9 = .ok (.if_icmp .ge 29, 3) := dk_162 0 29 (dk_at dksX4_isVisiting_0 9 rfl rfl)
theorem dX4_isVisiting_12 : decode cX4_isVisiting 12 = .ok (.aload_n 0, 1) := dk_42 (dk_at dksX4_isVisiting_0 12 rfl rfl)
theorem dX4_isVisiting_13 : decode cX4_isVisiting 13 = .ok (.iload_n 2, 1) := dk_28 (dk_at dksX4_isVisiting_0 13 rfl rfl)
theorem dX4_isVisiting_14 : decode cX4_isVisiting 14 = .ok (.iconst 1, 1) := dk_4 (dk_at dksX4_isVisiting_0 14 rfl rfl)
theorem dX4_isVisiting_15 : decode cX4_isVisiting 15 = .ok (.invokevirtual 187, 3) := dk_182 0 187 (dk_at dksX4_isVisiting_0 15 rfl rfl)
theorem dX4_isVisiting_18 : decode cX4_isVisiting 18 = .ok (.iload_n 1, 1) := dk_27 (dk_at dksX4_isVisiting_0 18 rfl rfl)
theorem dX4_isVisiting_19 : decode cX4_isVisiting 19 = .ok (.if_icmp .ne 13, 3) := dk_160 0 13 (dk_at dksX4_isVisiting_0 19 rfl rfl)
theorem dX4_isVisiting_22 : decode cX4_isVisiting 22 = .ok (.aload_n 0, 1) := dk_42 (dk_at dksX4_isVisiting_0 22 rfl rfl)
theorem dX4_isVisiting_23 : decode cX4_isVisiting 23 = .ok (.iload_n 2, 1) := dk_28 (dk_at dksX4_isVisiting_0 23 rfl rfl)
theorem dX4_isVisiting_24 : decode cX4_isVisiting 24 = .ok (.invokevirtual 190, 3) := dk_182 0 190 (dk_at dksX4_isVisiting_1 0 rfl rfl)
theorem dX4_isVisiting_27 : decode cX4_isVisiting 27 = .ok (.ifCond .eq 5, 3) := dk_153 0 5 (dk_at dksX4_isVisiting_1 3 rfl rfl)
theorem dX4_isVisiting_30 : decode cX4_isVisiting 30 = .ok (.iconst 1, 1) := dk_4 (dk_at dksX4_isVisiting_1 6 rfl rfl)
theorem dX4_isVisiting_31 : decode cX4_isVisiting 31 = .ok (.ireturn, 1) := dk_172 (dk_at dksX4_isVisiting_1 7 rfl rfl)
theorem dX4_isVisiting_32 : decode cX4_isVisiting 32 = .ok (.iinc 2 1, 3) := dk_132 2 1 (dk_at dksX4_isVisiting_1 8 rfl rfl)
theorem dX4_isVisiting_35 : decode cX4_isVisiting 35 = .ok (.goto (-33), 3) := dk_167 255 223 (dk_at dksX4_isVisiting_1 11 rfl rfl)
theorem dX4_isVisiting_38 : decode cX4_isVisiting 38 = .ok (.iconst 0, 1) := dk_3 (dk_at dksX4_isVisiting_1 14 rfl rfl)
theorem dX4_isVisiting_39 : decode cX4_isVisiting 39 = .ok (.ireturn, 1) := dk_172 (dk_at dksX4_isVisiting_1 15 rfl rfl)
abbrev cX4_extend : ByteArray := prog_21_method_57_code
def yX4_extend : MethodName := ⟨RX4, "extend", "(II)I"⟩
def dkwX4_extend_5 : List UInt8 := [6, 182, 0, 187, 182, 0, 173, 172]
abbrev dktX4_extend_5 : List UInt8 := dkwX4_extend_5 ++ []
def dkwX4_extend_4 : List UInt8 := [180, 0, 16, 42, 27, 6, 182, 0, 184, 42, 27, 6, 182, 0, 187, 16, 60, 28, 104, 96, 79, 42, 42, 27]
abbrev dktX4_extend_4 : List UInt8 := dkwX4_extend_4 ++ dktX4_extend_5
def dkwX4_extend_3 : List UInt8 := [182, 0, 148, 42, 180, 0, 16, 16, 23, 29, 96, 42, 180, 0, 16, 16, 23, 29, 96, 46, 28, 100, 79, 42]
abbrev dktX4_extend_3 : List UInt8 := dkwX4_extend_3 ++ dktX4_extend_4
def dkwX4_extend_2 : List UInt8 := [29, 96, 46, 28, 161, 0, 7, 4, 167, 0, 4, 3, 6, 182, 0, 163, 154, 0, 5, 3, 172, 42]
abbrev dktX4_extend_2 : List UInt8 := dkwX4_extend_2 ++ dktX4_extend_3
def dkwX4_extend_1 : List UInt8 := [3, 172, 42, 27, 3, 182, 0, 187, 62, 42, 42, 27, 182, 0, 190, 153, 0, 20, 42, 180, 0, 16, 16, 23]
abbrev dktX4_extend_1 : List UInt8 := dkwX4_extend_1 ++ dktX4_extend_2
def dkwX4_extend_0 : List UInt8 := [42, 42, 27, 182, 0, 204, 182, 0, 90, 153, 0, 15, 42, 28, 184, 0, 195, 5, 182, 0, 163, 154, 0, 5]
abbrev dktX4_extend_0 : List UInt8 := dkwX4_extend_0 ++ dktX4_extend_1
theorem dksX4_extend_0 : cX4_extend.data.toList.drop 0 = dktX4_extend_0 := by decide +kernel
theorem dksX4_extend_1 : cX4_extend.data.toList.drop 24 = dktX4_extend_1 := dk_seg dksX4_extend_0 24 rfl rfl
theorem dksX4_extend_2 : cX4_extend.data.toList.drop 48 = dktX4_extend_2 := dk_seg dksX4_extend_1 24 rfl rfl
theorem dksX4_extend_3 : cX4_extend.data.toList.drop 70 = dktX4_extend_3 := dk_seg dksX4_extend_2 22 rfl rfl
theorem dksX4_extend_4 : cX4_extend.data.toList.drop 94 = dktX4_extend_4 := dk_seg dksX4_extend_3 24 rfl rfl
theorem dksX4_extend_5 : cX4_extend.data.toList.drop 118 = dktX4_extend_5 := dk_seg dksX4_extend_4 24 rfl rfl
theorem dX4_extend_0 : decode cX4_extend 0 = .ok (.aload_n 0, 1) := dk_42 (dk_at dksX4_extend_0 0 rfl rfl)
theorem dX4_extend_1 : decode cX4_extend 1 = .ok (.aload_n 0, 1) := dk_42 (dk_at dksX4_extend_0 1 rfl rfl)
theorem dX4_extend_2 : decode cX4_extend 2 = .ok (.iload_n 1, 1) := dk_27 (dk_at dksX4_extend_0 2 rfl rfl)
theorem dX4_extend_3 : decode cX4_extend 3 = .ok (.invokevirtual 204, 3) := dk_182 0 204 (dk_at dksX4_extend_0 3 rfl rfl)
theorem dX4_extend_6 : decode cX4_extend 6 = .ok (.invokevirtual 90, 3) := dk_182 0 90 (dk_at dksX4_extend_0 6 rfl rfl)
theorem dX4_extend_9 : decode cX4_extend 9 = .ok (.ifCond .eq 15, 3) := dk_153 0 15 (dk_at dksX4_extend_0 9 rfl rfl)
theorem dX4_extend_12 : decode cX4_extend 12 = .ok (.aload_n 0, 1) := dk_42 (dk_at dksX4_extend_0 12 rfl rfl)
theorem dX4_extend_13 : decode cX4_extend 13 = .ok (.iload_n 2, 1) := dk_28 (dk_at dksX4_extend_0 13 rfl rfl)
theorem dX4_extend_14 : decode cX4_extend 14 = .ok (.invokestatic 195, 3) := dk_184 0 195 (dk_at dksX4_extend_0 14 rfl rfl)
theorem dX4_extend_17 : decode cX4_extend 17 = .ok (.iconst 2, 1) := dk_5 (dk_at dksX4_extend_0 17 rfl rfl)
theorem dX4_extend_18 : decode cX4_extend 18 = .ok (.invokevirtual 163, 3) := dk_182 0 163 (dk_at dksX4_extend_0 18 rfl rfl)
theorem dX4_extend_21 : decode cX4_extend 21 = .ok (.ifCond .ne 5, 3) := dk_154 0 5 (dk_at dksX4_extend_0 21 rfl rfl)
theorem dX4_extend_24 : decode cX4_extend 24 = .ok (.iconst 0, 1) := dk_3 (dk_at dksX4_extend_1 0 rfl rfl)
theorem dX4_extend_25 : decode cX4_extend 25 = .ok (.ireturn, 1) := dk_172 (dk_at dksX4_extend_1 1 rfl rfl)
theorem dX4_extend_26 : decode cX4_extend 26 = .ok (.aload_n 0, 1) := dk_42 (dk_at dksX4_extend_1 2 rfl rfl)
theorem dX4_extend_27 : decode cX4_extend 27 = .ok (.iload_n 1, 1) := dk_27 (dk_at dksX4_extend_1 3 rfl rfl)
theorem dX4_extend_28 : decode cX4_extend 28 = .ok (.iconst 0, 1) := dk_3 (dk_at dksX4_extend_1 4 rfl rfl)
theorem dX4_extend_29 : decode cX4_extend 29 = .ok (.invokevirtual 187, 3) := dk_182 0 187 (dk_at dksX4_extend_1 5 rfl rfl)
theorem dX4_extend_32 : decode cX4_extend 32 = .ok (.istore_n 3, 1) := dk_62 (dk_at dksX4_extend_1 8 rfl rfl)
theorem dX4_extend_33 : decode cX4_extend 33 = .ok (.aload_n 0, 1) := dk_42 (dk_at dksX4_extend_1 9 rfl rfl)
theorem dX4_extend_34 : decode cX4_extend 34 = .ok (.aload_n 0, 1) := dk_42 (dk_at dksX4_extend_1 10 rfl rfl)
theorem dX4_extend_35 : decode cX4_extend 35 = .ok (.iload_n 1, 1) := dk_27 (dk_at dksX4_extend_1 11 rfl rfl)
theorem dX4_extend_36 : decode cX4_extend 36 = .ok (.invokevirtual 190, 3) := dk_182 0 190 (dk_at dksX4_extend_1 12 rfl rfl)
theorem dX4_extend_39 : decode cX4_extend 39 = .ok (.ifCond .eq 20, 3) := dk_153 0 20 (dk_at dksX4_extend_1 15 rfl rfl)
theorem dX4_extend_42 : decode cX4_extend 42 = .ok (.aload_n 0, 1) := dk_42 (dk_at dksX4_extend_1 18 rfl rfl)
theorem dX4_extend_43 : decode cX4_extend 43 = .ok (.getfield 16, 3) := dk_180 0 16 (dk_at dksX4_extend_1 19 rfl rfl)
theorem dX4_extend_46 : decode cX4_extend 46 = .ok (.bipush 23, 2) := dk_16 23 (dk_at dksX4_extend_1 22 rfl rfl)
theorem dX4_extend_48 : decode cX4_extend 48 = .ok (.iload_n 3, 1) := dk_29 (dk_at dksX4_extend_2 0 rfl rfl)
theorem dX4_extend_49 : decode cX4_extend 49 = .ok (.iadd, 1) := dk_96 (dk_at dksX4_extend_2 1 rfl rfl)
theorem dX4_extend_50 : decode cX4_extend 50 = .ok (.iaload, 1) := dk_46 (dk_at dksX4_extend_2 2 rfl rfl)
theorem dX4_extend_51 : decode cX4_extend 51 = .ok (.iload_n 2, 1) := dk_28 (dk_at dksX4_extend_2 3 rfl rfl)
theorem dX4_extend_52 : decode cX4_extend 52 = .ok (.if_icmp .lt 7, 3) := dk_161 0 7 (dk_at dksX4_extend_2 4 rfl rfl)
theorem dX4_extend_55 : decode cX4_extend 55 = .ok (.iconst 1, 1) := dk_4 (dk_at dksX4_extend_2 7 rfl rfl)
theorem dX4_extend_56 : decode cX4_extend 56 = .ok (.goto 4, 3) := dk_167 0 4 (dk_at dksX4_extend_2 8 rfl rfl)
theorem dX4_extend_59 : decode cX4_extend 59 = .ok (.iconst 0, 1) := dk_3 (dk_at dksX4_extend_2 11 rfl rfl)
theorem dX4_extend_60 : decode cX4_extend 60 = .ok (.iconst 3, 1) := dk_6 (dk_at dksX4_extend_2 12 rfl rfl)
theorem dX4_extend_61 : decode cX4_extend 61 = .ok (.invokevirtual 163, 3) := dk_182 0 163 (dk_at dksX4_extend_2 13 rfl rfl)
theorem dX4_extend_64 : decode cX4_extend 64 = .ok (.ifCond .ne 5, 3) := dk_154 0 5 (dk_at dksX4_extend_2 16 rfl rfl)
theorem dX4_extend_67 : decode cX4_extend 67 = .ok (.iconst 0, 1) := dk_3 (dk_at dksX4_extend_2 19 rfl rfl)
theorem dX4_extend_68 : decode cX4_extend 68 = .ok (.ireturn, 1) := dk_172 (dk_at dksX4_extend_2 20 rfl rfl)
theorem dX4_extend_69 : decode cX4_extend 69 = .ok (.aload_n 0, 1) := dk_42 (dk_at dksX4_extend_2 21 rfl rfl)
theorem dX4_extend_70 : decode cX4_extend 70 = .ok (.invokevirtual 148, 3) := dk_182 0 148 (dk_at dksX4_extend_3 0 rfl rfl)
theorem dX4_extend_73 : decode cX4_extend 73 = .ok (.aload_n 0, 1) := dk_42 (dk_at dksX4_extend_3 3 rfl rfl)
theorem dX4_extend_74 : decode cX4_extend 74 = .ok (.getfield 16, 3) := dk_180 0 16 (dk_at dksX4_extend_3 4 rfl rfl)
theorem dX4_extend_77 : decode cX4_extend 77 = .ok (.bipush 23, 2) := dk_16 23 (dk_at dksX4_extend_3 7 rfl rfl)
theorem dX4_extend_79 : decode cX4_extend 79 = .ok (.iload_n 3, 1) := dk_29 (dk_at dksX4_extend_3 9 rfl rfl)
theorem dX4_extend_80 : decode cX4_extend 80 = .ok (.iadd, 1) := dk_96 (dk_at dksX4_extend_3 10 rfl rfl)
theorem dX4_extend_81 : decode cX4_extend 81 = .ok (.aload_n 0, 1) := dk_42 (dk_at dksX4_extend_3 11 rfl rfl)
theorem dX4_extend_82 : decode cX4_extend 82 = .ok (.getfield 16, 3) := dk_180 0 16 (dk_at dksX4_extend_3 12 rfl rfl)
theorem dX4_extend_85 : decode cX4_extend 85 = .ok (.bipush 23, 2) := dk_16 23 (dk_at dksX4_extend_3 15 rfl rfl)
theorem dX4_extend_87 : decode cX4_extend 87 = .ok (.iload_n 3, 1) := dk_29 (dk_at dksX4_extend_3 17 rfl rfl)
theorem dX4_extend_88 : decode cX4_extend 88 = .ok (.iadd, 1) := dk_96 (dk_at dksX4_extend_3 18 rfl rfl)
theorem dX4_extend_89 : decode cX4_extend 89 = .ok (.iaload, 1) := dk_46 (dk_at dksX4_extend_3 19 rfl rfl)
theorem dX4_extend_90 : decode cX4_extend 90 = .ok (.iload_n 2, 1) := dk_28 (dk_at dksX4_extend_3 20 rfl rfl)
theorem dX4_extend_91 : decode cX4_extend 91 = .ok (.isub, 1) := dk_100 (dk_at dksX4_extend_3 21 rfl rfl)
theorem dX4_extend_92 : decode cX4_extend 92 = .ok (.iastore, 1) := dk_79 (dk_at dksX4_extend_3 22 rfl rfl)
theorem dX4_extend_93 : decode cX4_extend 93 = .ok (.aload_n 0, 1) := dk_42 (dk_at dksX4_extend_3 23 rfl rfl)
theorem dX4_extend_94 : decode cX4_extend 94 = .ok (.getfield 16, 3) := dk_180 0 16 (dk_at dksX4_extend_4 0 rfl rfl)
theorem dX4_extend_97 : decode cX4_extend 97 = .ok (.aload_n 0, 1) := dk_42 (dk_at dksX4_extend_4 3 rfl rfl)
theorem dX4_extend_98 : decode cX4_extend 98 = .ok (.iload_n 1, 1) := dk_27 (dk_at dksX4_extend_4 4 rfl rfl)
theorem dX4_extend_99 : decode cX4_extend 99 = .ok (.iconst 3, 1) := dk_6 (dk_at dksX4_extend_4 5 rfl rfl)
theorem dX4_extend_100 : decode cX4_extend 100 = .ok (.invokevirtual 184, 3) := dk_182 0 184 (dk_at dksX4_extend_4 6 rfl rfl)
theorem dX4_extend_103 : decode cX4_extend 103 = .ok (.aload_n 0, 1) := dk_42 (dk_at dksX4_extend_4 9 rfl rfl)
theorem dX4_extend_104 : decode cX4_extend 104 = .ok (.iload_n 1, 1) := dk_27 (dk_at dksX4_extend_4 10 rfl rfl)
theorem dX4_extend_105 : decode cX4_extend 105 = .ok (.iconst 3, 1) := dk_6 (dk_at dksX4_extend_4 11 rfl rfl)
theorem dX4_extend_106 : decode cX4_extend 106 = .ok (.invokevirtual 187, 3) := dk_182 0 187 (dk_at dksX4_extend_4 12 rfl rfl)
theorem dX4_extend_109 : decode cX4_extend 109 = .ok (.bipush 60, 2) := dk_16 60 (dk_at dksX4_extend_4 15 rfl rfl)
theorem dX4_extend_111 : decode cX4_extend 111 = .ok (.iload_n 2, 1) := dk_28 (dk_at dksX4_extend_4 17 rfl rfl)
theorem dX4_extend_112 : decode cX4_extend 112 = .ok (.imul, 1) := dk_104 (dk_at dksX4_extend_4 18 rfl rfl)
theorem dX4_extend_113 : decode cX4_extend 113 = .ok (.iadd, 1) := dk_96 (dk_at dksX4_extend_4 19 rfl rfl)
theorem dX4_extend_114 : decode cX4_extend 114 = .ok (.iastore, 1) := dk_79 (dk_at dksX4_extend_4 20 rfl rfl)
theorem dX4_extend_115 : decode cX4_extend 115 = .ok (.aload_n 0, 1) := dk_42 (dk_at dksX4_extend_4 21 rfl rfl)
theorem dX4_extend_116 : decode cX4_extend 116 = .ok (.aload_n 0, 1) := dk_42 (dk_at dksX4_extend_4 22 rfl rfl)
theorem dX4_extend_117 : decode cX4_extend 117 = .ok (.iload_n 1, 1) := dk_27 (dk_at dksX4_extend_4 23 rfl rfl)
theorem dX4_extend_118 : decode cX4_extend 118 = .ok (.iconst 3, 1) := dk_6 (dk_at dksX4_extend_5 0 rfl rfl)
theorem dX4_extend_119 : decode cX4_extend 119 = .ok (.invokevirtual 187, 3) := dk_182 0 187 (dk_at dksX4_extend_5 1 rfl rfl)
theorem dX4_extend_122 : decode cX4_extend 122 = .ok (.invokevirtual 173, 3) := dk_182 0 173 (dk_at dksX4_extend_5 4 rfl rfl)
theorem dX4_extend_125 : decode cX4_extend 125 = .ok (.ireturn, 1) := dk_172 (dk_at dksX4_extend_5 7 rfl rfl)
abbrev cX4_isVisit : ByteArray := prog_21_method_51_code
def yX4_isVisit : MethodName := ⟨RX4, "isVisit", "(I)Z"⟩
def dkwX4_isVisit_0 : List UInt8 := [27, 133, 9, 42, 180, 0, 16, 5, 46, 4, 100, 133, 184, 0, 144, 172]
abbrev dktX4_isVisit_0 : List UInt8 := dkwX4_isVisit_0 ++ []
theorem dksX4_isVisit_0 : cX4_isVisit.data.toList.drop 0 = dktX4_isVisit_0 := by decide +kernel
theorem dX4_isVisit_0 : decode cX4_isVisit 0 = .ok (.iload_n 1, 1) := dk_27 (dk_at dksX4_isVisit_0 0 rfl rfl)
theorem dX4_isVisit_1 : decode cX4_isVisit 1 = .ok (.i2l, 1) := dk_133 (dk_at dksX4_isVisit_0 1 rfl rfl)
theorem dX4_isVisit_2 : decode cX4_isVisit 2 = .ok (.lconst 0, 1) := dk_9 (dk_at dksX4_isVisit_0 2 rfl rfl)
theorem dX4_isVisit_3 : decode cX4_isVisit 3 = .ok (.aload_n 0, 1) := dk_42 (dk_at dksX4_isVisit_0 3 rfl rfl)
theorem dX4_isVisit_4 : decode cX4_isVisit 4 = .ok (.getfield 16, 3) := dk_180 0 16 (dk_at dksX4_isVisit_0 4 rfl rfl)
theorem dX4_isVisit_7 : decode cX4_isVisit 7 = .ok (.iconst 2, 1) := dk_5 (dk_at dksX4_isVisit_0 7 rfl rfl)
theorem dX4_isVisit_8 : decode cX4_isVisit 8 = .ok (.iaload, 1) := dk_46 (dk_at dksX4_isVisit_0 8 rfl rfl)
theorem dX4_isVisit_9 : decode cX4_isVisit 9 = .ok (.iconst 1, 1) := dk_4 (dk_at dksX4_isVisit_0 9 rfl rfl)
theorem dX4_isVisit_10 : decode cX4_isVisit 10 = .ok (.isub, 1) := dk_100 (dk_at dksX4_isVisit_0 10 rfl rfl)
theorem dX4_isVisit_11 : decode cX4_isVisit 11 = .ok (.i2l, 1) := dk_133 (dk_at dksX4_isVisit_0 11 rfl rfl)
theorem dX4_isVisit_12 : decode cX4_isVisit 12 = .ok (.invokestatic 144, 3) := dk_184 0 144 (dk_at dksX4_isVisit_0 12 rfl rfl)
theorem dX4_isVisit_15 : decode cX4_isVisit 15 = .ok (.ireturn, 1) := dk_172 (dk_at dksX4_isVisit_0 15 rfl rfl)
abbrev cX4_endVisit : ByteArray := prog_21_method_58_code
def yX4_endVisit : MethodName := ⟨RX4, "endVisit", "(I)I"⟩
def dkwX4_endVisit_5 : List UInt8 := [42, 42, 180, 0, 16, 16, 23, 28, 96, 46, 182, 0, 173, 172]
abbrev dktX4_endVisit_5 : List UInt8 := dkwX4_endVisit_5 ++ []
def dkwX4_endVisit_4 : List UInt8 := [96, 46, 167, 0, 4, 29, 79, 42, 180, 0, 16, 42, 27, 6, 182, 0, 184, 42, 180, 0, 16, 3, 46, 79]
abbrev dktX4_endVisit_4 : List UInt8 := dkwX4_endVisit_4 ++ dktX4_endVisit_5
def dkwX4_endVisit_3 : List UInt8 := [16, 23, 28, 96, 29, 42, 180, 0, 7, 16, 95, 28, 96, 46, 164, 0, 15, 42, 180, 0, 7, 16, 95, 28]
abbrev dktX4_endVisit_3 : List UInt8 := dkwX4_endVisit_3 ++ dktX4_endVisit_4
def dkwX4_endVisit_2 : List UInt8 := [46, 42, 27, 6, 182, 0, 187, 42, 180, 0, 16, 3, 46, 100, 16, 60, 108, 96, 62, 42, 180, 0, 16]
abbrev dktX4_endVisit_2 : List UInt8 := dkwX4_endVisit_2 ++ dktX4_endVisit_3
def dkwX4_endVisit_1 : List UInt8 := [154, 0, 5, 3, 172, 42, 182, 0, 148, 42, 27, 3, 182, 0, 187, 61, 42, 180, 0, 16, 16, 23, 28, 96]
abbrev dktX4_endVisit_1 : List UInt8 := dkwX4_endVisit_1 ++ dktX4_endVisit_2
def dkwX4_endVisit_0 : List UInt8 := [42, 42, 27, 182, 0, 204, 182, 0, 90, 153, 0, 16, 42, 42, 27, 182, 0, 190, 5, 182, 0, 163]
abbrev dktX4_endVisit_0 : List UInt8 := dkwX4_endVisit_0 ++ dktX4_endVisit_1
theorem dksX4_endVisit_0 : cX4_endVisit.data.toList.drop 0 = dktX4_endVisit_0 := by decide +kernel
theorem dksX4_endVisit_1 : cX4_endVisit.data.toList.drop 22 = dktX4_endVisit_1 := dk_seg dksX4_endVisit_0 22 rfl rfl
theorem dksX4_endVisit_2 : cX4_endVisit.data.toList.drop 46 = dktX4_endVisit_2 := dk_seg dksX4_endVisit_1 24 rfl rfl
theorem dksX4_endVisit_3 : cX4_endVisit.data.toList.drop 69 = dktX4_endVisit_3 := dk_seg dksX4_endVisit_2 23 rfl rfl
theorem dksX4_endVisit_4 : cX4_endVisit.data.toList.drop 93 = dktX4_endVisit_4 := dk_seg dksX4_endVisit_3 24 rfl rfl
theorem dksX4_endVisit_5 : cX4_endVisit.data.toList.drop 117 = dktX4_endVisit_5 := dk_seg dksX4_endVisit_4 24 rfl rfl
theorem dX4_endVisit_0 : decode cX4_endVisit 0 = .ok (.aload_n 0, 1) := dk_42 (dk_at dksX4_endVisit_0 0 rfl rfl)
theorem dX4_endVisit_1 : decode cX4_endVisit 1 = .ok (.aload_n 0, 1) := dk_42 (dk_at dksX4_endVisit_0 1 rfl rfl)
theorem dX4_endVisit_2 : decode cX4_endVisit 2 = .ok (.iload_n 1, 1) := dk_27 (dk_at dksX4_endVisit_0 2 rfl rfl)
theorem dX4_endVisit_3 : decode cX4_endVisit 3 = .ok (.invokevirtual 204, 3) := dk_182 0 204 (dk_at dksX4_endVisit_0 3 rfl rfl)
theorem dX4_endVisit_6 : decode cX4_endVisit 6 = .ok (.invokevirtual 90, 3) := dk_182 0 90 (dk_at dksX4_endVisit_0 6 rfl rfl)
theorem dX4_endVisit_9 : decode cX4_endVisit 9 = .ok (.ifCond .eq 16, 3) := dk_153 0 16 (dk_at dksX4_endVisit_0 9 rfl rfl)
theorem dX4_endVisit_12 : decode cX4_endVisit 12 = .ok (.aload_n 0, 1) := dk_42 (dk_at dksX4_endVisit_0 12 rfl rfl)
theorem dX4_endVisit_13 : decode cX4_endVisit 13 = .ok (.aload_n 0, 1) := dk_42 (dk_at dksX4_endVisit_0 13 rfl rfl)
theorem dX4_endVisit_14 : decode cX4_endVisit 14 = .ok (.iload_n 1, 1) := dk_27 (dk_at dksX4_endVisit_0 14 rfl rfl)
theorem dX4_endVisit_15 : decode cX4_endVisit 15 = .ok (.invokevirtual 190, 3) := dk_182 0 190 (dk_at dksX4_endVisit_0 15 rfl rfl)
theorem dX4_endVisit_18 : decode cX4_endVisit 18 = .ok (.iconst 2, 1) := dk_5 (dk_at dksX4_endVisit_0 18 rfl rfl)
theorem dX4_endVisit_19 : decode cX4_endVisit 19 = .ok (.invokevirtual 163, 3) := dk_182 0 163 (dk_at dksX4_endVisit_0 19 rfl rfl)
theorem dX4_endVisit_22 : decode cX4_endVisit 22 = .ok (.ifCond .ne 5, 3) := dk_154 0 5 (dk_at dksX4_endVisit_1 0 rfl rfl)
theorem dX4_endVisit_25 : decode cX4_endVisit 25 = .ok (.iconst 0, 1) := dk_3 (dk_at dksX4_endVisit_1 3 rfl rfl)
theorem dX4_endVisit_26 : decode cX4_endVisit 26 = .ok (.ireturn, 1) := dk_172 (dk_at dksX4_endVisit_1 4 rfl rfl)
theorem dX4_endVisit_27 : decode cX4_endVisit 27 = .ok (.aload_n 0, 1) := dk_42 (dk_at dksX4_endVisit_1 5 rfl rfl)
theorem dX4_endVisit_28 : decode cX4_endVisit 28 = .ok (.invokevirtual 148, 3) := dk_182 0 148 (dk_at dksX4_endVisit_1 6 rfl rfl)
theorem dX4_endVisit_31 : decode cX4_endVisit 31 = .ok (.aload_n 0, 1) := dk_42 (dk_at dksX4_endVisit_1 9 rfl rfl)
theorem dX4_endVisit_32 : decode cX4_endVisit 32 = .ok (.iload_n 1, 1) := dk_27 (dk_at dksX4_endVisit_1 10 rfl rfl)
theorem dX4_endVisit_33 : decode cX4_endVisit 33 = .ok (.iconst 0, 1) := dk_3 (dk_at dksX4_endVisit_1 11 rfl rfl)
theorem dX4_endVisit_34 : decode cX4_endVisit 34 = .ok (.invokevirtual 187, 3) := dk_182 0 187 (dk_at dksX4_endVisit_1 12 rfl rfl)
theorem dX4_endVisit_37 : decode cX4_endVisit 37 = .ok (.istore_n 2, 1) := dk_61 (dk_at dksX4_endVisit_1 15 rfl rfl)
theorem dX4_endVisit_38 : decode cX4_endVisit 38 = .ok (.aload_n 0, 1) := dk_42 (dk_at dksX4_endVisit_1 16 rfl rfl)
theorem dX4_endVisit_39 : decode cX4_endVisit 39 = .ok (.getfield 16, 3) := dk_180 0 16 (dk_at dksX4_endVisit_1 17 rfl rfl)
theorem dX4_endVisit_42 : decode cX4_endVisit 42 = .ok (.bipush 23, 2) := dk_16 23 (dk_at dksX4_endVisit_1 20 rfl rfl)
theorem dX4_endVisit_44 : decode cX4_endVisit 44 = .ok (.iload_n 2, 1) := dk_28 (dk_at dksX4_endVisit_1 22 rfl rfl)
theorem dX4_endVisit_45 : decode cX4_endVisit 45 = .ok (.iadd, 1) := dk_96 (dk_at dksX4_endVisit_1 23 rfl rfl)
theorem dX4_endVisit_46 : decode cX4_endVisit 46 = .ok (.iaload, 1) := dk_46 (dk_at dksX4_endVisit_2 0 rfl rfl)
theorem dX4_endVisit_47 : decode cX4_endVisit 47 = .ok (.aload_n 0, 1) := dk_42 (dk_at dksX4_endVisit_2 1 rfl rfl)
theorem dX4_endVisit_48 : decode cX4_endVisit 48 = .ok (.iload_n 1, 1) := dk_27 (dk_at dksX4_endVisit_2 2 rfl rfl)
theorem dX4_endVisit_49 : decode cX4_endVisit 49 = .ok (.iconst 3, 1) := dk_6 (dk_at dksX4_endVisit_2 3 rfl rfl)
theorem dX4_endVisit_50 : decode cX4_endVisit 50 = .ok (.invokevirtual 187, 3) := dk_182 0 187 (dk_at dksX4_endVisit_2 4 rfl rfl)
theorem dX4_endVisit_53 : decode cX4_endVisit 53 = .ok (.aload_n 0, 1) := dk_42 (dk_at dksX4_endVisit_2 7 rfl rfl)
theorem dX4_endVisit_54 : decode cX4_endVisit 54 = .ok (.getfield 16, 3) := dk_180 0 16 (dk_at dksX4_endVisit_2 8 rfl rfl)
theorem dX4_endVisit_57 : decode cX4_endVisit 57 = .ok (.iconst 0, 1) := dk_3 (dk_at dksX4_endVisit_2 11 rfl rfl)
theorem dX4_endVisit_58 : decode cX4_endVisit 58 = .ok (.iaload, 1) := dk_46 (dk_at dksX4_endVisit_2 12 rfl rfl)
theorem dX4_endVisit_59 : decode cX4_endVisit 59 = .ok (.isub, 1) := dk_100 (dk_at dksX4_endVisit_2 13 rfl rfl)
theorem dX4_endVisit_60 : decode cX4_endVisit 60 = .ok (.bipush 60, 2) := dk_16 60 (dk_at dksX4_endVisit_2 14 rfl rfl)
theorem dX4_endVisit_62 : decode cX4_endVisit 62 = .ok (.idiv, 1) := dk_108 (dk_at dksX4_endVisit_2 16 rfl rfl)
theorem dX4_endVisit_63 : decode cX4_endVisit 63 = .ok (.iadd, 1) := dk_96 (dk_at dksX4_endVisit_2 17 rfl rfl)
theorem dX4_endVisit_64 : decode cX4_endVisit 64 = .ok (.istore_n 3, 1) := dk_62 (dk_at dksX4_endVisit_2 18 rfl rfl)
theorem dX4_endVisit_65 : decode cX4_endVisit 65 = .ok (.aload_n 0, 1) := dk_42 (dk_at dksX4_endVisit_2 19 rfl rfl)
theorem dX4_endVisit_66 : decode cX4_endVisit 66 = .ok (.getfield 16, 3) := dk_180 0 16 (dk_at dksX4_endVisit_2 20 rfl rfl)
theorem dX4_endVisit_69 : decode cX4_endVisit 69 = .ok (.bipush 23, 2) := dk_16 23 (dk_at dksX4_endVisit_3 0 rfl rfl)
theorem dX4_endVisit_71 : decode cX4_endVisit 71 = .ok (.iload_n 2, 1) := dk_28 (dk_at dksX4_endVisit_3 2 rfl rfl)
theorem dX4_endVisit_72 : decode cX4_endVisit 72 = .ok (.iadd, 1) := dk_96 (dk_at dksX4_endVisit_3 3 rfl rfl)
theorem dX4_endVisit_73 : decode cX4_endVisit 73 = .ok (.iload_n 3, 1) := dk_29 (dk_at dksX4_endVisit_3 4 rfl rfl)
theorem dX4_endVisit_74 : decode cX4_endVisit 74 = .ok (.aload_n 0, 1) := dk_42 (dk_at dksX4_endVisit_3 5 rfl rfl)
theorem dX4_endVisit_75 : decode cX4_endVisit 75 = .ok (.getfield 7, 3) := dk_180 0 7 (dk_at dksX4_endVisit_3 6 rfl rfl)
theorem dX4_endVisit_78 : decode cX4_endVisit 78 = .ok (.bipush 95, 2) := dk_16 95 (dk_at dksX4_endVisit_3 9 rfl rfl)
theorem dX4_endVisit_80 : decode cX4_endVisit 80 = .ok (.iload_n 2, 1) := dk_28 (dk_at dksX4_endVisit_3 11 rfl rfl)
theorem dX4_endVisit_81 : decode cX4_endVisit 81 = .ok (.iadd, 1) := dk_96 (dk_at dksX4_endVisit_3 12 rfl rfl)
theorem dX4_endVisit_82 : decode cX4_endVisit 82 = .ok (.iaload, 1) := dk_46 (dk_at dksX4_endVisit_3 13 rfl rfl)
theorem dX4_endVisit_83 : decode cX4_endVisit 83 = .ok (.if_icmp .le 15, 3) := dk_164 0 15 (dk_at dksX4_endVisit_3 14 rfl rfl)
theorem dX4_endVisit_86 : decode cX4_endVisit 86 = .ok (.aload_n 0, 1) := dk_42 (dk_at dksX4_endVisit_3 17 rfl rfl)
theorem dX4_endVisit_87 : decode cX4_endVisit 87 = .ok (.getfield 7, 3) := dk_180 0 7 (dk_at dksX4_endVisit_3 18 rfl rfl)
theorem dX4_endVisit_90 : decode cX4_endVisit 90 = .ok (.bipush 95, 2) := dk_16 95 (dk_at dksX4_endVisit_3 21 rfl rfl)
theorem dX4_endVisit_92 : decode cX4_endVisit 92 = .ok (.iload_n 2, 1) := dk_28 (dk_at dksX4_endVisit_3 23 rfl rfl)
theorem dX4_endVisit_93 : decode cX4_endVisit 93 = .ok (.iadd, 1) := dk_96 (dk_at dksX4_endVisit_4 0 rfl rfl)
theorem dX4_endVisit_94 : decode cX4_endVisit 94 = .ok (.iaload, 1) := dk_46 (dk_at dksX4_endVisit_4 1 rfl rfl)
theorem dX4_endVisit_95 : decode cX4_endVisit 95 = .ok (.goto 4, 3) := dk_167 0 4 (dk_at dksX4_endVisit_4 2 rfl rfl)
theorem dX4_endVisit_98 : decode cX4_endVisit 98 = .ok (.iload_n 3, 1) := dk_29 (dk_at dksX4_endVisit_4 5 rfl rfl)
theorem dX4_endVisit_99 : decode cX4_endVisit 99 = .ok (.iastore, 1) := dk_79 (dk_at dksX4_endVisit_4 6 rfl rfl)
theorem dX4_endVisit_100 : decode cX4_endVisit 100 = .ok (.aload_n 0, 1) := dk_42 (dk_at dksX4_endVisit_4 7 rfl rfl)
theorem dX4_endVisit_101 : decode cX4_endVisit 101 = .ok (.getfield 16, 3) := dk_180 0 16 (dk_at dksX4_endVisit_4 8 rfl rfl)
theorem dX4_endVisit_104 : decode cX4_endVisit 104 = .ok (.aload_n 0, 1) := dk_42 (dk_at dksX4_endVisit_4 11 rfl rfl)
theorem dX4_endVisit_105 : decode cX4_endVisit 105 = .ok (.iload_n 1, 1) := dk_27 (dk_at dksX4_endVisit_4 12 rfl rfl)
theorem dX4_endVisit_106 : decode cX4_endVisit 106 = .ok (.iconst 3, 1) := dk_6 (dk_at dksX4_endVisit_4 13 rfl rfl)
theorem dX4_endVisit_107 : decode cX4_endVisit 107 = .ok (.invokevirtual 184, 3) := dk_182 0 184 (dk_at dksX4_endVisit_4 14 rfl rfl)
theorem dX4_endVisit_110 : decode cX4_endVisit 110 = .ok (.aload_n 0, 1) := dk_42 (dk_at dksX4_endVisit_4 17 rfl rfl)
theorem dX4_endVisit_111 : decode cX4_endVisit 111 = .ok (.getfield 16, 3) := dk_180 0 16 (dk_at dksX4_endVisit_4 18 rfl rfl)
theorem dX4_endVisit_114 : decode cX4_endVisit 114 = .ok (.iconst 0, 1) := dk_3 (dk_at dksX4_endVisit_4 21 rfl rfl)
theorem dX4_endVisit_115 : decode cX4_endVisit 115 = .ok (.iaload, 1) := dk_46 (dk_at dksX4_endVisit_4 22 rfl rfl)
theorem dX4_endVisit_116 : decode cX4_endVisit 116 = .ok (.iastore, 1) := dk_79 (dk_at dksX4_endVisit_4 23 rfl rfl)
theorem dX4_endVisit_117 : decode cX4_endVisit 117 = .ok (.aload_n 0, 1) := dk_42 (dk_at dksX4_endVisit_5 0 rfl rfl)
theorem dX4_endVisit_118 : decode cX4_endVisit 118 = .ok (.aload_n 0, 1) := dk_42 (dk_at dksX4_endVisit_5 1 rfl rfl)
theorem dX4_endVisit_119 : decode cX4_endVisit 119 = .ok (.getfield 16, 3) := dk_180 0 16 (dk_at dksX4_endVisit_5 2 rfl rfl)
theorem dX4_endVisit_122 : decode cX4_endVisit 122 = .ok (.bipush 23, 2) := dk_16 23 (dk_at dksX4_endVisit_5 5 rfl rfl)
theorem dX4_endVisit_124 : decode cX4_endVisit 124 = .ok (.iload_n 2, 1) := dk_28 (dk_at dksX4_endVisit_5 7 rfl rfl)
theorem dX4_endVisit_125 : decode cX4_endVisit 125 = .ok (.iadd, 1) := dk_96 (dk_at dksX4_endVisit_5 8 rfl rfl)
theorem dX4_endVisit_126 : decode cX4_endVisit 126 = .ok (.iaload, 1) := dk_46 (dk_at dksX4_endVisit_5 9 rfl rfl)
theorem dX4_endVisit_127 : decode cX4_endVisit 127 = .ok (.invokevirtual 173, 3) := dk_182 0 173 (dk_at dksX4_endVisit_5 10 rfl rfl)
theorem dX4_endVisit_130 : decode cX4_endVisit 130 = .ok (.ireturn, 1) := dk_172 (dk_at dksX4_endVisit_5 13 rfl rfl)
abbrev cX4_visit : ByteArray := prog_21_method_59_code
def yX4_visit : MethodName := ⟨RX4, "visit", "(II)I"⟩
def dkwX4_visit_2 : List UInt8 := [153, 0, 7, 4, 167, 0, 4, 3, 172, 42, 27, 28, 182, 0, 187, 172]
abbrev dktX4_visit_2 : List UInt8 := dkwX4_visit_2 ++ []
def dkwX4_visit_1 : List UInt8 := [167, 0, 4, 3, 182, 0, 90, 154, 0, 5, 3, 172, 28, 7, 160, 0, 17, 42, 27, 182, 0, 190]
abbrev dktX4_visit_1 : List UInt8 := dkwX4_visit_1 ++ dktX4_visit_2
def dkwX4_visit_0 : List UInt8 := [42, 42, 27, 182, 0, 204, 153, 0, 19, 28, 133, 9, 20, 0, 207, 184, 0, 144, 153, 0, 7, 4]
abbrev dktX4_visit_0 : List UInt8 := dkwX4_visit_0 ++ dktX4_visit_1
theorem dksX4_visit_0 : cX4_visit.data.toList.drop 0 = dktX4_visit_0 := by decide +kernel
theorem dksX4_visit_1 : cX4_visit.data.toList.drop 22 = dktX4_visit_1 := dk_seg dksX4_visit_0 22 rfl rfl
theorem dksX4_visit_2 : cX4_visit.data.toList.drop 44 = dktX4_visit_2 := dk_seg dksX4_visit_1 22 rfl rfl
theorem dX4_visit_0 : decode cX4_visit 0 = .ok (.aload_n 0, 1) := dk_42 (dk_at dksX4_visit_0 0 rfl rfl)
theorem dX4_visit_1 : decode cX4_visit 1 = .ok (.aload_n 0, 1) := dk_42 (dk_at dksX4_visit_0 1 rfl rfl)
theorem dX4_visit_2 : decode cX4_visit 2 = .ok (.iload_n 1, 1) := dk_27 (dk_at dksX4_visit_0 2 rfl rfl)
theorem dX4_visit_3 : decode cX4_visit 3 = .ok (.invokevirtual 204, 3) := dk_182 0 204 (dk_at dksX4_visit_0 3 rfl rfl)
theorem dX4_visit_6 : decode cX4_visit 6 = .ok (.ifCond .eq 19, 3) := dk_153 0 19 (dk_at dksX4_visit_0 6 rfl rfl)
theorem dX4_visit_9 : decode cX4_visit 9 = .ok (.iload_n 2, 1) := dk_28 (dk_at dksX4_visit_0 9 rfl rfl)
theorem dX4_visit_10 : decode cX4_visit 10 = .ok (.i2l, 1) := dk_133 (dk_at dksX4_visit_0 10 rfl rfl)
theorem dX4_visit_11 : decode cX4_visit 11 = .ok (.lconst 0, 1) := dk_9 (dk_at dksX4_visit_0 11 rfl rfl)
theorem dX4_visit_12 : decode cX4_visit 12 = .ok (.ldc2_w 207, 3) := dk_20 0 207 (dk_at dksX4_visit_0 12 rfl rfl)
theorem dX4_visit_15 : decode cX4_visit 15 = .ok (.invokestatic 144, 3) := dk_184 0 144 (dk_at dksX4_visit_0 15 rfl rfl)
theorem dX4_visit_18 : decode cX4_visit 18 = .ok (.ifCond .eq 7, 3) := dk_153 0 7 (dk_at dksX4_visit_0 18 rfl rfl)
theorem dX4_visit_21 : decode cX4_visit 21 = .ok (.iconst 1, 1) := dk_4 (dk_at dksX4_visit_0 21 rfl rfl)
theorem dX4_visit_22 : decode cX4_visit 22 = .ok (.goto 4, 3) := dk_167 0 4 (dk_at dksX4_visit_1 0 rfl rfl)
theorem dX4_visit_25 : decode cX4_visit 25 = .ok (.iconst 0, 1) := dk_3 (dk_at dksX4_visit_1 3 rfl rfl)
theorem dX4_visit_26 : decode cX4_visit 26 = .ok (.invokevirtual 90, 3) := dk_182 0 90 (dk_at dksX4_visit_1 4 rfl rfl)
theorem dX4_visit_29 : decode cX4_visit 29 = .ok (.ifCond .ne 5, 3) := dk_154 0 5 (dk_at dksX4_visit_1 7 rfl rfl)
theorem dX4_visit_32 : decode cX4_visit 32 = .ok (.iconst 0, 1) := dk_3 (dk_at dksX4_visit_1 10 rfl rfl)
theorem dX4_visit_33 : decode cX4_visit 33 = .ok (.ireturn, 1) := dk_172 (dk_at dksX4_visit_1 11 rfl rfl)
theorem dX4_visit_34 : decode cX4_visit 34 = .ok (.iload_n 2, 1) := dk_28 (dk_at dksX4_visit_1 12 rfl rfl)
theorem dX4_visit_35 : decode cX4_visit 35 = .ok (.iconst 4, 1) := dk_7 (dk_at dksX4_visit_1 13 rfl rfl)
theorem dX4_visit_36 : decode cX4_visit 36 = .ok (.if_icmp .ne 17, 3) := dk_160 0 17 (dk_at dksX4_visit_1 14 rfl rfl)
theorem dX4_visit_39 : decode cX4_visit 39 = .ok (.aload_n 0, 1) := dk_42 (dk_at dksX4_visit_1 17 rfl rfl)
theorem dX4_visit_40 : decode cX4_visit 40 = .ok (.iload_n 1, 1) := dk_27 (dk_at dksX4_visit_1 18 rfl rfl)
theorem dX4_visit_41 : decode cX4_visit 41 = .ok (.invokevirtual 190, 3) := dk_182 0 190 (dk_at dksX4_visit_1 19 rfl rfl)
theorem dX4_visit_44 : decode cX4_visit 44 = .ok (.ifCond .eq 7, 3) := dk_153 0 7 (dk_at dksX4_visit_2 0 rfl rfl)
theorem dX4_visit_47 : decode cX4_visit 47 = .ok (.iconst 1, 1) := dk_4 (dk_at dksX4_visit_2 3 rfl rfl)
theorem dX4_visit_48 : decode cX4_visit 48 = .ok (.goto 4, 3) := dk_167 0 4 (dk_at dksX4_visit_2 4 rfl rfl)
theorem dX4_visit_51 : decode cX4_visit 51 = .ok (.iconst 0, 1) := dk_3 (dk_at dksX4_visit_2 7 rfl rfl)
theorem dX4_visit_52 : decode cX4_visit 52 = .ok (.ireturn, 1) := dk_172 (dk_at dksX4_visit_2 8 rfl rfl)
theorem dX4_visit_53 : decode cX4_visit 53 = .ok (.aload_n 0, 1) := dk_42 (dk_at dksX4_visit_2 9 rfl rfl)
theorem dX4_visit_54 : decode cX4_visit 54 = .ok (.iload_n 1, 1) := dk_27 (dk_at dksX4_visit_2 10 rfl rfl)
theorem dX4_visit_55 : decode cX4_visit 55 = .ok (.iload_n 2, 1) := dk_28 (dk_at dksX4_visit_2 11 rfl rfl)
theorem dX4_visit_56 : decode cX4_visit 56 = .ok (.invokevirtual 187, 3) := dk_182 0 187 (dk_at dksX4_visit_2 12 rfl rfl)
theorem dX4_visit_59 : decode cX4_visit 59 = .ok (.ireturn, 1) := dk_172 (dk_at dksX4_visit_2 15 rfl rfl)
abbrev cX4_park : ByteArray := prog_21_method_65_code
def yX4_park : MethodName := ⟨RX4, "park", "(II)I"⟩
def dkwX4_park_5 : List UInt8 := [29, 5, 182, 0, 209, 42, 180, 0, 16, 3, 46, 79, 42, 42, 28, 182, 0, 215, 182, 0, 173, 172]
abbrev dktX4_park_5 : List UInt8 := dkwX4_park_5 ++ []
def dkwX4_park_4 : List UInt8 := [29, 3, 182, 0, 209, 27, 79, 42, 180, 0, 16, 42, 29, 4, 182, 0, 209, 28, 79, 42, 180, 0, 16, 42]
abbrev dktX4_park_4 : List UInt8 := dkwX4_park_4 ++ dktX4_park_5
def dkwX4_park_3 : List UInt8 := [182, 0, 148, 42, 180, 0, 16, 6, 46, 62, 42, 180, 0, 16, 6, 29, 4, 96, 79, 42, 180, 0, 16, 42]
abbrev dktX4_park_3 : List UInt8 := dkwX4_park_3 ++ dktX4_park_4
def dkwX4_park_2 : List UInt8 := [6, 46, 16, 80, 162, 0, 7, 4, 167, 0, 4, 3, 6, 182, 0, 163, 154, 0, 5, 3, 172, 42]
abbrev dktX4_park_2 : List UInt8 := dkwX4_park_2 ++ dktX4_park_3
def dkwX4_park_1 : List UInt8 := [3, 172, 42, 42, 27, 182, 0, 221, 2, 160, 0, 26, 42, 28, 182, 0, 224, 158, 0, 18, 42, 180, 0, 16]
abbrev dktX4_park_1 : List UInt8 := dkwX4_park_1 ++ dktX4_park_2
def dkwX4_park_0 : List UInt8 := [42, 42, 28, 182, 0, 218, 182, 0, 90, 153, 0, 15, 42, 27, 184, 0, 160, 5, 182, 0, 163, 154, 0, 5]
abbrev dktX4_park_0 : List UInt8 := dkwX4_park_0 ++ dktX4_park_1
theorem dksX4_park_0 : cX4_park.data.toList.drop 0 = dktX4_park_0 := by decide +kernel
theorem dksX4_park_1 : cX4_park.data.toList.drop 24 = dktX4_park_1 := dk_seg dksX4_park_0 24 rfl rfl
theorem dksX4_park_2 : cX4_park.data.toList.drop 48 = dktX4_park_2 := dk_seg dksX4_park_1 24 rfl rfl
theorem dksX4_park_3 : cX4_park.data.toList.drop 70 = dktX4_park_3 := dk_seg dksX4_park_2 22 rfl rfl
theorem dksX4_park_4 : cX4_park.data.toList.drop 94 = dktX4_park_4 := dk_seg dksX4_park_3 24 rfl rfl
theorem dksX4_park_5 : cX4_park.data.toList.drop 118 = dktX4_park_5 := dk_seg dksX4_park_4 24 rfl rfl
theorem dX4_park_0 : decode cX4_park 0 = .ok (.aload_n 0, 1) := dk_42 (dk_at dksX4_park_0 0 rfl rfl)
theorem dX4_park_1 : decode cX4_park 1 = .ok (.aload_n 0, 1) := dk_42 (dk_at dksX4_park_0 1 rfl rfl)
theorem dX4_park_2 : decode cX4_park 2 = .ok (.iload_n 2, 1) := dk_28 (dk_at dksX4_park_0 2 rfl rfl)
theorem dX4_park_3 : decode cX4_park 3 = .ok (.invokevirtual 218, 3) := dk_182 0 218 (dk_at dksX4_park_0 3 rfl rfl)
theorem dX4_park_6 : decode cX4_park 6 = .ok (.invokevirtual 90, 3) := dk_182 0 90 (dk_at dksX4_park_0 6 rfl rfl)
theorem dX4_park_9 : decode cX4_park 9 = .ok (.ifCond .eq 15, 3) := dk_153 0 15 (dk_at dksX4_park_0 9 rfl rfl)
theorem dX4_park_12 : decode cX4_park 12 = .ok (.aload_n 0, 1) := dk_42 (dk_at dksX4_park_0 12 rfl rfl)
theorem dX4_park_13 : decode cX4_park 13 = .ok (.iload_n 1, 1) := dk_27 (dk_at dksX4_park_0 13 rfl rfl)
theorem dX4_park_14 : decode cX4_park 14 = .ok (.invokestatic 160, 3) := dk_184 0 160 (dk_at dksX4_park_0 14 rfl rfl)
theorem dX4_park_17 : decode cX4_park 17 = .ok (.iconst 2, 1) := dk_5 (dk_at dksX4_park_0 17 rfl rfl)
theorem dX4_park_18 : decode cX4_park 18 = .ok (.invokevirtual 163, 3) := dk_182 0 163 (dk_at dksX4_park_0 18 rfl rfl)
theorem dX4_park_21 : decode cX4_park 21 = .ok (.ifCond .ne 5, 3) := dk_154 0 5 (dk_at dksX4_park_0 21 rfl rfl)
theorem dX4_park_24 : decode cX4_park 24 = .ok (.iconst 0, 1) := dk_3 (dk_at dksX4_park_1 0 rfl rfl)
theorem dX4_park_25 : decode cX4_park 25 = .ok (.ireturn, 1) := dk_172 (dk_at dksX4_park_1 1 rfl rfl)
theorem dX4_park_26 : decode cX4_park 26 = .ok (.aload_n 0, 1) := dk_42 (dk_at dksX4_park_1 2 rfl rfl)
theorem dX4_park_27 : decode cX4_park 27 = .ok (.aload_n 0, 1) := dk_42 (dk_at dksX4_park_1 3 rfl rfl)
theorem dX4_park_28 : decode cX4_park 28 = .ok (.iload_n 1, 1) := dk_27 (dk_at dksX4_park_1 4 rfl rfl)
theorem dX4_park_29 : decode cX4_park 29 = .ok (.invokevirtual 221, 3) := dk_182 0 221 (dk_at dksX4_park_1 5 rfl rfl)
theorem dX4_park_32 : decode cX4_park 32 = .ok (.iconst (-1), 1) := dk_2 (dk_at dksX4_park_1 8 rfl rfl)
theorem dX4_park_33 : decode cX4_park 33 = .ok (.if_icmp .ne 26, 3) := dk_160 0 26 (dk_at dksX4_park_1 9 rfl rfl)
theorem dX4_park_36 : decode cX4_park 36 = .ok (.aload_n 0, 1) := dk_42 (dk_at dksX4_park_1 12 rfl rfl)
theorem dX4_park_37 : decode cX4_park 37 = .ok (.iload_n 2, 1) := dk_28 (dk_at dksX4_park_1 13 rfl rfl)
theorem dX4_park_38 : decode cX4_park 38 = .ok (.invokevirtual 224, 3) := dk_182 0 224 (dk_at dksX4_park_1 14 rfl rfl)
theorem dX4_park_41 : decode cX4_park 41 = .ok (.ifCond .le 18, 3) := dk_158 0 18 (dk_at dksX4_park_1 17 rfl rfl)
theorem dX4_park_44 : decode cX4_park 44 = .ok (.aload_n 0, 1) := dk_42 (dk_at dksX4_park_1 20 rfl rfl)
theorem dX4_park_45 : decode cX4_park 45 = .ok (.getfield 16, 3) := dk_180 0 16 (dk_at dksX4_park_1 21 rfl rfl)
theorem dX4_park_48 : decode cX4_park 48 = .ok (.iconst 3, 1) := dk_6 (dk_at dksX4_park_2 0 rfl rfl)
theorem dX4_park_49 : decode cX4_park 49 = .ok (.iaload, 1) := dk_46 (dk_at dksX4_park_2 1 rfl rfl)
theorem dX4_park_50 : decode cX4_park 50 = .ok (.bipush 80, 2) := dk_16 80 (dk_at dksX4_park_2 2 rfl rfl)
theorem dX4_park_52 : decode cX4_park 52 = .ok (.if_icmp .ge 7, 3) := dk_162 0 7 (dk_at dksX4_park_2 4 rfl rfl)
theorem dX4_park_55 : decode cX4_park 55 = .ok (.iconst 1, 1) := dk_4 (dk_at dksX4_park_2 7 rfl rfl)
theorem dX4_park_56 : decode cX4_park 56 = .ok (.goto 4, 3) := dk_167 0 4 (dk_at dksX4_park_2 8 rfl rfl)
theorem dX4_park_59 : decode cX4_park 59 = .ok (.iconst 0, 1) := dk_3 (dk_at dksX4_park_2 11 rfl rfl)
theorem dX4_park_60 : decode cX4_park 60 = .ok (.iconst 3, 1) := dk_6 (dk_at dksX4_park_2 12 rfl rfl)
theorem dX4_park_61 : decode cX4_park 61 = .ok (.invokevirtual 163, 3) := dk_182 0 163 (dk_at dksX4_park_2 13 rfl rfl)
theorem dX4_park_64 : decode cX4_park 64 = .ok (.ifCond .ne 5, 3) := dk_154 0 5 (dk_at dksX4_park_2 16 rfl rfl)
theorem dX4_park_67 : decode cX4_park 67 = .ok (.iconst 0, 1) := dk_3 (dk_at dksX4_park_2 19 rfl rfl)
theorem dX4_park_68 : decode cX4_park 68 = .ok (.ireturn, 1) := dk_172 (dk_at dksX4_park_2 20 rfl rfl)
theorem dX4_park_69 : decode cX4_park 69 = .ok (.aload_n 0, 1) := dk_42 (dk_at dksX4_park_2 21 rfl rfl)
theorem dX4_park_70 : decode cX4_park 70 = .ok (.invokevirtual 148, 3) := dk_182 0 148 (dk_at dksX4_park_3 0 rfl rfl)
theorem dX4_park_73 : decode cX4_park 73 = .ok (.aload_n 0, 1) := dk_42 (dk_at dksX4_park_3 3 rfl rfl)
theorem dX4_park_74 : decode cX4_park 74 = .ok (.getfield 16, 3) := dk_180 0 16 (dk_at dksX4_park_3 4 rfl rfl)
theorem dX4_park_77 : decode cX4_park 77 = .ok (.iconst 3, 1) := dk_6 (dk_at dksX4_park_3 7 rfl rfl)
theorem dX4_park_78 : decode cX4_park 78 = .ok (.iaload, 1) := dk_46 (dk_at dksX4_park_3 8 rfl rfl)
theorem dX4_park_79 : decode cX4_park 79 = .ok (.istore_n 3, 1) := dk_62 (dk_at dksX4_park_3 9 rfl rfl)
theorem dX4_park_80 : decode cX4_park 80 = .ok (.aload_n 0, 1) := dk_42 (dk_at dksX4_park_3 10 rfl rfl)
theorem dX4_park_81 : decode cX4_park 81 = .ok (.getfield 16, 3) := dk_180 0 16 (dk_at dksX4_park_3 11 rfl rfl)
theorem dX4_park_84 : decode cX4_park 84 = .ok (.iconst 3, 1) := dk_6 (dk_at dksX4_park_3 14 rfl rfl)
theorem dX4_park_85 : decode cX4_park 85 = .ok (.iload_n 3, 1) := dk_29 (dk_at dksX4_park_3 15 rfl rfl)
theorem dX4_park_86 : decode cX4_park 86 = .ok (.iconst 1, 1) := dk_4 (dk_at dksX4_park_3 16 rfl rfl)
theorem dX4_park_87 : decode cX4_park 87 = .ok (.iadd, 1) := dk_96 (dk_at dksX4_park_3 17 rfl rfl)
theorem dX4_park_88 : decode cX4_park 88 = .ok (.iastore, 1) := dk_79 (dk_at dksX4_park_3 18 rfl rfl)
theorem dX4_park_89 : decode cX4_park 89 = .ok (.aload_n 0, 1) := dk_42 (dk_at dksX4_park_3 19 rfl rfl)
theorem dX4_park_90 : decode cX4_park 90 = .ok (.getfield 16, 3) := dk_180 0 16 (dk_at dksX4_park_3 20 rfl rfl)
theorem dX4_park_93 : decode cX4_park 93 = .ok (.aload_n 0, 1) := dk_42 (dk_at dksX4_park_3 23 rfl rfl)
theorem dX4_park_94 : decode cX4_park 94 = .ok (.iload_n 3, 1) := dk_29 (dk_at dksX4_park_4 0 rfl rfl)
theorem dX4_park_95 : decode cX4_park 95 = .ok (.iconst 0, 1) := dk_3 (dk_at dksX4_park_4 1 rfl rfl)
theorem dX4_park_96 : decode cX4_park 96 = .ok (.invokevirtual 209, 3) := dk_182 0 209 (dk_at dksX4_park_4 2 rfl rfl)
theorem dX4_park_99 : decode cX4_park 99 = .ok (.iload_n 1, 1) := dk_27 (dk_at dksX4_park_4 5 rfl rfl)
theorem dX4_park_100 : decode cX4_park 100 = .ok (.iastore, 1) := dk_79 (dk_at dksX4_park_4 6 rfl rfl)
theorem dX4_park_101 : decode cX4_park 101 = .ok (.aload_n 0, 1) := dk_42 (dk_at dksX4_park_4 7 rfl rfl)
theorem dX4_park_102 : decode cX4_park 102 = .ok (.getfield 16, 3) := dk_180 0 16 (dk_at dksX4_park_4 8 rfl rfl)
theorem dX4_park_105 : decode cX4_park 105 = .ok (.aload_n 0, 1) := dk_42 (dk_at dksX4_park_4 11 rfl rfl)
theorem dX4_park_106 : decode cX4_park 106 = .ok (.iload_n 3, 1) := dk_29 (dk_at dksX4_park_4 12 rfl rfl)
theorem dX4_park_107 : decode cX4_park 107 = .ok (.iconst 1, 1) := dk_4 (dk_at dksX4_park_4 13 rfl rfl)
theorem dX4_park_108 : decode cX4_park 108 = .ok (.invokevirtual 209, 3) := dk_182 0 209 (dk_at dksX4_park_4 14 rfl rfl)
theorem dX4_park_111 : decode cX4_park 111 = .ok (.iload_n 2, 1) := dk_28 (dk_at dksX4_park_4 17 rfl rfl)
theorem dX4_park_112 : decode cX4_park 112 = .ok (.iastore, 1) := dk_79 (dk_at dksX4_park_4 18 rfl rfl)
theorem dX4_park_113 : decode cX4_park 113 = .ok (.aload_n 0, 1) := dk_42 (dk_at dksX4_park_4 19 rfl rfl)
theorem dX4_park_114 : decode cX4_park 114 = .ok (.getfield 16, 3) := dk_180 0 16 (dk_at dksX4_park_4 20 rfl rfl)
theorem dX4_park_117 : decode cX4_park 117 = .ok (.aload_n 0, 1) := dk_42 (dk_at dksX4_park_4 23 rfl rfl)
theorem dX4_park_118 : decode cX4_park 118 = .ok (.iload_n 3, 1) := dk_29 (dk_at dksX4_park_5 0 rfl rfl)
theorem dX4_park_119 : decode cX4_park 119 = .ok (.iconst 2, 1) := dk_5 (dk_at dksX4_park_5 1 rfl rfl)
theorem dX4_park_120 : decode cX4_park 120 = .ok (.invokevirtual 209, 3) := dk_182 0 209 (dk_at dksX4_park_5 2 rfl rfl)
theorem dX4_park_123 : decode cX4_park 123 = .ok (.aload_n 0, 1) := dk_42 (dk_at dksX4_park_5 5 rfl rfl)
theorem dX4_park_124 : decode cX4_park 124 = .ok (.getfield 16, 3) := dk_180 0 16 (dk_at dksX4_park_5 6 rfl rfl)
theorem dX4_park_127 : decode cX4_park 127 = .ok (.iconst 0, 1) := dk_3 (dk_at dksX4_park_5 9 rfl rfl)
theorem dX4_park_128 : decode cX4_park 128 = .ok (.iaload, 1) := dk_46 (dk_at dksX4_park_5 10 rfl rfl)
theorem dX4_park_129 : decode cX4_park 129 = .ok (.iastore, 1) := dk_79 (dk_at dksX4_park_5 11 rfl rfl)
theorem dX4_park_130 : decode cX4_park 130 = .ok (.aload_n 0, 1) := dk_42 (dk_at dksX4_park_5 12 rfl rfl)
theorem dX4_park_131 : decode cX4_park 131 = .ok (.aload_n 0, 1) := dk_42 (dk_at dksX4_park_5 13 rfl rfl)
theorem dX4_park_132 : decode cX4_park 132 = .ok (.iload_n 2, 1) := dk_28 (dk_at dksX4_park_5 14 rfl rfl)
theorem dX4_park_133 : decode cX4_park 133 = .ok (.invokevirtual 215, 3) := dk_182 0 215 (dk_at dksX4_park_5 15 rfl rfl)
theorem dX4_park_136 : decode cX4_park 136 = .ok (.invokevirtual 173, 3) := dk_182 0 173 (dk_at dksX4_park_5 18 rfl rfl)
theorem dX4_park_139 : decode cX4_park 139 = .ok (.ireturn, 1) := dk_172 (dk_at dksX4_park_5 21 rfl rfl)
abbrev cX4_isStreet : ByteArray := prog_21_method_36_code
def yX4_isStreet : MethodName := ⟨RX4, "isStreet", "(I)Z"⟩
def dkwX4_isStreet_0 : List UInt8 := [27, 133, 9, 42, 180, 0, 7, 4, 46, 4, 100, 133, 184, 0, 144, 172]
abbrev dktX4_isStreet_0 : List UInt8 := dkwX4_isStreet_0 ++ []
theorem dksX4_isStreet_0 : cX4_isStreet.data.toList.drop 0 = dktX4_isStreet_0 := by decide +kernel
theorem dX4_isStreet_0 : decode cX4_isStreet 0 = .ok (.iload_n 1, 1) := dk_27 (dk_at dksX4_isStreet_0 0 rfl rfl)
theorem dX4_isStreet_1 : decode cX4_isStreet 1 = .ok (.i2l, 1) := dk_133 (dk_at dksX4_isStreet_0 1 rfl rfl)
theorem dX4_isStreet_2 : decode cX4_isStreet 2 = .ok (.lconst 0, 1) := dk_9 (dk_at dksX4_isStreet_0 2 rfl rfl)
theorem dX4_isStreet_3 : decode cX4_isStreet 3 = .ok (.aload_n 0, 1) := dk_42 (dk_at dksX4_isStreet_0 3 rfl rfl)
theorem dX4_isStreet_4 : decode cX4_isStreet 4 = .ok (.getfield 7, 3) := dk_180 0 7 (dk_at dksX4_isStreet_0 4 rfl rfl)
theorem dX4_isStreet_7 : decode cX4_isStreet 7 = .ok (.iconst 1, 1) := dk_4 (dk_at dksX4_isStreet_0 7 rfl rfl)
theorem dX4_isStreet_8 : decode cX4_isStreet 8 = .ok (.iaload, 1) := dk_46 (dk_at dksX4_isStreet_0 8 rfl rfl)
theorem dX4_isStreet_9 : decode cX4_isStreet 9 = .ok (.iconst 1, 1) := dk_4 (dk_at dksX4_isStreet_0 9 rfl rfl)
theorem dX4_isStreet_10 : decode cX4_isStreet 10 = .ok (.isub, 1) := dk_100 (dk_at dksX4_isStreet_0 10 rfl rfl)
theorem dX4_isStreet_11 : decode cX4_isStreet 11 = .ok (.i2l, 1) := dk_133 (dk_at dksX4_isStreet_0 11 rfl rfl)
theorem dX4_isStreet_12 : decode cX4_isStreet 12 = .ok (.invokestatic 144, 3) := dk_184 0 144 (dk_at dksX4_isStreet_0 12 rfl rfl)
theorem dX4_isStreet_15 : decode cX4_isStreet 15 = .ok (.ireturn, 1) := dk_172 (dk_at dksX4_isStreet_0 15 rfl rfl)
abbrev cX4_carOf : ByteArray := prog_21_method_62_code
def yX4_carOf : MethodName := ⟨RX4, "carOf", "(I)I"⟩
def dkwX4_carOf_1 : List UInt8 := [132, 2, 1, 167, 255, 231, 2, 172]
abbrev dktX4_carOf_1 : List UInt8 := dkwX4_carOf_1 ++ []
def dkwX4_carOf_0 : List UInt8 := [3, 61, 28, 42, 180, 0, 16, 6, 46, 162, 0, 21, 42, 28, 3, 182, 0, 212, 27, 160, 0, 5, 28, 172]
abbrev dktX4_carOf_0 : List UInt8 := dkwX4_carOf_0 ++ dktX4_carOf_1
theorem dksX4_carOf_0 : cX4_carOf.data.toList.drop 0 = dktX4_carOf_0 := by decide +kernel
theorem dksX4_carOf_1 : cX4_carOf.data.toList.drop 24 = dktX4_carOf_1 := dk_seg dksX4_carOf_0 24 rfl rfl
theorem dX4_carOf_0 : decode cX4_carOf 0 = .ok (.iconst 0, 1) := dk_3 (dk_at dksX4_carOf_0 0 rfl rfl)
theorem dX4_carOf_1 : decode cX4_carOf 1 = .ok (.istore_n 2, 1) := dk_61 (dk_at dksX4_carOf_0 1 rfl rfl)
theorem dX4_carOf_2 : decode cX4_carOf 2 = .ok (.iload_n 2, 1) := dk_28 (dk_at dksX4_carOf_0 2 rfl rfl)
theorem dX4_carOf_3 : decode cX4_carOf 3 = .ok (.aload_n 0, 1) := dk_42 (dk_at dksX4_carOf_0 3 rfl rfl)
theorem dX4_carOf_4 : decode cX4_carOf 4 = .ok (.getfield 16, 3) := dk_180 0 16 (dk_at dksX4_carOf_0 4 rfl rfl)
theorem dX4_carOf_7 : decode cX4_carOf 7 = .ok (.iconst 3, 1) := dk_6 (dk_at dksX4_carOf_0 7 rfl rfl)
theorem dX4_carOf_8 : decode cX4_carOf 8 = .ok (.iaload, 1) := dk_46 (dk_at dksX4_carOf_0 8 rfl rfl)
theorem dX4_carOf_9 : decode cX4_carOf 9 = .ok (.if_icmp .ge 21, 3) := dk_162 0 21 (dk_at dksX4_carOf_0 9 rfl rfl)
theorem dX4_carOf_12 : decode cX4_carOf 12 = .ok (.aload_n 0, 1) := dk_42 (dk_at dksX4_carOf_0 12 rfl rfl)
theorem dX4_carOf_13 : decode cX4_carOf 13 = .ok (.iload_n 2, 1) := dk_28 (dk_at dksX4_carOf_0 13 rfl rfl)
theorem dX4_carOf_14 : decode cX4_carOf 14 = .ok (.iconst 0, 1) := dk_3 (dk_at dksX4_carOf_0 14 rfl rfl)
theorem dX4_carOf_15 : decode cX4_carOf 15 = .ok (.invokevirtual 212, 3) := dk_182 0 212 (dk_at dksX4_carOf_0 15 rfl rfl)
theorem dX4_carOf_18 : decode cX4_carOf 18 = .ok (.iload_n 1, 1) := dk_27 (dk_at dksX4_carOf_0 18 rfl rfl)
theorem dX4_carOf_19 : decode cX4_carOf 19 = .ok (.if_icmp .ne 5, 3) := dk_160 0 5 (dk_at dksX4_carOf_0 19 rfl rfl)
theorem dX4_carOf_22 : decode cX4_carOf 22 = .ok (.iload_n 2, 1) := dk_28 (dk_at dksX4_carOf_0 22 rfl rfl)
theorem dX4_carOf_23 : decode cX4_carOf 23 = .ok (.ireturn, 1) := dk_172 (dk_at dksX4_carOf_0 23 rfl rfl)
theorem dX4_carOf_24 : decode cX4_carOf 24 = .ok (.iinc 2 1, 3) := dk_132 2 1 (dk_at dksX4_carOf_1 0 rfl rfl)
theorem dX4_carOf_27 : decode cX4_carOf 27 = .ok (.goto (-25), 3) := dk_167 255 231 (dk_at dksX4_carOf_1 3 rfl rfl)
theorem dX4_carOf_30 : decode cX4_carOf 30 = .ok (.iconst (-1), 1) := dk_2 (dk_at dksX4_carOf_1 6 rfl rfl)
theorem dX4_carOf_31 : decode cX4_carOf 31 = .ok (.ireturn, 1) := dk_172 (dk_at dksX4_carOf_1 7 rfl rfl)
abbrev cX4_ofCar : ByteArray := prog_21_method_61_code
def yX4_ofCar : MethodName := ⟨RX4, "ofCar", "(II)I"⟩
def dkwX4_ofCar_0 : List UInt8 := [42, 180, 0, 16, 42, 27, 28, 182, 0, 209, 46, 172]
abbrev dktX4_ofCar_0 : List UInt8 := dkwX4_ofCar_0 ++ []
theorem dksX4_ofCar_0 : cX4_ofCar.data.toList.drop 0 = dktX4_ofCar_0 := by decide +kernel
theorem dX4_ofCar_0 : decode cX4_ofCar 0 = .ok (.aload_n 0, 1) := dk_42 (dk_at dksX4_ofCar_0 0 rfl rfl)
theorem dX4_ofCar_1 : decode cX4_ofCar 1 = .ok (.getfield 16, 3) := dk_180 0 16 (dk_at dksX4_ofCar_0 1 rfl rfl)
theorem dX4_ofCar_4 : decode cX4_ofCar 4 = .ok (.aload_n 0, 1) := dk_42 (dk_at dksX4_ofCar_0 4 rfl rfl)
theorem dX4_ofCar_5 : decode cX4_ofCar 5 = .ok (.iload_n 1, 1) := dk_27 (dk_at dksX4_ofCar_0 5 rfl rfl)
theorem dX4_ofCar_6 : decode cX4_ofCar 6 = .ok (.iload_n 2, 1) := dk_28 (dk_at dksX4_ofCar_0 6 rfl rfl)
theorem dX4_ofCar_7 : decode cX4_ofCar 7 = .ok (.invokevirtual 209, 3) := dk_182 0 209 (dk_at dksX4_ofCar_0 7 rfl rfl)
theorem dX4_ofCar_10 : decode cX4_ofCar 10 = .ok (.iaload, 1) := dk_46 (dk_at dksX4_ofCar_0 10 rfl rfl)
theorem dX4_ofCar_11 : decode cX4_ofCar 11 = .ok (.ireturn, 1) := dk_172 (dk_at dksX4_ofCar_0 11 rfl rfl)
abbrev cX4_carAt : ByteArray := prog_21_method_60_code
def yX4_carAt : MethodName := ⟨RX4, "carAt", "(II)I"⟩
def dkwX4_carAt_0 : List UInt8 := [17, 2, 188, 6, 27, 104, 96, 28, 96, 172]
abbrev dktX4_carAt_0 : List UInt8 := dkwX4_carAt_0 ++ []
theorem dksX4_carAt_0 : cX4_carAt.data.toList.drop 0 = dktX4_carAt_0 := by decide +kernel
theorem dX4_carAt_0 : decode cX4_carAt 0 = .ok (.sipush 700, 3) := dk_17 2 188 (dk_at dksX4_carAt_0 0 rfl rfl)
theorem dX4_carAt_3 : decode cX4_carAt 3 = .ok (.iconst 3, 1) := dk_6 (dk_at dksX4_carAt_0 3 rfl rfl)
theorem dX4_carAt_4 : decode cX4_carAt 4 = .ok (.iload_n 1, 1) := dk_27 (dk_at dksX4_carAt_0 4 rfl rfl)
theorem dX4_carAt_5 : decode cX4_carAt 5 = .ok (.imul, 1) := dk_104 (dk_at dksX4_carAt_0 5 rfl rfl)
theorem dX4_carAt_6 : decode cX4_carAt 6 = .ok (.iadd, 1) := dk_96 (dk_at dksX4_carAt_0 6 rfl rfl)
theorem dX4_carAt_7 : decode cX4_carAt 7 = .ok (.iload_n 2, 1) := dk_28 (dk_at dksX4_carAt_0 7 rfl rfl)
theorem dX4_carAt_8 : decode cX4_carAt 8 = .ok (.iadd, 1) := dk_96 (dk_at dksX4_carAt_0 8 rfl rfl)
theorem dX4_carAt_9 : decode cX4_carAt 9 = .ok (.ireturn, 1) := dk_172 (dk_at dksX4_carAt_0 9 rfl rfl)
abbrev cX4_freeIn : ByteArray := prog_21_method_64_code
def yX4_freeIn : MethodName := ⟨RX4, "freeIn", "(I)I"⟩
def dkwX4_freeIn_0 : List UInt8 := [42, 180, 0, 7, 16, 39, 27, 96, 46, 42, 27, 182, 0, 215, 100, 172]
abbrev dktX4_freeIn_0 : List UInt8 := dkwX4_freeIn_0 ++ []
theorem dksX4_freeIn_0 : cX4_freeIn.data.toList.drop 0 = dktX4_freeIn_0 := by decide +kernel
theorem dX4_freeIn_0 : decode cX4_freeIn 0 = .ok (.aload_n 0, 1) := dk_42 (dk_at dksX4_freeIn_0 0 rfl rfl)
theorem dX4_freeIn_1 : decode cX4_freeIn 1 = .ok (.getfield 7, 3) := dk_180 0 7 (dk_at dksX4_freeIn_0 1 rfl rfl)
theorem dX4_freeIn_4 : decode cX4_freeIn 4 = .ok (.bipush 39, 2) := dk_16 39 (dk_at dksX4_freeIn_0 4 rfl rfl)
theorem dX4_freeIn_6 : decode cX4_freeIn 6 = .ok (.iload_n 1, 1) := dk_27 (dk_at dksX4_freeIn_0 6 rfl rfl)
theorem dX4_freeIn_7 : decode cX4_freeIn 7 = .ok (.iadd, 1) := dk_96 (dk_at dksX4_freeIn_0 7 rfl rfl)
theorem dX4_freeIn_8 : decode cX4_freeIn 8 = .ok (.iaload, 1) := dk_46 (dk_at dksX4_freeIn_0 8 rfl rfl)
theorem dX4_freeIn_9 : decode cX4_freeIn 9 = .ok (.aload_n 0, 1) := dk_42 (dk_at dksX4_freeIn_0 9 rfl rfl)
theorem dX4_freeIn_10 : decode cX4_freeIn 10 = .ok (.iload_n 1, 1) := dk_27 (dk_at dksX4_freeIn_0 10 rfl rfl)
theorem dX4_freeIn_11 : decode cX4_freeIn 11 = .ok (.invokevirtual 215, 3) := dk_182 0 215 (dk_at dksX4_freeIn_0 11 rfl rfl)
theorem dX4_freeIn_14 : decode cX4_freeIn 14 = .ok (.isub, 1) := dk_100 (dk_at dksX4_freeIn_0 14 rfl rfl)
theorem dX4_freeIn_15 : decode cX4_freeIn 15 = .ok (.ireturn, 1) := dk_172 (dk_at dksX4_freeIn_0 15 rfl rfl)
abbrev cX4_carsIn : ByteArray := prog_21_method_63_code
def yX4_carsIn : MethodName := ⟨RX4, "carsIn", "(I)I"⟩
def dkwX4_carsIn_1 : List UInt8 := [28, 4, 96, 61, 132, 3, 1, 167, 255, 229, 28, 172]
abbrev dktX4_carsIn_1 : List UInt8 := dkwX4_carsIn_1 ++ []
def dkwX4_carsIn_0 : List UInt8 := [3, 61, 3, 62, 29, 42, 180, 0, 16, 6, 46, 162, 0, 23, 42, 29, 4, 182, 0, 212, 27, 160, 0, 7]
abbrev dktX4_carsIn_0 : List UInt8 := dkwX4_carsIn_0 ++ dktX4_carsIn_1
theorem dksX4_carsIn_0 : cX4_carsIn.data.toList.drop 0 = dktX4_carsIn_0 := by decide +kernel
theorem dksX4_carsIn_1 : cX4_carsIn.data.toList.drop 24 = dktX4_carsIn_1 := dk_seg dksX4_carsIn_0 24 rfl rfl
theorem dX4_carsIn_0 : decode cX4_carsIn 0 = .ok (.iconst 0, 1) := dk_3 (dk_at dksX4_carsIn_0 0 rfl rfl)
theorem dX4_carsIn_1 : decode cX4_carsIn 1 = .ok (.istore_n 2, 1) := dk_61 (dk_at dksX4_carsIn_0 1 rfl rfl)
theorem dX4_carsIn_2 : decode cX4_carsIn 2 = .ok (.iconst 0, 1) := dk_3 (dk_at dksX4_carsIn_0 2 rfl rfl)
theorem dX4_carsIn_3 : decode cX4_carsIn 3 = .ok (.istore_n 3, 1) := dk_62 (dk_at dksX4_carsIn_0 3 rfl rfl)
theorem dX4_carsIn_4 : decode cX4_carsIn 4 = .ok (.iload_n 3, 1) := dk_29 (dk_at dksX4_carsIn_0 4 rfl rfl)
theorem dX4_carsIn_5 : decode cX4_carsIn 5 = .ok (.aload_n 0, 1) := dk_42 (dk_at dksX4_carsIn_0 5 rfl rfl)
theorem dX4_carsIn_6 : decode cX4_carsIn 6 = .ok (.getfield 16, 3) := dk_180 0 16 (dk_at dksX4_carsIn_0 6 rfl rfl)
theorem dX4_carsIn_9 : decode cX4_carsIn 9 = .ok (.iconst 3, 1) := dk_6 (dk_at dksX4_carsIn_0 9 rfl rfl)
theorem dX4_carsIn_10 : decode cX4_carsIn 10 = .ok (.iaload, 1) := dk_46 (dk_at dksX4_carsIn_0 10 rfl rfl)
theorem dX4_carsIn_11 : decode cX4_carsIn 11 = .ok (.if_icmp .ge 23, 3) := dk_162 0 23 (dk_at dksX4_carsIn_0 11 rfl rfl)
theorem dX4_carsIn_14 : decode cX4_carsIn 14 = .ok (.aload_n 0, 1) := dk_42 (dk_at dksX4_carsIn_0 14 rfl rfl)
theorem dX4_carsIn_15 : decode cX4_carsIn 15 = .ok (.iload_n 3, 1) := dk_29 (dk_at dksX4_carsIn_0 15 rfl rfl)
theorem dX4_carsIn_16 : decode cX4_carsIn 16 = .ok (.iconst 1, 1) := dk_4 (dk_at dksX4_carsIn_0 16 rfl rfl)
theorem dX4_carsIn_17 : decode cX4_carsIn 17 = .ok (.invokevirtual 212, 3) := dk_182 0 212 (dk_at dksX4_carsIn_0 17 rfl rfl)
theorem dX4_carsIn_20 : decode cX4_carsIn 20 = .ok (.iload_n 1, 1) := dk_27 (dk_at dksX4_carsIn_0 20 rfl rfl)
theorem dX4_carsIn_21 : decode cX4_carsIn 21 = .ok (.if_icmp .ne 7, 3) := dk_160 0 7 (dk_at dksX4_carsIn_0 21 rfl rfl)
theorem dX4_carsIn_24 : decode cX4_carsIn 24 = .ok (.iload_n 2, 1) := dk_28 (dk_at dksX4_carsIn_1 0 rfl rfl)
theorem dX4_carsIn_25 : decode cX4_carsIn 25 = .ok (.iconst 1, 1) := dk_4 (dk_at dksX4_carsIn_1 1 rfl rfl)
theorem dX4_carsIn_26 : decode cX4_carsIn 26 = .ok (.iadd, 1) := dk_96 (dk_at dksX4_carsIn_1 2 rfl rfl)
theorem dX4_carsIn_27 : decode cX4_carsIn 27 = .ok (.istore_n 2, 1) := dk_61 (dk_at dksX4_carsIn_1 3 rfl rfl)
theorem dX4_carsIn_28 : decode cX4_carsIn 28 = .ok (.iinc 3 1, 3) := dk_132 3 1 (dk_at dksX4_carsIn_1 4 rfl rfl)
theorem dX4_carsIn_31 : decode cX4_carsIn 31 = .ok (.goto (-27), 3) := dk_167 255 229 (dk_at dksX4_carsIn_1 7 rfl rfl)
theorem dX4_carsIn_34 : decode cX4_carsIn 34 = .ok (.iload_n 2, 1) := dk_28 (dk_at dksX4_carsIn_1 10 rfl rfl)
theorem dX4_carsIn_35 : decode cX4_carsIn 35 = .ok (.ireturn, 1) := dk_172 (dk_at dksX4_carsIn_1 11 rfl rfl)
abbrev cX4_leave : ByteArray := prog_21_method_66_code
def yX4_leave : MethodName := ⟨RX4, "leave", "(I)I"⟩
def dkwX4_leave_4 : List UInt8 := [79, 132, 4, 1, 167, 255, 221, 42, 29, 182, 0, 173, 172]
abbrev dktX4_leave_4 : List UInt8 := dkwX4_leave_4 ++ []
def dkwX4_leave_3 : List UInt8 := [6, 46, 3, 182, 0, 209, 162, 0, 25, 42, 180, 0, 16, 21, 4, 42, 180, 0, 16, 21, 4, 6, 96, 46]
abbrev dktX4_leave_3 : List UInt8 := dkwX4_leave_3 ++ dktX4_leave_4
def dkwX4_leave_2 : List UInt8 := [42, 180, 0, 16, 6, 46, 4, 100, 79, 42, 28, 3, 182, 0, 209, 54, 4, 21, 4, 42, 42, 180, 0, 16]
abbrev dktX4_leave_2 : List UInt8 := dkwX4_leave_2 ++ dktX4_leave_3
def dkwX4_leave_1 : List UInt8 := [172, 42, 182, 0, 148, 42, 180, 0, 16, 3, 46, 42, 28, 5, 182, 0, 212, 100, 62, 42, 180, 0, 16, 6]
abbrev dktX4_leave_1 : List UInt8 := dkwX4_leave_1 ++ dktX4_leave_2
def dkwX4_leave_0 : List UInt8 := [42, 27, 182, 0, 221, 61, 42, 28, 2, 159, 0, 7, 4, 167, 0, 4, 3, 182, 0, 90, 154, 0, 5, 3]
abbrev dktX4_leave_0 : List UInt8 := dkwX4_leave_0 ++ dktX4_leave_1
theorem dksX4_leave_0 : cX4_leave.data.toList.drop 0 = dktX4_leave_0 := by decide +kernel
theorem dksX4_leave_1 : cX4_leave.data.toList.drop 24 = dktX4_leave_1 := dk_seg dksX4_leave_0 24 rfl rfl
theorem dksX4_leave_2 : cX4_leave.data.toList.drop 48 = dktX4_leave_2 := dk_seg dksX4_leave_1 24 rfl rfl
theorem dksX4_leave_3 : cX4_leave.data.toList.drop 72 = dktX4_leave_3 := dk_seg dksX4_leave_2 24 rfl rfl
theorem dksX4_leave_4 : cX4_leave.data.toList.drop 96 = dktX4_leave_4 := dk_seg dksX4_leave_3 24 rfl rfl
theorem dX4_leave_0 : decode cX4_leave 0 = .ok (.aload_n 0, 1) := dk_42 (dk_at dksX4_leave_0 0 rfl rfl)
theorem dX4_leave_1 : decode cX4_leave 1 = .ok (.iload_n 1, 1) := dk_27 (dk_at dksX4_leave_0 1 rfl rfl)
theorem dX4_leave_2 : decode cX4_leave 2 = .ok (.invokevirtual 221, 3) := dk_182 0 221 (dk_at dksX4_leave_0 2 rfl rfl)
theorem dX4_leave_5 : decode cX4_leave 5 = .ok (.istore_n 2, 1) := dk_61 (dk_at dksX4_leave_0 5 rfl rfl)
theorem dX4_leave_6 : decode cX4_leave 6 = .ok (.aload_n 0, 1) := dk_42 (dk_at dksX4_leave_0 6 rfl rfl)
theorem dX4_leave_7 : decode cX4_leave 7 = .ok (.iload_n 2, 1) := dk_28 (dk_at dksX4_leave_0 7 rfl rfl)
theorem dX4_leave_8 : decode cX4_leave 8 = .ok (.iconst (-1), 1) := dk_2 (dk_at dksX4_leave_0 8 rfl rfl)
theorem dX4_leave_9 : decode cX4_leave 9 = .ok (.if_icmp .eq 7, 3) := dk_159 0 7 (dk_at dksX4_leave_0 9 rfl rfl)
theorem dX4_leave_12 : decode cX4_leave 12 = .ok (.iconst 1, 1) := dk_4 (dk_at dksX4_leave_0 12 rfl rfl)
theorem dX4_leave_13 : decode cX4_leave 13 = .ok (.goto 4, 3) := dk_167 0 4 (dk_at dksX4_leave_0 13 rfl rfl)
theorem dX4_leave_16 : decode cX4_leave 16 = .ok (.iconst 0, 1) := dk_3 (dk_at dksX4_leave_0 16 rfl rfl)
theorem dX4_leave_17 : decode cX4_leave 17 = .ok (.invokevirtual 90, 3) := dk_182 0 90 (dk_at dksX4_leave_0 17 rfl rfl)
theorem dX4_leave_20 : decode cX4_leave 20 = .ok (.ifCond .ne 5, 3) := dk_154 0 5 (dk_at dksX4_leave_0 20 rfl rfl)
theorem dX4_leave_23 : decode cX4_leave 23 = .ok (.iconst 0, 1) := dk_3 (dk_at dksX4_leave_0 23 rfl rfl)
theorem dX4_leave_24 : decode cX4_leave 24 = .ok (.ireturn, 1) := dk_172 (dk_at dksX4_leave_1 0 rfl rfl)
theorem dX4_leave_25 : decode cX4_leave 25 = .ok (.aload_n 0, 1) := dk_42 (dk_at dksX4_leave_1 1 rfl rfl)
theorem dX4_leave_26 : decode cX4_leave 26 = .ok (.invokevirtual 148, 3) := dk_182 0 148 (dk_at dksX4_leave_1 2 rfl rfl)
theorem dX4_leave_29 : decode cX4_leave 29 = .ok (.aload_n 0, 1) := dk_42 (dk_at dksX4_leave_1 5 rfl rfl)
theorem dX4_leave_30 : decode cX4_leave 30 = .ok (.getfield 16, 3) := dk_180 0 16 (dk_at dksX4_leave_1 6 rfl rfl)
theorem dX4_leave_33 : decode cX4_leave 33 = .ok (.iconst 0, 1) := dk_3 (dk_at dksX4_leave_1 9 rfl rfl)
theorem dX4_leave_34 : decode cX4_leave 34 = .ok (.iaload, 1) := dk_46 (dk_at dksX4_leave_1 10 rfl rfl)
theorem dX4_leave_35 : decode cX4_leave 35 = .ok (.aload_n 0, 1) := dk_42 (dk_at dksX4_leave_1 11 rfl rfl)
theorem dX4_leave_36 : decode cX4_leave 36 = .ok (.iload_n 2, 1) := dk_28 (dk_at dksX4_leave_1 12 rfl rfl)
theorem dX4_leave_37 : decode cX4_leave 37 = .ok (.iconst 2, 1) := dk_5 (dk_at dksX4_leave_1 13 rfl rfl)
theorem dX4_leave_38 : decode cX4_leave 38 = .ok (.invokevirtual 212, 3) := dk_182 0 212 (dk_at dksX4_leave_1 14 rfl rfl)
theorem dX4_leave_41 : decode cX4_leave 41 = .ok (.isub, 1) := dk_100 (dk_at dksX4_leave_1 17 rfl rfl)
theorem dX4_leave_42 : decode cX4_leave 42 = .ok (.istore_n 3, 1) := dk_62 (dk_at dksX4_leave_1 18 rfl rfl)
theorem dX4_leave_43 : decode cX4_leave 43 = .ok (.aload_n 0, 1) := dk_42 (dk_at dksX4_leave_1 19 rfl rfl)
theorem dX4_leave_44 : decode cX4_leave 44 = .ok (.getfield 16, 3) := dk_180 0 16 (dk_at dksX4_leave_1 20 rfl rfl)
theorem dX4_leave_47 : decode cX4_leave 47 = .ok (.iconst 3, 1) := dk_6 (dk_at dksX4_leave_1 23 rfl rfl)
theorem dX4_leave_48 : decode cX4_leave 48 = .ok (.aload_n 0, 1) := dk_42 (dk_at dksX4_leave_2 0 rfl rfl)
theorem dX4_leave_49 : decode cX4_leave 49 = .ok (.getfield 16, 3) := dk_180 0 16 (dk_at dksX4_leave_2 1 rfl rfl)
theorem dX4_leave_52 : decode cX4_leave 52 = .ok (.iconst 3, 1) := dk_6 (dk_at dksX4_leave_2 4 rfl rfl)
theorem dX4_leave_53 : decode cX4_leave 53 = .ok (.iaload, 1) := dk_46 (dk_at dksX4_leave_2 5 rfl rfl)
theorem dX4_leave_54 : decode cX4_leave 54 = .ok (.iconst 1, 1) := dk_4 (dk_at dksX4_leave_2 6 rfl rfl)
theorem dX4_leave_55 : decode cX4_leave 55 = .ok (.isub, 1) := dk_100 (dk_at dksX4_leave_2 7 rfl rfl)
theorem dX4_leave_56 : decode cX4_leave 56 = .ok (.iastore, 1) := dk_79 (dk_at dksX4_leave_2 8 rfl rfl)
theorem dX4_leave_57 : decode cX4_leave 57 = .ok (.aload_n 0, 1) := dk_42 (dk_at dksX4_leave_2 9 rfl rfl)
theorem dX4_leave_58 : decode cX4_leave 58 = .ok (.iload_n 2, 1) := dk_28 (dk_at dksX4_leave_2 10 rfl rfl)
theorem dX4_leave_59 : decode cX4_leave 59 = .ok (.iconst 0, 1) := dk_3 (dk_at dksX4_leave_2 11 rfl rfl)
theorem dX4_leave_60 : decode cX4_leave 60 = .ok (.invokevirtual 209, 3) := dk_182 0 209 (dk_at dksX4_leave_2 12 rfl rfl)
theorem dX4_leave_63 : decode cX4_leave 63 = .ok (.istore 4, 2) := dk_54 4 (dk_at dksX4_leave_2 15 rfl rfl)
theorem dX4_leave_65 : decode cX4_leave 65 = .ok (.iload 4, 2) := dk_21 4 (dk_at dksX4_leave_2 17 rfl rfl)
theorem dX4_leave_67 : decode cX4_leave 67 = .ok (.aload_n 0, 1) := dk_42 (dk_at dksX4_leave_2 19 rfl rfl)
theorem dX4_leave_68 : decode cX4_leave 68 = .ok (.aload_n 0, 1) := dk_42 (dk_at dksX4_leave_2 20 rfl rfl)
theorem dX4_leave_69 : decode cX4_leave 69 = .ok (.getfield 16, 3) := dk_180 0 16 (dk_at dksX4_leave_2 21 rfl rfl)
theorem dX4_leave_72 : decode cX4_leave 72 = .ok (.iconst 3, 1) := dk_6 (dk_at dksX4_leave_3 0 rfl rfl)
theorem dX4_leave_73 : decode cX4_leave 73 = .ok (.iaload, 1) := dk_46 (dk_at dksX4_leave_3 1 rfl rfl)
theorem dX4_leave_74 : decode cX4_leave 74 = .ok (.iconst 0, 1) := dk_3 (dk_at dksX4_leave_3 2 rfl rfl)
theorem dX4_leave_75 : decode cX4_leave 75 = .ok (.invokevirtual 209, 3) := dk_182 0 209 (dk_at dksX4_leave_3 3 rfl rfl)
theorem dX4_leave_78 : decode cX4_leave 78 = .ok (.if_icmp .ge 25, 3) := dk_162 0 25 (dk_at dksX4_leave_3 6 rfl rfl)
theorem dX4_leave_81 : decode cX4_leave 81 = .ok (.aload_n 0, 1) := dk_42 (dk_at dksX4_leave_3 9 rfl rfl)
theorem dX4_leave_82 : decode cX4_leave 82 = .ok (.getfield 16, 3) := dk_180 0 16 (dk_at dksX4_leave_3 10 rfl rfl)
theorem dX4_leave_85 : decode cX4_leave 85 = .ok (.iload 4, 2) := dk_21 4 (dk_at dksX4_leave_3 13 rfl rfl)
theorem dX4_leave_87 : decode cX4_leave 87 = .ok (.aload_n 0, 1) := dk_42 (dk_at dksX4_leave_3 15 rfl rfl)
theorem dX4_leave_88 : decode cX4_leave 88 = .ok (.getfield 16, 3) := dk_180 0 16 (dk_at dksX4_leave_3 16 rfl rfl)
theorem dX4_leave_91 : decode cX4_leave 91 = .ok (.iload 4, 2) := dk_21 4 (dk_at dksX4_leave_3 19 rfl rfl)
theorem dX4_leave_93 : decode cX4_leave 93 = .ok (.iconst 3, 1) := dk_6 (dk_at dksX4_leave_3 21 rfl rfl)
theorem dX4_leave_94 : decode cX4_leave 94 = .ok (.iadd, 1) := dk_96 (dk_at dksX4_leave_3 22 rfl rfl)
theorem dX4_leave_95 : decode cX4_leave 95 = .ok (.iaload, 1) := dk_46 (dk_at dksX4_leave_3 23 rfl rfl)
theorem dX4_leave_96 : decode cX4_leave 96 = .ok (.iastore, 1) := dk_79 (dk_at dksX4_leave_4 0 rfl rfl)
theorem dX4_leave_97 : decode cX4_leave 97 = .ok (.iinc 4 1, 3) := dk_132 4 1 (dk_at dksX4_leave_4 1 rfl rfl)
theorem dX4_leave_100 : decode cX4_leave 100 = .ok (.goto (-35), 3) := dk_167 255 221 (dk_at dksX4_leave_4 4 rfl rfl)
theorem dX4_leave_103 : decode cX4_leave 103 = .ok (.aload_n 0, 1) := dk_42 (dk_at dksX4_leave_4 7 rfl rfl)
theorem dX4_leave_104 : decode cX4_leave 104 = .ok (.iload_n 3, 1) := dk_29 (dk_at dksX4_leave_4 8 rfl rfl)
theorem dX4_leave_105 : decode cX4_leave 105 = .ok (.invokevirtual 173, 3) := dk_182 0 173 (dk_at dksX4_leave_4 9 rfl rfl)
theorem dX4_leave_108 : decode cX4_leave 108 = .ok (.ireturn, 1) := dk_172 (dk_at dksX4_leave_4 12 rfl rfl)
abbrev cX4_car : ByteArray := prog_21_method_67_code
def yX4_car : MethodName := ⟨RX4, "car", "(II)I"⟩
def dkwX4_car_3 : List UInt8 := [21, 4, 4, 96, 54, 4, 167, 255, 220, 42, 21, 4, 3, 182, 0, 212, 172]
abbrev dktX4_car_3 : List UInt8 := dkwX4_car_3 ++ []
def dkwX4_car_2 : List UInt8 := [27, 160, 0, 7, 29, 158, 0, 27, 42, 21, 4, 4, 182, 0, 212, 27, 160, 0, 7, 29, 4, 100, 62]
abbrev dktX4_car_2 : List UInt8 := dkwX4_car_2 ++ dktX4_car_3
def dkwX4_car_1 : List UInt8 := [184, 0, 144, 5, 182, 0, 163, 154, 0, 5, 3, 172, 28, 62, 3, 54, 4, 42, 21, 4, 4, 182, 0, 212]
abbrev dktX4_car_1 : List UInt8 := dkwX4_car_1 ++ dktX4_car_2
def dkwX4_car_0 : List UInt8 := [42, 42, 27, 182, 0, 218, 182, 0, 90, 153, 0, 25, 42, 28, 133, 9, 42, 27, 182, 0, 215, 4, 100, 133]
abbrev dktX4_car_0 : List UInt8 := dkwX4_car_0 ++ dktX4_car_1
theorem dksX4_car_0 : cX4_car.data.toList.drop 0 = dktX4_car_0 := by decide +kernel
theorem dksX4_car_1 : cX4_car.data.toList.drop 24 = dktX4_car_1 := dk_seg dksX4_car_0 24 rfl rfl
theorem dksX4_car_2 : cX4_car.data.toList.drop 48 = dktX4_car_2 := dk_seg dksX4_car_1 24 rfl rfl
theorem dksX4_car_3 : cX4_car.data.toList.drop 71 = dktX4_car_3 := dk_seg dksX4_car_2 23 rfl rfl
theorem dX4_car_0 : decode cX4_car 0 = .ok (.aload_n 0, 1) := dk_42 (dk_at dksX4_car_0 0 rfl rfl)
theorem dX4_car_1 : decode cX4_car 1 = .ok (.aload_n 0, 1) := dk_42 (dk_at dksX4_car_0 1 rfl rfl)
theorem dX4_car_2 : decode cX4_car 2 = .ok (.iload_n 1, 1) := dk_27 (dk_at dksX4_car_0 2 rfl rfl)
theorem dX4_car_3 : decode cX4_car 3 = .ok (.invokevirtual 218, 3) := dk_182 0 218 (dk_at dksX4_car_0 3 rfl rfl)
theorem dX4_car_6 : decode cX4_car 6 = .ok (.invokevirtual 90, 3) := dk_182 0 90 (dk_at dksX4_car_0 6 rfl rfl)
theorem dX4_car_9 : decode cX4_car 9 = .ok (.ifCond .eq 25, 3) := dk_153 0 25 (dk_at dksX4_car_0 9 rfl rfl)
theorem dX4_car_12 : decode cX4_car 12 = .ok (.aload_n 0, 1) := dk_42 (dk_at dksX4_car_0 12 rfl rfl)
theorem dX4_car_13 : decode cX4_car 13 = .ok (.iload_n 2, 1) := dk_28 (dk_at dksX4_car_0 13 rfl rfl)
theorem dX4_car_14 : decode cX4_car 14 = .ok (.i2l, 1) := dk_133 (dk_at dksX4_car_0 14 rfl rfl)
theorem dX4_car_15 : decode cX4_car 15 = .ok (.lconst 0, 1) := dk_9 (dk_at dksX4_car_0 15 rfl rfl)
theorem dX4_car_16 : decode cX4_car 16 = .ok (.aload_n 0, 1) := dk_42 (dk_at dksX4_car_0 16 rfl rfl)
theorem dX4_car_17 : decode cX4_car 17 = .ok (.iload_n 1, 1) := dk_27 (dk_at dksX4_car_0 17 rfl rfl)
theorem dX4_car_18 : decode cX4_car 18 = .ok (.invokevirtual 215, 3) := dk_182 0 215 (dk_at dksX4_car_0 18 rfl rfl)
theorem dX4_car_21 : decode cX4_car 21 = .ok (.iconst 1, 1) := dk_4 (dk_at dksX4_car_0 21 rfl rfl)
theorem dX4_car_22 : decode cX4_car 22 = .ok (.isub, 1) := dk_100 (dk_at dksX4_car_0 22 rfl rfl)
theorem dX4_car_23 : decode cX4_car 23 = .ok (.i2l, 1) := dk_133 (dk_at dksX4_car_0 23 rfl rfl)
theorem dX4_car_24 : decode cX4_car 24 = .ok (.invokestatic 144, 3) := dk_184 0 144 (dk_at dksX4_car_1 0 rfl rfl)
theorem dX4_car_27 : decode cX4_car 27 = .ok (.iconst 2, 1) := dk_5 (dk_at dksX4_car_1 3 rfl rfl)
theorem dX4_car_28 : decode cX4_car 28 = .ok (.invokevirtual 163, 3) := dk_182 0 163 (dk_at dksX4_car_1 4 rfl rfl)
theorem dX4_car_31 : decode cX4_car 31 = .ok (.ifCond .ne 5, 3) := dk_154 0 5 (dk_at dksX4_car_1 7 rfl rfl)
theorem dX4_car_34 : decode cX4_car 34 = .ok (.iconst 0, 1) := dk_3 (dk_at dksX4_car_1 10 rfl rfl)
theorem dX4_car_35 : decode cX4_car 35 = .ok (.ireturn, 1) := dk_172 (dk_at dksX4_car_1 11 rfl rfl)
theorem dX4_car_36 : decode cX4_car 36 = .ok (.iload_n 2, 1) := dk_28 (dk_at dksX4_car_1 12 rfl rfl)
theorem dX4_car_37 : decode cX4_car 37 = .ok (.istore_n 3, 1) := dk_62 (dk_at dksX4_car_1 13 rfl rfl)
theorem dX4_car_38 : decode cX4_car 38 = .ok (.iconst 0, 1) := dk_3 (dk_at dksX4_car_1 14 rfl rfl)
theorem dX4_car_39 : decode cX4_car 39 = .ok (.istore 4, 2) := dk_54 4 (dk_at dksX4_car_1 15 rfl rfl)
theorem dX4_car_41 : decode cX4_car 41 = .ok (.aload_n 0, 1) := dk_42 (dk_at dksX4_car_1 17 rfl rfl)
theorem dX4_car_42 : decode cX4_car 42 = .ok (.iload 4, 2) := dk_21 4 (dk_at dksX4_car_1 18 rfl rfl)
theorem dX4_car_44 : decode cX4_car 44 = .ok (.iconst 1, 1) := dk_4 (dk_at dksX4_car_1 20 rfl rfl)
theorem dX4_car_45 : decode cX4_car 45 = .ok (.invokevirtual 212, 3) := dk_182 0 212 (dk_at dksX4_car_1 21 rfl rfl)
theorem dX4_car_48 : decode cX4_car 48 = .ok (.iload_n 1, 1) := dk_27 (dk_at dksX4_car_2 0 rfl rfl)
theorem dX4_car_49 : decode cX4_car 49 = .ok (.if_icmp .ne 7, 3) := dk_160 0 7 (dk_at dksX4_car_2 1 rfl rfl)
theorem dX4_car_52 : decode cX4_car 52 = .ok (.iload_n 3, 1) := dk_29 (dk_at dksX4_car_2 4 rfl rfl)
theorem dX4_car_53 : decode cX4_car 53 = .ok (.ifCond .le 27, 3) := dk_158 0 27 (dk_at dksX4_car_2 5 rfl rfl)
theorem dX4_car_56 : decode cX4_car 56 = .ok (.aload_n 0, 1) := dk_42 (dk_at dksX4_car_2 8 rfl rfl)
theorem dX4_car_57 : decode cX4_car 57 = .ok (.iload 4, 2) := dk_21 4 (dk_at dksX4_car_2 9 rfl rfl)
theorem dX4_car_59 : decode cX4_car 59 = .ok (.iconst 1, 1) := dk_4 (dk_at dksX4_car_2 11 rfl rfl)
theorem dX4_car_60 : decode cX4_car 60 = .ok (.invokevirtual 212, 3) := dk_182 0 212 (dk_at dksX4_car_2 12 rfl rfl)
theorem dX4_car_63 : decode cX4_car 63 = .ok (.iload_n 1, 1) := dk_27 (dk_at dksX4_car_2 15 rfl rfl)
theorem dX4_car_64 : decode cX4_car 64 = .ok (.if_icmp .ne 7, 3) := dk_160 0 7 (dk_at dksX4_car_2 16 rfl rfl)
theorem dX4_car_67 : decode cX4_car 67 = .ok (.iload_n 3, 1) := dk_29 (dk_at dksX4_car_2 19 rfl rfl)
theorem dX4_car_68 : decode cX4_car 68 = .ok (.iconst 1, 1) := dk_4 (dk_at dksX4_car_2 20 rfl rfl)
theorem dX4_car_69 : decode cX4_car 69 = .ok (.isub, 1) := dk_100 (dk_at dksX4_car_2 21 rfl rfl)
theorem dX4_car_70 : decode cX4_car 70 = .ok (.istore_n 3, 1) := dk_62 (dk_at dksX4_car_2 22 rfl rfl)
theorem dX4_car_71 : decode cX4_car 71 = .ok (.iload 4, 2) := dk_21 4 (dk_at dksX4_car_3 0 rfl rfl)
theorem dX4_car_73 : decode cX4_car 73 = .ok (.iconst 1, 1) := dk_4 (dk_at dksX4_car_3 2 rfl rfl)
theorem dX4_car_74 : decode cX4_car 74 = .ok (.iadd, 1) := dk_96 (dk_at dksX4_car_3 3 rfl rfl)
theorem dX4_car_75 : decode cX4_car 75 = .ok (.istore 4, 2) := dk_54 4 (dk_at dksX4_car_3 4 rfl rfl)
theorem dX4_car_77 : decode cX4_car 77 = .ok (.goto (-36), 3) := dk_167 255 220 (dk_at dksX4_car_3 6 rfl rfl)
theorem dX4_car_80 : decode cX4_car 80 = .ok (.aload_n 0, 1) := dk_42 (dk_at dksX4_car_3 9 rfl rfl)
theorem dX4_car_81 : decode cX4_car 81 = .ok (.iload 4, 2) := dk_21 4 (dk_at dksX4_car_3 10 rfl rfl)
theorem dX4_car_83 : decode cX4_car 83 = .ok (.iconst 0, 1) := dk_3 (dk_at dksX4_car_3 12 rfl rfl)
theorem dX4_car_84 : decode cX4_car 84 = .ok (.invokevirtual 212, 3) := dk_182 0 212 (dk_at dksX4_car_3 13 rfl rfl)
theorem dX4_car_87 : decode cX4_car 87 = .ok (.ireturn, 1) := dk_172 (dk_at dksX4_car_3 16 rfl rfl)
abbrev cX4_streetOf : ByteArray := prog_21_method_68_code
def yX4_streetOf : MethodName := ⟨RX4, "streetOf", "(I)I"⟩
def dkwX4_streetOf_1 : List UInt8 := [182, 0, 212, 172]
abbrev dktX4_streetOf_1 : List UInt8 := dkwX4_streetOf_1 ++ []
def dkwX4_streetOf_0 : List UInt8 := [42, 3, 181, 0, 77, 42, 27, 182, 0, 221, 61, 28, 2, 160, 0, 7, 2, 167, 0, 9, 42, 28, 4]
abbrev dktX4_streetOf_0 : List UInt8 := dkwX4_streetOf_0 ++ dktX4_streetOf_1
theorem dksX4_streetOf_0 : cX4_streetOf.data.toList.drop 0 = dktX4_streetOf_0 := by decide +kernel
theorem dksX4_streetOf_1 : cX4_streetOf.data.toList.drop 23 = dktX4_streetOf_1 := dk_seg dksX4_streetOf_0 23 rfl rfl
theorem dX4_streetOf_0 : decode cX4_streetOf 0 = .ok (.aload_n 0, 1) := dk_42 (dk_at dksX4_streetOf_0 0 rfl rfl)
theorem dX4_streetOf_1 : decode cX4_streetOf 1 = .ok (.iconst 0, 1) := dk_3 (dk_at dksX4_streetOf_0 1 rfl rfl)
theorem dX4_streetOf_2 : decode cX4_streetOf 2 = .ok (.putfield 77, 3) := dk_181 0 77 (dk_at dksX4_streetOf_0 2 rfl rfl)
theorem dX4_streetOf_5 : decode cX4_streetOf 5 = .ok (.aload_n 0, 1) := dk_42 (dk_at dksX4_streetOf_0 5 rfl rfl)
theorem dX4_streetOf_6 : decode cX4_streetOf 6 = .ok (.iload_n 1, 1) := dk_27 (dk_at dksX4_streetOf_0 6 rfl rfl)
theorem dX4_streetOf_7 : decode cX4_streetOf 7 = .ok (.invokevirtual 221, 3) := dk_182 0 221 (dk_at dksX4_streetOf_0 7 rfl rfl)
theorem dX4_streetOf_10 : decode cX4_streetOf 10 = .ok (.istore_n 2, 1) := dk_61 (dk_at dksX4_streetOf_0 10 rfl rfl)
theorem dX4_streetOf_11 : decode cX4_streetOf 11 = .ok (.iload_n 2, 1) := dk_28 (dk_at dksX4_streetOf_0 11 rfl rfl)
theorem dX4_streetOf_12 : decode cX4_streetOf 12 = .ok (.iconst (-1), 1) := dk_2 (dk_at dksX4_streetOf_0 12 rfl rfl)
theorem dX4_streetOf_13 : decode cX4_streetOf 13 = .ok (.if_icmp .ne 7, 3) := dk_160 0 7 (dk_at dksX4_streetOf_0 13 rfl rfl)
theorem dX4_streetOf_16 : decode cX4_streetOf 16 = .ok (.iconst (-1), 1) := dk_2 (dk_at dksX4_streetOf_0 16 rfl rfl)
theorem dX4_streetOf_17 : decode cX4_streetOf 17 = .ok (.goto 9, 3) := dk_167 0 9 (dk_at dksX4_streetOf_0 17 rfl rfl)
theorem dX4_streetOf_20 : decode cX4_streetOf 20 = .ok (.aload_n 0, 1) := dk_42 (dk_at dksX4_streetOf_0 20 rfl rfl)
theorem dX4_streetOf_21 : decode cX4_streetOf 21 = .ok (.iload_n 2, 1) := dk_28 (dk_at dksX4_streetOf_0 21 rfl rfl)
theorem dX4_streetOf_22 : decode cX4_streetOf 22 = .ok (.iconst 1, 1) := dk_4 (dk_at dksX4_streetOf_0 22 rfl rfl)
theorem dX4_streetOf_23 : decode cX4_streetOf 23 = .ok (.invokevirtual 212, 3) := dk_182 0 212 (dk_at dksX4_streetOf_1 0 rfl rfl)
theorem dX4_streetOf_26 : decode cX4_streetOf 26 = .ok (.ireturn, 1) := dk_172 (dk_at dksX4_streetOf_1 3 rfl rfl)
abbrev cX4_rule : ByteArray := prog_21_method_76_code
def yX4_rule : MethodName := ⟨RX4, "rule", "(II)I"⟩
def dkwX4_rule_1 : List UInt8 := [42, 27, 28, 182, 0, 247, 167, 0, 4, 3, 172]
abbrev dktX4_rule_1 : List UInt8 := dkwX4_rule_1 ++ []
def dkwX4_rule_0 : List UInt8 := [42, 42, 28, 182, 0, 218, 182, 0, 90, 153, 0, 24, 42, 27, 184, 0, 160, 5, 182, 0, 163, 153, 0, 12]
abbrev dktX4_rule_0 : List UInt8 := dkwX4_rule_0 ++ dktX4_rule_1
theorem dksX4_rule_0 : cX4_rule.data.toList.drop 0 = dktX4_rule_0 := by decide +kernel
theorem dksX4_rule_1 : cX4_rule.data.toList.drop 24 = dktX4_rule_1 := dk_seg dksX4_rule_0 24 rfl rfl
theorem dX4_rule_0 : decode cX4_rule 0 = .ok (.aload_n 0, 1) := dk_42 (dk_at dksX4_rule_0 0 rfl rfl)
theorem dX4_rule_1 : decode cX4_rule 1 = .ok (.aload_n 0, 1) := dk_42 (dk_at dksX4_rule_0 1 rfl rfl)
theorem dX4_rule_2 : decode cX4_rule 2 = .ok (.iload_n 2, 1) := dk_28 (dk_at dksX4_rule_0 2 rfl rfl)
theorem dX4_rule_3 : decode cX4_rule 3 = .ok (.invokevirtual 218, 3) := dk_182 0 218 (dk_at dksX4_rule_0 3 rfl rfl)
theorem dX4_rule_6 : decode cX4_rule 6 = .ok (.invokevirtual 90, 3) := dk_182 0 90 (dk_at dksX4_rule_0 6 rfl rfl)
theorem dX4_rule_9 : decode cX4_rule 9 = .ok (.ifCond .eq 24, 3) := dk_153 0 24 (dk_at dksX4_rule_0 9 rfl rfl)
theorem dX4_rule_12 : decode cX4_rule 12 = .ok (.aload_n 0, 1) := dk_42 (dk_at dksX4_rule_0 12 rfl rfl)
theorem dX4_rule_13 : decode cX4_rule 13 = .ok (.iload_n 1, 1) := dk_27 (dk_at dksX4_rule_0 13 rfl rfl)
theorem dX4_rule_14 : decode cX4_rule 14 = .ok (.invokestatic 160, 3) := dk_184 0 160 (dk_at dksX4_rule_0 14 rfl rfl)
theorem dX4_rule_17 : decode cX4_rule 17 = .ok (.iconst 2, 1) := dk_5 (dk_at dksX4_rule_0 17 rfl rfl)
theorem dX4_rule_18 : decode cX4_rule 18 = .ok (.invokevirtual 163, 3) := dk_182 0 163 (dk_at dksX4_rule_0 18 rfl rfl)
theorem dX4_rule_21 : decode cX4_rule 21 = .ok (.ifCond .eq 12, 3) := dk_153 0 12 (dk_at dksX4_rule_0 21 rfl rfl)
theorem dX4_rule_24 : decode cX4_rule 24 = .ok (.aload_n 0, 1) := dk_42 (dk_at dksX4_rule_1 0 rfl rfl)
theorem dX4_rule_25 : decode cX4_rule 25 = .ok (.iload_n 1, 1) := dk_27 (dk_at dksX4_rule_1 1 rfl rfl)
theorem dX4_rule_26 : decode cX4_rule 26 = .ok (.iload_n 2, 1) := dk_28 (dk_at dksX4_rule_1 2 rfl rfl)
theorem dX4_rule_27 : decode cX4_rule 27 = .ok (.invokevirtual 247, 3) := dk_182 0 247 (dk_at dksX4_rule_1 3 rfl rfl)
theorem dX4_rule_30 : decode cX4_rule 30 = .ok (.goto 4, 3) := dk_167 0 4 (dk_at dksX4_rule_1 6 rfl rfl)
theorem dX4_rule_33 : decode cX4_rule 33 = .ok (.iconst 0, 1) := dk_3 (dk_at dksX4_rule_1 9 rfl rfl)
theorem dX4_rule_34 : decode cX4_rule 34 = .ok (.ireturn, 1) := dk_172 (dk_at dksX4_rule_1 10 rfl rfl)
abbrev cX4_ruleOf : ByteArray := prog_21_method_75_code
def yX4_ruleOf : MethodName := ⟨RX4, "ruleOf", "(II)I"⟩
def dkwX4_ruleOf_3 : List UInt8 := [2, 182, 0, 230, 154, 0, 13, 42, 27, 8, 2, 182, 0, 230, 153, 0, 7, 8, 167, 0, 5, 16, 6, 172]
abbrev dktX4_ruleOf_3 : List UInt8 := dkwX4_ruleOf_3 ++ []
def dkwX4_ruleOf_2 : List UInt8 := [28, 182, 0, 237, 153, 0, 5, 6, 172, 42, 27, 5, 2, 182, 0, 230, 153, 0, 5, 7, 172, 42, 27, 7]
abbrev dktX4_ruleOf_2 : List UInt8 := dkwX4_ruleOf_2 ++ dktX4_ruleOf_3
def dkwX4_ruleOf_1 : List UInt8 := [27, 28, 3, 182, 0, 240, 153, 0, 5, 5, 172, 42, 27, 3, 28, 182, 0, 237, 154, 0, 13, 42, 27, 4]
abbrev dktX4_ruleOf_1 : List UInt8 := dkwX4_ruleOf_1 ++ dktX4_ruleOf_2
def dkwX4_ruleOf_0 : List UInt8 := [42, 27, 28, 182, 0, 244, 153, 0, 5, 3, 172, 42, 27, 6, 28, 182, 0, 237, 153, 0, 5, 4, 172, 42]
abbrev dktX4_ruleOf_0 : List UInt8 := dkwX4_ruleOf_0 ++ dktX4_ruleOf_1
theorem dksX4_ruleOf_0 : cX4_ruleOf.data.toList.drop 0 = dktX4_ruleOf_0 := by decide +kernel
theorem dksX4_ruleOf_1 : cX4_ruleOf.data.toList.drop 24 = dktX4_ruleOf_1 := dk_seg dksX4_ruleOf_0 24 rfl rfl
theorem dksX4_ruleOf_2 : cX4_ruleOf.data.toList.drop 48 = dktX4_ruleOf_2 := dk_seg dksX4_ruleOf_1 24 rfl rfl
theorem dksX4_ruleOf_3 : cX4_ruleOf.data.toList.drop 72 = dktX4_ruleOf_3 := dk_seg dksX4_ruleOf_2 24 rfl rfl
theorem dX4_ruleOf_0 : decode cX4_ruleOf 0 = .ok (.aload_n 0, 1) := dk_42 (dk_at dksX4_ruleOf_0 0 rfl rfl)
theorem dX4_ruleOf_1 : decode cX4_ruleOf 1 = .ok (.iload_n 1, 1) := dk_27 (dk_at dksX4_ruleOf_0 1 rfl rfl)
theorem dX4_ruleOf_2 : decode cX4_ruleOf 2 = .ok (.iload_n 2, 1) := dk_28 (dk_at dksX4_ruleOf_0 2 rfl rfl)
theorem dX4_ruleOf_3 : decode cX4_ruleOf 3 = .ok (.invokevirtual 244, 3) := dk_182 0 244 (dk_at dksX4_ruleOf_0 3 rfl rfl)
theorem dX4_ruleOf_6 : decode cX4_ruleOf 6 = .ok (.ifCond .eq 5, 3) := dk_153 0 5 (dk_at dksX4_ruleOf_0 6 rfl rfl)
theorem dX4_ruleOf_9 : decode cX4_ruleOf 9 = .ok (.iconst 0, 1) := dk_3 (dk_at dksX4_ruleOf_0 9 rfl rfl)
theorem dX4_ruleOf_10 : decode cX4_ruleOf 10 = .ok (.ireturn, 1) := dk_172 (dk_at dksX4_ruleOf_0 10 rfl rfl)
theorem dX4_ruleOf_11 : decode cX4_ruleOf 11 = .ok (.aload_n 0, 1) := dk_42 (dk_at dksX4_ruleOf_0 11 rfl rfl)
theorem dX4_ruleOf_12 : decode cX4_ruleOf 12 = .ok (.iload_n 1, 1) := dk_27 (dk_at dksX4_ruleOf_0 12 rfl rfl)
theorem dX4_ruleOf_13 : decode cX4_ruleOf 13 = .ok (.iconst 3, 1) := dk_6 (dk_at dksX4_ruleOf_0 13 rfl rfl)
theorem dX4_ruleOf_14 : decode cX4_ruleOf 14 = .ok (.iload_n 2, 1) := dk_28 (dk_at dksX4_ruleOf_0 14 rfl rfl)
theorem dX4_ruleOf_15 : decode cX4_ruleOf 15 = .ok (.invokevirtual 237, 3) := dk_182 0 237 (dk_at dksX4_ruleOf_0 15 rfl rfl)
theorem dX4_ruleOf_18 : decode cX4_ruleOf 18 = .ok (.ifCond .eq 5, 3) := dk_153 0 5 (dk_at dksX4_ruleOf_0 18 rfl rfl)
theorem dX4_ruleOf_21 : decode cX4_ruleOf 21 = .ok (.iconst 1, 1) := dk_4 (dk_at dksX4_ruleOf_0 21 rfl rfl)
theorem dX4_ruleOf_22 : decode cX4_ruleOf 22 = .ok (.ireturn, 1) := dk_172 (dk_at dksX4_ruleOf_0 22 rfl rfl)
theorem dX4_ruleOf_23 : decode cX4_ruleOf 23 = .ok (.aload_n 0, 1) := dk_42 (dk_at dksX4_ruleOf_0 23 rfl rfl)
theorem dX4_ruleOf_24 : decode cX4_ruleOf 24 = .ok (.iload_n 1, 1) := dk_27 (dk_at dksX4_ruleOf_1 0 rfl rfl)
theorem dX4_ruleOf_25 : decode cX4_ruleOf 25 = .ok (.iload_n 2, 1) := dk_28 (dk_at dksX4_ruleOf_1 1 rfl rfl)
theorem dX4_ruleOf_26 : decode cX4_ruleOf 26 = .ok (.iconst 0, 1) := dk_3 (dk_at dksX4_ruleOf_1 2 rfl rfl)
theorem dX4_ruleOf_27 : decode cX4_ruleOf 27 = .ok (.invokevirtual 240, 3) := dk_182 0 240 (dk_at dksX4_ruleOf_1 3 rfl rfl)
theorem dX4_ruleOf_30 : decode cX4_ruleOf 30 = .ok (.ifCond .eq 5, 3) := dk_153 0 5 (dk_at dksX4_ruleOf_1 6 rfl rfl)
theorem dX4_ruleOf_33 : decode cX4_ruleOf 33 = .ok (.iconst 2, 1) := dk_5 (dk_at dksX4_ruleOf_1 9 rfl rfl)
theorem dX4_ruleOf_34 : decode cX4_ruleOf 34 = .ok (.ireturn, 1) := dk_172 (dk_at dksX4_ruleOf_1 10 rfl rfl)
theorem dX4_ruleOf_35 : decode cX4_ruleOf 35 = .ok (.aload_n 0, 1) := dk_42 (dk_at dksX4_ruleOf_1 11 rfl rfl)
theorem dX4_ruleOf_36 : decode cX4_ruleOf 36 = .ok (.iload_n 1, 1) := dk_27 (dk_at dksX4_ruleOf_1 12 rfl rfl)
theorem dX4_ruleOf_37 : decode cX4_ruleOf 37 = .ok (.iconst 0, 1) := dk_3 (dk_at dksX4_ruleOf_1 13 rfl rfl)
theorem dX4_ruleOf_38 : decode cX4_ruleOf 38 = .ok (.iload_n 2, 1) := dk_28 (dk_at dksX4_ruleOf_1 14 rfl rfl)
theorem dX4_ruleOf_39 : decode cX4_ruleOf 39 = .ok (.invokevirtual 237, 3) := dk_182 0 237 (dk_at dksX4_ruleOf_1 15 rfl rfl)
theorem dX4_ruleOf_42 : decode cX4_ruleOf 42 = .ok (.ifCond .ne 13, 3) := dk_154 0 13 (dk_at dksX4_ruleOf_1 18 rfl rfl)
theorem dX4_ruleOf_45 : decode cX4_ruleOf 45 = .ok (.aload_n 0, 1) := dk_42 (dk_at dksX4_ruleOf_1 21 rfl rfl)
theorem dX4_ruleOf_46 : decode cX4_ruleOf 46 = .ok (.iload_n 1, 1) := dk_27 (dk_at dksX4_ruleOf_1 22 rfl rfl)
theorem dX4_ruleOf_47 : decode cX4_ruleOf 47 = .ok (.iconst 1, 1) := dk_4 (dk_at dksX4_ruleOf_1 23 rfl rfl)
theorem dX4_ruleOf_48 : decode cX4_ruleOf 48 = .ok (.iload_n 2, 1) := dk_28 (dk_at dksX4_ruleOf_2 0 rfl rfl)
theorem dX4_ruleOf_49 : decode cX4_ruleOf 49 = .ok (.invokevirtual 237, 3) := dk_182 0 237 (dk_at dksX4_ruleOf_2 1 rfl rfl)
theorem dX4_ruleOf_52 : decode cX4_ruleOf 52 = .ok (.ifCond .eq 5, 3) := dk_153 0 5 (dk_at dksX4_ruleOf_2 4 rfl rfl)
theorem dX4_ruleOf_55 : decode cX4_ruleOf 55 = .ok (.iconst 3, 1) := dk_6 (dk_at dksX4_ruleOf_2 7 rfl rfl)
theorem dX4_ruleOf_56 : decode cX4_ruleOf 56 = .ok (.ireturn, 1) := dk_172 (dk_at dksX4_ruleOf_2 8 rfl rfl)
theorem dX4_ruleOf_57 : decode cX4_ruleOf 57 = .ok (.aload_n 0, 1) := dk_42 (dk_at dksX4_ruleOf_2 9 rfl rfl)
theorem dX4_ruleOf_58 : decode cX4_ruleOf 58 = .ok (.iload_n 1, 1) := dk_27 (dk_at dksX4_ruleOf_2 10 rfl rfl)
theorem dX4_ruleOf_59 : decode cX4_ruleOf 59 = .ok (.iconst 2, 1) := dk_5 (dk_at dksX4_ruleOf_2 11 rfl rfl)
theorem dX4_ruleOf_60 : decode cX4_ruleOf 60 = .ok (.iconst (-1), 1) := dk_2 (dk_at dksX4_ruleOf_2 12 rfl rfl)
theorem dX4_ruleOf_61 : decode cX4_ruleOf 61 = .ok (.invokevirtual 230, 3) := dk_182 0 230 (dk_at dksX4_ruleOf_2 13 rfl rfl)
theorem dX4_ruleOf_64 : decode cX4_ruleOf 64 = .ok (.ifCond .eq 5, 3) := dk_153 0 5 (dk_at dksX4_ruleOf_2 16 rfl rfl)
theorem dX4_ruleOf_67 : decode cX4_ruleOf 67 = .ok (.iconst 4, 1) := dk_7 (dk_at dksX4_ruleOf_2 19 rfl rfl)
theorem dX4_ruleOf_68 : decode cX4_ruleOf 68 = .ok (.ireturn, 1) := dk_172 (dk_at dksX4_ruleOf_2 20 rfl rfl)
theorem dX4_ruleOf_69 : decode cX4_ruleOf 69 = .ok (.aload_n 0, 1) := dk_42 (dk_at dksX4_ruleOf_2 21 rfl rfl)
theorem dX4_ruleOf_70 : decode cX4_ruleOf 70 = .ok (.iload_n 1, 1) := dk_27 (dk_at dksX4_ruleOf_2 22 rfl rfl)
theorem dX4_ruleOf_71 : decode cX4_ruleOf 71 = .ok (.iconst 4, 1) := dk_7 (dk_at dksX4_ruleOf_2 23 rfl rfl)
theorem dX4_ruleOf_72 : decode cX4_ruleOf 72 = .ok (.iconst (-1), 1) := dk_2 (dk_at dksX4_ruleOf_3 0 rfl rfl)
theorem dX4_ruleOf_73 : decode cX4_ruleOf 73 = .ok (.invokevirtual 230, 3) := dk_182 0 230 (dk_at dksX4_ruleOf_3 1 rfl rfl)
theorem dX4_ruleOf_76 : decode cX4_ruleOf 76 = .ok (.ifCond .ne 13, 3) := dk_154 0 13 (dk_at dksX4_ruleOf_3 4 rfl rfl)
theorem dX4_ruleOf_79 : decode cX4_ruleOf 79 = .ok (.aload_n 0, 1) := dk_42 (dk_at dksX4_ruleOf_3 7 rfl rfl)
theorem dX4_ruleOf_80 : decode cX4_ruleOf 80 = .ok (.iload_n 1, 1) := dk_27 (dk_at dksX4_ruleOf_3 8 rfl rfl)
theorem dX4_ruleOf_81 : decode cX4_ruleOf 81 = .ok (.iconst 5, 1) := dk_8 (dk_at dksX4_ruleOf_3 9 rfl rfl)
theorem dX4_ruleOf_82 : decode cX4_ruleOf 82 = .ok (.iconst (-1), 1) := dk_2 (dk_at dksX4_ruleOf_3 10 rfl rfl)
theorem dX4_ruleOf_83 : decode cX4_ruleOf 83 = .ok (.invokevirtual 230, 3) := dk_182 0 230 (dk_at dksX4_ruleOf_3 11 rfl rfl)
theorem dX4_ruleOf_86 : decode cX4_ruleOf 86 = .ok (.ifCond .eq 7, 3) := dk_153 0 7 (dk_at dksX4_ruleOf_3 14 rfl rfl)
theorem dX4_ruleOf_89 : decode cX4_ruleOf 89 = .ok (.iconst 5, 1) := dk_8 (dk_at dksX4_ruleOf_3 17 rfl rfl)
theorem dX4_ruleOf_90 : decode cX4_ruleOf 90 = .ok (.goto 5, 3) := dk_167 0 5 (dk_at dksX4_ruleOf_3 18 rfl rfl)
theorem dX4_ruleOf_93 : decode cX4_ruleOf 93 = .ok (.bipush 6, 2) := dk_16 6 (dk_at dksX4_ruleOf_3 21 rfl rfl)
theorem dX4_ruleOf_95 : decode cX4_ruleOf 95 = .ok (.ireturn, 1) := dk_172 (dk_at dksX4_ruleOf_3 23 rfl rfl)
abbrev cX4_isAllowed : ByteArray := prog_21_method_74_code
def yX4_isAllowed : MethodName := ⟨RX4, "isAllowed", "(II)Z"⟩
def dkwX4_isAllowed_1 : List UInt8 := [182, 0, 240, 153, 0, 7, 4, 167, 0, 4, 3, 172]
abbrev dktX4_isAllowed_1 : List UInt8 := dkwX4_isAllowed_1 ++ []
def dkwX4_isAllowed_0 : List UInt8 := [42, 28, 182, 0, 234, 153, 0, 23, 42, 27, 5, 28, 182, 0, 237, 154, 0, 13, 42, 27, 28, 4]
abbrev dktX4_isAllowed_0 : List UInt8 := dkwX4_isAllowed_0 ++ dktX4_isAllowed_1
theorem dksX4_isAllowed_0 : cX4_isAllowed.data.toList.drop 0 = dktX4_isAllowed_0 := by decide +kernel
theorem dksX4_isAllowed_1 : cX4_isAllowed.data.toList.drop 22 = dktX4_isAllowed_1 := dk_seg dksX4_isAllowed_0 22 rfl rfl
theorem dX4_isAllowed_0 : decode cX4_isAllowed 0 = .ok (.aload_n 0, 1) := dk_42 (dk_at dksX4_isAllowed_0 0 rfl rfl)
theorem dX4_isAllowed_1 : decode cX4_isAllowed 1 = .ok (.iload_n 2, 1) := dk_28 (dk_at dksX4_isAllowed_0 1 rfl rfl)
theorem dX4_isAllowed_2 : decode cX4_isAllowed 2 = .ok (.invokevirtual 234, 3) := dk_182 0 234 (dk_at dksX4_isAllowed_0 2 rfl rfl)
theorem dX4_isAllowed_5 : decode cX4_isAllowed 5 = .ok (.ifCond .eq 23, 3) := dk_153 0 23 (dk_at dksX4_isAllowed_0 5 rfl rfl)
theorem dX4_isAllowed_8 : decode cX4_isAllowed 8 = .ok (.aload_n 0, 1) := dk_42 (dk_at dksX4_isAllowed_0 8 rfl rfl)
theorem dX4_isAllowed_9 : decode cX4_isAllowed 9 = .ok (.iload_n 1, 1) := dk_27 (dk_at dksX4_isAllowed_0 9 rfl rfl)
theorem dX4_isAllowed_10 : decode cX4_isAllowed 10 = .ok (.iconst 2, 1) := dk_5 (dk_at dksX4_isAllowed_0 10 rfl rfl)
theorem dX4_isAllowed_11 : decode cX4_isAllowed 11 = .ok (.iload_n 2, 1) := dk_28 (dk_at dksX4_isAllowed_0 11 rfl rfl)
theorem dX4_isAllowed_12 : decode cX4_isAllowed 12 = .ok (.invokevirtual 237, 3) := dk_182 0 237 (dk_at dksX4_isAllowed_0 12 rfl rfl)
theorem dX4_isAllowed_15 : decode cX4_isAllowed 15 = .ok (.ifCond .ne 13, 3) := dk_154 0 13 (dk_at dksX4_isAllowed_0 15 rfl rfl)
theorem dX4_isAllowed_18 : decode cX4_isAllowed 18 = .ok (.aload_n 0, 1) := dk_42 (dk_at dksX4_isAllowed_0 18 rfl rfl)
theorem dX4_isAllowed_19 : decode cX4_isAllowed 19 = .ok (.iload_n 1, 1) := dk_27 (dk_at dksX4_isAllowed_0 19 rfl rfl)
theorem dX4_isAllowed_20 : decode cX4_isAllowed 20 = .ok (.iload_n 2, 1) := dk_28 (dk_at dksX4_isAllowed_0 20 rfl rfl)
theorem dX4_isAllowed_21 : decode cX4_isAllowed 21 = .ok (.iconst 1, 1) := dk_4 (dk_at dksX4_isAllowed_0 21 rfl rfl)
theorem dX4_isAllowed_22 : decode cX4_isAllowed 22 = .ok (.invokevirtual 240, 3) := dk_182 0 240 (dk_at dksX4_isAllowed_1 0 rfl rfl)
theorem dX4_isAllowed_25 : decode cX4_isAllowed 25 = .ok (.ifCond .eq 7, 3) := dk_153 0 7 (dk_at dksX4_isAllowed_1 3 rfl rfl)
theorem dX4_isAllowed_28 : decode cX4_isAllowed 28 = .ok (.iconst 1, 1) := dk_4 (dk_at dksX4_isAllowed_1 6 rfl rfl)
theorem dX4_isAllowed_29 : decode cX4_isAllowed 29 = .ok (.goto 4, 3) := dk_167 0 4 (dk_at dksX4_isAllowed_1 7 rfl rfl)
theorem dX4_isAllowed_32 : decode cX4_isAllowed 32 = .ok (.iconst 0, 1) := dk_3 (dk_at dksX4_isAllowed_1 10 rfl rfl)
theorem dX4_isAllowed_33 : decode cX4_isAllowed 33 = .ok (.ireturn, 1) := dk_172 (dk_at dksX4_isAllowed_1 11 rfl rfl)
abbrev cX4_isInHours : ByteArray := prog_21_method_73_code
def yX4_isInHours : MethodName := ⟨RX4, "isInHours", "(I)Z"⟩
def dkwX4_isInHours_2 : List UInt8 := [162, 0, 7, 4, 167, 0, 4, 3, 172]
abbrev dktX4_isInHours_2 : List UInt8 := dkwX4_isInHours_2 ++ []
def dkwX4_isInHours_1 : List UInt8 := [16, 9, 29, 96, 46, 104, 161, 0, 23, 28, 16, 60, 42, 180, 0, 7, 16, 15, 29, 96, 46, 104]
abbrev dktX4_isInHours_1 : List UInt8 := dkwX4_isInHours_1 ++ dktX4_isInHours_2
def dkwX4_isInHours_0 : List UInt8 := [42, 180, 0, 16, 3, 46, 17, 5, 160, 112, 61, 42, 27, 182, 0, 98, 62, 28, 16, 60, 42, 180, 0, 7]
abbrev dktX4_isInHours_0 : List UInt8 := dkwX4_isInHours_0 ++ dktX4_isInHours_1
theorem dksX4_isInHours_0 : cX4_isInHours.data.toList.drop 0 = dktX4_isInHours_0 := by decide +kernel
theorem dksX4_isInHours_1 : cX4_isInHours.data.toList.drop 24 = dktX4_isInHours_1 := dk_seg dksX4_isInHours_0 24 rfl rfl
theorem dksX4_isInHours_2 : cX4_isInHours.data.toList.drop 46 = dktX4_isInHours_2 := dk_seg dksX4_isInHours_1 22 rfl rfl
theorem dX4_isInHours_0 : decode cX4_isInHours 0 = .ok (.aload_n 0, 1) := dk_42 (dk_at dksX4_isInHours_0 0 rfl rfl)
theorem dX4_isInHours_1 : decode cX4_isInHours 1 = .ok (.getfield 16, 3) := dk_180 0 16 (dk_at dksX4_isInHours_0 1 rfl rfl)
theorem dX4_isInHours_4 : decode cX4_isInHours 4 = .ok (.iconst 0, 1) := dk_3 (dk_at dksX4_isInHours_0 4 rfl rfl)
theorem dX4_isInHours_5 : decode cX4_isInHours 5 = .ok (.iaload, 1) := dk_46 (dk_at dksX4_isInHours_0 5 rfl rfl)
theorem dX4_isInHours_6 : decode cX4_isInHours 6 = .ok (.sipush 1440, 3) := dk_17 5 160 (dk_at dksX4_isInHours_0 6 rfl rfl)
theorem dX4_isInHours_9 : decode cX4_isInHours 9 = .ok (.irem, 1) := dk_112 (dk_at dksX4_isInHours_0 9 rfl rfl)
theorem dX4_isInHours_10 : decode cX4_isInHours 10 = .ok (.istore_n 2, 1) := dk_61 (dk_at dksX4_isInHours_0 10 rfl rfl)
theorem dX4_isInHours_11 : decode cX4_isInHours 11 = .ok (.aload_n 0, 1) := dk_42 (dk_at dksX4_isInHours_0 11 rfl rfl)
theorem dX4_isInHours_12 : decode cX4_isInHours 12 = .ok (.iload_n 1, 1) := dk_27 (dk_at dksX4_isInHours_0 12 rfl rfl)
theorem dX4_isInHours_13 : decode cX4_isInHours 13 = .ok (.invokevirtual 98, 3) := dk_182 0 98 (dk_at dksX4_isInHours_0 13 rfl rfl)
theorem dX4_isInHours_16 : decode cX4_isInHours 16 = .ok (.istore_n 3, 1) := dk_62 (dk_at dksX4_isInHours_0 16 rfl rfl)
theorem dX4_isInHours_17 : decode cX4_isInHours 17 = .ok (.iload_n 2, 1) := dk_28 (dk_at dksX4_isInHours_0 17 rfl rfl)
theorem dX4_isInHours_18 : decode cX4_isInHours 18 = .ok (.bipush 60, 2) := dk_16 60 (dk_at dksX4_isInHours_0 18 rfl rfl)
theorem dX4_isInHours_20 : decode cX4_isInHours 20 = .ok (.aload_n 0, 1) := dk_42 (dk_at dksX4_isInHours_0 20 rfl rfl)
theorem dX4_isInHours_21 : decode cX4_isInHours 21 = .ok (.getfield 7, 3) := dk_180 0 7 (dk_at dksX4_isInHours_0 21 rfl rfl)
theorem dX4_isInHours_24 : decode cX4_isInHours 24 = .ok (.bipush 9, 2) := dk_16 9 (dk_at dksX4_isInHours_1 0 rfl rfl)
theorem dX4_isInHours_26 : decode cX4_isInHours 26 = .ok (.iload_n 3, 1) := dk_29 (dk_at dksX4_isInHours_1 2 rfl rfl)
theorem dX4_isInHours_27 : decode cX4_isInHours 27 = .ok (.iadd, 1) := dk_96 (dk_at dksX4_isInHours_1 3 rfl rfl)
theorem dX4_isInHours_28 : decode cX4_isInHours 28 = .ok (.iaload, 1) := dk_46 (dk_at dksX4_isInHours_1 4 rfl rfl)
theorem dX4_isInHours_29 : decode cX4_isInHours 29 = .ok (.imul, 1) := dk_104 (dk_at dksX4_isInHours_1 5 rfl rfl)
theorem dX4_isInHours_30 : decode cX4_isInHours 30 = .ok (.if_icmp .lt 23, 3) := dk_161 0 23 (dk_at dksX4_isInHours_1 6 rfl rfl)
theorem dX4_isInHours_33 : decode cX4_isInHours 33 = .ok (.iload_n 2, 1) := dk_28 (dk_at dksX4_isInHours_1 9 rfl rfl)
theorem dX4_isInHours_34 : decode cX4_isInHours 34 = .ok (.bipush 60, 2) := dk_16 60 (dk_at dksX4_isInHours_1 10 rfl rfl)
theorem dX4_isInHours_36 : decode cX4_isInHours 36 = .ok (.aload_n 0, 1) := dk_42 (dk_at dksX4_isInHours_1 12 rfl rfl)
theorem dX4_isInHours_37 : decode cX4_isInHours 37 = .ok (.getfield 7, 3) := dk_180 0 7 (dk_at dksX4_isInHours_1 13 rfl rfl)
theorem dX4_isInHours_40 : decode cX4_isInHours 40 = .ok (.bipush 15, 2) := dk_16 15 (dk_at dksX4_isInHours_1 16 rfl rfl)
theorem dX4_isInHours_42 : decode cX4_isInHours 42 = .ok (.iload_n 3, 1) := dk_29 (dk_at dksX4_isInHours_1 18 rfl rfl)
theorem dX4_isInHours_43 : decode cX4_isInHours 43 = .ok (.iadd, 1) := dk_96 (dk_at dksX4_isInHours_1 19 rfl rfl)
theorem dX4_isInHours_44 : decode cX4_isInHours 44 = .ok (.iaload, 1) := dk_46 (dk_at dksX4_isInHours_1 20 rfl rfl)
theorem dX4_isInHours_45 : decode cX4_isInHours 45 = .ok (.imul, 1) := dk_104 (dk_at dksX4_isInHours_1 21 rfl rfl)
theorem dX4_isInHours_46 : decode cX4_isInHours 46 = .ok (.if_icmp .ge 7, 3) := dk_162 0 7 (dk_at dksX4_isInHours_2 0 rfl rfl)
theorem dX4_isInHours_49 : decode cX4_isInHours 49 = .ok (.iconst 1, 1) := dk_4 (dk_at dksX4_isInHours_2 3 rfl rfl)
theorem dX4_isInHours_50 : decode cX4_isInHours 50 = .ok (.goto 4, 3) := dk_167 0 4 (dk_at dksX4_isInHours_2 4 rfl rfl)
theorem dX4_isInHours_53 : decode cX4_isInHours 53 = .ok (.iconst 0, 1) := dk_3 (dk_at dksX4_isInHours_2 7 rfl rfl)
theorem dX4_isInHours_54 : decode cX4_isInHours 54 = .ok (.ireturn, 1) := dk_172 (dk_at dksX4_isInHours_2 8 rfl rfl)
abbrev cX4_hasThere : ByteArray := prog_21_method_71_code
def yX4_hasThere : MethodName := ⟨RX4, "hasThere", "(III)Z"⟩
def dkwX4_hasThere_1 : List UInt8 := [159, 0, 18, 42, 27, 28, 21, 4, 182, 0, 230, 153, 0, 7, 4, 167, 0, 4, 3, 172]
abbrev dktX4_hasThere_1 : List UInt8 := dkwX4_hasThere_1 ++ []
def dkwX4_hasThere_0 : List UInt8 := [42, 29, 182, 0, 227, 54, 4, 42, 27, 28, 42, 29, 182, 0, 98, 182, 0, 230, 154, 0, 20, 21, 4, 2]
abbrev dktX4_hasThere_0 : List UInt8 := dkwX4_hasThere_0 ++ dktX4_hasThere_1
theorem dksX4_hasThere_0 : cX4_hasThere.data.toList.drop 0 = dktX4_hasThere_0 := by decide +kernel
theorem dksX4_hasThere_1 : cX4_hasThere.data.toList.drop 24 = dktX4_hasThere_1 := dk_seg dksX4_hasThere_0 24 rfl rfl
theorem dX4_hasThere_0 : decode cX4_hasThere 0 = .ok (.aload_n 0, 1) := dk_42 (dk_at dksX4_hasThere_0 0 rfl rfl)
theorem dX4_hasThere_1 : decode cX4_hasThere 1 = .ok (.iload_n 3, 1) := dk_29 (dk_at dksX4_hasThere_0 1 rfl rfl)
theorem dX4_hasThere_2 : decode cX4_hasThere 2 = .ok (.invokevirtual 227, 3) := dk_182 0 227 (dk_at dksX4_hasThere_0 2 rfl rfl)
theorem dX4_hasThere_5 : decode cX4_hasThere 5 = .ok (.istore 4, 2) := dk_54 4 (dk_at dksX4_hasThere_0 5 rfl rfl)
theorem dX4_hasThere_7 : decode cX4_hasThere 7 = .ok (.aload_n 0, 1) := dk_42 (dk_at dksX4_hasThere_0 7 rfl rfl)
theorem dX4_hasThere_8 : decode cX4_hasThere 8 = .ok (.iload_n 1, 1) := dk_27 (dk_at dksX4_hasThere_0 8 rfl rfl)
theorem dX4_hasThere_9 : decode cX4_hasThere 9 = .ok (.iload_n 2, 1) := dk_28 (dk_at dksX4_hasThere_0 9 rfl rfl)
theorem dX4_hasThere_10 : decode cX4_hasThere 10 = .ok (.aload_n 0, 1) := dk_42 (dk_at dksX4_hasThere_0 10 rfl rfl)
theorem dX4_hasThere_11 : decode cX4_hasThere 11 = .ok (.iload_n 3, 1) := dk_29 (dk_at dksX4_hasThere_0 11 rfl rfl)
theorem dX4_hasThere_12 : decode cX4_hasThere 12 = .ok (.invokevirtual 98, 3) := dk_182 0 98 (dk_at dksX4_hasThere_0 12 rfl rfl)
theorem dX4_hasThere_15 : decode cX4_hasThere 15 = .ok (.invokevirtual 230, 3) := dk_182 0 230 (dk_at dksX4_hasThere_0 15 rfl rfl)
theorem dX4_hasThere_18 : decode cX4_hasThere 18 = .ok (.ifCond .ne 20, 3) := dk_154 0 20 (dk_at dksX4_hasThere_0 18 rfl rfl)
theorem dX4_hasThere_21 : decode cX4_hasThere 21 = .ok (.iload 4, 2) := dk_21 4 (dk_at dksX4_hasThere_0 21 rfl rfl)
theorem dX4_hasThere_23 : decode cX4_hasThere 23 = .ok (.iconst (-1), 1) := dk_2 (dk_at dksX4_hasThere_0 23 rfl rfl)
theorem dX4_hasThere_24 : decode cX4_hasThere 24 = .ok (.if_icmp .eq 18, 3) := dk_159 0 18 (dk_at dksX4_hasThere_1 0 rfl rfl)
theorem dX4_hasThere_27 : decode cX4_hasThere 27 = .ok (.aload_n 0, 1) := dk_42 (dk_at dksX4_hasThere_1 3 rfl rfl)
theorem dX4_hasThere_28 : decode cX4_hasThere 28 = .ok (.iload_n 1, 1) := dk_27 (dk_at dksX4_hasThere_1 4 rfl rfl)
theorem dX4_hasThere_29 : decode cX4_hasThere 29 = .ok (.iload_n 2, 1) := dk_28 (dk_at dksX4_hasThere_1 5 rfl rfl)
theorem dX4_hasThere_30 : decode cX4_hasThere 30 = .ok (.iload 4, 2) := dk_21 4 (dk_at dksX4_hasThere_1 6 rfl rfl)
theorem dX4_hasThere_32 : decode cX4_hasThere 32 = .ok (.invokevirtual 230, 3) := dk_182 0 230 (dk_at dksX4_hasThere_1 8 rfl rfl)
theorem dX4_hasThere_35 : decode cX4_hasThere 35 = .ok (.ifCond .eq 7, 3) := dk_153 0 7 (dk_at dksX4_hasThere_1 11 rfl rfl)
theorem dX4_hasThere_38 : decode cX4_hasThere 38 = .ok (.iconst 1, 1) := dk_4 (dk_at dksX4_hasThere_1 14 rfl rfl)
theorem dX4_hasThere_39 : decode cX4_hasThere 39 = .ok (.goto 4, 3) := dk_167 0 4 (dk_at dksX4_hasThere_1 15 rfl rfl)
theorem dX4_hasThere_42 : decode cX4_hasThere 42 = .ok (.iconst 0, 1) := dk_3 (dk_at dksX4_hasThere_1 18 rfl rfl)
theorem dX4_hasThere_43 : decode cX4_hasThere 43 = .ok (.ireturn, 1) := dk_172 (dk_at dksX4_hasThere_1 19 rfl rfl)
abbrev cX4_secondOf : ByteArray := prog_21_method_69_code
def yX4_secondOf : MethodName := ⟨RX4, "secondOf", "(I)I"⟩
def dkwX4_secondOf_1 : List UInt8 := [96, 46, 172]
abbrev dktX4_secondOf_1 : List UInt8 := dkwX4_secondOf_1 ++ []
def dkwX4_secondOf_0 : List UInt8 := [42, 180, 0, 16, 16, 11, 27, 96, 46, 4, 160, 0, 7, 2, 167, 0, 12, 42, 180, 0, 7, 16, 51, 27]
abbrev dktX4_secondOf_0 : List UInt8 := dkwX4_secondOf_0 ++ dktX4_secondOf_1
theorem dksX4_secondOf_0 : cX4_secondOf.data.toList.drop 0 = dktX4_secondOf_0 := by decide +kernel
theorem dksX4_secondOf_1 : cX4_secondOf.data.toList.drop 24 = dktX4_secondOf_1 := dk_seg dksX4_secondOf_0 24 rfl rfl
theorem dX4_secondOf_0 : decode cX4_secondOf 0 = .ok (.aload_n 0, 1) := dk_42 (dk_at dksX4_secondOf_0 0 rfl rfl)
theorem dX4_secondOf_1 : decode cX4_secondOf 1 = .ok (.getfield 16, 3) := dk_180 0 16 (dk_at dksX4_secondOf_0 1 rfl rfl)
theorem dX4_secondOf_4 : decode cX4_secondOf 4 = .ok (.bipush 11, 2) := dk_16 11 (dk_at dksX4_secondOf_0 4 rfl rfl)
theorem dX4_secondOf_6 : decode cX4_secondOf 6 = .ok (.iload_n 1, 1) := dk_27 (dk_at dksX4_secondOf_0 6 rfl rfl)
theorem dX4_secondOf_7 : decode cX4_secondOf 7 = .ok (.iadd, 1) := dk_96 (dk_at dksX4_secondOf_0 7 rfl rfl)
theorem dX4_secondOf_8 : decode cX4_secondOf 8 = .ok (.iaload, 1) := dk_46 (dk_at dksX4_secondOf_0 8 rfl rfl)
theorem dX4_secondOf_9 : decode cX4_secondOf 9 = .ok (.iconst 1, 1) := dk_4 (dk_at dksX4_secondOf_0 9 rfl rfl)
theorem dX4_secondOf_10 : decode cX4_secondOf 10 = .ok (.if_icmp .ne 7, 3) := dk_160 0 7 (dk_at dksX4_secondOf_0 10 rfl rfl)
theorem dX4_secondOf_13 : decode cX4_secondOf 13 = .ok (.iconst (-1), 1) := dk_2 (dk_at dksX4_secondOf_0 13 rfl rfl)
theorem dX4_secondOf_14 : decode cX4_secondOf 14 = .ok (.goto 12, 3) := dk_167 0 12 (dk_at dksX4_secondOf_0 14 rfl rfl)
theorem dX4_secondOf_17 : decode cX4_secondOf 17 = .ok (.aload_n 0, 1) := dk_42 (dk_at dksX4_secondOf_0 17 rfl rfl)
theorem dX4_secondOf_18 : decode cX4_secondOf 18 = .ok (.getfield 7, 3) := dk_180 0 7 (dk_at dksX4_secondOf_0 18 rfl rfl)
theorem dX4_secondOf_21 : decode cX4_secondOf 21 = .ok (.bipush 51, 2) := dk_16 51 (dk_at dksX4_secondOf_0 21 rfl rfl)
theorem dX4_secondOf_23 : decode cX4_secondOf 23 = .ok (.iload_n 1, 1) := dk_27 (dk_at dksX4_secondOf_0 23 rfl rfl)
theorem dX4_secondOf_24 : decode cX4_secondOf 24 = .ok (.iadd, 1) := dk_96 (dk_at dksX4_secondOf_1 0 rfl rfl)
theorem dX4_secondOf_25 : decode cX4_secondOf 25 = .ok (.iaload, 1) := dk_46 (dk_at dksX4_secondOf_1 1 rfl rfl)
theorem dX4_secondOf_26 : decode cX4_secondOf 26 = .ok (.ireturn, 1) := dk_172 (dk_at dksX4_secondOf_1 2 rfl rfl)
abbrev cX4_hasPermit : ByteArray := prog_21_method_70_code
def yX4_hasPermit : MethodName := ⟨RX4, "hasPermit", "(III)Z"⟩
def dkwX4_hasPermit_2 : List UInt8 := [182, 0, 108, 29, 160, 0, 5, 4, 172, 132, 4, 1, 167, 255, 203, 3, 172]
abbrev dktX4_hasPermit_2 : List UInt8 := dkwX4_hasPermit_2 ++ []
def dkwX4_hasPermit_1 : List UInt8 := [160, 0, 31, 42, 21, 4, 5, 182, 0, 102, 28, 160, 0, 20, 29, 2, 159, 0, 13, 42, 21, 4]
abbrev dktX4_hasPermit_1 : List UInt8 := dkwX4_hasPermit_1 ++ dktX4_hasPermit_2
def dkwX4_hasPermit_0 : List UInt8 := [3, 54, 4, 21, 4, 42, 180, 0, 16, 4, 46, 162, 0, 48, 42, 21, 4, 4, 182, 0, 102, 27]
abbrev dktX4_hasPermit_0 : List UInt8 := dkwX4_hasPermit_0 ++ dktX4_hasPermit_1
theorem dksX4_hasPermit_0 : cX4_hasPermit.data.toList.drop 0 = dktX4_hasPermit_0 := by decide +kernel
theorem dksX4_hasPermit_1 : cX4_hasPermit.data.toList.drop 22 = dktX4_hasPermit_1 := dk_seg dksX4_hasPermit_0 22 rfl rfl
theorem dksX4_hasPermit_2 : cX4_hasPermit.data.toList.drop 44 = dktX4_hasPermit_2 := dk_seg dksX4_hasPermit_1 22 rfl rfl
theorem dX4_hasPermit_0 : decode cX4_hasPermit 0 = .ok (.iconst 0, 1) := dk_3 (dk_at dksX4_hasPermit_0 0 rfl rfl)
theorem dX4_hasPermit_1 : decode cX4_hasPermit 1 = .ok (.istore 4, 2) := dk_54 4 (dk_at dksX4_hasPermit_0 1 rfl rfl)
theorem dX4_hasPermit_3 : decode cX4_hasPermit 3 = .ok (.iload 4, 2) := dk_21 4 (dk_at dksX4_hasPermit_0 3 rfl rfl)
theorem dX4_hasPermit_5 : decode cX4_hasPermit 5 = .ok (.aload_n 0, 1) := dk_42 (dk_at dksX4_hasPermit_0 5 rfl rfl)
theorem dX4_hasPermit_6 : decode cX4_hasPermit 6 = .ok (.getfield 16, 3) := dk_180 0 16 (dk_at dksX4_hasPermit_0 6 rfl rfl)
theorem dX4_hasPermit_9 : decode cX4_hasPermit 9 = .ok (.iconst 1, 1) := dk_4 (dk_at dksX4_hasPermit_0 9 rfl rfl)
theorem dX4_hasPermit_10 : decode cX4_hasPermit 10 = .ok (.iaload, 1) := dk_46 (dk_at dksX4_hasPermit_0 10 rfl rfl)
theorem dX4_hasPermit_11 : decode cX4_hasPermit 11 = .ok (.if_icmp .ge 48, 3) := dk_162 0 48 (dk_at dksX4_hasPermit_0 11 rfl rfl)
theorem dX4_hasPermit_14 : decode cX4_hasPermit 14 = .ok (.aload_n 0, 1) := dk_42 (dk_at dksX4_hasPermit_0 14 rfl rfl)
theorem dX4_hasPermit_15 : decode cX4_hasPermit 15 = .ok (.iload 4, 2) := dk_21 4 (dk_at dksX4_hasPermit_0 15 rfl rfl)
theorem dX4_hasPermit_17 : decode cX4_hasPermit 17 = .ok (.iconst 1, 1) := dk_4 (dk_at dksX4_hasPermit_0 17 rfl rfl)
theorem dX4_hasPermit_18 : decode cX4_hasPermit 18 = .ok (.invokevirtual 102, 3) := dk_182 0 102 (dk_at dksX4_hasPermit_0 18 rfl rfl)
theorem dX4_hasPermit_21 : decode cX4_hasPermit 21 = .ok (.iload_n 1, 1) := dk_27 (dk_at dksX4_hasPermit_0 21 rfl rfl)
theorem dX4_hasPermit_22 : decode cX4_hasPermit 22 = .ok (.if_icmp .ne 31, 3) := dk_160 0 31 (dk_at dksX4_hasPermit_1 0 rfl rfl)
theorem dX4_hasPermit_25 : decode cX4_hasPermit 25 = .ok (.aload_n 0, 1) := dk_42 (dk_at dksX4_hasPermit_1 3 rfl rfl)
theorem dX4_hasPermit_26 : decode cX4_hasPermit 26 = .ok (.iload 4, 2) := dk_21 4 (dk_at dksX4_hasPermit_1 4 rfl rfl)
theorem dX4_hasPermit_28 : decode cX4_hasPermit 28 = .ok (.iconst 2, 1) := dk_5 (dk_at dksX4_hasPermit_1 6 rfl rfl)
theorem dX4_hasPermit_29 : decode cX4_hasPermit 29 = .ok (.invokevirtual 102, 3) := dk_182 0 102 (dk_at dksX4_hasPermit_1 7 rfl rfl)
theorem dX4_hasPermit_32 : decode cX4_hasPermit 32 = .ok (.iload_n 2, 1) := dk_28 (dk_at dksX4_hasPermit_1 10 rfl rfl)
theorem dX4_hasPermit_33 : decode cX4_hasPermit 33 = .ok (.if_icmp .ne 20, 3) := dk_160 0 20 (dk_at dksX4_hasPermit_1 11 rfl rfl)
theorem dX4_hasPermit_36 : decode cX4_hasPermit 36 = .ok (.iload_n 3, 1) := dk_29 (dk_at dksX4_hasPermit_1 14 rfl rfl)
theorem dX4_hasPermit_37 : decode cX4_hasPermit 37 = .ok (.iconst (-1), 1) := dk_2 (dk_at dksX4_hasPermit_1 15 rfl rfl)
theorem dX4_hasPermit_38 : decode cX4_hasPermit 38 = .ok (.if_icmp .eq 13, 3) := dk_159 0 13 (dk_at dksX4_hasPermit_1 16 rfl rfl)
theorem dX4_hasPermit_41 : decode cX4_hasPermit 41 = .ok (.aload_n 0, 1) := dk_42 (dk_at dksX4_hasPermit_1 19 rfl rfl)
theorem dX4_hasPermit_42 : decode cX4_hasPermit 42 = .ok (.iload 4, 2) := dk_21 4 (dk_at dksX4_hasPermit_1 20 rfl rfl)
theorem dX4_hasPermit_44 : decode cX4_hasPermit 44 = .ok (.invokevirtual 108, 3) := dk_182 0 108 (dk_at dksX4_hasPermit_2 0 rfl rfl)
theorem dX4_hasPermit_47 : decode cX4_hasPermit 47 = .ok (.iload_n 3, 1) := dk_29 (dk_at dksX4_hasPermit_2 3 rfl rfl)
theorem dX4_hasPermit_48 : decode cX4_hasPermit 48 = .ok (.if_icmp .ne 5, 3) := dk_160 0 5 (dk_at dksX4_hasPermit_2 4 rfl rfl)
theorem dX4_hasPermit_51 : decode cX4_hasPermit 51 = .ok (.iconst 1, 1) := dk_4 (dk_at dksX4_hasPermit_2 7 rfl rfl)
theorem dX4_hasPermit_52 : decode cX4_hasPermit 52 = .ok (.ireturn, 1) := dk_172 (dk_at dksX4_hasPermit_2 8 rfl rfl)
theorem dX4_hasPermit_53 : decode cX4_hasPermit 53 = .ok (.iinc 4 1, 3) := dk_132 4 1 (dk_at dksX4_hasPermit_2 9 rfl rfl)
theorem dX4_hasPermit_56 : decode cX4_hasPermit 56 = .ok (.goto (-53), 3) := dk_167 255 203 (dk_at dksX4_hasPermit_2 12 rfl rfl)
theorem dX4_hasPermit_59 : decode cX4_hasPermit 59 = .ok (.iconst 0, 1) := dk_3 (dk_at dksX4_hasPermit_2 15 rfl rfl)
theorem dX4_hasPermit_60 : decode cX4_hasPermit 60 = .ok (.ireturn, 1) := dk_172 (dk_at dksX4_hasPermit_2 16 rfl rfl)
abbrev cX4_hasVisit : ByteArray := prog_21_method_72_code
def yX4_hasVisit : MethodName := ⟨RX4, "hasVisit", "(IIZ)Z"⟩
def dkwX4_hasVisit_2 : List UInt8 := [21, 4, 182, 0, 190, 29, 160, 0, 5, 4, 172, 132, 4, 1, 167, 255, 200, 3, 172]
abbrev dktX4_hasVisit_2 : List UInt8 := dkwX4_hasVisit_2 ++ []
def dkwX4_hasVisit_1 : List UInt8 := [160, 0, 34, 42, 42, 21, 4, 3, 182, 0, 187, 182, 0, 105, 42, 28, 182, 0, 98, 160, 0, 15, 42]
abbrev dktX4_hasVisit_1 : List UInt8 := dkwX4_hasVisit_1 ++ dktX4_hasVisit_2
def dkwX4_hasVisit_0 : List UInt8 := [3, 54, 4, 21, 4, 42, 180, 0, 16, 5, 46, 162, 0, 51, 42, 21, 4, 4, 182, 0, 187, 27]
abbrev dktX4_hasVisit_0 : List UInt8 := dkwX4_hasVisit_0 ++ dktX4_hasVisit_1
theorem dksX4_hasVisit_0 : cX4_hasVisit.data.toList.drop 0 = dktX4_hasVisit_0 := by decide +kernel
theorem dksX4_hasVisit_1 : cX4_hasVisit.data.toList.drop 22 = dktX4_hasVisit_1 := dk_seg dksX4_hasVisit_0 22 rfl rfl
theorem dksX4_hasVisit_2 : cX4_hasVisit.data.toList.drop 45 = dktX4_hasVisit_2 := dk_seg dksX4_hasVisit_1 23 rfl rfl
theorem dX4_hasVisit_0 : decode cX4_hasVisit 0 = .ok (.iconst 0, 1) := dk_3 (dk_at dksX4_hasVisit_0 0 rfl rfl)
theorem dX4_hasVisit_1 : decode cX4_hasVisit 1 = .ok (.istore 4, 2) := dk_54 4 (dk_at dksX4_hasVisit_0 1 rfl rfl)
theorem dX4_hasVisit_3 : decode cX4_hasVisit 3 = .ok (.iload 4, 2) := dk_21 4 (dk_at dksX4_hasVisit_0 3 rfl rfl)
theorem dX4_hasVisit_5 : decode cX4_hasVisit 5 = .ok (.aload_n 0, 1) := dk_42 (dk_at dksX4_hasVisit_0 5 rfl rfl)
theorem dX4_hasVisit_6 : decode cX4_hasVisit 6 = .ok (.getfield 16, 3) := dk_180 0 16 (dk_at dksX4_hasVisit_0 6 rfl rfl)
theorem dX4_hasVisit_9 : decode cX4_hasVisit 9 = .ok (.iconst 2, 1) := dk_5 (dk_at dksX4_hasVisit_0 9 rfl rfl)
theorem dX4_hasVisit_10 : decode cX4_hasVisit 10 = .ok (.iaload, 1) := dk_46 (dk_at dksX4_hasVisit_0 10 rfl rfl)
theorem dX4_hasVisit_11 : decode cX4_hasVisit 11 = .ok (.if_icmp .ge 51, 3) := dk_162 0 51 (dk_at dksX4_hasVisit_0 11 rfl rfl)
theorem dX4_hasVisit_14 : decode cX4_hasVisit 14 = .ok (.aload_n 0, 1) := dk_42 (dk_at dksX4_hasVisit_0 14 rfl rfl)
theorem dX4_hasVisit_15 : decode cX4_hasVisit 15 = .ok (.iload 4, 2) := dk_21 4 (dk_at dksX4_hasVisit_0 15 rfl rfl)
theorem dX4_hasVisit_17 : decode cX4_hasVisit 17 = .ok (.iconst 1, 1) := dk_4 (dk_at dksX4_hasVisit_0 17 rfl rfl)
theorem dX4_hasVisit_18 : decode cX4_hasVisit 18 = .ok (.invokevirtual 187, 3) := dk_182 0 187 (dk_at dksX4_hasVisit_0 18 rfl rfl)
theorem dX4_hasVisit_21 : decode cX4_hasVisit 21 = .ok (.iload_n 1, 1) := dk_27 (dk_at dksX4_hasVisit_0 21 rfl rfl)
theorem dX4_hasVisit_22 : decode cX4_hasVisit 22 = .ok (.if_icmp .ne 34, 3) := dk_160 0 34 (dk_at dksX4_hasVisit_1 0 rfl rfl)
theorem dX4_hasVisit_25 : decode cX4_hasVisit 25 = .ok (.aload_n 0, 1) := dk_42 (dk_at dksX4_hasVisit_1 3 rfl rfl)
theorem dX4_hasVisit_26 : decode cX4_hasVisit 26 = .ok (.aload_n 0, 1) := dk_42 (dk_at dksX4_hasVisit_1 4 rfl rfl)
theorem dX4_hasVisit_27 : decode cX4_hasVisit 27 = .ok (.iload 4, 2) := dk_21 4 (dk_at dksX4_hasVisit_1 5 rfl rfl)
theorem dX4_hasVisit_29 : decode cX4_hasVisit 29 = .ok (.iconst 0, 1) := dk_3 (dk_at dksX4_hasVisit_1 7 rfl rfl)
theorem dX4_hasVisit_30 : decode cX4_hasVisit 30 = .ok (.invokevirtual 187, 3) := dk_182 0 187 (dk_at dksX4_hasVisit_1 8 rfl rfl)
theorem dX4_hasVisit_33 : decode cX4_hasVisit 33 = .ok (.invokevirtual 105, 3) := dk_182 0 105 (dk_at dksX4_hasVisit_1 11 rfl rfl)
theorem dX4_hasVisit_36 : decode cX4_hasVisit 36 = .ok (.aload_n 0, 1) := dk_42 (dk_at dksX4_hasVisit_1 14 rfl rfl)
theorem dX4_hasVisit_37 : decode cX4_hasVisit 37 = .ok (.iload_n 2, 1) := dk_28 (dk_at dksX4_hasVisit_1 15 rfl rfl)
theorem dX4_hasVisit_38 : decode cX4_hasVisit 38 = .ok (.invokevirtual 98, 3) := dk_182 0 98 (dk_at dksX4_hasVisit_1 16 rfl rfl)
theorem dX4_hasVisit_41 : decode cX4_hasVisit 41 = .ok (.if_icmp .ne 15, 3) := dk_160 0 15 (dk_at dksX4_hasVisit_1 19 rfl rfl)
theorem dX4_hasVisit_44 : decode cX4_hasVisit 44 = .ok (.aload_n 0, 1) := dk_42 (dk_at dksX4_hasVisit_1 22 rfl rfl)
theorem dX4_hasVisit_45 : decode cX4_hasVisit 45 = .ok (.iload 4, 2) := dk_21 4 (dk_at dksX4_hasVisit_2 0 rfl rfl)
theorem dX4_hasVisit_47 : decode cX4_hasVisit 47 = .ok (.invokevirtual 190, 3) := dk_182 0 190 (dk_at dksX4_hasVisit_2 2 rfl rfl)
theorem dX4_hasVisit_50 : decode cX4_hasVisit 50 = .ok (.iload_n 3, 1) := dk_29 (dk_at dksX4_hasVisit_2 5 rfl rfl)
theorem dX4_hasVisit_51 : decode cX4_hasVisit 51 = .ok (.if_icmp .ne 5, 3) := dk_160 0 5 (dk_at dksX4_hasVisit_2 6 rfl rfl)
theorem dX4_hasVisit_54 : decode cX4_hasVisit 54 = .ok (.iconst 1, 1) := dk_4 (dk_at dksX4_hasVisit_2 9 rfl rfl)
theorem dX4_hasVisit_55 : decode cX4_hasVisit 55 = .ok (.ireturn, 1) := dk_172 (dk_at dksX4_hasVisit_2 10 rfl rfl)
theorem dX4_hasVisit_56 : decode cX4_hasVisit 56 = .ok (.iinc 4 1, 3) := dk_132 4 1 (dk_at dksX4_hasVisit_2 11 rfl rfl)
theorem dX4_hasVisit_59 : decode cX4_hasVisit 59 = .ok (.goto (-56), 3) := dk_167 255 200 (dk_at dksX4_hasVisit_2 14 rfl rfl)
theorem dX4_hasVisit_62 : decode cX4_hasVisit 62 = .ok (.iconst 0, 1) := dk_3 (dk_at dksX4_hasVisit_2 17 rfl rfl)
theorem dX4_hasVisit_63 : decode cX4_hasVisit 63 = .ok (.ireturn, 1) := dk_172 (dk_at dksX4_hasVisit_2 18 rfl rfl)
abbrev cX4_bestStreet : ByteArray := prog_21_method_77_code
def yX4_bestStreet : MethodName := ⟨RX4, "bestStreet", "(I)I"⟩
def dkwX4_bestStreet_3 : List UInt8 := [167, 255, 203, 28, 172]
abbrev dktX4_bestStreet_3 : List UInt8 := dkwX4_bestStreet_3 ++ []
def dkwX4_bestStreet_2 : List UInt8 := [2, 159, 0, 16, 42, 29, 182, 0, 224, 42, 28, 182, 0, 224, 164, 0, 5, 29, 61, 132, 3, 1]
abbrev dktX4_bestStreet_2 : List UInt8 := dkwX4_bestStreet_2 ++ dktX4_bestStreet_3
def dkwX4_bestStreet_1 : List UInt8 := [162, 0, 49, 42, 29, 182, 0, 224, 158, 0, 35, 42, 27, 29, 182, 0, 244, 154, 0, 6, 167, 0, 23, 28]
abbrev dktX4_bestStreet_1 : List UInt8 := dkwX4_bestStreet_1 ++ dktX4_bestStreet_2
def dkwX4_bestStreet_0 : List UInt8 := [42, 27, 184, 0, 160, 182, 0, 90, 154, 0, 5, 3, 172, 2, 61, 3, 62, 29, 42, 180, 0, 7, 4, 46]
abbrev dktX4_bestStreet_0 : List UInt8 := dkwX4_bestStreet_0 ++ dktX4_bestStreet_1
theorem dksX4_bestStreet_0 : cX4_bestStreet.data.toList.drop 0 = dktX4_bestStreet_0 := by decide +kernel
theorem dksX4_bestStreet_1 : cX4_bestStreet.data.toList.drop 24 = dktX4_bestStreet_1 := dk_seg dksX4_bestStreet_0 24 rfl rfl
theorem dksX4_bestStreet_2 : cX4_bestStreet.data.toList.drop 48 = dktX4_bestStreet_2 := dk_seg dksX4_bestStreet_1 24 rfl rfl
theorem dksX4_bestStreet_3 : cX4_bestStreet.data.toList.drop 70 = dktX4_bestStreet_3 := dk_seg dksX4_bestStreet_2 22 rfl rfl
theorem dX4_bestStreet_0 : decode cX4_bestStreet 0 = .ok (.aload_n 0, 1) := dk_42 (dk_at dksX4_bestStreet_0 0 rfl rfl)
theorem dX4_bestStreet_1 : decode cX4_bestStreet 1 = .ok (.iload_n 1, 1) := dk_27 (dk_at dksX4_bestStreet_0 1 rfl rfl)
theorem dX4_bestStreet_2 : decode cX4_bestStreet 2 = .ok (.invokestatic 160, 3) := dk_184 0 160 (dk_at dksX4_bestStreet_0 2 rfl rfl)
theorem dX4_bestStreet_5 : decode cX4_bestStreet 5 = .ok (.invokevirtual 90, 3) := dk_182 0 90 (dk_at dksX4_bestStreet_0 5 rfl rfl)
theorem dX4_bestStreet_8 : decode cX4_bestStreet 8 = .ok (.ifCond .ne 5, 3) := dk_154 0 5 (dk_at dksX4_bestStreet_0 8 rfl rfl)
theorem dX4_bestStreet_11 : decode cX4_bestStreet 11 = .ok (.iconst 0, 1) := dk_3 (dk_at dksX4_bestStreet_0 11 rfl rfl)
theorem dX4_bestStreet_12 : decode cX4_bestStreet 12 = .ok (.ireturn, 1) := dk_172 (dk_at dksX4_bestStreet_0 12 rfl rfl)
theorem dX4_bestStreet_13 : decode cX4_bestStreet 13 = .ok (.iconst (-1), 1) := dk_2 (dk_at dksX4_bestStreet_0 13 rfl rfl)
theorem dX4_bestStreet_14 : decode cX4_bestStreet 14 = .ok (.istore_n 2, 1) := dk_61 (dk_at dksX4_bestStreet_0 14 rfl rfl)
theorem dX4_bestStreet_15 : decode cX4_bestStreet 15 = .ok (.iconst 0, 1) := dk_3 (dk_at dksX4_bestStreet_0 15 rfl rfl)
theorem dX4_bestStreet_16 : decode cX4_bestStreet 16 = .ok (.istore_n 3, 1) := dk_62 (dk_at dksX4_bestStreet_0 16 rfl rfl)
theorem dX4_bestStreet_17 : decode cX4_bestStreet 17 = .ok (.iload_n 3, 1) := dk_29 (dk_at dksX4_bestStreet_0 17 rfl rfl)
theorem dX4_bestStreet_18 : decode cX4_bestStreet 18 = .ok (.aload_n 0, 1) := dk_42 (dk_at dksX4_bestStreet_0 18 rfl rfl)
theorem dX4_bestStreet_19 : decode cX4_bestStreet 19 = .ok (.getfield 7, 3) := dk_180 0 7 (dk_at dksX4_bestStreet_0 19 rfl rfl)
theorem dX4_bestStreet_22 : decode cX4_bestStreet 22 = .ok (.iconst 1, 1) := dk_4 (dk_at dksX4_bestStreet_0 22 rfl rfl)
theorem dX4_bestStreet_23 : decode cX4_bestStreet 23 = .ok (.iaload, 1) := dk_46 (dk_at dksX4_bestStreet_0 23 rfl rfl)
theorem dX4_bestStreet_24 : decode cX4_bestStreet 24 = .ok (.if_icmp .ge 49, 3) := dk_162 0 49 (dk_at dksX4_bestStreet_1 0 rfl rfl)
theorem dX4_bestStreet_27 : decode cX4_bestStreet 27 = .ok (.aload_n 0, 1) := dk_42 (dk_at dksX4_bestStreet_1 3 rfl rfl)
theorem dX4_bestStreet_28 : decode cX4_bestStreet 28 = .ok (.iload_n 3, 1) := dk_29 (dk_at dksX4_bestStreet_1 4 rfl rfl)
theorem dX4_bestStreet_29 : decode cX4_bestStreet 29 = .ok (.invokevirtual 224, 3) := dk_182 0 224 (dk_at dksX4_bestStreet_1 5 rfl rfl)
theorem dX4_bestStreet_32 : decode cX4_bestStreet 32 = .ok (.ifCond .le 35, 3) := dk_158 0 35 (dk_at dksX4_bestStreet_1 8 rfl rfl)
theorem dX4_bestStreet_35 : decode cX4_bestStreet 35 = .ok (.aload_n 0, 1) := dk_42 (dk_at dksX4_bestStreet_1 11 rfl rfl)
theorem dX4_bestStreet_36 : decode cX4_bestStreet 36 = .ok (.iload_n 1, 1) := dk_27 (dk_at dksX4_bestStreet_1 12 rfl rfl)
theorem dX4_bestStreet_37 : decode cX4_bestStreet 37 = .ok (.iload_n 3, 1) := dk_29 (dk_at dksX4_bestStreet_1 13 rfl rfl)
theorem dX4_bestStreet_38 : decode cX4_bestStreet 38 = .ok (.invokevirtual 244, 3) := dk_182 0 244 (dk_at dksX4_bestStreet_1 14 rfl rfl)
theorem dX4_bestStreet_41 : decode cX4_bestStreet 41 = .ok (.ifCond .ne 6, 3) := dk_154 0 6 (dk_at dksX4_bestStreet_1 17 rfl rfl)
theorem dX4_bestStreet_44 : decode cX4_bestStreet 44 = .ok (.goto 23, 3) := dk_167 0 23 (dk_at dksX4_bestStreet_1 20 rfl rfl)
theorem dX4_bestStreet_47 : decode cX4_bestStreet 47 = .ok (.iload_n 2, 1) := dk_28 (dk_at dksX4_bestStreet_1 23 rfl rfl)
theorem dX4_bestStreet_48 : decode cX4_bestStreet 48 = .ok (.iconst (-1), 1) := dk_2 (dk_at dksX4_bestStreet_2 0 rfl rfl)
theorem dX4_bestStreet_49 : decode cX4_bestStreet 49 = .ok (.if_icmp .eq 16, 3) := dk_159 0 16 (dk_at dksX4_bestStreet_2 1 rfl rfl)
theorem dX4_bestStreet_52 : decode cX4_bestStreet 52 = .ok (.aload_n 0, 1) := dk_42 (dk_at dksX4_bestStreet_2 4 rfl rfl)
theorem dX4_bestStreet_53 : decode cX4_bestStreet 53 = .ok (.iload_n 3, 1) := dk_29 (dk_at dksX4_bestStreet_2 5 rfl rfl)
theorem dX4_bestStreet_54 : decode cX4_bestStreet 54 = .ok (.invokevirtual 224, 3) := dk_182 0 224 (dk_at dksX4_bestStreet_2 6 rfl rfl)
theorem dX4_bestStreet_57 : decode cX4_bestStreet 57 = .ok (.aload_n 0, 1) := dk_42 (dk_at dksX4_bestStreet_2 9 rfl rfl)
theorem dX4_bestStreet_58 : decode cX4_bestStreet 58 = .ok (.iload_n 2, 1) := dk_28 (dk_at dksX4_bestStreet_2 10 rfl rfl)
theorem dX4_bestStreet_59 : decode cX4_bestStreet 59 = .ok (.invokevirtual 224, 3) := dk_182 0 224 (dk_at dksX4_bestStreet_2 11 rfl rfl)
theorem dX4_bestStreet_62 : decode cX4_bestStreet 62 = .ok (.if_icmp .le 5, 3) := dk_164 0 5 (dk_at dksX4_bestStreet_2 14 rfl rfl)
theorem dX4_bestStreet_65 : decode cX4_bestStreet 65 = .ok (.iload_n 3, 1) := dk_29 (dk_at dksX4_bestStreet_2 17 rfl rfl)
theorem dX4_bestStreet_66 : decode cX4_bestStreet 66 = .ok (.istore_n 2, 1) := dk_61 (dk_at dksX4_bestStreet_2 18 rfl rfl)
theorem dX4_bestStreet_67 : decode cX4_bestStreet 67 = .ok (.iinc 3 1, 3) := dk_132 3 1 (dk_at dksX4_bestStreet_2 19 rfl rfl)
theorem dX4_bestStreet_70 : decode cX4_bestStreet 70 = .ok (.goto (-53), 3) := dk_167 255 203 (dk_at dksX4_bestStreet_3 0 rfl rfl)
theorem dX4_bestStreet_73 : decode cX4_bestStreet 73 = .ok (.iload_n 2, 1) := dk_28 (dk_at dksX4_bestStreet_3 3 rfl rfl)
theorem dX4_bestStreet_74 : decode cX4_bestStreet 74 = .ok (.ireturn, 1) := dk_172 (dk_at dksX4_bestStreet_3 4 rfl rfl)
abbrev cX4_inspect : ByteArray := prog_21_method_84_code
def yX4_inspect : MethodName := ⟨RX4, "inspect", "(I)I"⟩
def dkwX4_inspect_7 : List UInt8 := [182, 0, 250, 3, 79, 132, 3, 1, 167, 255, 110, 42, 42, 180, 0, 16, 7, 46, 28, 100, 182, 0, 173, 172]
abbrev dktX4_inspect_7 : List UInt8 := dkwX4_inspect_7 ++ []
def dkwX4_inspect_6 : List UInt8 := [46, 79, 42, 180, 0, 16, 42, 21, 5, 6, 182, 0, 250, 21, 4, 79, 42, 180, 0, 16, 42, 21, 5, 7]
abbrev dktX4_inspect_6 : List UInt8 := dkwX4_inspect_6 ++ dktX4_inspect_7
def dkwX4_inspect_5 : List UInt8 := [21, 5, 4, 182, 0, 250, 27, 79, 42, 180, 0, 16, 42, 21, 5, 5, 182, 0, 250, 42, 180, 0, 16, 3]
abbrev dktX4_inspect_5 : List UInt8 := dkwX4_inspect_5 ++ dktX4_inspect_6
def dkwX4_inspect_4 : List UInt8 := [42, 180, 0, 16, 42, 21, 5, 3, 182, 0, 250, 42, 29, 3, 182, 0, 212, 79, 42, 180, 0, 16, 42]
abbrev dktX4_inspect_4 : List UInt8 := dkwX4_inspect_4 ++ dktX4_inspect_5
def dkwX4_inspect_3 : List UInt8 := [154, 0, 6, 167, 0, 97, 42, 180, 0, 16, 7, 46, 54, 5, 42, 180, 0, 16, 7, 21, 5, 4, 96, 79]
abbrev dktX4_inspect_3 : List UInt8 := dkwX4_inspect_3 ++ dktX4_inspect_4
def dkwX4_inspect_2 : List UInt8 := [180, 0, 16, 7, 46, 16, 99, 160, 0, 6, 167, 0, 112, 42, 29, 182, 1, 3, 54, 4, 21, 4]
abbrev dktX4_inspect_2 : List UInt8 := dkwX4_inspect_2 ++ dktX4_inspect_3
def dkwX4_inspect_1 : List UInt8 := [61, 3, 62, 29, 42, 180, 0, 16, 6, 46, 162, 0, 142, 42, 29, 4, 182, 0, 212, 27, 160, 0, 126, 42]
abbrev dktX4_inspect_1 : List UInt8 := dkwX4_inspect_1 ++ dktX4_inspect_2
def dkwX4_inspect_0 : List UInt8 := [42, 42, 27, 182, 0, 218, 182, 0, 90, 154, 0, 5, 3, 172, 42, 182, 0, 148, 42, 180, 0, 16, 7, 46]
abbrev dktX4_inspect_0 : List UInt8 := dkwX4_inspect_0 ++ dktX4_inspect_1
theorem dksX4_inspect_0 : cX4_inspect.data.toList.drop 0 = dktX4_inspect_0 := by decide +kernel
theorem dksX4_inspect_1 : cX4_inspect.data.toList.drop 24 = dktX4_inspect_1 := dk_seg dksX4_inspect_0 24 rfl rfl
theorem dksX4_inspect_2 : cX4_inspect.data.toList.drop 48 = dktX4_inspect_2 := dk_seg dksX4_inspect_1 24 rfl rfl
theorem dksX4_inspect_3 : cX4_inspect.data.toList.drop 70 = dktX4_inspect_3 := dk_seg dksX4_inspect_2 22 rfl rfl
theorem dksX4_inspect_4 : cX4_inspect.data.toList.drop 94 = dktX4_inspect_4 := dk_seg dksX4_inspect_3 24 rfl rfl
theorem dksX4_inspect_5 : cX4_inspect.data.toList.drop 117 = dktX4_inspect_5 := dk_seg dksX4_inspect_4 23 rfl rfl
theorem dksX4_inspect_6 : cX4_inspect.data.toList.drop 141 = dktX4_inspect_6 := dk_seg dksX4_inspect_5 24 rfl rfl
theorem dksX4_inspect_7 : cX4_inspect.data.toList.drop 165 = dktX4_inspect_7 := dk_seg dksX4_inspect_6 24 rfl rfl
theorem dX4_inspect_0 : decode cX4_inspect 0 = .ok (.aload_n 0, 1) := dk_42 (dk_at dksX4_inspect_0 0 rfl rfl)
theorem dX4_inspect_1 : decode cX4_inspect 1 = .ok (.aload_n 0, 1) := dk_42 (dk_at dksX4_inspect_0 1 rfl rfl)
theorem dX4_inspect_2 : decode cX4_inspect 2 = .ok (.iload_n 1, 1) := dk_27 (dk_at dksX4_inspect_0 2 rfl rfl)
theorem dX4_inspect_3 : decode cX4_inspect 3 = .ok (.invokevirtual 218, 3) := dk_182 0 218 (dk_at dksX4_inspect_0 3 rfl rfl)
theorem dX4_inspect_6 : decode cX4_inspect 6 = .ok (.invokevirtual 90, 3) := dk_182 0 90 (dk_at dksX4_inspect_0 6 rfl rfl)
theorem dX4_inspect_9 : decode cX4_inspect 9 = .ok (.ifCond .ne 5, 3) := dk_154 0 5 (dk_at dksX4_inspect_0 9 rfl rfl)
theorem dX4_inspect_12 : decode cX4_inspect 12 = .ok (.iconst 0, 1) := dk_3 (dk_at dksX4_inspect_0 12 rfl rfl)
theorem dX4_inspect_13 : decode cX4_inspect 13 = .ok (.ireturn, 1) := dk_172 (dk_at dksX4_inspect_0 13 rfl rfl)
theorem dX4_inspect_14 : decode cX4_inspect 14 = .ok (.aload_n 0, 1) := dk_42 (dk_at dksX4_inspect_0 14 rfl rfl)
theorem dX4_inspect_15 : decode cX4_inspect 15 = .ok (.invokevirtual 148, 3) := dk_182 0 148 (dk_at dksX4_inspect_0 15 rfl rfl)
theorem dX4_inspect_18 : decode cX4_inspect 18 = .ok (.aload_n 0, 1) := dk_42 (dk_at dksX4_inspect_0 18 rfl rfl)
theorem dX4_inspect_19 : decode cX4_inspect 19 = .ok (.getfield 16, 3) := dk_180 0 16 (dk_at dksX4_inspect_0 19 rfl rfl)
theorem dX4_inspect_22 : decode cX4_inspect 22 = .ok (.iconst 4, 1) := dk_7 (dk_at dksX4_inspect_0 22 rfl rfl)
theorem dX4_inspect_23 : decode cX4_inspect 23 = .ok (.iaload, 1) := dk_46 (dk_at dksX4_inspect_0 23 rfl rfl)
theorem dX4_inspect_24 : decode cX4_inspect 24 = .ok (.istore_n 2, 1) := dk_61 (dk_at dksX4_inspect_1 0 rfl rfl)
theorem dX4_inspect_25 : decode cX4_inspect 25 = .ok (.iconst 0, 1) := dk_3 (dk_at dksX4_inspect_1 1 rfl rfl)
theorem dX4_inspect_26 : decode cX4_inspect 26 = .ok (.istore_n 3, 1) := dk_62 (dk_at dksX4_inspect_1 2 rfl rfl)
theorem dX4_inspect_27 : decode cX4_inspect 27 = .ok (.iload_n 3, 1) := dk_29 (dk_at dksX4_inspect_1 3 rfl rfl)
theorem dX4_inspect_28 : decode cX4_inspect 28 = .ok (.aload_n 0, 1) := dk_42 (dk_at dksX4_inspect_1 4 rfl rfl)
theorem dX4_inspect_29 : decode cX4_inspect 29 = .ok (.getfield 16, 3) := dk_180 0 16 (dk_at dksX4_inspect_1 5 rfl rfl)
theorem dX4_inspect_32 : decode cX4_inspect 32 = .ok (.iconst 3, 1) := dk_6 (dk_at dksX4_inspect_1 8 rfl rfl)
theorem dX4_inspect_33 : decode cX4_inspect 33 = .ok (.iaload, 1) := dk_46 (dk_at dksX4_inspect_1 9 rfl rfl)
theorem dX4_inspect_34 : decode cX4_inspect 34 = .ok (.if_icmp .ge 142, 3) := dk_162 0 142 (dk_at dksX4_inspect_1 10 rfl rfl)
theorem dX4_inspect_37 : decode cX4_inspect 37 = .ok (.aload_n 0, 1) := dk_42 (dk_at dksX4_inspect_1 13 rfl rfl)
theorem dX4_inspect_38 : decode cX4_inspect 38 = .ok (.iload_n 3, 1) := dk_29 (dk_at dksX4_inspect_1 14 rfl rfl)
theorem dX4_inspect_39 : decode cX4_inspect 39 = .ok (.iconst 1, 1) := dk_4 (dk_at dksX4_inspect_1 15 rfl rfl)
theorem dX4_inspect_40 : decode cX4_inspect 40 = .ok (.invokevirtual 212, 3) := dk_182 0 212 (dk_at dksX4_inspect_1 16 rfl rfl)
theorem dX4_inspect_43 : decode cX4_inspect 43 = .ok (.iload_n 1, 1) := dk_27 (dk_at dksX4_inspect_1 19 rfl rfl)
theorem dX4_inspect_44 : decode cX4_inspect 44 = .ok (.if_icmp .ne 126, 3) := dk_160 0 126 (dk_at dksX4_inspect_1 20 rfl rfl)
theorem dX4_inspect_47 : decode cX4_inspect 47 = .ok (.aload_n 0, 1) := dk_42 (dk_at dksX4_inspect_1 23 rfl rfl)
theorem dX4_inspect_48 : decode cX4_inspect 48 = .ok (.getfield 16, 3) := dk_180 0 16 (dk_at dksX4_inspect_2 0 rfl rfl)
theorem dX4_inspect_51 : decode cX4_inspect 51 = .ok (.iconst 4, 1) := dk_7 (dk_at dksX4_inspect_2 3 rfl rfl)
theorem dX4_inspect_52 : decode cX4_inspect 52 = .ok (.iaload, 1) := dk_46 (dk_at dksX4_inspect_2 4 rfl rfl)
theorem dX4_inspect_53 : decode cX4_inspect 53 = .ok (.bipush 99, 2) := dk_16 99 (dk_at dksX4_inspect_2 5 rfl rfl)
theorem dX4_inspect_55 : decode cX4_inspect 55 = .ok (.if_icmp .ne 6, 3) := dk_160 0 6 (dk_at dksX4_inspect_2 7 rfl rfl)
theorem dX4_inspect_58 : decode cX4_inspect 58 = .ok (.goto 112, 3) := dk_167 0 112 (dk_at dksX4_inspect_2 10 rfl rfl)
theorem dX4_inspect_61 : decode cX4_inspect 61 = .ok (.aload_n 0, 1) := dk_42 (dk_at dksX4_inspect_2 13 rfl rfl)
theorem dX4_inspect_62 : decode cX4_inspect 62 = .ok (.iload_n 3, 1) := dk_29 (dk_at dksX4_inspect_2 14 rfl rfl)
theorem dX4_inspect_63 : decode cX4_inspect 63 = .ok (.invokevirtual 259, 3) := dk_182 1 3 (dk_at dksX4_inspect_2 15 rfl rfl)
theorem dX4_inspect_66 : decode cX4_inspect 66 = .ok (.istore 4, 2) := dk_54 4 (dk_at dksX4_inspect_2 18 rfl rfl)
theorem dX4_inspect_68 : decode cX4_inspect 68 = .ok (.iload 4, 2) := dk_21 4 (dk_at dksX4_inspect_2 20 rfl rfl)
theorem dX4_inspect_70 : decode cX4_inspect 70 = .ok (.ifCond .ne 6, 3) := dk_154 0 6 (dk_at dksX4_inspect_3 0 rfl rfl)
theorem dX4_inspect_73 : decode cX4_inspect 73 = .ok (.goto 97, 3) := dk_167 0 97 (dk_at dksX4_inspect_3 3 rfl rfl)
theorem dX4_inspect_76 : decode cX4_inspect 76 = .ok (.aload_n 0, 1) := dk_42 (dk_at dksX4_inspect_3 6 rfl rfl)
theorem dX4_inspect_77 : decode cX4_inspect 77 = .ok (.getfield 16, 3) := dk_180 0 16 (dk_at dksX4_inspect_3 7 rfl rfl)
theorem dX4_inspect_80 : decode cX4_inspect 80 = .ok (.iconst 4, 1) := dk_7 (dk_at dksX4_inspect_3 10 rfl rfl)
theorem dX4_inspect_81 : decode cX4_inspect 81 = .ok (.iaload, 1) := dk_46 (dk_at dksX4_inspect_3 11 rfl rfl)
theorem dX4_inspect_82 : decode cX4_inspect 82 = .ok (.istore 5, 2) := dk_54 5 (dk_at dksX4_inspect_3 12 rfl rfl)
theorem dX4_inspect_84 : decode cX4_inspect 84 = .ok (.aload_n 0, 1) := dk_42 (dk_at dksX4_inspect_3 14 rfl rfl)
theorem dX4_inspect_85 : decode cX4_inspect 85 = .ok (.getfield 16, 3) := dk_180 0 16 (dk_at dksX4_inspect_3 15 rfl rfl)
theorem dX4_inspect_88 : decode cX4_inspect 88 = .ok (.iconst 4, 1) := dk_7 (dk_at dksX4_inspect_3 18 rfl rfl)
theorem dX4_inspect_89 : decode cX4_inspect 89 = .ok (.iload 5, 2) := dk_21 5 (dk_at dksX4_inspect_3 19 rfl rfl)
theorem dX4_inspect_91 : decode cX4_inspect 91 = .ok (.iconst 1, 1) := dk_4 (dk_at dksX4_inspect_3 21 rfl rfl)
theorem dX4_inspect_92 : decode cX4_inspect 92 = .ok (.iadd, 1) := dk_96 (dk_at dksX4_inspect_3 22 rfl rfl)
theorem dX4_inspect_93 : decode cX4_inspect 93 = .ok (.iastore, 1) := dk_79 (dk_at dksX4_inspect_3 23 rfl rfl)
theorem dX4_inspect_94 : decode cX4_inspect 94 = .ok (.aload_n 0, 1) := dk_42 (dk_at dksX4_inspect_4 0 rfl rfl)
theorem dX4_inspect_95 : decode cX4_inspect 95 = .ok (.getfield 16, 3) := dk_180 0 16 (dk_at dksX4_inspect_4 1 rfl rfl)
theorem dX4_inspect_98 : decode cX4_inspect 98 = .ok (.aload_n 0, 1) := dk_42 (dk_at dksX4_inspect_4 4 rfl rfl)
theorem dX4_inspect_99 : decode cX4_inspect 99 = .ok (.iload 5, 2) := dk_21 5 (dk_at dksX4_inspect_4 5 rfl rfl)
theorem dX4_inspect_101 : decode cX4_inspect 101 = .ok (.iconst 0, 1) := dk_3 (dk_at dksX4_inspect_4 7 rfl rfl)
theorem dX4_inspect_102 : decode cX4_inspect 102 = .ok (.invokevirtual 250, 3) := dk_182 0 250 (dk_at dksX4_inspect_4 8 rfl rfl)
theorem dX4_inspect_105 : decode cX4_inspect 105 = .ok (.aload_n 0, 1) := dk_42 (dk_at dksX4_inspect_4 11 rfl rfl)
theorem dX4_inspect_106 : decode cX4_inspect 106 = .ok (.iload_n 3, 1) := dk_29 (dk_at dksX4_inspect_4 12 rfl rfl)
theorem dX4_inspect_107 : decode cX4_inspect 107 = .ok (.iconst 0, 1) := dk_3 (dk_at dksX4_inspect_4 13 rfl rfl)
theorem dX4_inspect_108 : decode cX4_inspect 108 = .ok (.invokevirtual 212, 3) := dk_182 0 212 (dk_at dksX4_inspect_4 14 rfl rfl)
theorem dX4_inspect_111 : decode cX4_inspect 111 = .ok (.iastore, 1) := dk_79 (dk_at dksX4_inspect_4 17 rfl rfl)
theorem dX4_inspect_112 : decode cX4_inspect 112 = .ok (.aload_n 0, 1) := dk_42 (dk_at dksX4_inspect_4 18 rfl rfl)
theorem dX4_inspect_113 : decode cX4_inspect 113 = .ok (.getfield 16, 3) := dk_180 0 16 (dk_at dksX4_inspect_4 19 rfl rfl)
theorem dX4_inspect_116 : decode cX4_inspect 116 = .ok (.aload_n 0, 1) := dk_42 (dk_at dksX4_inspect_4 22 rfl rfl)
theorem dX4_inspect_117 : decode cX4_inspect 117 = .ok (.iload 5, 2) := dk_21 5 (dk_at dksX4_inspect_5 0 rfl rfl)
theorem dX4_inspect_119 : decode cX4_inspect 119 = .ok (.iconst 1, 1) := dk_4 (dk_at dksX4_inspect_5 2 rfl rfl)
theorem dX4_inspect_120 : decode cX4_inspect 120 = .ok (.invokevirtual 250, 3) := dk_182 0 250 (dk_at dksX4_inspect_5 3 rfl rfl)
theorem dX4_inspect_123 : decode cX4_inspect 123 = .ok (.iload_n 1, 1) := dk_27 (dk_at dksX4_inspect_5 6 rfl rfl)
theorem dX4_inspect_124 : decode cX4_inspect 124 = .ok (.iastore, 1) := dk_79 (dk_at dksX4_inspect_5 7 rfl rfl)
theorem dX4_inspect_125 : decode cX4_inspect 125 = .ok (.aload_n 0, 1) := dk_42 (dk_at dksX4_inspect_5 8 rfl rfl)
theorem dX4_inspect_126 : decode cX4_inspect 126 = .ok (.getfield 16, 3) := dk_180 0 16 (dk_at dksX4_inspect_5 9 rfl rfl)
theorem dX4_inspect_129 : decode cX4_inspect 129 = .ok (.aload_n 0, 1) := dk_42 (dk_at dksX4_inspect_5 12 rfl rfl)
theorem dX4_inspect_130 : decode cX4_inspect 130 = .ok (.iload 5, 2) := dk_21 5 (dk_at dksX4_inspect_5 13 rfl rfl)
theorem dX4_inspect_132 : decode cX4_inspect 132 = .ok (.iconst 2, 1) := dk_5 (dk_at dksX4_inspect_5 15 rfl rfl)
theorem dX4_inspect_133 : decode cX4_inspect 133 = .ok (.invokevirtual 250, 3) := dk_182 0 250 (dk_at dksX4_inspect_5 16 rfl rfl)
theorem dX4_inspect_136 : decode cX4_inspect 136 = .ok (.aload_n 0, 1) := dk_42 (dk_at dksX4_inspect_5 19 rfl rfl)
theorem dX4_inspect_137 : decode cX4_inspect 137 = .ok (.getfield 16, 3) := dk_180 0 16 (dk_at dksX4_inspect_5 20 rfl rfl)
theorem dX4_inspect_140 : decode cX4_inspect 140 = .ok (.iconst 0, 1) := dk_3 (dk_at dksX4_inspect_5 23 rfl rfl)
theorem dX4_inspect_141 : decode cX4_inspect 141 = .ok (.iaload, 1) := dk_46 (dk_at dksX4_inspect_6 0 rfl rfl)
theorem dX4_inspect_142 : decode cX4_inspect 142 = .ok (.iastore, 1) := dk_79 (dk_at dksX4_inspect_6 1 rfl rfl)
theorem dX4_inspect_143 : decode cX4_inspect 143 = .ok (.aload_n 0, 1) := dk_42 (dk_at dksX4_inspect_6 2 rfl rfl)
theorem dX4_inspect_144 : decode cX4_inspect 144 = .ok (.getfield 16, 3) := dk_180 0 16 (dk_at dksX4_inspect_6 3 rfl rfl)
theorem dX4_inspect_147 : decode cX4_inspect 147 = .ok (.aload_n 0, 1) := dk_42 (dk_at dksX4_inspect_6 6 rfl rfl)
theorem dX4_inspect_148 : decode cX4_inspect 148 = .ok (.iload 5, 2) := dk_21 5 (dk_at dksX4_inspect_6 7 rfl rfl)
theorem dX4_inspect_150 : decode cX4_inspect 150 = .ok (.iconst 3, 1) := dk_6 (dk_at dksX4_inspect_6 9 rfl rfl)
theorem dX4_inspect_151 : decode cX4_inspect 151 = .ok (.invokevirtual 250, 3) := dk_182 0 250 (dk_at dksX4_inspect_6 10 rfl rfl)
theorem dX4_inspect_154 : decode cX4_inspect 154 = .ok (.iload 4, 2) := dk_21 4 (dk_at dksX4_inspect_6 13 rfl rfl)
theorem dX4_inspect_156 : decode cX4_inspect 156 = .ok (.iastore, 1) := dk_79 (dk_at dksX4_inspect_6 15 rfl rfl)
theorem dX4_inspect_157 : decode cX4_inspect 157 = .ok (.aload_n 0, 1) := dk_42 (dk_at dksX4_inspect_6 16 rfl rfl)
theorem dX4_inspect_158 : decode cX4_inspect 158 = .ok (.getfield 16, 3) := dk_180 0 16 (dk_at dksX4_inspect_6 17 rfl rfl)
theorem dX4_inspect_161 : decode cX4_inspect 161 = .ok (.aload_n 0, 1) := dk_42 (dk_at dksX4_inspect_6 20 rfl rfl)
theorem dX4_inspect_162 : decode cX4_inspect 162 = .ok (.iload 5, 2) := dk_21 5 (dk_at dksX4_inspect_6 21 rfl rfl)
theorem dX4_inspect_164 : decode cX4_inspect 164 = .ok (.iconst 4, 1) := dk_7 (dk_at dksX4_inspect_6 23 rfl rfl)
theorem dX4_inspect_165 : decode cX4_inspect 165 = .ok (.invokevirtual 250, 3) := dk_182 0 250 (dk_at dksX4_inspect_7 0 rfl rfl)
theorem dX4_inspect_168 : decode cX4_inspect 168 = .ok (.iconst 0, 1) := dk_3 (dk_at dksX4_inspect_7 3 rfl rfl)
theorem dX4_inspect_169 : decode cX4_inspect 169 = .ok (.iastore, 1) := dk_79 (dk_at dksX4_inspect_7 4 rfl rfl)
theorem dX4_inspect_170 : decode cX4_inspect 170 = .ok (.iinc 3 1, 3) := dk_132 3 1 (dk_at dksX4_inspect_7 5 rfl rfl)
theorem dX4_inspect_173 : decode cX4_inspect 173 = .ok (.goto (-146), 3) := dk_167 255 110 (dk_at dksX4_inspect_7 8 rfl rfl)
theorem dX4_inspect_176 : decode cX4_inspect 176 = .ok (.aload_n 0, 1) := dk_42 (dk_at dksX4_inspect_7 11 rfl rfl)
theorem dX4_inspect_177 : decode cX4_inspect 177 = .ok (.aload_n 0, 1) := dk_42 (dk_at dksX4_inspect_7 12 rfl rfl)
theorem dX4_inspect_178 : decode cX4_inspect 178 = .ok (.getfield 16, 3) := dk_180 0 16 (dk_at dksX4_inspect_7 13 rfl rfl)
theorem dX4_inspect_181 : decode cX4_inspect 181 = .ok (.iconst 4, 1) := dk_7 (dk_at dksX4_inspect_7 16 rfl rfl)
theorem dX4_inspect_182 : decode cX4_inspect 182 = .ok (.iaload, 1) := dk_46 (dk_at dksX4_inspect_7 17 rfl rfl)
theorem dX4_inspect_183 : decode cX4_inspect 183 = .ok (.iload_n 2, 1) := dk_28 (dk_at dksX4_inspect_7 18 rfl rfl)
theorem dX4_inspect_184 : decode cX4_inspect 184 = .ok (.isub, 1) := dk_100 (dk_at dksX4_inspect_7 19 rfl rfl)
theorem dX4_inspect_185 : decode cX4_inspect 185 = .ok (.invokevirtual 173, 3) := dk_182 0 173 (dk_at dksX4_inspect_7 20 rfl rfl)
theorem dX4_inspect_188 : decode cX4_inspect 188 = .ok (.ireturn, 1) := dk_172 (dk_at dksX4_inspect_7 23 rfl rfl)
abbrev cX4_finedBy : ByteArray := prog_21_method_82_code
def yX4_finedBy : MethodName := ⟨RX4, "finedBy", "(I)I"⟩
def dkwX4_finedBy_2 : List UInt8 := [182, 1, 0, 153, 0, 5, 3, 172, 42, 28, 29, 182, 0, 247, 172]
abbrev dktX4_finedBy_2 : List UInt8 := dkwX4_finedBy_2 ++ []
def dkwX4_finedBy_1 : List UInt8 := [182, 0, 212, 100, 42, 180, 0, 7, 16, 21, 42, 29, 182, 0, 98, 96, 46, 164, 0, 11, 42, 28]
abbrev dktX4_finedBy_1 : List UInt8 := dkwX4_finedBy_1 ++ dktX4_finedBy_2
def dkwX4_finedBy_0 : List UInt8 := [42, 27, 3, 182, 0, 212, 61, 42, 27, 4, 182, 0, 212, 62, 42, 180, 0, 16, 3, 46, 42, 27, 5]
abbrev dktX4_finedBy_0 : List UInt8 := dkwX4_finedBy_0 ++ dktX4_finedBy_1
theorem dksX4_finedBy_0 : cX4_finedBy.data.toList.drop 0 = dktX4_finedBy_0 := by decide +kernel
theorem dksX4_finedBy_1 : cX4_finedBy.data.toList.drop 23 = dktX4_finedBy_1 := dk_seg dksX4_finedBy_0 23 rfl rfl
theorem dksX4_finedBy_2 : cX4_finedBy.data.toList.drop 45 = dktX4_finedBy_2 := dk_seg dksX4_finedBy_1 22 rfl rfl
theorem dX4_finedBy_0 : decode cX4_finedBy 0 = .ok (.aload_n 0, 1) := dk_42 (dk_at dksX4_finedBy_0 0 rfl rfl)
theorem dX4_finedBy_1 : decode cX4_finedBy 1 = .ok (.iload_n 1, 1) := dk_27 (dk_at dksX4_finedBy_0 1 rfl rfl)
theorem dX4_finedBy_2 : decode cX4_finedBy 2 = .ok (.iconst 0, 1) := dk_3 (dk_at dksX4_finedBy_0 2 rfl rfl)
theorem dX4_finedBy_3 : decode cX4_finedBy 3 = .ok (.invokevirtual 212, 3) := dk_182 0 212 (dk_at dksX4_finedBy_0 3 rfl rfl)
theorem dX4_finedBy_6 : decode cX4_finedBy 6 = .ok (.istore_n 2, 1) := dk_61 (dk_at dksX4_finedBy_0 6 rfl rfl)
theorem dX4_finedBy_7 : decode cX4_finedBy 7 = .ok (.aload_n 0, 1) := dk_42 (dk_at dksX4_finedBy_0 7 rfl rfl)
theorem dX4_finedBy_8 : decode cX4_finedBy 8 = .ok (.iload_n 1, 1) := dk_27 (dk_at dksX4_finedBy_0 8 rfl rfl)
theorem dX4_finedBy_9 : decode cX4_finedBy 9 = .ok (.iconst 1, 1) := dk_4 (dk_at dksX4_finedBy_0 9 rfl rfl)
theorem dX4_finedBy_10 : decode cX4_finedBy 10 = .ok (.invokevirtual 212, 3) := dk_182 0 212 (dk_at dksX4_finedBy_0 10 rfl rfl)
theorem dX4_finedBy_13 : decode cX4_finedBy 13 = .ok (.istore_n 3, 1) := dk_62 (dk_at dksX4_finedBy_0 13 rfl rfl)
theorem dX4_finedBy_14 : decode cX4_finedBy 14 = .ok (.aload_n 0, 1) := dk_42 (dk_at dksX4_finedBy_0 14 rfl rfl)
theorem dX4_finedBy_15 : decode cX4_finedBy 15 = .ok (.getfield 16, 3) := dk_180 0 16 (dk_at dksX4_finedBy_0 15 rfl rfl)
theorem dX4_finedBy_18 : decode cX4_finedBy 18 = .ok (.iconst 0, 1) := dk_3 (dk_at dksX4_finedBy_0 18 rfl rfl)
theorem dX4_finedBy_19 : decode cX4_finedBy 19 = .ok (.iaload, 1) := dk_46 (dk_at dksX4_finedBy_0 19 rfl rfl)
theorem dX4_finedBy_20 : decode cX4_finedBy 20 = .ok (.aload_n 0, 1) := dk_42 (dk_at dksX4_finedBy_0 20 rfl rfl)
theorem dX4_finedBy_21 : decode cX4_finedBy 21 = .ok (.iload_n 1, 1) := dk_27 (dk_at dksX4_finedBy_0 21 rfl rfl)
theorem dX4_finedBy_22 : decode cX4_finedBy 22 = .ok (.iconst 2, 1) := dk_5 (dk_at dksX4_finedBy_0 22 rfl rfl)
theorem dX4_finedBy_23 : decode cX4_finedBy 23 = .ok (.invokevirtual 212, 3) := dk_182 0 212 (dk_at dksX4_finedBy_1 0 rfl rfl)
theorem dX4_finedBy_26 : decode cX4_finedBy 26 = .ok (.isub, 1) := dk_100 (dk_at dksX4_finedBy_1 3 rfl rfl)
theorem dX4_finedBy_27 : decode cX4_finedBy 27 = .ok (.aload_n 0, 1) := dk_42 (dk_at dksX4_finedBy_1 4 rfl rfl)
theorem dX4_finedBy_28 : decode cX4_finedBy 28 = .ok (.getfield 7, 3) := dk_180 0 7 (dk_at dksX4_finedBy_1 5 rfl rfl)
theorem dX4_finedBy_31 : decode cX4_finedBy 31 = .ok (.bipush 21, 2) := dk_16 21 (dk_at dksX4_finedBy_1 8 rfl rfl)
theorem dX4_finedBy_33 : decode cX4_finedBy 33 = .ok (.aload_n 0, 1) := dk_42 (dk_at dksX4_finedBy_1 10 rfl rfl)
theorem dX4_finedBy_34 : decode cX4_finedBy 34 = .ok (.iload_n 3, 1) := dk_29 (dk_at dksX4_finedBy_1 11 rfl rfl)
theorem dX4_finedBy_35 : decode cX4_finedBy 35 = .ok (.invokevirtual 98, 3) := dk_182 0 98 (dk_at dksX4_finedBy_1 12 rfl rfl)
theorem dX4_finedBy_38 : decode cX4_finedBy 38 = .ok (.iadd, 1) := dk_96 (dk_at dksX4_finedBy_1 15 rfl rfl)
theorem dX4_finedBy_39 : decode cX4_finedBy 39 = .ok (.iaload, 1) := dk_46 (dk_at dksX4_finedBy_1 16 rfl rfl)
theorem dX4_finedBy_40 : decode cX4_finedBy 40 = .ok (.if_icmp .le 11, 3) := dk_164 0 11 (dk_at dksX4_finedBy_1 17 rfl rfl)
theorem dX4_finedBy_43 : decode cX4_finedBy 43 = .ok (.aload_n 0, 1) := dk_42 (dk_at dksX4_finedBy_1 20 rfl rfl)
theorem dX4_finedBy_44 : decode cX4_finedBy 44 = .ok (.iload_n 2, 1) := dk_28 (dk_at dksX4_finedBy_1 21 rfl rfl)
theorem dX4_finedBy_45 : decode cX4_finedBy 45 = .ok (.invokevirtual 256, 3) := dk_182 1 0 (dk_at dksX4_finedBy_2 0 rfl rfl)
theorem dX4_finedBy_48 : decode cX4_finedBy 48 = .ok (.ifCond .eq 5, 3) := dk_153 0 5 (dk_at dksX4_finedBy_2 3 rfl rfl)
theorem dX4_finedBy_51 : decode cX4_finedBy 51 = .ok (.iconst 0, 1) := dk_3 (dk_at dksX4_finedBy_2 6 rfl rfl)
theorem dX4_finedBy_52 : decode cX4_finedBy 52 = .ok (.ireturn, 1) := dk_172 (dk_at dksX4_finedBy_2 7 rfl rfl)
theorem dX4_finedBy_53 : decode cX4_finedBy 53 = .ok (.aload_n 0, 1) := dk_42 (dk_at dksX4_finedBy_2 8 rfl rfl)
theorem dX4_finedBy_54 : decode cX4_finedBy 54 = .ok (.iload_n 2, 1) := dk_28 (dk_at dksX4_finedBy_2 9 rfl rfl)
theorem dX4_finedBy_55 : decode cX4_finedBy 55 = .ok (.iload_n 3, 1) := dk_29 (dk_at dksX4_finedBy_2 10 rfl rfl)
theorem dX4_finedBy_56 : decode cX4_finedBy 56 = .ok (.invokevirtual 247, 3) := dk_182 0 247 (dk_at dksX4_finedBy_2 11 rfl rfl)
theorem dX4_finedBy_59 : decode cX4_finedBy 59 = .ok (.ireturn, 1) := dk_172 (dk_at dksX4_finedBy_2 14 rfl rfl)
abbrev cX4_wasJustFined : ByteArray := prog_21_method_81_code
def yX4_wasJustFined : MethodName := ⟨RX4, "wasJustFined", "(I)Z"⟩
def dkwX4_wasJustFined_2 : List UInt8 := [167, 255, 212, 3, 172]
abbrev dktX4_wasJustFined_2 : List UInt8 := dkwX4_wasJustFined_2 ++ []
def dkwX4_wasJustFined_1 : List UInt8 := [180, 0, 16, 3, 46, 42, 28, 5, 182, 0, 253, 100, 17, 2, 208, 162, 0, 5, 4, 172, 132, 2, 1]
abbrev dktX4_wasJustFined_1 : List UInt8 := dkwX4_wasJustFined_1 ++ dktX4_wasJustFined_2
def dkwX4_wasJustFined_0 : List UInt8 := [3, 61, 28, 42, 180, 0, 16, 7, 46, 162, 0, 40, 42, 28, 3, 182, 0, 253, 27, 160, 0, 24, 42]
abbrev dktX4_wasJustFined_0 : List UInt8 := dkwX4_wasJustFined_0 ++ dktX4_wasJustFined_1
theorem dksX4_wasJustFined_0 : cX4_wasJustFined.data.toList.drop 0 = dktX4_wasJustFined_0 := by decide +kernel
theorem dksX4_wasJustFined_1 : cX4_wasJustFined.data.toList.drop 23 = dktX4_wasJustFined_1 := dk_seg dksX4_wasJustFined_0 23 rfl rfl
theorem dksX4_wasJustFined_2 : cX4_wasJustFined.data.toList.drop 46 = dktX4_wasJustFined_2 := dk_seg dksX4_wasJustFined_1 23 rfl rfl
theorem dX4_wasJustFined_0 : decode cX4_wasJustFined 0 = .ok (.iconst 0, 1) := dk_3 (dk_at dksX4_wasJustFined_0 0 rfl rfl)
theorem dX4_wasJustFined_1 : decode cX4_wasJustFined 1 = .ok (.istore_n 2, 1) := dk_61 (dk_at dksX4_wasJustFined_0 1 rfl rfl)
theorem dX4_wasJustFined_2 : decode cX4_wasJustFined 2 = .ok (.iload_n 2, 1) := dk_28 (dk_at dksX4_wasJustFined_0 2 rfl rfl)
theorem dX4_wasJustFined_3 : decode cX4_wasJustFined 3 = .ok (.aload_n 0, 1) := dk_42 (dk_at dksX4_wasJustFined_0 3 rfl rfl)
theorem dX4_wasJustFined_4 : decode cX4_wasJustFined 4 = .ok (.getfield 16, 3) := dk_180 0 16 (dk_at dksX4_wasJustFined_0 4 rfl rfl)
theorem dX4_wasJustFined_7 : decode cX4_wasJustFined 7 = .ok (.iconst 4, 1) := dk_7 (dk_at dksX4_wasJustFined_0 7 rfl rfl)
theorem dX4_wasJustFined_8 : decode cX4_wasJustFined 8 = .ok (.iaload, 1) := dk_46 (dk_at dksX4_wasJustFined_0 8 rfl rfl)
theorem dX4_wasJustFined_9 : decode cX4_wasJustFined 9 = .ok (.if_icmp .ge 40, 3) := dk_162 0 40 (dk_at dksX4_wasJustFined_0 9 rfl rfl)
theorem dX4_wasJustFined_12 : decode cX4_wasJustFined 12 = .ok (.aload_n 0, 1) := dk_42 (dk_at dksX4_wasJustFined_0 12 rfl rfl)
theorem dX4_wasJustFined_13 : decode cX4_wasJustFined 13 = .ok (.iload_n 2, 1) := dk_28 (dk_at dksX4_wasJustFined_0 13 rfl rfl)
theorem dX4_wasJustFined_14 : decode cX4_wasJustFined 14 = .ok (.iconst 0, 1) := dk_3 (dk_at dksX4_wasJustFined_0 14 rfl rfl)
theorem dX4_wasJustFined_15 : decode cX4_wasJustFined 15 = .ok (.invokevirtual 253, 3) := dk_182 0 253 (dk_at dksX4_wasJustFined_0 15 rfl rfl)
theorem dX4_wasJustFined_18 : decode cX4_wasJustFined 18 = .ok (.iload_n 1, 1) := dk_27 (dk_at dksX4_wasJustFined_0 18 rfl rfl)
theorem dX4_wasJustFined_19 : decode cX4_wasJustFined 19 = .ok (.if_icmp .ne 24, 3) := dk_160 0 24 (dk_at dksX4_wasJustFined_0 19 rfl rfl)
theorem dX4_wasJustFined_22 : decode cX4_wasJustFined 22 = .ok (.aload_n 0, 1) := dk_42 (dk_at dksX4_wasJustFined_0 22 rfl rfl)
theorem dX4_wasJustFined_23 : decode cX4_wasJustFined 23 = .ok (.getfield 16, 3) := dk_180 0 16 (dk_at dksX4_wasJustFined_1 0 rfl rfl)
theorem dX4_wasJustFined_26 : decode cX4_wasJustFined 26 = .ok (.iconst 0, 1) := dk_3 (dk_at dksX4_wasJustFined_1 3 rfl rfl)
theorem dX4_wasJustFined_27 : decode cX4_wasJustFined 27 = .ok (.iaload, 1) := dk_46 (dk_at dksX4_wasJustFined_1 4 rfl rfl)
theorem dX4_wasJustFined_28 : decode cX4_wasJustFined 28 = .ok (.aload_n 0, 1) := dk_42 (dk_at dksX4_wasJustFined_1 5 rfl rfl)
theorem dX4_wasJustFined_29 : decode cX4_wasJustFined 29 = .ok (.iload_n 2, 1) := dk_28 (dk_at dksX4_wasJustFined_1 6 rfl rfl)
theorem dX4_wasJustFined_30 : decode cX4_wasJustFined 30 = .ok (.iconst 2, 1) := dk_5 (dk_at dksX4_wasJustFined_1 7 rfl rfl)
theorem dX4_wasJustFined_31 : decode cX4_wasJustFined 31 = .ok (.invokevirtual 253, 3) := dk_182 0 253 (dk_at dksX4_wasJustFined_1 8 rfl rfl)
theorem dX4_wasJustFined_34 : decode cX4_wasJustFined 34 = .ok (.isub, 1) := dk_100 (dk_at dksX4_wasJustFined_1 11 rfl rfl)
theorem dX4_wasJustFined_35 : decode cX4_wasJustFined 35 = .ok (.sipush 720, 3) := dk_17 2 208 (dk_at dksX4_wasJustFined_1 12 rfl rfl)
theorem dX4_wasJustFined_38 : decode cX4_wasJustFined 38 = .ok (.if_icmp .ge 5, 3) := dk_162 0 5 (dk_at dksX4_wasJustFined_1 15 rfl rfl)
theorem dX4_wasJustFined_41 : decode cX4_wasJustFined 41 = .ok (.iconst 1, 1) := dk_4 (dk_at dksX4_wasJustFined_1 18 rfl rfl)
theorem dX4_wasJustFined_42 : decode cX4_wasJustFined 42 = .ok (.ireturn, 1) := dk_172 (dk_at dksX4_wasJustFined_1 19 rfl rfl)
theorem dX4_wasJustFined_43 : decode cX4_wasJustFined 43 = .ok (.iinc 2 1, 3) := dk_132 2 1 (dk_at dksX4_wasJustFined_1 20 rfl rfl)
theorem dX4_wasJustFined_46 : decode cX4_wasJustFined 46 = .ok (.goto (-44), 3) := dk_167 255 212 (dk_at dksX4_wasJustFined_2 0 rfl rfl)
theorem dX4_wasJustFined_49 : decode cX4_wasJustFined 49 = .ok (.iconst 0, 1) := dk_3 (dk_at dksX4_wasJustFined_2 3 rfl rfl)
theorem dX4_wasJustFined_50 : decode cX4_wasJustFined 50 = .ok (.ireturn, 1) := dk_172 (dk_at dksX4_wasJustFined_2 4 rfl rfl)
abbrev cX4_ofFine : ByteArray := prog_21_method_79_code
def yX4_ofFine : MethodName := ⟨RX4, "ofFine", "(II)I"⟩
def dkwX4_ofFine_0 : List UInt8 := [42, 180, 0, 16, 42, 27, 28, 182, 0, 250, 46, 172]
abbrev dktX4_ofFine_0 : List UInt8 := dkwX4_ofFine_0 ++ []
theorem dksX4_ofFine_0 : cX4_ofFine.data.toList.drop 0 = dktX4_ofFine_0 := by decide +kernel
theorem dX4_ofFine_0 : decode cX4_ofFine 0 = .ok (.aload_n 0, 1) := dk_42 (dk_at dksX4_ofFine_0 0 rfl rfl)
theorem dX4_ofFine_1 : decode cX4_ofFine 1 = .ok (.getfield 16, 3) := dk_180 0 16 (dk_at dksX4_ofFine_0 1 rfl rfl)
theorem dX4_ofFine_4 : decode cX4_ofFine 4 = .ok (.aload_n 0, 1) := dk_42 (dk_at dksX4_ofFine_0 4 rfl rfl)
theorem dX4_ofFine_5 : decode cX4_ofFine 5 = .ok (.iload_n 1, 1) := dk_27 (dk_at dksX4_ofFine_0 5 rfl rfl)
theorem dX4_ofFine_6 : decode cX4_ofFine 6 = .ok (.iload_n 2, 1) := dk_28 (dk_at dksX4_ofFine_0 6 rfl rfl)
theorem dX4_ofFine_7 : decode cX4_ofFine 7 = .ok (.invokevirtual 250, 3) := dk_182 0 250 (dk_at dksX4_ofFine_0 7 rfl rfl)
theorem dX4_ofFine_10 : decode cX4_ofFine 10 = .ok (.iaload, 1) := dk_46 (dk_at dksX4_ofFine_0 10 rfl rfl)
theorem dX4_ofFine_11 : decode cX4_ofFine 11 = .ok (.ireturn, 1) := dk_172 (dk_at dksX4_ofFine_0 11 rfl rfl)
abbrev cX4_fineAt : ByteArray := prog_21_method_78_code
def yX4_fineAt : MethodName := ⟨RX4, "fineAt", "(II)I"⟩
def dkwX4_fineAt_0 : List UInt8 := [17, 3, 172, 8, 27, 104, 96, 28, 96, 172]
abbrev dktX4_fineAt_0 : List UInt8 := dkwX4_fineAt_0 ++ []
theorem dksX4_fineAt_0 : cX4_fineAt.data.toList.drop 0 = dktX4_fineAt_0 := by decide +kernel
theorem dX4_fineAt_0 : decode cX4_fineAt 0 = .ok (.sipush 940, 3) := dk_17 3 172 (dk_at dksX4_fineAt_0 0 rfl rfl)
theorem dX4_fineAt_3 : decode cX4_fineAt 3 = .ok (.iconst 5, 1) := dk_8 (dk_at dksX4_fineAt_0 3 rfl rfl)
theorem dX4_fineAt_4 : decode cX4_fineAt 4 = .ok (.iload_n 1, 1) := dk_27 (dk_at dksX4_fineAt_0 4 rfl rfl)
theorem dX4_fineAt_5 : decode cX4_fineAt 5 = .ok (.imul, 1) := dk_104 (dk_at dksX4_fineAt_0 5 rfl rfl)
theorem dX4_fineAt_6 : decode cX4_fineAt 6 = .ok (.iadd, 1) := dk_96 (dk_at dksX4_fineAt_0 6 rfl rfl)
theorem dX4_fineAt_7 : decode cX4_fineAt 7 = .ok (.iload_n 2, 1) := dk_28 (dk_at dksX4_fineAt_0 7 rfl rfl)
theorem dX4_fineAt_8 : decode cX4_fineAt 8 = .ok (.iadd, 1) := dk_96 (dk_at dksX4_fineAt_0 8 rfl rfl)
theorem dX4_fineAt_9 : decode cX4_fineAt 9 = .ok (.ireturn, 1) := dk_172 (dk_at dksX4_fineAt_0 9 rfl rfl)
abbrev cX4_appeal : ByteArray := prog_21_method_85_code
def yX4_appeal : MethodName := ⟨RX4, "appeal", "(I)Z"⟩
def dkwX4_appeal_5 : List UInt8 := [167, 0, 4, 5, 79, 42, 4, 182, 0, 173, 4, 160, 0, 11, 29, 153, 0, 7, 4, 167, 0, 4, 3, 172]
abbrev dktX4_appeal_5 : List UInt8 := dkwX4_appeal_5 ++ []
def dkwX4_appeal_4 : List UInt8 := [153, 0, 7, 4, 167, 0, 4, 3, 62, 42, 180, 0, 16, 42, 27, 7, 182, 0, 250, 29, 153, 0, 7, 4]
abbrev dktX4_appeal_4 : List UInt8 := dkwX4_appeal_4 ++ dktX4_appeal_5
def dkwX4_appeal_3 : List UInt8 := [28, 6, 160, 0, 27, 42, 42, 27, 3, 182, 0, 253, 5, 42, 27, 4, 182, 0, 253, 182, 0, 237]
abbrev dktX4_appeal_3 : List UInt8 := dkwX4_appeal_3 ++ dktX4_appeal_4
def dkwX4_appeal_2 : List UInt8 := [182, 0, 163, 154, 0, 5, 3, 172, 42, 182, 0, 148, 42, 27, 6, 182, 0, 253, 61, 28, 4, 159, 0, 8]
abbrev dktX4_appeal_2 : List UInt8 := dkwX4_appeal_2 ++ dktX4_appeal_3
def dkwX4_appeal_1 : List UInt8 := [180, 0, 16, 3, 46, 42, 27, 5, 182, 0, 253, 100, 17, 5, 160, 163, 0, 7, 4, 167, 0, 4, 3, 5]
abbrev dktX4_appeal_1 : List UInt8 := dkwX4_appeal_1 ++ dktX4_appeal_2
def dkwX4_appeal_0 : List UInt8 := [42, 42, 27, 182, 1, 6, 182, 0, 90, 153, 0, 44, 42, 42, 27, 7, 182, 0, 253, 154, 0, 26, 42]
abbrev dktX4_appeal_0 : List UInt8 := dkwX4_appeal_0 ++ dktX4_appeal_1
theorem dksX4_appeal_0 : cX4_appeal.data.toList.drop 0 = dktX4_appeal_0 := by decide +kernel
theorem dksX4_appeal_1 : cX4_appeal.data.toList.drop 23 = dktX4_appeal_1 := dk_seg dksX4_appeal_0 23 rfl rfl
theorem dksX4_appeal_2 : cX4_appeal.data.toList.drop 47 = dktX4_appeal_2 := dk_seg dksX4_appeal_1 24 rfl rfl
theorem dksX4_appeal_3 : cX4_appeal.data.toList.drop 71 = dktX4_appeal_3 := dk_seg dksX4_appeal_2 24 rfl rfl
theorem dksX4_appeal_4 : cX4_appeal.data.toList.drop 93 = dktX4_appeal_4 := dk_seg dksX4_appeal_3 22 rfl rfl
theorem dksX4_appeal_5 : cX4_appeal.data.toList.drop 117 = dktX4_appeal_5 := dk_seg dksX4_appeal_4 24 rfl rfl
theorem dX4_appeal_0 : decode cX4_appeal 0 = .ok (.aload_n 0, 1) := dk_42 (dk_at dksX4_appeal_0 0 rfl rfl)
theorem dX4_appeal_1 : decode cX4_appeal 1 = .ok (.aload_n 0, 1) := dk_42 (dk_at dksX4_appeal_0 1 rfl rfl)
theorem dX4_appeal_2 : decode cX4_appeal 2 = .ok (.iload_n 1, 1) := dk_27 (dk_at dksX4_appeal_0 2 rfl rfl)
theorem dX4_appeal_3 : decode cX4_appeal 3 = .ok (.invokevirtual 262, 3) := dk_182 1 6 (dk_at dksX4_appeal_0 3 rfl rfl)
theorem dX4_appeal_6 : decode cX4_appeal 6 = .ok (.invokevirtual 90, 3) := dk_182 0 90 (dk_at dksX4_appeal_0 6 rfl rfl)
theorem dX4_appeal_9 : decode cX4_appeal 9 = .ok (.ifCond .eq 44, 3) := dk_153 0 44 (dk_at dksX4_appeal_0 9 rfl rfl)
theorem dX4_appeal_12 : decode cX4_appeal 12 = .ok (.aload_n 0, 1) := dk_42 (dk_at dksX4_appeal_0 12 rfl rfl)
theorem dX4_appeal_13 : decode cX4_appeal 13 = .ok (.aload_n 0, 1) := dk_42 (dk_at dksX4_appeal_0 13 rfl rfl)
theorem dX4_appeal_14 : decode cX4_appeal 14 = .ok (.iload_n 1, 1) := dk_27 (dk_at dksX4_appeal_0 14 rfl rfl)
theorem dX4_appeal_15 : decode cX4_appeal 15 = .ok (.iconst 4, 1) := dk_7 (dk_at dksX4_appeal_0 15 rfl rfl)
theorem dX4_appeal_16 : decode cX4_appeal 16 = .ok (.invokevirtual 253, 3) := dk_182 0 253 (dk_at dksX4_appeal_0 16 rfl rfl)
theorem dX4_appeal_19 : decode cX4_appeal 19 = .ok (.ifCond .ne 26, 3) := dk_154 0 26 (dk_at dksX4_appeal_0 19 rfl rfl)
theorem dX4_appeal_22 : decode cX4_appeal 22 = .ok (.aload_n 0, 1) := dk_42 (dk_at dksX4_appeal_0 22 rfl rfl)
theorem dX4_appeal_23 : decode cX4_appeal 23 = .ok (.getfield 16, 3) := dk_180 0 16 (dk_at dksX4_appeal_1 0 rfl rfl)
theorem dX4_appeal_26 : decode cX4_appeal 26 = .ok (.iconst 0, 1) := dk_3 (dk_at dksX4_appeal_1 3 rfl rfl)
theorem dX4_appeal_27 : decode cX4_appeal 27 = .ok (.iaload, 1) := dk_46 (dk_at dksX4_appeal_1 4 rfl rfl)
theorem dX4_appeal_28 : decode cX4_appeal 28 = .ok (.aload_n 0, 1) := dk_42 (dk_at dksX4_appeal_1 5 rfl rfl)
theorem dX4_appeal_29 : decode cX4_appeal 29 = .ok (.iload_n 1, 1) := dk_27 (dk_at dksX4_appeal_1 6 rfl rfl)
theorem dX4_appeal_30 : decode cX4_appeal 30 = .ok (.iconst 2, 1) := dk_5 (dk_at dksX4_appeal_1 7 rfl rfl)
theorem dX4_appeal_31 : decode cX4_appeal 31 = .ok (.invokevirtual 253, 3) := dk_182 0 253 (dk_at dksX4_appeal_1 8 rfl rfl)
theorem dX4_appeal_34 : decode cX4_appeal 34 = .ok (.isub, 1) := dk_100 (dk_at dksX4_appeal_1 11 rfl rfl)
theorem dX4_appeal_35 : decode cX4_appeal 35 = .ok (.sipush 1440, 3) := dk_17 5 160 (dk_at dksX4_appeal_1 12 rfl rfl)
theorem dX4_appeal_38 : decode cX4_appeal 38 = .ok (.if_icmp .gt 7, 3) := dk_163 0 7 (dk_at dksX4_appeal_1 15 rfl rfl)
theorem dX4_appeal_41 : decode cX4_appeal 41 = .ok (.iconst 1, 1) := dk_4 (dk_at dksX4_appeal_1 18 rfl rfl)
theorem dX4_appeal_42 : decode cX4_appeal 42 = .ok (.goto 4, 3) := dk_167 0 4 (dk_at dksX4_appeal_1 19 rfl rfl)
theorem dX4_appeal_45 : decode cX4_appeal 45 = .ok (.iconst 0, 1) := dk_3 (dk_at dksX4_appeal_1 22 rfl rfl)
theorem dX4_appeal_46 : decode cX4_appeal 46 = .ok (.iconst 2, 1) := dk_5 (dk_at dksX4_appeal_1 23 rfl rfl)
theorem dX4_appeal_47 : decode cX4_appeal 47 = .ok (.invokevirtual 163, 3) := dk_182 0 163 (dk_at dksX4_appeal_2 0 rfl rfl)
theorem dX4_appeal_50 : decode cX4_appeal 50 = .ok (.ifCond .ne 5, 3) := dk_154 0 5 (dk_at dksX4_appeal_2 3 rfl rfl)
theorem dX4_appeal_53 : decode cX4_appeal 53 = .ok (.iconst 0, 1) := dk_3 (dk_at dksX4_appeal_2 6 rfl rfl)
theorem dX4_appeal_54 : decode cX4_appeal 54 = .ok (.ireturn, 1) := dk_172 (dk_at dksX4_appeal_2 7 rfl rfl)
theorem dX4_appeal_55 : decode cX4_appeal 55 = .ok (.aload_n 0, 1) := dk_42 (dk_at dksX4_appeal_2 8 rfl rfl)
theorem dX4_appeal_56 : decode cX4_appeal 56 = .ok (.invokevirtual 148, 3) := dk_182 0 148 (dk_at dksX4_appeal_2 9 rfl rfl)
theorem dX4_appeal_59 : decode cX4_appeal 59 = .ok (.aload_n 0, 1) := dk_42 (dk_at dksX4_appeal_2 12 rfl rfl)
theorem dX4_appeal_60 : decode cX4_appeal 60 = .ok (.iload_n 1, 1) := dk_27 (dk_at dksX4_appeal_2 13 rfl rfl)
theorem dX4_appeal_61 : decode cX4_appeal 61 = .ok (.iconst 3, 1) := dk_6 (dk_at dksX4_appeal_2 14 rfl rfl)
theorem dX4_appeal_62 : decode cX4_appeal 62 = .ok (.invokevirtual 253, 3) := dk_182 0 253 (dk_at dksX4_appeal_2 15 rfl rfl)
theorem dX4_appeal_65 : decode cX4_appeal 65 = .ok (.istore_n 2, 1) := dk_61 (dk_at dksX4_appeal_2 18 rfl rfl)
theorem dX4_appeal_66 : decode cX4_appeal 66 = .ok (.iload_n 2, 1) := dk_28 (dk_at dksX4_appeal_2 19 rfl rfl)
theorem dX4_appeal_67 : decode cX4_appeal 67 = .ok (.iconst 1, 1) := dk_4 (dk_at dksX4_appeal_2 20 rfl rfl)
theorem dX4_appeal_68 : decode cX4_appeal 68 = .ok (.if_icmp .eq 8, 3) := dk_159 0 8 (dk_at dksX4_appeal_2 21 rfl rfl)
theorem dX4_appeal_71 : decode cX4_appeal 71 = .ok (.iload_n 2, 1) := dk_28 (dk_at dksX4_appeal_3 0 rfl rfl)
theorem dX4_appeal_72 : decode cX4_appeal 72 = .ok (.iconst 3, 1) := dk_6 (dk_at dksX4_appeal_3 1 rfl rfl)
theorem dX4_appeal_73 : decode cX4_appeal 73 = .ok (.if_icmp .ne 27, 3) := dk_160 0 27 (dk_at dksX4_appeal_3 2 rfl rfl)
theorem dX4_appeal_76 : decode cX4_appeal 76 = .ok (.aload_n 0, 1) := dk_42 (dk_at dksX4_appeal_3 5 rfl rfl)
theorem dX4_appeal_77 : decode cX4_appeal 77 = .ok (.aload_n 0, 1) := dk_42 (dk_at dksX4_appeal_3 6 rfl rfl)
theorem dX4_appeal_78 : decode cX4_appeal 78 = .ok (.iload_n 1, 1) := dk_27 (dk_at dksX4_appeal_3 7 rfl rfl)
theorem dX4_appeal_79 : decode cX4_appeal 79 = .ok (.iconst 0, 1) := dk_3 (dk_at dksX4_appeal_3 8 rfl rfl)
theorem dX4_appeal_80 : decode cX4_appeal 80 = .ok (.invokevirtual 253, 3) := dk_182 0 253 (dk_at dksX4_appeal_3 9 rfl rfl)
theorem dX4_appeal_83 : decode cX4_appeal 83 = .ok (.iconst 2, 1) := dk_5 (dk_at dksX4_appeal_3 12 rfl rfl)
theorem dX4_appeal_84 : decode cX4_appeal 84 = .ok (.aload_n 0, 1) := dk_42 (dk_at dksX4_appeal_3 13 rfl rfl)
theorem dX4_appeal_85 : decode cX4_appeal 85 = .ok (.iload_n 1, 1) := dk_27 (dk_at dksX4_appeal_3 14 rfl rfl)
theorem dX4_appeal_86 : decode cX4_appeal 86 = .ok (.iconst 1, 1) := dk_4 (dk_at dksX4_appeal_3 15 rfl rfl)
theorem dX4_appeal_87 : decode cX4_appeal 87 = .ok (.invokevirtual 253, 3) := dk_182 0 253 (dk_at dksX4_appeal_3 16 rfl rfl)
theorem dX4_appeal_90 : decode cX4_appeal 90 = .ok (.invokevirtual 237, 3) := dk_182 0 237 (dk_at dksX4_appeal_3 19 rfl rfl)
theorem dX4_appeal_93 : decode cX4_appeal 93 = .ok (.ifCond .eq 7, 3) := dk_153 0 7 (dk_at dksX4_appeal_4 0 rfl rfl)
theorem dX4_appeal_96 : decode cX4_appeal 96 = .ok (.iconst 1, 1) := dk_4 (dk_at dksX4_appeal_4 3 rfl rfl)
theorem dX4_appeal_97 : decode cX4_appeal 97 = .ok (.goto 4, 3) := dk_167 0 4 (dk_at dksX4_appeal_4 4 rfl rfl)
theorem dX4_appeal_100 : decode cX4_appeal 100 = .ok (.iconst 0, 1) := dk_3 (dk_at dksX4_appeal_4 7 rfl rfl)
theorem dX4_appeal_101 : decode cX4_appeal 101 = .ok (.istore_n 3, 1) := dk_62 (dk_at dksX4_appeal_4 8 rfl rfl)
theorem dX4_appeal_102 : decode cX4_appeal 102 = .ok (.aload_n 0, 1) := dk_42 (dk_at dksX4_appeal_4 9 rfl rfl)
theorem dX4_appeal_103 : decode cX4_appeal 103 = .ok (.getfield 16, 3) := dk_180 0 16 (dk_at dksX4_appeal_4 10 rfl rfl)
theorem dX4_appeal_106 : decode cX4_appeal 106 = .ok (.aload_n 0, 1) := dk_42 (dk_at dksX4_appeal_4 13 rfl rfl)
theorem dX4_appeal_107 : decode cX4_appeal 107 = .ok (.iload_n 1, 1) := dk_27 (dk_at dksX4_appeal_4 14 rfl rfl)
theorem dX4_appeal_108 : decode cX4_appeal 108 = .ok (.iconst 4, 1) := dk_7 (dk_at dksX4_appeal_4 15 rfl rfl)
theorem dX4_appeal_109 : decode cX4_appeal 109 = .ok (.invokevirtual 250, 3) := dk_182 0 250 (dk_at dksX4_appeal_4 16 rfl rfl)
theorem dX4_appeal_112 : decode cX4_appeal 112 = .ok (.iload_n 3, 1) := dk_29 (dk_at dksX4_appeal_4 19 rfl rfl)
theorem dX4_appeal_113 : decode cX4_appeal 113 = .ok (.ifCond .eq 7, 3) := dk_153 0 7 (dk_at dksX4_appeal_4 20 rfl rfl)
theorem dX4_appeal_116 : decode cX4_appeal 116 = .ok (.iconst 1, 1) := dk_4 (dk_at dksX4_appeal_4 23 rfl rfl)
theorem dX4_appeal_117 : decode cX4_appeal 117 = .ok (.goto 4, 3) := dk_167 0 4 (dk_at dksX4_appeal_5 0 rfl rfl)
theorem dX4_appeal_120 : decode cX4_appeal 120 = .ok (.iconst 2, 1) := dk_5 (dk_at dksX4_appeal_5 3 rfl rfl)
theorem dX4_appeal_121 : decode cX4_appeal 121 = .ok (.iastore, 1) := dk_79 (dk_at dksX4_appeal_5 4 rfl rfl)
theorem dX4_appeal_122 : decode cX4_appeal 122 = .ok (.aload_n 0, 1) := dk_42 (dk_at dksX4_appeal_5 5 rfl rfl)
theorem dX4_appeal_123 : decode cX4_appeal 123 = .ok (.iconst 1, 1) := dk_4 (dk_at dksX4_appeal_5 6 rfl rfl)
theorem dX4_appeal_124 : decode cX4_appeal 124 = .ok (.invokevirtual 173, 3) := dk_182 0 173 (dk_at dksX4_appeal_5 7 rfl rfl)
theorem dX4_appeal_127 : decode cX4_appeal 127 = .ok (.iconst 1, 1) := dk_4 (dk_at dksX4_appeal_5 10 rfl rfl)
theorem dX4_appeal_128 : decode cX4_appeal 128 = .ok (.if_icmp .ne 11, 3) := dk_160 0 11 (dk_at dksX4_appeal_5 11 rfl rfl)
theorem dX4_appeal_131 : decode cX4_appeal 131 = .ok (.iload_n 3, 1) := dk_29 (dk_at dksX4_appeal_5 14 rfl rfl)
theorem dX4_appeal_132 : decode cX4_appeal 132 = .ok (.ifCond .eq 7, 3) := dk_153 0 7 (dk_at dksX4_appeal_5 15 rfl rfl)
theorem dX4_appeal_135 : decode cX4_appeal 135 = .ok (.iconst 1, 1) := dk_4 (dk_at dksX4_appeal_5 18 rfl rfl)
theorem dX4_appeal_136 : decode cX4_appeal 136 = .ok (.goto 4, 3) := dk_167 0 4 (dk_at dksX4_appeal_5 19 rfl rfl)
theorem dX4_appeal_139 : decode cX4_appeal 139 = .ok (.iconst 0, 1) := dk_3 (dk_at dksX4_appeal_5 22 rfl rfl)
theorem dX4_appeal_140 : decode cX4_appeal 140 = .ok (.ireturn, 1) := dk_172 (dk_at dksX4_appeal_5 23 rfl rfl)
abbrev cX4_isFine : ByteArray := prog_21_method_80_code
def yX4_isFine : MethodName := ⟨RX4, "isFine", "(I)Z"⟩
def dkwX4_isFine_0 : List UInt8 := [27, 133, 9, 42, 180, 0, 16, 7, 46, 4, 100, 133, 184, 0, 144, 172]
abbrev dktX4_isFine_0 : List UInt8 := dkwX4_isFine_0 ++ []
theorem dksX4_isFine_0 : cX4_isFine.data.toList.drop 0 = dktX4_isFine_0 := by decide +kernel
theorem dX4_isFine_0 : decode cX4_isFine 0 = .ok (.iload_n 1, 1) := dk_27 (dk_at dksX4_isFine_0 0 rfl rfl)
theorem dX4_isFine_1 : decode cX4_isFine 1 = .ok (.i2l, 1) := dk_133 (dk_at dksX4_isFine_0 1 rfl rfl)
theorem dX4_isFine_2 : decode cX4_isFine 2 = .ok (.lconst 0, 1) := dk_9 (dk_at dksX4_isFine_0 2 rfl rfl)
theorem dX4_isFine_3 : decode cX4_isFine 3 = .ok (.aload_n 0, 1) := dk_42 (dk_at dksX4_isFine_0 3 rfl rfl)
theorem dX4_isFine_4 : decode cX4_isFine 4 = .ok (.getfield 16, 3) := dk_180 0 16 (dk_at dksX4_isFine_0 4 rfl rfl)
theorem dX4_isFine_7 : decode cX4_isFine 7 = .ok (.iconst 4, 1) := dk_7 (dk_at dksX4_isFine_0 7 rfl rfl)
theorem dX4_isFine_8 : decode cX4_isFine 8 = .ok (.iaload, 1) := dk_46 (dk_at dksX4_isFine_0 8 rfl rfl)
theorem dX4_isFine_9 : decode cX4_isFine 9 = .ok (.iconst 1, 1) := dk_4 (dk_at dksX4_isFine_0 9 rfl rfl)
theorem dX4_isFine_10 : decode cX4_isFine 10 = .ok (.isub, 1) := dk_100 (dk_at dksX4_isFine_0 10 rfl rfl)
theorem dX4_isFine_11 : decode cX4_isFine 11 = .ok (.i2l, 1) := dk_133 (dk_at dksX4_isFine_0 11 rfl rfl)
theorem dX4_isFine_12 : decode cX4_isFine 12 = .ok (.invokestatic 144, 3) := dk_184 0 144 (dk_at dksX4_isFine_0 12 rfl rfl)
theorem dX4_isFine_15 : decode cX4_isFine 15 = .ok (.ireturn, 1) := dk_172 (dk_at dksX4_isFine_0 15 rfl rfl)
abbrev cX4_fine : ByteArray := prog_21_method_87_code
def yX4_fine : MethodName := ⟨RX4, "fine", "(II)I"⟩
def dkwX4_fine_3 : List UInt8 := [172]
abbrev dktX4_fine_3 : List UInt8 := dkwX4_fine_3 ++ []
def dkwX4_fine_2 : List UInt8 := [28, 7, 160, 0, 16, 42, 42, 27, 6, 182, 0, 253, 182, 1, 11, 167, 0, 9, 42, 27, 7, 182, 0, 253]
abbrev dktX4_fine_2 : List UInt8 := dkwX4_fine_2 ++ dktX4_fine_3
def dkwX4_fine_1 : List UInt8 := [167, 0, 4, 3, 182, 0, 90, 154, 0, 5, 3, 172, 28, 7, 162, 0, 10, 42, 27, 28, 182, 0, 253, 172]
abbrev dktX4_fine_1 : List UInt8 := dkwX4_fine_1 ++ dktX4_fine_2
def dkwX4_fine_0 : List UInt8 := [42, 42, 27, 182, 1, 6, 153, 0, 19, 28, 133, 9, 20, 1, 9, 184, 0, 144, 153, 0, 7, 4]
abbrev dktX4_fine_0 : List UInt8 := dkwX4_fine_0 ++ dktX4_fine_1
theorem dksX4_fine_0 : cX4_fine.data.toList.drop 0 = dktX4_fine_0 := by decide +kernel
theorem dksX4_fine_1 : cX4_fine.data.toList.drop 22 = dktX4_fine_1 := dk_seg dksX4_fine_0 22 rfl rfl
theorem dksX4_fine_2 : cX4_fine.data.toList.drop 46 = dktX4_fine_2 := dk_seg dksX4_fine_1 24 rfl rfl
theorem dksX4_fine_3 : cX4_fine.data.toList.drop 70 = dktX4_fine_3 := dk_seg dksX4_fine_2 24 rfl rfl
theorem dX4_fine_0 : decode cX4_fine 0 = .ok (.aload_n 0, 1) := dk_42 (dk_at dksX4_fine_0 0 rfl rfl)
theorem dX4_fine_1 : decode cX4_fine 1 = .ok (.aload_n 0, 1) := dk_42 (dk_at dksX4_fine_0 1 rfl rfl)
theorem dX4_fine_2 : decode cX4_fine 2 = .ok (.iload_n 1, 1) := dk_27 (dk_at dksX4_fine_0 2 rfl rfl)
theorem dX4_fine_3 : decode cX4_fine 3 = .ok (.invokevirtual 262, 3) := dk_182 1 6 (dk_at dksX4_fine_0 3 rfl rfl)
theorem dX4_fine_6 : decode cX4_fine 6 = .ok (.ifCond .eq 19, 3) := dk_153 0 19 (dk_at dksX4_fine_0 6 rfl rfl)
theorem dX4_fine_9 : decode cX4_fine 9 = .ok (.iload_n 2, 1) := dk_28 (dk_at dksX4_fine_0 9 rfl rfl)
theorem dX4_fine_10 : decode cX4_fine 10 = .ok (.i2l, 1) := dk_133 (dk_at dksX4_fine_0 10 rfl rfl)
theorem dX4_fine_11 : decode cX4_fine 11 = .ok (.lconst 0, 1) := dk_9 (dk_at dksX4_fine_0 11 rfl rfl)
theorem dX4_fine_12 : decode cX4_fine 12 = .ok (.ldc2_w 265, 3) := dk_20 1 9 (dk_at dksX4_fine_0 12 rfl rfl)
theorem dX4_fine_15 : decode cX4_fine 15 = .ok (.invokestatic 144, 3) := dk_184 0 144 (dk_at dksX4_fine_0 15 rfl rfl)
theorem dX4_fine_18 : decode cX4_fine 18 = .ok (.ifCond .eq 7, 3) := dk_153 0 7 (dk_at dksX4_fine_0 18 rfl rfl)
theorem dX4_fine_21 : decode cX4_fine 21 = .ok (.iconst 1, 1) := dk_4 (dk_at dksX4_fine_0 21 rfl rfl)
theorem dX4_fine_22 : decode cX4_fine 22 = .ok (.goto 4, 3) := dk_167 0 4 (dk_at dksX4_fine_1 0 rfl rfl)
theorem dX4_fine_25 : decode cX4_fine 25 = .ok (.iconst 0, 1) := dk_3 (dk_at dksX4_fine_1 3 rfl rfl)
theorem dX4_fine_26 : decode cX4_fine 26 = .ok (.invokevirtual 90, 3) := dk_182 0 90 (dk_at dksX4_fine_1 4 rfl rfl)
theorem dX4_fine_29 : decode cX4_fine 29 = .ok (.ifCond .ne 5, 3) := dk_154 0 5 (dk_at dksX4_fine_1 7 rfl rfl)
theorem dX4_fine_32 : decode cX4_fine 32 = .ok (.iconst 0, 1) := dk_3 (dk_at dksX4_fine_1 10 rfl rfl)
theorem dX4_fine_33 : decode cX4_fine 33 = .ok (.ireturn, 1) := dk_172 (dk_at dksX4_fine_1 11 rfl rfl)
theorem dX4_fine_34 : decode cX4_fine 34 = .ok (.iload_n 2, 1) := dk_28 (dk_at dksX4_fine_1 12 rfl rfl)
theorem dX4_fine_35 : decode cX4_fine 35 = .ok (.iconst 4, 1) := dk_7 (dk_at dksX4_fine_1 13 rfl rfl)
theorem dX4_fine_36 : decode cX4_fine 36 = .ok (.if_icmp .ge 10, 3) := dk_162 0 10 (dk_at dksX4_fine_1 14 rfl rfl)
theorem dX4_fine_39 : decode cX4_fine 39 = .ok (.aload_n 0, 1) := dk_42 (dk_at dksX4_fine_1 17 rfl rfl)
theorem dX4_fine_40 : decode cX4_fine 40 = .ok (.iload_n 1, 1) := dk_27 (dk_at dksX4_fine_1 18 rfl rfl)
theorem dX4_fine_41 : decode cX4_fine 41 = .ok (.iload_n 2, 1) := dk_28 (dk_at dksX4_fine_1 19 rfl rfl)
theorem dX4_fine_42 : decode cX4_fine 42 = .ok (.invokevirtual 253, 3) := dk_182 0 253 (dk_at dksX4_fine_1 20 rfl rfl)
theorem dX4_fine_45 : decode cX4_fine 45 = .ok (.ireturn, 1) := dk_172 (dk_at dksX4_fine_1 23 rfl rfl)
theorem dX4_fine_46 : decode cX4_fine 46 = .ok (.iload_n 2, 1) := dk_28 (dk_at dksX4_fine_2 0 rfl rfl)
theorem dX4_fine_47 : decode cX4_fine 47 = .ok (.iconst 4, 1) := dk_7 (dk_at dksX4_fine_2 1 rfl rfl)
theorem dX4_fine_48 : decode cX4_fine 48 = .ok (.if_icmp .ne 16, 3) := dk_160 0 16 (dk_at dksX4_fine_2 2 rfl rfl)
theorem dX4_fine_51 : decode cX4_fine 51 = .ok (.aload_n 0, 1) := dk_42 (dk_at dksX4_fine_2 5 rfl rfl)
theorem dX4_fine_52 : decode cX4_fine 52 = .ok (.aload_n 0, 1) := dk_42 (dk_at dksX4_fine_2 6 rfl rfl)
theorem dX4_fine_53 : decode cX4_fine 53 = .ok (.iload_n 1, 1) := dk_27 (dk_at dksX4_fine_2 7 rfl rfl)
theorem dX4_fine_54 : decode cX4_fine 54 = .ok (.iconst 3, 1) := dk_6 (dk_at dksX4_fine_2 8 rfl rfl)
theorem dX4_fine_55 : decode cX4_fine 55 = .ok (.invokevirtual 253, 3) := dk_182 0 253 (dk_at dksX4_fine_2 9 rfl rfl)
theorem dX4_fine_58 : decode cX4_fine 58 = .ok (.invokevirtual 267, 3) := dk_182 1 11 (dk_at dksX4_fine_2 12 rfl rfl)
theorem dX4_fine_61 : decode cX4_fine 61 = .ok (.goto 9, 3) := dk_167 0 9 (dk_at dksX4_fine_2 15 rfl rfl)
theorem dX4_fine_64 : decode cX4_fine 64 = .ok (.aload_n 0, 1) := dk_42 (dk_at dksX4_fine_2 18 rfl rfl)
theorem dX4_fine_65 : decode cX4_fine 65 = .ok (.iload_n 1, 1) := dk_27 (dk_at dksX4_fine_2 19 rfl rfl)
theorem dX4_fine_66 : decode cX4_fine 66 = .ok (.iconst 4, 1) := dk_7 (dk_at dksX4_fine_2 20 rfl rfl)
theorem dX4_fine_67 : decode cX4_fine 67 = .ok (.invokevirtual 253, 3) := dk_182 0 253 (dk_at dksX4_fine_2 21 rfl rfl)
theorem dX4_fine_70 : decode cX4_fine 70 = .ok (.ireturn, 1) := dk_172 (dk_at dksX4_fine_3 0 rfl rfl)
abbrev cX4_amountOf : ByteArray := prog_21_method_86_code
def yX4_amountOf : MethodName := ⟨RX4, "amountOf", "(I)I"⟩
def dkwX4_amountOf_0 : List UInt8 := [42, 180, 0, 7, 16, 114, 27, 96, 4, 100, 46, 172]
abbrev dktX4_amountOf_0 : List UInt8 := dkwX4_amountOf_0 ++ []
theorem dksX4_amountOf_0 : cX4_amountOf.data.toList.drop 0 = dktX4_amountOf_0 := by decide +kernel
theorem dX4_amountOf_0 : decode cX4_amountOf 0 = .ok (.aload_n 0, 1) := dk_42 (dk_at dksX4_amountOf_0 0 rfl rfl)
theorem dX4_amountOf_1 : decode cX4_amountOf 1 = .ok (.getfield 7, 3) := dk_180 0 7 (dk_at dksX4_amountOf_0 1 rfl rfl)
theorem dX4_amountOf_4 : decode cX4_amountOf 4 = .ok (.bipush 114, 2) := dk_16 114 (dk_at dksX4_amountOf_0 4 rfl rfl)
theorem dX4_amountOf_6 : decode cX4_amountOf 6 = .ok (.iload_n 1, 1) := dk_27 (dk_at dksX4_amountOf_0 6 rfl rfl)
theorem dX4_amountOf_7 : decode cX4_amountOf 7 = .ok (.iadd, 1) := dk_96 (dk_at dksX4_amountOf_0 7 rfl rfl)
theorem dX4_amountOf_8 : decode cX4_amountOf 8 = .ok (.iconst 1, 1) := dk_4 (dk_at dksX4_amountOf_0 8 rfl rfl)
theorem dX4_amountOf_9 : decode cX4_amountOf 9 = .ok (.isub, 1) := dk_100 (dk_at dksX4_amountOf_0 9 rfl rfl)
theorem dX4_amountOf_10 : decode cX4_amountOf 10 = .ok (.iaload, 1) := dk_46 (dk_at dksX4_amountOf_0 10 rfl rfl)
theorem dX4_amountOf_11 : decode cX4_amountOf 11 = .ok (.ireturn, 1) := dk_172 (dk_at dksX4_amountOf_0 11 rfl rfl)
abbrev cX4_total : ByteArray := prog_21_method_88_code
def yX4_total : MethodName := ⟨RX4, "total", "(I)I"⟩
def dkwX4_total_2 : List UInt8 := [42, 29, 6, 182, 0, 253, 182, 1, 11, 96, 61, 132, 3, 1, 167, 255, 216, 28, 172]
abbrev dktX4_total_2 : List UInt8 := dkwX4_total_2 ++ []
def dkwX4_total_1 : List UInt8 := [180, 0, 16, 7, 46, 162, 0, 36, 27, 153, 0, 13, 42, 29, 7, 182, 0, 253, 27, 160, 0, 16, 28, 42]
abbrev dktX4_total_1 : List UInt8 := dkwX4_total_1 ++ dktX4_total_2
def dkwX4_total_0 : List UInt8 := [42, 27, 133, 9, 20, 1, 14, 184, 0, 144, 182, 0, 90, 154, 0, 5, 3, 172, 3, 61, 3, 62, 29, 42]
abbrev dktX4_total_0 : List UInt8 := dkwX4_total_0 ++ dktX4_total_1
theorem dksX4_total_0 : cX4_total.data.toList.drop 0 = dktX4_total_0 := by decide +kernel
theorem dksX4_total_1 : cX4_total.data.toList.drop 24 = dktX4_total_1 := dk_seg dksX4_total_0 24 rfl rfl
theorem dksX4_total_2 : cX4_total.data.toList.drop 48 = dktX4_total_2 := dk_seg dksX4_total_1 24 rfl rfl
theorem dX4_total_0 : decode cX4_total 0 = .ok (.aload_n 0, 1) := dk_42 (dk_at dksX4_total_0 0 rfl rfl)
theorem dX4_total_1 : decode cX4_total 1 = .ok (.iload_n 1, 1) := dk_27 (dk_at dksX4_total_0 1 rfl rfl)
theorem dX4_total_2 : decode cX4_total 2 = .ok (.i2l, 1) := dk_133 (dk_at dksX4_total_0 2 rfl rfl)
theorem dX4_total_3 : decode cX4_total 3 = .ok (.lconst 0, 1) := dk_9 (dk_at dksX4_total_0 3 rfl rfl)
theorem dX4_total_4 : decode cX4_total 4 = .ok (.ldc2_w 270, 3) := dk_20 1 14 (dk_at dksX4_total_0 4 rfl rfl)
theorem dX4_total_7 : decode cX4_total 7 = .ok (.invokestatic 144, 3) := dk_184 0 144 (dk_at dksX4_total_0 7 rfl rfl)
theorem dX4_total_10 : decode cX4_total 10 = .ok (.invokevirtual 90, 3) := dk_182 0 90 (dk_at dksX4_total_0 10 rfl rfl)
theorem dX4_total_13 : decode cX4_total 13 = .ok (.ifCond .ne 5, 3) := dk_154 0 5 (dk_at dksX4_total_0 13 rfl rfl)
theorem dX4_total_16 : decode cX4_total 16 = .ok (.iconst 0, 1) := dk_3 (dk_at dksX4_total_0 16 rfl rfl)
theorem dX4_total_17 : decode cX4_total 17 = .ok (.ireturn, 1) := dk_172 (dk_at dksX4_total_0 17 rfl rfl)
theorem dX4_total_18 : decode cX4_total 18 = .ok (.iconst 0, 1) := dk_3 (dk_at dksX4_total_0 18 rfl rfl)
theorem dX4_total_19 : decode cX4_total 19 = .ok (.istore_n 2, 1) := dk_61 (dk_at dksX4_total_0 19 rfl rfl)
theorem dX4_total_20 : decode cX4_total 20 = .ok (.iconst 0, 1) := dk_3 (dk_at dksX4_total_0 20 rfl rfl)
theorem dX4_total_21 : decode cX4_total 21 = .ok (.istore_n 3, 1) := dk_62 (dk_at dksX4_total_0 21 rfl rfl)
theorem dX4_total_22 : decode cX4_total 22 = .ok (.iload_n 3, 1) := dk_29 (dk_at dksX4_total_0 22 rfl rfl)
theorem dX4_total_23 : decode cX4_total 23 = .ok (.aload_n 0, 1) := dk_42 (dk_at dksX4_total_0 23 rfl rfl)
theorem dX4_total_24 : decode cX4_total 24 = .ok (.getfield 16, 3) := dk_180 0 16 (dk_at dksX4_total_1 0 rfl rfl)
theorem dX4_total_27 : decode cX4_total 27 = .ok (.iconst 4, 1) := dk_7 (dk_at dksX4_total_1 3 rfl rfl)
theorem dX4_total_28 : decode cX4_total 28 = .ok (.iaload, 1) := dk_46 (dk_at dksX4_total_1 4 rfl rfl)
theorem dX4_total_29 : decode cX4_total 29 = .ok (.if_icmp .ge 36, 3) := dk_162 0 36 (dk_at dksX4_total_1 5 rfl rfl)
theorem dX4_total_32 : decode cX4_total 32 = .ok (.iload_n 1, 1) := dk_27 (dk_at dksX4_total_1 8 rfl rfl)
theorem dX4_total_33 : decode cX4_total 33 = .ok (.ifCond .eq 13, 3) := dk_153 0 13 (dk_at dksX4_total_1 9 rfl rfl)
theorem dX4_total_36 : decode cX4_total 36 = .ok (.aload_n 0, 1) := dk_42 (dk_at dksX4_total_1 12 rfl rfl)
theorem dX4_total_37 : decode cX4_total 37 = .ok (.iload_n 3, 1) := dk_29 (dk_at dksX4_total_1 13 rfl rfl)
theorem dX4_total_38 : decode cX4_total 38 = .ok (.iconst 4, 1) := dk_7 (dk_at dksX4_total_1 14 rfl rfl)
theorem dX4_total_39 : decode cX4_total 39 = .ok (.invokevirtual 253, 3) := dk_182 0 253 (dk_at dksX4_total_1 15 rfl rfl)
theorem dX4_total_42 : decode cX4_total 42 = .ok (.iload_n 1, 1) := dk_27 (dk_at dksX4_total_1 18 rfl rfl)
theorem dX4_total_43 : decode cX4_total 43 = .ok (.if_icmp .ne 16, 3) := dk_160 0 16 (dk_at dksX4_total_1 19 rfl rfl)
theorem dX4_total_46 : decode cX4_total 46 = .ok (.iload_n 2, 1) := dk_28 (dk_at dksX4_total_1 22 rfl rfl)
theorem dX4_total_47 : decode cX4_total 47 = .ok (.aload_n 0, 1) := dk_42 (dk_at dksX4_total_1 23 rfl rfl)
theorem dX4_total_48 : decode cX4_total 48 = .ok (.aload_n 0, 1) := dk_42 (dk_at dksX4_total_2 0 rfl rfl)
theorem dX4_total_49 : decode cX4_total 49 = .ok (.iload_n 3, 1) := dk_29 (dk_at dksX4_total_2 1 rfl rfl)
theorem dX4_total_50 : decode cX4_total 50 = .ok (.iconst 3, 1) := dk_6 (dk_at dksX4_total_2 2 rfl rfl)
theorem dX4_total_51 : decode cX4_total 51 = .ok (.invokevirtual 253, 3) := dk_182 0 253 (dk_at dksX4_total_2 3 rfl rfl)
theorem dX4_total_54 : decode cX4_total 54 = .ok (.invokevirtual 267, 3) := dk_182 1 11 (dk_at dksX4_total_2 6 rfl rfl)
theorem dX4_total_57 : decode cX4_total 57 = .ok (.iadd, 1) := dk_96 (dk_at dksX4_total_2 9 rfl rfl)
theorem dX4_total_58 : decode cX4_total 58 = .ok (.istore_n 2, 1) := dk_61 (dk_at dksX4_total_2 10 rfl rfl)
theorem dX4_total_59 : decode cX4_total 59 = .ok (.iinc 3 1, 3) := dk_132 3 1 (dk_at dksX4_total_2 11 rfl rfl)
theorem dX4_total_62 : decode cX4_total 62 = .ok (.goto (-40), 3) := dk_167 255 216 (dk_at dksX4_total_2 14 rfl rfl)
theorem dX4_total_65 : decode cX4_total 65 = .ok (.iload_n 2, 1) := dk_28 (dk_at dksX4_total_2 17 rfl rfl)
theorem dX4_total_66 : decode cX4_total 66 = .ok (.ireturn, 1) := dk_172 (dk_at dksX4_total_2 18 rfl rfl)
abbrev cX4_finesBy : ByteArray := prog_21_method_90_code
def yX4_finesBy : MethodName := ⟨RX4, "finesBy", "(I)I"⟩
def dkwX4_finesBy_2 : List UInt8 := [172]
abbrev dktX4_finesBy_2 : List UInt8 := dkwX4_finesBy_2 ++ []
def dkwX4_finesBy_1 : List UInt8 := [162, 0, 23, 42, 29, 6, 182, 0, 253, 27, 160, 0, 7, 28, 4, 96, 61, 132, 3, 1, 167, 255, 229, 28]
abbrev dktX4_finesBy_1 : List UInt8 := dkwX4_finesBy_1 ++ dktX4_finesBy_2
def dkwX4_finesBy_0 : List UInt8 := [42, 27, 184, 1, 18, 182, 0, 90, 154, 0, 5, 3, 172, 3, 61, 3, 62, 29, 42, 180, 0, 16, 7, 46]
abbrev dktX4_finesBy_0 : List UInt8 := dkwX4_finesBy_0 ++ dktX4_finesBy_1
theorem dksX4_finesBy_0 : cX4_finesBy.data.toList.drop 0 = dktX4_finesBy_0 := by decide +kernel
theorem dksX4_finesBy_1 : cX4_finesBy.data.toList.drop 24 = dktX4_finesBy_1 := dk_seg dksX4_finesBy_0 24 rfl rfl
theorem dksX4_finesBy_2 : cX4_finesBy.data.toList.drop 48 = dktX4_finesBy_2 := dk_seg dksX4_finesBy_1 24 rfl rfl
theorem dX4_finesBy_0 : decode cX4_finesBy 0 = .ok (.aload_n 0, 1) := dk_42 (dk_at dksX4_finesBy_0 0 rfl rfl)
theorem dX4_finesBy_1 : decode cX4_finesBy 1 = .ok (.iload_n 1, 1) := dk_27 (dk_at dksX4_finesBy_0 1 rfl rfl)
theorem dX4_finesBy_2 : decode cX4_finesBy 2 = .ok (.invokestatic 274, 3) := dk_184 1 18 (dk_at dksX4_finesBy_0 2 rfl rfl)
theorem dX4_finesBy_5 : decode cX4_finesBy 5 = .ok (.invokevirtual 90, 3) := dk_182 0 90 (dk_at dksX4_finesBy_0 5 rfl rfl)
theorem dX4_finesBy_8 : decode cX4_finesBy 8 = .ok (.ifCond .ne 5, 3) := dk_154 0 5 (dk_at dksX4_finesBy_0 8 rfl rfl)
theorem dX4_finesBy_11 : decode cX4_finesBy 11 = .ok (.iconst 0, 1) := dk_3 (dk_at dksX4_finesBy_0 11 rfl rfl)
theorem dX4_finesBy_12 : decode cX4_finesBy 12 = .ok (.ireturn, 1) := dk_172 (dk_at dksX4_finesBy_0 12 rfl rfl)
theorem dX4_finesBy_13 : decode cX4_finesBy 13 = .ok (.iconst 0, 1) := dk_3 (dk_at dksX4_finesBy_0 13 rfl rfl)
theorem dX4_finesBy_14 : decode cX4_finesBy 14 = .ok (.istore_n 2, 1) := dk_61 (dk_at dksX4_finesBy_0 14 rfl rfl)
theorem dX4_finesBy_15 : decode cX4_finesBy 15 = .ok (.iconst 0, 1) := dk_3 (dk_at dksX4_finesBy_0 15 rfl rfl)
theorem dX4_finesBy_16 : decode cX4_finesBy 16 = .ok (.istore_n 3, 1) := dk_62 (dk_at dksX4_finesBy_0 16 rfl rfl)
theorem dX4_finesBy_17 : decode cX4_finesBy 17 = .ok (.iload_n 3, 1) := dk_29 (dk_at dksX4_finesBy_0 17 rfl rfl)
theorem dX4_finesBy_18 : decode cX4_finesBy 18 = .ok (.aload_n 0, 1) := dk_42 (dk_at dksX4_finesBy_0 18 rfl rfl)
theorem dX4_finesBy_19 : decode cX4_finesBy 19 = .ok (.getfield 16, 3) := dk_180 0 16 (dk_at dksX4_finesBy_0 19 rfl rfl)
theorem dX4_finesBy_22 : decode cX4_finesBy 22 = .ok (.iconst 4, 1) := dk_7 (dk_at dksX4_finesBy_0 22 rfl rfl)
theorem dX4_finesBy_23 : decode cX4_finesBy 23 = .ok (.iaload, 1) := dk_46 (dk_at dksX4_finesBy_0 23 rfl rfl)
theorem dX4_finesBy_24 : decode cX4_finesBy 24 = .ok (.if_icmp .ge 23, 3) := dk_162 0 23 (dk_at dksX4_finesBy_1 0 rfl rfl)
theorem dX4_finesBy_27 : decode cX4_finesBy 27 = .ok (.aload_n 0, 1) := dk_42 (dk_at dksX4_finesBy_1 3 rfl rfl)
theorem dX4_finesBy_28 : decode cX4_finesBy 28 = .ok (.iload_n 3, 1) := dk_29 (dk_at dksX4_finesBy_1 4 rfl rfl)
theorem dX4_finesBy_29 : decode cX4_finesBy 29 = .ok (.iconst 3, 1) := dk_6 (dk_at dksX4_finesBy_1 5 rfl rfl)
theorem dX4_finesBy_30 : decode cX4_finesBy 30 = .ok (.invokevirtual 253, 3) := dk_182 0 253 (dk_at dksX4_finesBy_1 6 rfl rfl)
theorem dX4_finesBy_33 : decode cX4_finesBy 33 = .ok (.iload_n 1, 1) := dk_27 (dk_at dksX4_finesBy_1 9 rfl rfl)
theorem dX4_finesBy_34 : decode cX4_finesBy 34 = .ok (.if_icmp .ne 7, 3) := dk_160 0 7 (dk_at dksX4_finesBy_1 10 rfl rfl)
theorem dX4_finesBy_37 : decode cX4_finesBy 37 = .ok (.iload_n 2, 1) := dk_28 (dk_at dksX4_finesBy_1 13 rfl rfl)
theorem dX4_finesBy_38 : decode cX4_finesBy 38 = .ok (.iconst 1, 1) := dk_4 (dk_at dksX4_finesBy_1 14 rfl rfl)
theorem dX4_finesBy_39 : decode cX4_finesBy 39 = .ok (.iadd, 1) := dk_96 (dk_at dksX4_finesBy_1 15 rfl rfl)
theorem dX4_finesBy_40 : decode cX4_finesBy 40 = .ok (.istore_n 2, 1) := dk_61 (dk_at dksX4_finesBy_1 16 rfl rfl)
theorem dX4_finesBy_41 : decode cX4_finesBy 41 = .ok (.iinc 3 1, 3) := dk_132 3 1 (dk_at dksX4_finesBy_1 17 rfl rfl)
theorem dX4_finesBy_44 : decode cX4_finesBy 44 = .ok (.goto (-27), 3) := dk_167 255 229 (dk_at dksX4_finesBy_1 20 rfl rfl)
theorem dX4_finesBy_47 : decode cX4_finesBy 47 = .ok (.iload_n 2, 1) := dk_28 (dk_at dksX4_finesBy_1 23 rfl rfl)
theorem dX4_finesBy_48 : decode cX4_finesBy 48 = .ok (.ireturn, 1) := dk_172 (dk_at dksX4_finesBy_2 0 rfl rfl)
abbrev cX4_isRule : ByteArray := prog_21_method_89_code
def yX4_isRule : MethodName := ⟨RX4, "isRule", "(I)Z"⟩
def dkwX4_isRule_0 : List UInt8 := [26, 133, 10, 20, 1, 16, 184, 0, 144, 172]
abbrev dktX4_isRule_0 : List UInt8 := dkwX4_isRule_0 ++ []
theorem dksX4_isRule_0 : cX4_isRule.data.toList.drop 0 = dktX4_isRule_0 := by decide +kernel
theorem dX4_isRule_0 : decode cX4_isRule 0 = .ok (.iload_n 0, 1) := dk_26 (dk_at dksX4_isRule_0 0 rfl rfl)
theorem dX4_isRule_1 : decode cX4_isRule 1 = .ok (.i2l, 1) := dk_133 (dk_at dksX4_isRule_0 1 rfl rfl)
theorem dX4_isRule_2 : decode cX4_isRule 2 = .ok (.lconst 1, 1) := dk_10 (dk_at dksX4_isRule_0 2 rfl rfl)
theorem dX4_isRule_3 : decode cX4_isRule 3 = .ok (.ldc2_w 272, 3) := dk_20 1 16 (dk_at dksX4_isRule_0 3 rfl rfl)
theorem dX4_isRule_6 : decode cX4_isRule 6 = .ok (.invokestatic 144, 3) := dk_184 0 144 (dk_at dksX4_isRule_0 6 rfl rfl)
theorem dX4_isRule_9 : decode cX4_isRule 9 = .ok (.ireturn, 1) := dk_172 (dk_at dksX4_isRule_0 9 rfl rfl)
abbrev cX4_amount : ByteArray := prog_21_method_91_code
def yX4_amount : MethodName := ⟨RX4, "amount", "(I)I"⟩
def dkwX4_amount_0 : List UInt8 := [42, 27, 184, 1, 18, 182, 0, 90, 153, 0, 11, 42, 27, 182, 1, 11, 167, 0, 4, 3, 172]
abbrev dktX4_amount_0 : List UInt8 := dkwX4_amount_0 ++ []
theorem dksX4_amount_0 : cX4_amount.data.toList.drop 0 = dktX4_amount_0 := by decide +kernel
theorem dX4_amount_0 : decode cX4_amount 0 = .ok (.aload_n 0, 1) := dk_42 (dk_at dksX4_amount_0 0 rfl rfl)
theorem dX4_amount_1 : decode cX4_amount 1 = .ok (.iload_n 1, 1) := dk_27 (dk_at dksX4_amount_0 1 rfl rfl)
theorem dX4_amount_2 : decode cX4_amount 2 = .ok (.invokestatic 274, 3) := dk_184 1 18 (dk_at dksX4_amount_0 2 rfl rfl)
theorem dX4_amount_5 : decode cX4_amount 5 = .ok (.invokevirtual 90, 3) := dk_182 0 90 (dk_at dksX4_amount_0 5 rfl rfl)
theorem dX4_amount_8 : decode cX4_amount 8 = .ok (.ifCond .eq 11, 3) := dk_153 0 11 (dk_at dksX4_amount_0 8 rfl rfl)
theorem dX4_amount_11 : decode cX4_amount 11 = .ok (.aload_n 0, 1) := dk_42 (dk_at dksX4_amount_0 11 rfl rfl)
theorem dX4_amount_12 : decode cX4_amount 12 = .ok (.iload_n 1, 1) := dk_27 (dk_at dksX4_amount_0 12 rfl rfl)
theorem dX4_amount_13 : decode cX4_amount 13 = .ok (.invokevirtual 267, 3) := dk_182 1 11 (dk_at dksX4_amount_0 13 rfl rfl)
theorem dX4_amount_16 : decode cX4_amount 16 = .ok (.goto 4, 3) := dk_167 0 4 (dk_at dksX4_amount_0 16 rfl rfl)
theorem dX4_amount_19 : decode cX4_amount 19 = .ok (.iconst 0, 1) := dk_3 (dk_at dksX4_amount_0 19 rfl rfl)
theorem dX4_amount_20 : decode cX4_amount 20 = .ok (.ireturn, 1) := dk_172 (dk_at dksX4_amount_0 20 rfl rfl)
abbrev cX4_withdrawnShare : ByteArray := prog_21_method_92_code
def yX4_withdrawnShare : MethodName := ⟨RX4, "withdrawnShare", "()F"⟩
def dkwX4_withdrawnShare_2 : List UInt8 := [154, 0, 7, 11, 167, 0, 13, 27, 134, 42, 180, 0, 16, 7, 46, 134, 110, 174]
abbrev dktX4_withdrawnShare_2 : List UInt8 := dkwX4_withdrawnShare_2 ++ []
def dkwX4_withdrawnShare_1 : List UInt8 := [182, 0, 253, 4, 160, 0, 7, 27, 4, 96, 60, 132, 2, 1, 167, 255, 229, 42, 180, 0, 16, 7, 46]
abbrev dktX4_withdrawnShare_1 : List UInt8 := dkwX4_withdrawnShare_1 ++ dktX4_withdrawnShare_2
def dkwX4_withdrawnShare_0 : List UInt8 := [42, 3, 181, 0, 77, 3, 60, 3, 61, 28, 42, 180, 0, 16, 7, 46, 162, 0, 23, 42, 28, 7]
abbrev dktX4_withdrawnShare_0 : List UInt8 := dkwX4_withdrawnShare_0 ++ dktX4_withdrawnShare_1
theorem dksX4_withdrawnShare_0 : cX4_withdrawnShare.data.toList.drop 0 = dktX4_withdrawnShare_0 := by decide +kernel
theorem dksX4_withdrawnShare_1 : cX4_withdrawnShare.data.toList.drop 22 = dktX4_withdrawnShare_1 := dk_seg dksX4_withdrawnShare_0 22 rfl rfl
theorem dksX4_withdrawnShare_2 : cX4_withdrawnShare.data.toList.drop 45 = dktX4_withdrawnShare_2 := dk_seg dksX4_withdrawnShare_1 23 rfl rfl
theorem dX4_withdrawnShare_0 : decode cX4_withdrawnShare 0 = .ok (.aload_n 0, 1) := dk_42 (dk_at dksX4_withdrawnShare_0 0 rfl rfl)
theorem dX4_withdrawnShare_1 : decode cX4_withdrawnShare 1 = .ok (.iconst 0, 1) := dk_3 (dk_at dksX4_withdrawnShare_0 1 rfl rfl)
theorem dX4_withdrawnShare_2 : decode cX4_withdrawnShare 2 = .ok (.putfield 77, 3) := dk_181 0 77 (dk_at dksX4_withdrawnShare_0 2 rfl rfl)
theorem dX4_withdrawnShare_5 : decode cX4_withdrawnShare 5 = .ok (.iconst 0, 1) := dk_3 (dk_at dksX4_withdrawnShare_0 5 rfl rfl)
theorem dX4_withdrawnShare_6 : decode cX4_withdrawnShare 6 = .ok (.istore_n 1, 1) := dk_60 (dk_at dksX4_withdrawnShare_0 6 rfl rfl)
theorem dX4_withdrawnShare_7 : decode cX4_withdrawnShare 7 = .ok (.iconst 0, 1) := dk_3 (dk_at dksX4_withdrawnShare_0 7 rfl rfl)
theorem dX4_withdrawnShare_8 : decode cX4_withdrawnShare 8 = .ok (.istore_n 2, 1) := dk_61 (dk_at dksX4_withdrawnShare_0 8 rfl rfl)
theorem dX4_withdrawnShare_9 : decode cX4_withdrawnShare 9 = .ok (.iload_n 2, 1) := dk_28 (dk_at dksX4_withdrawnShare_0 9 rfl rfl)
theorem dX4_withdrawnShare_10 : decode cX4_withdrawnShare 10 = .ok (.aload_n 0, 1) := dk_42 (dk_at dksX4_withdrawnShare_0 10 rfl rfl)
theorem dX4_withdrawnShare_11 : decode cX4_withdrawnShare 11 = .ok (.getfield 16, 3) := dk_180 0 16 (dk_at dksX4_withdrawnShare_0 11 rfl rfl)
theorem dX4_withdrawnShare_14 : decode cX4_withdrawnShare 14 = .ok (.iconst 4, 1) := dk_7 (dk_at dksX4_withdrawnShare_0 14 rfl rfl)
theorem dX4_withdrawnShare_15 : decode cX4_withdrawnShare 15 = .ok (.iaload, 1) := dk_46 (dk_at dksX4_withdrawnShare_0 15 rfl rfl)
theorem dX4_withdrawnShare_16 : decode cX4_withdrawnShare 16 = .ok (.if_icmp .ge 23, 3) := dk_162 0 23 (dk_at dksX4_withdrawnShare_0 16 rfl rfl)
theorem dX4_withdrawnShare_19 : decode cX4_withdrawnShare 19 = .ok (.aload_n 0, 1) := dk_42 (dk_at dksX4_withdrawnShare_0 19 rfl rfl)
theorem dX4_withdrawnShare_20 : decode cX4_withdrawnShare 20 = .ok (.iload_n 2, 1) := dk_28 (dk_at dksX4_withdrawnShare_0 20 rfl rfl)
theorem dX4_withdrawnShare_21 : decode cX4_withdrawnShare 21 = .ok (.iconst 4, 1) := dk_7 (dk_at dksX4_withdrawnShare_0 21 rfl rfl)
theorem dX4_withdrawnShare_22 : decode cX4_withdrawnShare 22 = .ok (.invokevirtual 253, 3) := dk_182 0 253 (dk_at dksX4_withdrawnShare_1 0 rfl rfl)
theorem dX4_withdrawnShare_25 : decode cX4_withdrawnShare 25 = .ok (.iconst 1, 1) := dk_4 (dk_at dksX4_withdrawnShare_1 3 rfl rfl)
theorem dX4_withdrawnShare_26 : decode cX4_withdrawnShare 26 = .ok (.if_icmp .ne 7, 3) := dk_160 0 7 (dk_at dksX4_withdrawnShare_1 4 rfl rfl)
theorem dX4_withdrawnShare_29 : decode cX4_withdrawnShare 29 = .ok (.iload_n 1, 1) := dk_27 (dk_at dksX4_withdrawnShare_1 7 rfl rfl)
theorem dX4_withdrawnShare_30 : decode cX4_withdrawnShare 30 = .ok (.iconst 1, 1) := dk_4 (dk_at dksX4_withdrawnShare_1 8 rfl rfl)
theorem dX4_withdrawnShare_31 : decode cX4_withdrawnShare 31 = .ok (.iadd, 1) := dk_96 (dk_at dksX4_withdrawnShare_1 9 rfl rfl)
theorem dX4_withdrawnShare_32 : decode cX4_withdrawnShare 32 = .ok (.istore_n 1, 1) := dk_60 (dk_at dksX4_withdrawnShare_1 10 rfl rfl)
theorem dX4_withdrawnShare_33 : decode cX4_withdrawnShare 33 = .ok (.iinc 2 1, 3) := dk_132 2 1 (dk_at dksX4_withdrawnShare_1 11 rfl rfl)
theorem dX4_withdrawnShare_36 : decode cX4_withdrawnShare 36 = .ok (.goto (-27), 3) := dk_167 255 229 (dk_at dksX4_withdrawnShare_1 14 rfl rfl)
theorem dX4_withdrawnShare_39 : decode cX4_withdrawnShare 39 = .ok (.aload_n 0, 1) := dk_42 (dk_at dksX4_withdrawnShare_1 17 rfl rfl)
theorem dX4_withdrawnShare_40 : decode cX4_withdrawnShare 40 = .ok (.getfield 16, 3) := dk_180 0 16 (dk_at dksX4_withdrawnShare_1 18 rfl rfl)
theorem dX4_withdrawnShare_43 : decode cX4_withdrawnShare 43 = .ok (.iconst 4, 1) := dk_7 (dk_at dksX4_withdrawnShare_1 21 rfl rfl)
theorem dX4_withdrawnShare_44 : decode cX4_withdrawnShare 44 = .ok (.iaload, 1) := dk_46 (dk_at dksX4_withdrawnShare_1 22 rfl rfl)
theorem dX4_withdrawnShare_45 : decode cX4_withdrawnShare 45 = .ok (.ifCond .ne 7, 3) := dk_154 0 7 (dk_at dksX4_withdrawnShare_2 0 rfl rfl)
theorem dX4_withdrawnShare_48 : decode cX4_withdrawnShare 48 = .ok (.fconst 0, 1) := dk_11 (dk_at dksX4_withdrawnShare_2 3 rfl rfl)
theorem dX4_withdrawnShare_49 : decode cX4_withdrawnShare 49 = .ok (.goto 13, 3) := dk_167 0 13 (dk_at dksX4_withdrawnShare_2 4 rfl rfl)
theorem dX4_withdrawnShare_52 : decode cX4_withdrawnShare 52 = .ok (.iload_n 1, 1) := dk_27 (dk_at dksX4_withdrawnShare_2 7 rfl rfl)
theorem dX4_withdrawnShare_53 : decode cX4_withdrawnShare 53 = .ok (.i2f, 1) := dk_134 (dk_at dksX4_withdrawnShare_2 8 rfl rfl)
theorem dX4_withdrawnShare_54 : decode cX4_withdrawnShare 54 = .ok (.aload_n 0, 1) := dk_42 (dk_at dksX4_withdrawnShare_2 9 rfl rfl)
theorem dX4_withdrawnShare_55 : decode cX4_withdrawnShare 55 = .ok (.getfield 16, 3) := dk_180 0 16 (dk_at dksX4_withdrawnShare_2 10 rfl rfl)
theorem dX4_withdrawnShare_58 : decode cX4_withdrawnShare 58 = .ok (.iconst 4, 1) := dk_7 (dk_at dksX4_withdrawnShare_2 13 rfl rfl)
theorem dX4_withdrawnShare_59 : decode cX4_withdrawnShare 59 = .ok (.iaload, 1) := dk_46 (dk_at dksX4_withdrawnShare_2 14 rfl rfl)
theorem dX4_withdrawnShare_60 : decode cX4_withdrawnShare 60 = .ok (.i2f, 1) := dk_134 (dk_at dksX4_withdrawnShare_2 15 rfl rfl)
theorem dX4_withdrawnShare_61 : decode cX4_withdrawnShare 61 = .ok (.fdiv, 1) := dk_110 (dk_at dksX4_withdrawnShare_2 16 rfl rfl)
theorem dX4_withdrawnShare_62 : decode cX4_withdrawnShare 62 = .ok (.freturn, 1) := dk_174 (dk_at dksX4_withdrawnShare_2 17 rfl rfl)
abbrev cX4_setLimit : ByteArray := prog_21_method_93_code
def yX4_setLimit : MethodName := ⟨RX4, "setLimit", "(II)I"⟩
def dkwX4_setLimit_3 : List UInt8 := [180, 0, 16, 8, 27, 96, 28, 79, 42, 29, 182, 0, 173, 172]
abbrev dktX4_setLimit_3 : List UInt8 := dkwX4_setLimit_3 ++ []
def dkwX4_setLimit_2 : List UInt8 := [182, 0, 163, 154, 0, 5, 3, 172, 42, 182, 0, 148, 42, 180, 0, 16, 8, 27, 96, 46, 62, 42]
abbrev dktX4_setLimit_2 : List UInt8 := dkwX4_setLimit_2 ++ dktX4_setLimit_3
def dkwX4_setLimit_1 : List UInt8 := [182, 0, 163, 153, 0, 25, 42, 42, 27, 182, 0, 131, 28, 163, 0, 7, 4, 167, 0, 4, 3, 6]
abbrev dktX4_setLimit_1 : List UInt8 := dkwX4_setLimit_1 ++ dktX4_setLimit_2
def dkwX4_setLimit_0 : List UInt8 := [42, 42, 27, 182, 0, 181, 182, 0, 90, 153, 0, 42, 42, 28, 133, 9, 20, 1, 21, 184, 0, 144, 5]
abbrev dktX4_setLimit_0 : List UInt8 := dkwX4_setLimit_0 ++ dktX4_setLimit_1
theorem dksX4_setLimit_0 : cX4_setLimit.data.toList.drop 0 = dktX4_setLimit_0 := by decide +kernel
theorem dksX4_setLimit_1 : cX4_setLimit.data.toList.drop 23 = dktX4_setLimit_1 := dk_seg dksX4_setLimit_0 23 rfl rfl
theorem dksX4_setLimit_2 : cX4_setLimit.data.toList.drop 45 = dktX4_setLimit_2 := dk_seg dksX4_setLimit_1 22 rfl rfl
theorem dksX4_setLimit_3 : cX4_setLimit.data.toList.drop 67 = dktX4_setLimit_3 := dk_seg dksX4_setLimit_2 22 rfl rfl
theorem dX4_setLimit_0 : decode cX4_setLimit 0 = .ok (.aload_n 0, 1) := dk_42 (dk_at dksX4_setLimit_0 0 rfl rfl)
theorem dX4_setLimit_1 : decode cX4_setLimit 1 = .ok (.aload_n 0, 1) := dk_42 (dk_at dksX4_setLimit_0 1 rfl rfl)
theorem dX4_setLimit_2 : decode cX4_setLimit 2 = .ok (.iload_n 1, 1) := dk_27 (dk_at dksX4_setLimit_0 2 rfl rfl)
theorem dX4_setLimit_3 : decode cX4_setLimit 3 = .ok (.invokevirtual 181, 3) := dk_182 0 181 (dk_at dksX4_setLimit_0 3 rfl rfl)
theorem dX4_setLimit_6 : decode cX4_setLimit 6 = .ok (.invokevirtual 90, 3) := dk_182 0 90 (dk_at dksX4_setLimit_0 6 rfl rfl)
theorem dX4_setLimit_9 : decode cX4_setLimit 9 = .ok (.ifCond .eq 42, 3) := dk_153 0 42 (dk_at dksX4_setLimit_0 9 rfl rfl)
theorem dX4_setLimit_12 : decode cX4_setLimit 12 = .ok (.aload_n 0, 1) := dk_42 (dk_at dksX4_setLimit_0 12 rfl rfl)
theorem dX4_setLimit_13 : decode cX4_setLimit 13 = .ok (.iload_n 2, 1) := dk_28 (dk_at dksX4_setLimit_0 13 rfl rfl)
theorem dX4_setLimit_14 : decode cX4_setLimit 14 = .ok (.i2l, 1) := dk_133 (dk_at dksX4_setLimit_0 14 rfl rfl)
theorem dX4_setLimit_15 : decode cX4_setLimit 15 = .ok (.lconst 0, 1) := dk_9 (dk_at dksX4_setLimit_0 15 rfl rfl)
theorem dX4_setLimit_16 : decode cX4_setLimit 16 = .ok (.ldc2_w 277, 3) := dk_20 1 21 (dk_at dksX4_setLimit_0 16 rfl rfl)
theorem dX4_setLimit_19 : decode cX4_setLimit 19 = .ok (.invokestatic 144, 3) := dk_184 0 144 (dk_at dksX4_setLimit_0 19 rfl rfl)
theorem dX4_setLimit_22 : decode cX4_setLimit 22 = .ok (.iconst 2, 1) := dk_5 (dk_at dksX4_setLimit_0 22 rfl rfl)
theorem dX4_setLimit_23 : decode cX4_setLimit 23 = .ok (.invokevirtual 163, 3) := dk_182 0 163 (dk_at dksX4_setLimit_1 0 rfl rfl)
theorem dX4_setLimit_26 : decode cX4_setLimit 26 = .ok (.ifCond .eq 25, 3) := dk_153 0 25 (dk_at dksX4_setLimit_1 3 rfl rfl)
theorem dX4_setLimit_29 : decode cX4_setLimit 29 = .ok (.aload_n 0, 1) := dk_42 (dk_at dksX4_setLimit_1 6 rfl rfl)
theorem dX4_setLimit_30 : decode cX4_setLimit 30 = .ok (.aload_n 0, 1) := dk_42 (dk_at dksX4_setLimit_1 7 rfl rfl)
theorem dX4_setLimit_31 : decode cX4_setLimit 31 = .ok (.iload_n 1, 1) := dk_27 (dk_at dksX4_setLimit_1 8 rfl rfl)
theorem dX4_setLimit_32 : decode cX4_setLimit 32 = .ok (.invokevirtual 131, 3) := dk_182 0 131 (dk_at dksX4_setLimit_1 9 rfl rfl)
theorem dX4_setLimit_35 : decode cX4_setLimit 35 = .ok (.iload_n 2, 1) := dk_28 (dk_at dksX4_setLimit_1 12 rfl rfl)
theorem dX4_setLimit_36 : decode cX4_setLimit 36 = .ok (.if_icmp .gt 7, 3) := dk_163 0 7 (dk_at dksX4_setLimit_1 13 rfl rfl)
theorem dX4_setLimit_39 : decode cX4_setLimit 39 = .ok (.iconst 1, 1) := dk_4 (dk_at dksX4_setLimit_1 16 rfl rfl)
theorem dX4_setLimit_40 : decode cX4_setLimit 40 = .ok (.goto 4, 3) := dk_167 0 4 (dk_at dksX4_setLimit_1 17 rfl rfl)
theorem dX4_setLimit_43 : decode cX4_setLimit 43 = .ok (.iconst 0, 1) := dk_3 (dk_at dksX4_setLimit_1 20 rfl rfl)
theorem dX4_setLimit_44 : decode cX4_setLimit 44 = .ok (.iconst 3, 1) := dk_6 (dk_at dksX4_setLimit_1 21 rfl rfl)
theorem dX4_setLimit_45 : decode cX4_setLimit 45 = .ok (.invokevirtual 163, 3) := dk_182 0 163 (dk_at dksX4_setLimit_2 0 rfl rfl)
theorem dX4_setLimit_48 : decode cX4_setLimit 48 = .ok (.ifCond .ne 5, 3) := dk_154 0 5 (dk_at dksX4_setLimit_2 3 rfl rfl)
theorem dX4_setLimit_51 : decode cX4_setLimit 51 = .ok (.iconst 0, 1) := dk_3 (dk_at dksX4_setLimit_2 6 rfl rfl)
theorem dX4_setLimit_52 : decode cX4_setLimit 52 = .ok (.ireturn, 1) := dk_172 (dk_at dksX4_setLimit_2 7 rfl rfl)
theorem dX4_setLimit_53 : decode cX4_setLimit 53 = .ok (.aload_n 0, 1) := dk_42 (dk_at dksX4_setLimit_2 8 rfl rfl)
theorem dX4_setLimit_54 : decode cX4_setLimit 54 = .ok (.invokevirtual 148, 3) := dk_182 0 148 (dk_at dksX4_setLimit_2 9 rfl rfl)
theorem dX4_setLimit_57 : decode cX4_setLimit 57 = .ok (.aload_n 0, 1) := dk_42 (dk_at dksX4_setLimit_2 12 rfl rfl)
theorem dX4_setLimit_58 : decode cX4_setLimit 58 = .ok (.getfield 16, 3) := dk_180 0 16 (dk_at dksX4_setLimit_2 13 rfl rfl)
theorem dX4_setLimit_61 : decode cX4_setLimit 61 = .ok (.iconst 5, 1) := dk_8 (dk_at dksX4_setLimit_2 16 rfl rfl)
theorem dX4_setLimit_62 : decode cX4_setLimit 62 = .ok (.iload_n 1, 1) := dk_27 (dk_at dksX4_setLimit_2 17 rfl rfl)
theorem dX4_setLimit_63 : decode cX4_setLimit 63 = .ok (.iadd, 1) := dk_96 (dk_at dksX4_setLimit_2 18 rfl rfl)
theorem dX4_setLimit_64 : decode cX4_setLimit 64 = .ok (.iaload, 1) := dk_46 (dk_at dksX4_setLimit_2 19 rfl rfl)
theorem dX4_setLimit_65 : decode cX4_setLimit 65 = .ok (.istore_n 3, 1) := dk_62 (dk_at dksX4_setLimit_2 20 rfl rfl)
theorem dX4_setLimit_66 : decode cX4_setLimit 66 = .ok (.aload_n 0, 1) := dk_42 (dk_at dksX4_setLimit_2 21 rfl rfl)
theorem dX4_setLimit_67 : decode cX4_setLimit 67 = .ok (.getfield 16, 3) := dk_180 0 16 (dk_at dksX4_setLimit_3 0 rfl rfl)
theorem dX4_setLimit_70 : decode cX4_setLimit 70 = .ok (.iconst 5, 1) := dk_8 (dk_at dksX4_setLimit_3 3 rfl rfl)
theorem dX4_setLimit_71 : decode cX4_setLimit 71 = .ok (.iload_n 1, 1) := dk_27 (dk_at dksX4_setLimit_3 4 rfl rfl)
theorem dX4_setLimit_72 : decode cX4_setLimit 72 = .ok (.iadd, 1) := dk_96 (dk_at dksX4_setLimit_3 5 rfl rfl)
theorem dX4_setLimit_73 : decode cX4_setLimit 73 = .ok (.iload_n 2, 1) := dk_28 (dk_at dksX4_setLimit_3 6 rfl rfl)
theorem dX4_setLimit_74 : decode cX4_setLimit 74 = .ok (.iastore, 1) := dk_79 (dk_at dksX4_setLimit_3 7 rfl rfl)
theorem dX4_setLimit_75 : decode cX4_setLimit 75 = .ok (.aload_n 0, 1) := dk_42 (dk_at dksX4_setLimit_3 8 rfl rfl)
theorem dX4_setLimit_76 : decode cX4_setLimit 76 = .ok (.iload_n 3, 1) := dk_29 (dk_at dksX4_setLimit_3 9 rfl rfl)
theorem dX4_setLimit_77 : decode cX4_setLimit 77 = .ok (.invokevirtual 173, 3) := dk_182 0 173 (dk_at dksX4_setLimit_3 10 rfl rfl)
theorem dX4_setLimit_80 : decode cX4_setLimit 80 = .ok (.ireturn, 1) := dk_172 (dk_at dksX4_setLimit_3 13 rfl rfl)
abbrev cX4_suspend : ByteArray := prog_21_method_94_code
def yX4_suspend : MethodName := ⟨RX4, "suspend", "(IZ)Z"⟩
def dkwX4_suspend_3 : List UInt8 := [167, 0, 4, 3, 79, 42, 29, 182, 0, 173, 4, 160, 0, 7, 4, 167, 0, 4, 3, 172]
abbrev dktX4_suspend_3 : List UInt8 := dkwX4_suspend_3 ++ []
def dkwX4_suspend_2 : List UInt8 := [180, 0, 16, 16, 11, 27, 96, 46, 62, 42, 180, 0, 16, 16, 11, 27, 96, 28, 153, 0, 7, 4]
abbrev dktX4_suspend_2 : List UInt8 := dkwX4_suspend_2 ++ dktX4_suspend_3
def dkwX4_suspend_1 : List UInt8 := [159, 0, 7, 4, 167, 0, 4, 3, 5, 182, 0, 163, 154, 0, 5, 3, 172, 42, 182, 0, 148, 42]
abbrev dktX4_suspend_1 : List UInt8 := dkwX4_suspend_1 ++ dktX4_suspend_2
def dkwX4_suspend_0 : List UInt8 := [42, 42, 27, 182, 0, 218, 182, 0, 90, 153, 0, 29, 42, 42, 180, 0, 7, 16, 51, 27, 96, 46, 2]
abbrev dktX4_suspend_0 : List UInt8 := dkwX4_suspend_0 ++ dktX4_suspend_1
theorem dksX4_suspend_0 : cX4_suspend.data.toList.drop 0 = dktX4_suspend_0 := by decide +kernel
theorem dksX4_suspend_1 : cX4_suspend.data.toList.drop 23 = dktX4_suspend_1 := dk_seg dksX4_suspend_0 23 rfl rfl
theorem dksX4_suspend_2 : cX4_suspend.data.toList.drop 45 = dktX4_suspend_2 := dk_seg dksX4_suspend_1 22 rfl rfl
theorem dksX4_suspend_3 : cX4_suspend.data.toList.drop 67 = dktX4_suspend_3 := dk_seg dksX4_suspend_2 22 rfl rfl
theorem dX4_suspend_0 : decode cX4_suspend 0 = .ok (.aload_n 0, 1) := dk_42 (dk_at dksX4_suspend_0 0 rfl rfl)
theorem dX4_suspend_1 : decode cX4_suspend 1 = .ok (.aload_n 0, 1) := dk_42 (dk_at dksX4_suspend_0 1 rfl rfl)
theorem dX4_suspend_2 : decode cX4_suspend 2 = .ok (.iload_n 1, 1) := dk_27 (dk_at dksX4_suspend_0 2 rfl rfl)
theorem dX4_suspend_3 : decode cX4_suspend 3 = .ok (.invokevirtual 218, 3) := dk_182 0 218 (dk_at dksX4_suspend_0 3 rfl rfl)
theorem dX4_suspend_6 : decode cX4_suspend 6 = .ok (.invokevirtual 90, 3) := dk_182 0 90 (dk_at dksX4_suspend_0 6 rfl rfl)
theorem dX4_suspend_9 : decode cX4_suspend 9 = .ok (.ifCond .eq 29, 3) := dk_153 0 29 (dk_at dksX4_suspend_0 9 rfl rfl)
theorem dX4_suspend_12 : decode cX4_suspend 12 = .ok (.aload_n 0, 1) := dk_42 (dk_at dksX4_suspend_0 12 rfl rfl)
theorem dX4_suspend_13 : decode cX4_suspend 13 = .ok (.aload_n 0, 1) := dk_42 (dk_at dksX4_suspend_0 13 rfl rfl)
theorem dX4_suspend_14 : decode cX4_suspend 14 = .ok (.getfield 7, 3) := dk_180 0 7 (dk_at dksX4_suspend_0 14 rfl rfl)
theorem dX4_suspend_17 : decode cX4_suspend 17 = .ok (.bipush 51, 2) := dk_16 51 (dk_at dksX4_suspend_0 17 rfl rfl)
theorem dX4_suspend_19 : decode cX4_suspend 19 = .ok (.iload_n 1, 1) := dk_27 (dk_at dksX4_suspend_0 19 rfl rfl)
theorem dX4_suspend_20 : decode cX4_suspend 20 = .ok (.iadd, 1) := dk_96 (dk_at dksX4_suspend_0 20 rfl rfl)
theorem dX4_suspend_21 : decode cX4_suspend 21 = .ok (.iaload, 1) := dk_46 (dk_at dksX4_suspend_0 21 rfl rfl)
theorem dX4_suspend_22 : decode cX4_suspend 22 = .ok (.iconst (-1), 1) := dk_2 (dk_at dksX4_suspend_0 22 rfl rfl)
theorem dX4_suspend_23 : decode cX4_suspend 23 = .ok (.if_icmp .eq 7, 3) := dk_159 0 7 (dk_at dksX4_suspend_1 0 rfl rfl)
theorem dX4_suspend_26 : decode cX4_suspend 26 = .ok (.iconst 1, 1) := dk_4 (dk_at dksX4_suspend_1 3 rfl rfl)
theorem dX4_suspend_27 : decode cX4_suspend 27 = .ok (.goto 4, 3) := dk_167 0 4 (dk_at dksX4_suspend_1 4 rfl rfl)
theorem dX4_suspend_30 : decode cX4_suspend 30 = .ok (.iconst 0, 1) := dk_3 (dk_at dksX4_suspend_1 7 rfl rfl)
theorem dX4_suspend_31 : decode cX4_suspend 31 = .ok (.iconst 2, 1) := dk_5 (dk_at dksX4_suspend_1 8 rfl rfl)
theorem dX4_suspend_32 : decode cX4_suspend 32 = .ok (.invokevirtual 163, 3) := dk_182 0 163 (dk_at dksX4_suspend_1 9 rfl rfl)
theorem dX4_suspend_35 : decode cX4_suspend 35 = .ok (.ifCond .ne 5, 3) := dk_154 0 5 (dk_at dksX4_suspend_1 12 rfl rfl)
theorem dX4_suspend_38 : decode cX4_suspend 38 = .ok (.iconst 0, 1) := dk_3 (dk_at dksX4_suspend_1 15 rfl rfl)
theorem dX4_suspend_39 : decode cX4_suspend 39 = .ok (.ireturn, 1) := dk_172 (dk_at dksX4_suspend_1 16 rfl rfl)
theorem dX4_suspend_40 : decode cX4_suspend 40 = .ok (.aload_n 0, 1) := dk_42 (dk_at dksX4_suspend_1 17 rfl rfl)
theorem dX4_suspend_41 : decode cX4_suspend 41 = .ok (.invokevirtual 148, 3) := dk_182 0 148 (dk_at dksX4_suspend_1 18 rfl rfl)
theorem dX4_suspend_44 : decode cX4_suspend 44 = .ok (.aload_n 0, 1) := dk_42 (dk_at dksX4_suspend_1 21 rfl rfl)
theorem dX4_suspend_45 : decode cX4_suspend 45 = .ok (.getfield 16, 3) := dk_180 0 16 (dk_at dksX4_suspend_2 0 rfl rfl)
theorem dX4_suspend_48 : decode cX4_suspend 48 = .ok (.bipush 11, 2) := dk_16 11 (dk_at dksX4_suspend_2 3 rfl rfl)
theorem dX4_suspend_50 : decode cX4_suspend 50 = .ok (.iload_n 1, 1) := dk_27 (dk_at dksX4_suspend_2 5 rfl rfl)
theorem dX4_suspend_51 : decode cX4_suspend 51 = .ok (.iadd, 1) := dk_96 (dk_at dksX4_suspend_2 6 rfl rfl)
theorem dX4_suspend_52 : decode cX4_suspend 52 = .ok (.iaload, 1) := dk_46 (dk_at dksX4_suspend_2 7 rfl rfl)
theorem dX4_suspend_53 : decode cX4_suspend 53 = .ok (.istore_n 3, 1) := dk_62 (dk_at dksX4_suspend_2 8 rfl rfl)
theorem dX4_suspend_54 : decode cX4_suspend 54 = .ok (.aload_n 0, 1) := dk_42 (dk_at dksX4_suspend_2 9 rfl rfl)
theorem dX4_suspend_55 : decode cX4_suspend 55 = .ok (.getfield 16, 3) := dk_180 0 16 (dk_at dksX4_suspend_2 10 rfl rfl)
theorem dX4_suspend_58 : decode cX4_suspend 58 = .ok (.bipush 11, 2) := dk_16 11 (dk_at dksX4_suspend_2 13 rfl rfl)
theorem dX4_suspend_60 : decode cX4_suspend 60 = .ok (.iload_n 1, 1) := dk_27 (dk_at dksX4_suspend_2 15 rfl rfl)
theorem dX4_suspend_61 : decode cX4_suspend 61 = .ok (.iadd, 1) := dk_96 (dk_at dksX4_suspend_2 16 rfl rfl)
theorem dX4_suspend_62 : decode cX4_suspend 62 = .ok (.iload_n 2, 1) := dk_28 (dk_at dksX4_suspend_2 17 rfl rfl)
theorem dX4_suspend_63 : decode cX4_suspend 63 = .ok (.ifCond .eq 7, 3) := dk_153 0 7 (dk_at dksX4_suspend_2 18 rfl rfl)
theorem dX4_suspend_66 : decode cX4_suspend 66 = .ok (.iconst 1, 1) := dk_4 (dk_at dksX4_suspend_2 21 rfl rfl)
theorem dX4_suspend_67 : decode cX4_suspend 67 = .ok (.goto 4, 3) := dk_167 0 4 (dk_at dksX4_suspend_3 0 rfl rfl)
theorem dX4_suspend_70 : decode cX4_suspend 70 = .ok (.iconst 0, 1) := dk_3 (dk_at dksX4_suspend_3 3 rfl rfl)
theorem dX4_suspend_71 : decode cX4_suspend 71 = .ok (.iastore, 1) := dk_79 (dk_at dksX4_suspend_3 4 rfl rfl)
theorem dX4_suspend_72 : decode cX4_suspend 72 = .ok (.aload_n 0, 1) := dk_42 (dk_at dksX4_suspend_3 5 rfl rfl)
theorem dX4_suspend_73 : decode cX4_suspend 73 = .ok (.iload_n 3, 1) := dk_29 (dk_at dksX4_suspend_3 6 rfl rfl)
theorem dX4_suspend_74 : decode cX4_suspend 74 = .ok (.invokevirtual 173, 3) := dk_182 0 173 (dk_at dksX4_suspend_3 7 rfl rfl)
theorem dX4_suspend_77 : decode cX4_suspend 77 = .ok (.iconst 1, 1) := dk_4 (dk_at dksX4_suspend_3 10 rfl rfl)
theorem dX4_suspend_78 : decode cX4_suspend 78 = .ok (.if_icmp .ne 7, 3) := dk_160 0 7 (dk_at dksX4_suspend_3 11 rfl rfl)
theorem dX4_suspend_81 : decode cX4_suspend 81 = .ok (.iconst 1, 1) := dk_4 (dk_at dksX4_suspend_3 14 rfl rfl)
theorem dX4_suspend_82 : decode cX4_suspend 82 = .ok (.goto 4, 3) := dk_167 0 4 (dk_at dksX4_suspend_3 15 rfl rfl)
theorem dX4_suspend_85 : decode cX4_suspend 85 = .ok (.iconst 0, 1) := dk_3 (dk_at dksX4_suspend_3 18 rfl rfl)
theorem dX4_suspend_86 : decode cX4_suspend 86 = .ok (.ireturn, 1) := dk_172 (dk_at dksX4_suspend_3 19 rfl rfl)
abbrev cX4_count : ByteArray := prog_21_method_95_code
def yX4_count : MethodName := ⟨RX4, "count", "(I)I"⟩
def dkwX4_count_6 : List UInt8 := [172]
abbrev dktX4_count_6 : List UInt8 := dkwX4_count_6 ++ []
def dkwX4_count_5 : List UInt8 := [180, 0, 7, 16, 112, 46, 172, 27, 16, 11, 160, 0, 13, 42, 180, 0, 7, 16, 113, 46, 167, 0, 4, 2]
abbrev dktX4_count_5 : List UInt8 := dkwX4_count_5 ++ dktX4_count_6
def dkwX4_count_4 : List UInt8 := [7, 46, 172, 42, 180, 0, 16, 3, 46, 172, 42, 180, 0, 70, 172, 42, 180, 0, 7, 16, 111, 46, 172, 42]
abbrev dktX4_count_4 : List UInt8 := dkwX4_count_4 ++ dktX4_count_5
def dkwX4_count_3 : List UInt8 := [180, 0, 16, 4, 46, 172, 42, 180, 0, 16, 5, 46, 172, 42, 180, 0, 16, 6, 46, 172, 42, 180, 0, 16]
abbrev dktX4_count_3 : List UInt8 := dkwX4_count_3 ++ dktX4_count_4
def dkwX4_count_2 : List UInt8 := [42, 180, 0, 7, 3, 46, 172, 42, 180, 0, 7, 4, 46, 172, 42, 180, 0, 7, 5, 46, 172, 42]
abbrev dktX4_count_2 : List UInt8 := dkwX4_count_2 ++ dktX4_count_3
def dkwX4_count_1 : List UInt8 := [170, 0, 0, 0, 0, 135, 0, 0, 0, 0, 0, 0, 0, 10, 0, 0, 0, 58, 0, 0, 0, 65, 0, 0, 0, 72, 0, 0, 0, 79, 0, 0, 0, 86, 0, 0, 0, 93, 0, 0, 0, 100, 0, 0, 0, 107, 0, 0, 0, 114, 0, 0, 0, 119, 0, 0, 0, 127]
abbrev dktX4_count_1 : List UInt8 := dkwX4_count_1 ++ dktX4_count_2
def dkwX4_count_0 : List UInt8 := [42, 3, 181, 0, 77, 27]
abbrev dktX4_count_0 : List UInt8 := dkwX4_count_0 ++ dktX4_count_1
theorem dksX4_count_0 : cX4_count.data.toList.drop 0 = dktX4_count_0 := by decide +kernel
theorem dksX4_count_1 : cX4_count.data.toList.drop 6 = dktX4_count_1 := dk_seg dksX4_count_0 6 rfl rfl
theorem dksX4_count_2 : cX4_count.data.toList.drop 64 = dktX4_count_2 := dk_seg dksX4_count_1 58 rfl rfl
theorem dksX4_count_3 : cX4_count.data.toList.drop 86 = dktX4_count_3 := dk_seg dksX4_count_2 22 rfl rfl
theorem dksX4_count_4 : cX4_count.data.toList.drop 110 = dktX4_count_4 := dk_seg dksX4_count_3 24 rfl rfl
theorem dksX4_count_5 : cX4_count.data.toList.drop 134 = dktX4_count_5 := dk_seg dksX4_count_4 24 rfl rfl
theorem dksX4_count_6 : cX4_count.data.toList.drop 158 = dktX4_count_6 := dk_seg dksX4_count_5 24 rfl rfl
theorem dX4_count_0 : decode cX4_count 0 = .ok (.aload_n 0, 1) := dk_42 (dk_at dksX4_count_0 0 rfl rfl)
theorem dX4_count_1 : decode cX4_count 1 = .ok (.iconst 0, 1) := dk_3 (dk_at dksX4_count_0 1 rfl rfl)
theorem dX4_count_2 : decode cX4_count 2 = .ok (.putfield 77, 3) := dk_181 0 77 (dk_at dksX4_count_0 2 rfl rfl)
theorem dX4_count_5 : decode cX4_count 5 = .ok (.iload_n 1, 1) := dk_27 (dk_at dksX4_count_0 5 rfl rfl)
theorem dX4_count_6 : decode cX4_count 6 = .ok (.tableswitch 135 0 10 #[58, 65, 72, 79, 86, 93, 100, 107, 114, 119, 127], 58) := by decide +kernel
theorem dX4_count_64 : decode cX4_count 64 = .ok (.aload_n 0, 1) := dk_42 (dk_at dksX4_count_2 0 rfl rfl)
theorem dX4_count_65 : decode cX4_count 65 = .ok (.getfield 7, 3) := dk_180 0 7 (dk_at dksX4_count_2 1 rfl rfl)
theorem dX4_count_68 : decode cX4_count 68 = .ok (.iconst 0, 1) := dk_3 (dk_at dksX4_count_2 4 rfl rfl)
theorem dX4_count_69 : decode cX4_count 69 = .ok (.iaload, 1) := dk_46 (dk_at dksX4_count_2 5 rfl rfl)
theorem dX4_count_70 : decode cX4_count 70 = .ok (.ireturn, 1) := dk_172 (dk_at dksX4_count_2 6 rfl rfl)
theorem dX4_count_71 : decode cX4_count 71 = .ok (.aload_n 0, 1) := dk_42 (dk_at dksX4_count_2 7 rfl rfl)
theorem dX4_count_72 : decode cX4_count 72 = .ok (.getfield 7, 3) := dk_180 0 7 (dk_at dksX4_count_2 8 rfl rfl)
theorem dX4_count_75 : decode cX4_count 75 = .ok (.iconst 1, 1) := dk_4 (dk_at dksX4_count_2 11 rfl rfl)
theorem dX4_count_76 : decode cX4_count 76 = .ok (.iaload, 1) := dk_46 (dk_at dksX4_count_2 12 rfl rfl)
theorem dX4_count_77 : decode cX4_count 77 = .ok (.ireturn, 1) := dk_172 (dk_at dksX4_count_2 13 rfl rfl)
theorem dX4_count_78 : decode cX4_count 78 = .ok (.aload_n 0, 1) := dk_42 (dk_at dksX4_count_2 14 rfl rfl)
theorem dX4_count_79 : decode cX4_count 79 = .ok (.getfield 7, 3) := dk_180 0 7 (dk_at dksX4_count_2 15 rfl rfl)
theorem dX4_count_82 : decode cX4_count 82 = .ok (.iconst 2, 1) := dk_5 (dk_at dksX4_count_2 18 rfl rfl)
theorem dX4_count_83 : decode cX4_count 83 = .ok (.iaload, 1) := dk_46 (dk_at dksX4_count_2 19 rfl rfl)
theorem dX4_count_84 : decode cX4_count 84 = .ok (.ireturn, 1) := dk_172 (dk_at dksX4_count_2 20 rfl rfl)
theorem dX4_count_85 : decode cX4_count 85 = .ok (.aload_n 0, 1) := dk_42 (dk_at dksX4_count_2 21 rfl rfl)
theorem dX4_count_86 : decode cX4_count 86 = .ok (.getfield 16, 3) := dk_180 0 16 (dk_at dksX4_count_3 0 rfl rfl)
theorem dX4_count_89 : decode cX4_count 89 = .ok (.iconst 1, 1) := dk_4 (dk_at dksX4_count_3 3 rfl rfl)
theorem dX4_count_90 : decode cX4_count 90 = .ok (.iaload, 1) := dk_46 (dk_at dksX4_count_3 4 rfl rfl)
theorem dX4_count_91 : decode cX4_count 91 = .ok (.ireturn, 1) := dk_172 (dk_at dksX4_count_3 5 rfl rfl)
theorem dX4_count_92 : decode cX4_count 92 = .ok (.aload_n 0, 1) := dk_42 (dk_at dksX4_count_3 6 rfl rfl)
theorem dX4_count_93 : decode cX4_count 93 = .ok (.getfield 16, 3) := dk_180 0 16 (dk_at dksX4_count_3 7 rfl rfl)
theorem dX4_count_96 : decode cX4_count 96 = .ok (.iconst 2, 1) := dk_5 (dk_at dksX4_count_3 10 rfl rfl)
theorem dX4_count_97 : decode cX4_count 97 = .ok (.iaload, 1) := dk_46 (dk_at dksX4_count_3 11 rfl rfl)
theorem dX4_count_98 : decode cX4_count 98 = .ok (.ireturn, 1) := dk_172 (dk_at dksX4_count_3 12 rfl rfl)
theorem dX4_count_99 : decode cX4_count 99 = .ok (.aload_n 0, 1) := dk_42 (dk_at dksX4_count_3 13 rfl rfl)
theorem dX4_count_100 : decode cX4_count 100 = .ok (.getfield 16, 3) := dk_180 0 16 (dk_at dksX4_count_3 14 rfl rfl)
theorem dX4_count_103 : decode cX4_count 103 = .ok (.iconst 3, 1) := dk_6 (dk_at dksX4_count_3 17 rfl rfl)
theorem dX4_count_104 : decode cX4_count 104 = .ok (.iaload, 1) := dk_46 (dk_at dksX4_count_3 18 rfl rfl)
theorem dX4_count_105 : decode cX4_count 105 = .ok (.ireturn, 1) := dk_172 (dk_at dksX4_count_3 19 rfl rfl)
theorem dX4_count_106 : decode cX4_count 106 = .ok (.aload_n 0, 1) := dk_42 (dk_at dksX4_count_3 20 rfl rfl)
theorem dX4_count_107 : decode cX4_count 107 = .ok (.getfield 16, 3) := dk_180 0 16 (dk_at dksX4_count_3 21 rfl rfl)
theorem dX4_count_110 : decode cX4_count 110 = .ok (.iconst 4, 1) := dk_7 (dk_at dksX4_count_4 0 rfl rfl)
theorem dX4_count_111 : decode cX4_count 111 = .ok (.iaload, 1) := dk_46 (dk_at dksX4_count_4 1 rfl rfl)
theorem dX4_count_112 : decode cX4_count 112 = .ok (.ireturn, 1) := dk_172 (dk_at dksX4_count_4 2 rfl rfl)
theorem dX4_count_113 : decode cX4_count 113 = .ok (.aload_n 0, 1) := dk_42 (dk_at dksX4_count_4 3 rfl rfl)
theorem dX4_count_114 : decode cX4_count 114 = .ok (.getfield 16, 3) := dk_180 0 16 (dk_at dksX4_count_4 4 rfl rfl)
theorem dX4_count_117 : decode cX4_count 117 = .ok (.iconst 0, 1) := dk_3 (dk_at dksX4_count_4 7 rfl rfl)
theorem dX4_count_118 : decode cX4_count 118 = .ok (.iaload, 1) := dk_46 (dk_at dksX4_count_4 8 rfl rfl)
theorem dX4_count_119 : decode cX4_count 119 = .ok (.ireturn, 1) := dk_172 (dk_at dksX4_count_4 9 rfl rfl)
theorem dX4_count_120 : decode cX4_count 120 = .ok (.aload_n 0, 1) := dk_42 (dk_at dksX4_count_4 10 rfl rfl)
theorem dX4_count_121 : decode cX4_count 121 = .ok (.getfield 70, 3) := dk_180 0 70 (dk_at dksX4_count_4 11 rfl rfl)
theorem dX4_count_124 : decode cX4_count 124 = .ok (.ireturn, 1) := dk_172 (dk_at dksX4_count_4 14 rfl rfl)
theorem dX4_count_125 : decode cX4_count 125 = .ok (.aload_n 0, 1) := dk_42 (dk_at dksX4_count_4 15 rfl rfl)
theorem dX4_count_126 : decode cX4_count 126 = .ok (.getfield 7, 3) := dk_180 0 7 (dk_at dksX4_count_4 16 rfl rfl)
theorem dX4_count_129 : decode cX4_count 129 = .ok (.bipush 111, 2) := dk_16 111 (dk_at dksX4_count_4 19 rfl rfl)
theorem dX4_count_131 : decode cX4_count 131 = .ok (.iaload, 1) := dk_46 (dk_at dksX4_count_4 21 rfl rfl)
theorem dX4_count_132 : decode cX4_count 132 = .ok (.ireturn, 1) := dk_172 (dk_at dksX4_count_4 22 rfl rfl)
theorem dX4_count_133 : decode cX4_count 133 = .ok (.aload_n 0, 1) := dk_42 (dk_at dksX4_count_4 23 rfl rfl)
theorem dX4_count_134 : decode cX4_count 134 = .ok (.getfield 7, 3) := dk_180 0 7 (dk_at dksX4_count_5 0 rfl rfl)
theorem dX4_count_137 : decode cX4_count 137 = .ok (.bipush 112, 2) := dk_16 112 (dk_at dksX4_count_5 3 rfl rfl)
theorem dX4_count_139 : decode cX4_count 139 = .ok (.iaload, 1) := dk_46 (dk_at dksX4_count_5 5 rfl rfl)
theorem dX4_count_140 : decode cX4_count 140 = .ok (.ireturn, 1) := dk_172 (dk_at dksX4_count_5 6 rfl rfl)
theorem dX4_count_141 : decode cX4_count 141 = .ok (.iload_n 1, 1) := dk_27 (dk_at dksX4_count_5 7 rfl rfl)
theorem dX4_count_142 : decode cX4_count 142 = .ok (.bipush 11, 2) := dk_16 11 (dk_at dksX4_count_5 8 rfl rfl)
theorem dX4_count_144 : decode cX4_count 144 = .ok (.if_icmp .ne 13, 3) := dk_160 0 13 (dk_at dksX4_count_5 10 rfl rfl)
theorem dX4_count_147 : decode cX4_count 147 = .ok (.aload_n 0, 1) := dk_42 (dk_at dksX4_count_5 13 rfl rfl)
theorem dX4_count_148 : decode cX4_count 148 = .ok (.getfield 7, 3) := dk_180 0 7 (dk_at dksX4_count_5 14 rfl rfl)
theorem dX4_count_151 : decode cX4_count 151 = .ok (.bipush 113, 2) := dk_16 113 (dk_at dksX4_count_5 17 rfl rfl)
theorem dX4_count_153 : decode cX4_count 153 = .ok (.iaload, 1) := dk_46 (dk_at dksX4_count_5 19 rfl rfl)
theorem dX4_count_154 : decode cX4_count 154 = .ok (.goto 4, 3) := dk_167 0 4 (dk_at dksX4_count_5 20 rfl rfl)
theorem dX4_count_157 : decode cX4_count 157 = .ok (.iconst (-1), 1) := dk_2 (dk_at dksX4_count_5 23 rfl rfl)
theorem dX4_count_158 : decode cX4_count 158 = .ok (.ireturn, 1) := dk_172 (dk_at dksX4_count_6 0 rfl rfl)
abbrev cX4_zone : ByteArray := prog_21_method_96_code
def yX4_zone : MethodName := ⟨RX4, "zone", "(II)I"⟩
def dkwX4_zone_6 : List UInt8 := [182, 1, 23, 172]
abbrev dktX4_zone_6 : List UInt8 := dkwX4_zone_6 ++ []
def dkwX4_zone_5 : List UInt8 := [27, 4, 182, 0, 111, 172, 42, 27, 3, 182, 0, 111, 172, 42, 16, 27, 42, 180, 0, 7, 4, 46, 27]
abbrev dktX4_zone_5 : List UInt8 := dkwX4_zone_5 ++ dktX4_zone_6
def dkwX4_zone_4 : List UInt8 := [16, 15, 27, 96, 46, 172, 42, 180, 0, 7, 16, 21, 27, 96, 46, 172, 42, 27, 5, 182, 0, 111, 172, 42]
abbrev dktX4_zone_4 : List UInt8 := dkwX4_zone_4 ++ dktX4_zone_5
def dkwX4_zone_3 : List UInt8 := [42, 180, 0, 16, 8, 27, 96, 46, 172, 42, 180, 0, 7, 16, 9, 27, 96, 46, 172, 42, 180, 0, 7]
abbrev dktX4_zone_3 : List UInt8 := dkwX4_zone_3 ++ dktX4_zone_4
def dkwX4_zone_2 : List UInt8 := [170, 0, 0, 0, 101, 0, 0, 0, 0, 0, 0, 0, 6, 0, 0, 0, 41, 0, 0, 0, 50, 0, 0, 0, 60, 0, 0, 0, 70, 0, 0, 0, 80, 0, 0, 0, 87, 0, 0, 0, 94]
abbrev dktX4_zone_2 : List UInt8 := dkwX4_zone_2 ++ dktX4_zone_3
def dkwX4_zone_1 : List UInt8 := [167, 0, 4, 3, 182, 0, 90, 154, 0, 5, 3, 172, 28]
abbrev dktX4_zone_1 : List UInt8 := dkwX4_zone_1 ++ dktX4_zone_2
def dkwX4_zone_0 : List UInt8 := [42, 42, 27, 182, 0, 181, 153, 0, 19, 28, 133, 9, 20, 0, 179, 184, 0, 144, 153, 0, 7, 4]
abbrev dktX4_zone_0 : List UInt8 := dkwX4_zone_0 ++ dktX4_zone_1
theorem dksX4_zone_0 : cX4_zone.data.toList.drop 0 = dktX4_zone_0 := by decide +kernel
theorem dksX4_zone_1 : cX4_zone.data.toList.drop 22 = dktX4_zone_1 := dk_seg dksX4_zone_0 22 rfl rfl
theorem dksX4_zone_2 : cX4_zone.data.toList.drop 35 = dktX4_zone_2 := dk_seg dksX4_zone_1 13 rfl rfl
theorem dksX4_zone_3 : cX4_zone.data.toList.drop 76 = dktX4_zone_3 := dk_seg dksX4_zone_2 41 rfl rfl
theorem dksX4_zone_4 : cX4_zone.data.toList.drop 99 = dktX4_zone_4 := dk_seg dksX4_zone_3 23 rfl rfl
theorem dksX4_zone_5 : cX4_zone.data.toList.drop 123 = dktX4_zone_5 := dk_seg dksX4_zone_4 24 rfl rfl
theorem dksX4_zone_6 : cX4_zone.data.toList.drop 146 = dktX4_zone_6 := dk_seg dksX4_zone_5 23 rfl rfl
theorem dX4_zone_0 : decode cX4_zone 0 = .ok (.aload_n 0, 1) := dk_42 (dk_at dksX4_zone_0 0 rfl rfl)
theorem dX4_zone_1 : decode cX4_zone 1 = .ok (.aload_n 0, 1) := dk_42 (dk_at dksX4_zone_0 1 rfl rfl)
theorem dX4_zone_2 : decode cX4_zone 2 = .ok (.iload_n 1, 1) := dk_27 (dk_at dksX4_zone_0 2 rfl rfl)
theorem dX4_zone_3 : decode cX4_zone 3 = .ok (.invokevirtual 181, 3) := dk_182 0 181 (dk_at dksX4_zone_0 3 rfl rfl)
theorem dX4_zone_6 : decode cX4_zone 6 = .ok (.ifCond .eq 19, 3) := dk_153 0 19 (dk_at dksX4_zone_0 6 rfl rfl)
theorem dX4_zone_9 : decode cX4_zone 9 = .ok (.iload_n 2, 1) := dk_28 (dk_at dksX4_zone_0 9 rfl rfl)
theorem dX4_zone_10 : decode cX4_zone 10 = .ok (.i2l, 1) := dk_133 (dk_at dksX4_zone_0 10 rfl rfl)
theorem dX4_zone_11 : decode cX4_zone 11 = .ok (.lconst 0, 1) := dk_9 (dk_at dksX4_zone_0 11 rfl rfl)
theorem dX4_zone_12 : decode cX4_zone 12 = .ok (.ldc2_w 179, 3) := dk_20 0 179 (dk_at dksX4_zone_0 12 rfl rfl)
theorem dX4_zone_15 : decode cX4_zone 15 = .ok (.invokestatic 144, 3) := dk_184 0 144 (dk_at dksX4_zone_0 15 rfl rfl)
theorem dX4_zone_18 : decode cX4_zone 18 = .ok (.ifCond .eq 7, 3) := dk_153 0 7 (dk_at dksX4_zone_0 18 rfl rfl)
theorem dX4_zone_21 : decode cX4_zone 21 = .ok (.iconst 1, 1) := dk_4 (dk_at dksX4_zone_0 21 rfl rfl)
theorem dX4_zone_22 : decode cX4_zone 22 = .ok (.goto 4, 3) := dk_167 0 4 (dk_at dksX4_zone_1 0 rfl rfl)
theorem dX4_zone_25 : decode cX4_zone 25 = .ok (.iconst 0, 1) := dk_3 (dk_at dksX4_zone_1 3 rfl rfl)
theorem dX4_zone_26 : decode cX4_zone 26 = .ok (.invokevirtual 90, 3) := dk_182 0 90 (dk_at dksX4_zone_1 4 rfl rfl)
theorem dX4_zone_29 : decode cX4_zone 29 = .ok (.ifCond .ne 5, 3) := dk_154 0 5 (dk_at dksX4_zone_1 7 rfl rfl)
theorem dX4_zone_32 : decode cX4_zone 32 = .ok (.iconst 0, 1) := dk_3 (dk_at dksX4_zone_1 10 rfl rfl)
theorem dX4_zone_33 : decode cX4_zone 33 = .ok (.ireturn, 1) := dk_172 (dk_at dksX4_zone_1 11 rfl rfl)
theorem dX4_zone_34 : decode cX4_zone 34 = .ok (.iload_n 2, 1) := dk_28 (dk_at dksX4_zone_1 12 rfl rfl)
theorem dX4_zone_35 : decode cX4_zone 35 = .ok (.tableswitch 101 0 6 #[41, 50, 60, 70, 80, 87, 94], 41) := by decide +kernel
theorem dX4_zone_76 : decode cX4_zone 76 = .ok (.aload_n 0, 1) := dk_42 (dk_at dksX4_zone_3 0 rfl rfl)
theorem dX4_zone_77 : decode cX4_zone 77 = .ok (.getfield 16, 3) := dk_180 0 16 (dk_at dksX4_zone_3 1 rfl rfl)
theorem dX4_zone_80 : decode cX4_zone 80 = .ok (.iconst 5, 1) := dk_8 (dk_at dksX4_zone_3 4 rfl rfl)
theorem dX4_zone_81 : decode cX4_zone 81 = .ok (.iload_n 1, 1) := dk_27 (dk_at dksX4_zone_3 5 rfl rfl)
theorem dX4_zone_82 : decode cX4_zone 82 = .ok (.iadd, 1) := dk_96 (dk_at dksX4_zone_3 6 rfl rfl)
theorem dX4_zone_83 : decode cX4_zone 83 = .ok (.iaload, 1) := dk_46 (dk_at dksX4_zone_3 7 rfl rfl)
theorem dX4_zone_84 : decode cX4_zone 84 = .ok (.ireturn, 1) := dk_172 (dk_at dksX4_zone_3 8 rfl rfl)
theorem dX4_zone_85 : decode cX4_zone 85 = .ok (.aload_n 0, 1) := dk_42 (dk_at dksX4_zone_3 9 rfl rfl)
theorem dX4_zone_86 : decode cX4_zone 86 = .ok (.getfield 7, 3) := dk_180 0 7 (dk_at dksX4_zone_3 10 rfl rfl)
theorem dX4_zone_89 : decode cX4_zone 89 = .ok (.bipush 9, 2) := dk_16 9 (dk_at dksX4_zone_3 13 rfl rfl)
theorem dX4_zone_91 : decode cX4_zone 91 = .ok (.iload_n 1, 1) := dk_27 (dk_at dksX4_zone_3 15 rfl rfl)
theorem dX4_zone_92 : decode cX4_zone 92 = .ok (.iadd, 1) := dk_96 (dk_at dksX4_zone_3 16 rfl rfl)
theorem dX4_zone_93 : decode cX4_zone 93 = .ok (.iaload, 1) := dk_46 (dk_at dksX4_zone_3 17 rfl rfl)
theorem dX4_zone_94 : decode cX4_zone 94 = .ok (.ireturn, 1) := dk_172 (dk_at dksX4_zone_3 18 rfl rfl)
theorem dX4_zone_95 : decode cX4_zone 95 = .ok (.aload_n 0, 1) := dk_42 (dk_at dksX4_zone_3 19 rfl rfl)
theorem dX4_zone_96 : decode cX4_zone 96 = .ok (.getfield 7, 3) := dk_180 0 7 (dk_at dksX4_zone_3 20 rfl rfl)
theorem dX4_zone_99 : decode cX4_zone 99 = .ok (.bipush 15, 2) := dk_16 15 (dk_at dksX4_zone_4 0 rfl rfl)
theorem dX4_zone_101 : decode cX4_zone 101 = .ok (.iload_n 1, 1) := dk_27 (dk_at dksX4_zone_4 2 rfl rfl)
theorem dX4_zone_102 : decode cX4_zone 102 = .ok (.iadd, 1) := dk_96 (dk_at dksX4_zone_4 3 rfl rfl)
theorem dX4_zone_103 : decode cX4_zone 103 = .ok (.iaload, 1) := dk_46 (dk_at dksX4_zone_4 4 rfl rfl)
theorem dX4_zone_104 : decode cX4_zone 104 = .ok (.ireturn, 1) := dk_172 (dk_at dksX4_zone_4 5 rfl rfl)
theorem dX4_zone_105 : decode cX4_zone 105 = .ok (.aload_n 0, 1) := dk_42 (dk_at dksX4_zone_4 6 rfl rfl)
theorem dX4_zone_106 : decode cX4_zone 106 = .ok (.getfield 7, 3) := dk_180 0 7 (dk_at dksX4_zone_4 7 rfl rfl)
theorem dX4_zone_109 : decode cX4_zone 109 = .ok (.bipush 21, 2) := dk_16 21 (dk_at dksX4_zone_4 10 rfl rfl)
theorem dX4_zone_111 : decode cX4_zone 111 = .ok (.iload_n 1, 1) := dk_27 (dk_at dksX4_zone_4 12 rfl rfl)
theorem dX4_zone_112 : decode cX4_zone 112 = .ok (.iadd, 1) := dk_96 (dk_at dksX4_zone_4 13 rfl rfl)
theorem dX4_zone_113 : decode cX4_zone 113 = .ok (.iaload, 1) := dk_46 (dk_at dksX4_zone_4 14 rfl rfl)
theorem dX4_zone_114 : decode cX4_zone 114 = .ok (.ireturn, 1) := dk_172 (dk_at dksX4_zone_4 15 rfl rfl)
theorem dX4_zone_115 : decode cX4_zone 115 = .ok (.aload_n 0, 1) := dk_42 (dk_at dksX4_zone_4 16 rfl rfl)
theorem dX4_zone_116 : decode cX4_zone 116 = .ok (.iload_n 1, 1) := dk_27 (dk_at dksX4_zone_4 17 rfl rfl)
theorem dX4_zone_117 : decode cX4_zone 117 = .ok (.iconst 2, 1) := dk_5 (dk_at dksX4_zone_4 18 rfl rfl)
theorem dX4_zone_118 : decode cX4_zone 118 = .ok (.invokevirtual 111, 3) := dk_182 0 111 (dk_at dksX4_zone_4 19 rfl rfl)
theorem dX4_zone_121 : decode cX4_zone 121 = .ok (.ireturn, 1) := dk_172 (dk_at dksX4_zone_4 22 rfl rfl)
theorem dX4_zone_122 : decode cX4_zone 122 = .ok (.aload_n 0, 1) := dk_42 (dk_at dksX4_zone_4 23 rfl rfl)
theorem dX4_zone_123 : decode cX4_zone 123 = .ok (.iload_n 1, 1) := dk_27 (dk_at dksX4_zone_5 0 rfl rfl)
theorem dX4_zone_124 : decode cX4_zone 124 = .ok (.iconst 1, 1) := dk_4 (dk_at dksX4_zone_5 1 rfl rfl)
theorem dX4_zone_125 : decode cX4_zone 125 = .ok (.invokevirtual 111, 3) := dk_182 0 111 (dk_at dksX4_zone_5 2 rfl rfl)
theorem dX4_zone_128 : decode cX4_zone 128 = .ok (.ireturn, 1) := dk_172 (dk_at dksX4_zone_5 5 rfl rfl)
theorem dX4_zone_129 : decode cX4_zone 129 = .ok (.aload_n 0, 1) := dk_42 (dk_at dksX4_zone_5 6 rfl rfl)
theorem dX4_zone_130 : decode cX4_zone 130 = .ok (.iload_n 1, 1) := dk_27 (dk_at dksX4_zone_5 7 rfl rfl)
theorem dX4_zone_131 : decode cX4_zone 131 = .ok (.iconst 0, 1) := dk_3 (dk_at dksX4_zone_5 8 rfl rfl)
theorem dX4_zone_132 : decode cX4_zone 132 = .ok (.invokevirtual 111, 3) := dk_182 0 111 (dk_at dksX4_zone_5 9 rfl rfl)
theorem dX4_zone_135 : decode cX4_zone 135 = .ok (.ireturn, 1) := dk_172 (dk_at dksX4_zone_5 12 rfl rfl)
theorem dX4_zone_136 : decode cX4_zone 136 = .ok (.aload_n 0, 1) := dk_42 (dk_at dksX4_zone_5 13 rfl rfl)
theorem dX4_zone_137 : decode cX4_zone 137 = .ok (.bipush 27, 2) := dk_16 27 (dk_at dksX4_zone_5 14 rfl rfl)
theorem dX4_zone_139 : decode cX4_zone 139 = .ok (.aload_n 0, 1) := dk_42 (dk_at dksX4_zone_5 16 rfl rfl)
theorem dX4_zone_140 : decode cX4_zone 140 = .ok (.getfield 7, 3) := dk_180 0 7 (dk_at dksX4_zone_5 17 rfl rfl)
theorem dX4_zone_143 : decode cX4_zone 143 = .ok (.iconst 1, 1) := dk_4 (dk_at dksX4_zone_5 20 rfl rfl)
theorem dX4_zone_144 : decode cX4_zone 144 = .ok (.iaload, 1) := dk_46 (dk_at dksX4_zone_5 21 rfl rfl)
theorem dX4_zone_145 : decode cX4_zone 145 = .ok (.iload_n 1, 1) := dk_27 (dk_at dksX4_zone_5 22 rfl rfl)
theorem dX4_zone_146 : decode cX4_zone 146 = .ok (.invokevirtual 279, 3) := dk_182 1 23 (dk_at dksX4_zone_6 0 rfl rfl)
theorem dX4_zone_149 : decode cX4_zone 149 = .ok (.ireturn, 1) := dk_172 (dk_at dksX4_zone_6 3 rfl rfl)
abbrev cX4_counts : ByteArray := prog_21_method_97_code
def yX4_counts : MethodName := ⟨RX4, "counts", "(III)I"⟩
def dkwX4_counts_1 : List UInt8 := [160, 0, 9, 21, 4, 4, 96, 54, 4, 132, 5, 1, 167, 255, 228, 21, 4, 172]
abbrev dktX4_counts_1 : List UInt8 := dkwX4_counts_1 ++ []
def dkwX4_counts_0 : List UInt8 := [3, 54, 4, 3, 54, 5, 21, 5, 28, 162, 0, 28, 42, 180, 0, 7, 27, 21, 5, 96, 46, 29]
abbrev dktX4_counts_0 : List UInt8 := dkwX4_counts_0 ++ dktX4_counts_1
theorem dksX4_counts_0 : cX4_counts.data.toList.drop 0 = dktX4_counts_0 := by decide +kernel
theorem dksX4_counts_1 : cX4_counts.data.toList.drop 22 = dktX4_counts_1 := dk_seg dksX4_counts_0 22 rfl rfl
theorem dX4_counts_0 : decode cX4_counts 0 = .ok (.iconst 0, 1) := dk_3 (dk_at dksX4_counts_0 0 rfl rfl)
theorem dX4_counts_1 : decode cX4_counts 1 = .ok (.istore 4, 2) := dk_54 4 (dk_at dksX4_counts_0 1 rfl rfl)
theorem dX4_counts_3 : decode cX4_counts 3 = .ok (.iconst 0, 1) := dk_3 (dk_at dksX4_counts_0 3 rfl rfl)
theorem dX4_counts_4 : decode cX4_counts 4 = .ok (.istore 5, 2) := dk_54 5 (dk_at dksX4_counts_0 4 rfl rfl)
theorem dX4_counts_6 : decode cX4_counts 6 = .ok (.iload 5, 2) := dk_21 5 (dk_at dksX4_counts_0 6 rfl rfl)
theorem dX4_counts_8 : decode cX4_counts 8 = .ok (.iload_n 2, 1) := dk_28 (dk_at dksX4_counts_0 8 rfl rfl)
theorem dX4_counts_9 : decode cX4_counts 9 = .ok (.if_icmp .ge 28, 3) := dk_162 0 28 (dk_at dksX4_counts_0 9 rfl rfl)
theorem dX4_counts_12 : decode cX4_counts 12 = .ok (.aload_n 0, 1) := dk_42 (dk_at dksX4_counts_0 12 rfl rfl)
theorem dX4_counts_13 : decode cX4_counts 13 = .ok (.getfield 7, 3) := dk_180 0 7 (dk_at dksX4_counts_0 13 rfl rfl)
theorem dX4_counts_16 : decode cX4_counts 16 = .ok (.iload_n 1, 1) := dk_27 (dk_at dksX4_counts_0 16 rfl rfl)
theorem dX4_counts_17 : decode cX4_counts 17 = .ok (.iload 5, 2) := dk_21 5 (dk_at dksX4_counts_0 17 rfl rfl)
theorem dX4_counts_19 : decode cX4_counts 19 = .ok (.iadd, 1) := dk_96 (dk_at dksX4_counts_0 19 rfl rfl)
theorem dX4_counts_20 : decode cX4_counts 20 = .ok (.iaload, 1) := dk_46 (dk_at dksX4_counts_0 20 rfl rfl)
theorem dX4_counts_21 : decode cX4_counts 21 = .ok (.iload_n 3, 1) := dk_29 (dk_at dksX4_counts_0 21 rfl rfl)
theorem dX4_counts_22 : decode cX4_counts 22 = .ok (.if_icmp .ne 9, 3) := dk_160 0 9 (dk_at dksX4_counts_1 0 rfl rfl)
theorem dX4_counts_25 : decode cX4_counts 25 = .ok (.iload 4, 2) := dk_21 4 (dk_at dksX4_counts_1 3 rfl rfl)
theorem dX4_counts_27 : decode cX4_counts 27 = .ok (.iconst 1, 1) := dk_4 (dk_at dksX4_counts_1 5 rfl rfl)
theorem dX4_counts_28 : decode cX4_counts 28 = .ok (.iadd, 1) := dk_96 (dk_at dksX4_counts_1 6 rfl rfl)
theorem dX4_counts_29 : decode cX4_counts 29 = .ok (.istore 4, 2) := dk_54 4 (dk_at dksX4_counts_1 7 rfl rfl)
theorem dX4_counts_31 : decode cX4_counts 31 = .ok (.iinc 5 1, 3) := dk_132 5 1 (dk_at dksX4_counts_1 9 rfl rfl)
theorem dX4_counts_34 : decode cX4_counts 34 = .ok (.goto (-28), 3) := dk_167 255 228 (dk_at dksX4_counts_1 12 rfl rfl)
theorem dX4_counts_37 : decode cX4_counts 37 = .ok (.iload 4, 2) := dk_21 4 (dk_at dksX4_counts_1 15 rfl rfl)
theorem dX4_counts_39 : decode cX4_counts 39 = .ok (.ireturn, 1) := dk_172 (dk_at dksX4_counts_1 17 rfl rfl)
abbrev cX4_street : ByteArray := prog_21_method_98_code
def yX4_street : MethodName := ⟨RX4, "street", "(II)I"⟩
def dkwX4_street_5 : List UInt8 := [180, 0, 7, 5, 46, 27, 182, 1, 23, 172]
abbrev dktX4_street_5 : List UInt8 := dkwX4_street_5 ++ []
def dkwX4_street_4 : List UInt8 := [46, 172, 42, 180, 0, 16, 16, 11, 27, 96, 46, 172, 42, 27, 182, 0, 215, 172, 42, 16, 63, 42]
abbrev dktX4_street_4 : List UInt8 := dkwX4_street_4 ++ dktX4_street_5
def dkwX4_street_3 : List UInt8 := [42, 27, 182, 0, 98, 172, 42, 180, 0, 7, 16, 39, 27, 96, 46, 172, 42, 180, 0, 7, 16, 51, 27, 96]
abbrev dktX4_street_3 : List UInt8 := dkwX4_street_3 ++ dktX4_street_4
def dkwX4_street_2 : List UInt8 := [170, 0, 0, 0, 75, 0, 0, 0, 0, 0, 0, 0, 4, 0, 0, 0, 33, 0, 0, 0, 39, 0, 0, 0, 49, 0, 0, 0, 59, 0, 0, 0, 69]
abbrev dktX4_street_2 : List UInt8 := dkwX4_street_2 ++ dktX4_street_3
def dkwX4_street_1 : List UInt8 := [167, 0, 4, 3, 182, 0, 90, 154, 0, 5, 3, 172, 28]
abbrev dktX4_street_1 : List UInt8 := dkwX4_street_1 ++ dktX4_street_2
def dkwX4_street_0 : List UInt8 := [42, 42, 27, 182, 0, 218, 153, 0, 19, 28, 133, 9, 20, 1, 9, 184, 0, 144, 153, 0, 7, 4]
abbrev dktX4_street_0 : List UInt8 := dkwX4_street_0 ++ dktX4_street_1
theorem dksX4_street_0 : cX4_street.data.toList.drop 0 = dktX4_street_0 := by decide +kernel
theorem dksX4_street_1 : cX4_street.data.toList.drop 22 = dktX4_street_1 := dk_seg dksX4_street_0 22 rfl rfl
theorem dksX4_street_2 : cX4_street.data.toList.drop 35 = dktX4_street_2 := dk_seg dksX4_street_1 13 rfl rfl
theorem dksX4_street_3 : cX4_street.data.toList.drop 68 = dktX4_street_3 := dk_seg dksX4_street_2 33 rfl rfl
theorem dksX4_street_4 : cX4_street.data.toList.drop 92 = dktX4_street_4 := dk_seg dksX4_street_3 24 rfl rfl
theorem dksX4_street_5 : cX4_street.data.toList.drop 114 = dktX4_street_5 := dk_seg dksX4_street_4 22 rfl rfl
theorem dX4_street_0 : decode cX4_street 0 = .ok (.aload_n 0, 1) := dk_42 (dk_at dksX4_street_0 0 rfl rfl)
theorem dX4_street_1 : decode cX4_street 1 = .ok (.aload_n 0, 1) := dk_42 (dk_at dksX4_street_0 1 rfl rfl)
theorem dX4_street_2 : decode cX4_street 2 = .ok (.iload_n 1, 1) := dk_27 (dk_at dksX4_street_0 2 rfl rfl)
theorem dX4_street_3 : decode cX4_street 3 = .ok (.invokevirtual 218, 3) := dk_182 0 218 (dk_at dksX4_street_0 3 rfl rfl)
theorem dX4_street_6 : decode cX4_street 6 = .ok (.ifCond .eq 19, 3) := dk_153 0 19 (dk_at dksX4_street_0 6 rfl rfl)
theorem dX4_street_9 : decode cX4_street 9 = .ok (.iload_n 2, 1) := dk_28 (dk_at dksX4_street_0 9 rfl rfl)
theorem dX4_street_10 : decode cX4_street 10 = .ok (.i2l, 1) := dk_133 (dk_at dksX4_street_0 10 rfl rfl)
theorem dX4_street_11 : decode cX4_street 11 = .ok (.lconst 0, 1) := dk_9 (dk_at dksX4_street_0 11 rfl rfl)
theorem dX4_street_12 : decode cX4_street 12 = .ok (.ldc2_w 265, 3) := dk_20 1 9 (dk_at dksX4_street_0 12 rfl rfl)
theorem dX4_street_15 : decode cX4_street 15 = .ok (.invokestatic 144, 3) := dk_184 0 144 (dk_at dksX4_street_0 15 rfl rfl)
theorem dX4_street_18 : decode cX4_street 18 = .ok (.ifCond .eq 7, 3) := dk_153 0 7 (dk_at dksX4_street_0 18 rfl rfl)
theorem dX4_street_21 : decode cX4_street 21 = .ok (.iconst 1, 1) := dk_4 (dk_at dksX4_street_0 21 rfl rfl)
theorem dX4_street_22 : decode cX4_street 22 = .ok (.goto 4, 3) := dk_167 0 4 (dk_at dksX4_street_1 0 rfl rfl)
theorem dX4_street_25 : decode cX4_street 25 = .ok (.iconst 0, 1) := dk_3 (dk_at dksX4_street_1 3 rfl rfl)
theorem dX4_street_26 : decode cX4_street 26 = .ok (.invokevirtual 90, 3) := dk_182 0 90 (dk_at dksX4_street_1 4 rfl rfl)
theorem dX4_street_29 : decode cX4_street 29 = .ok (.ifCond .ne 5, 3) := dk_154 0 5 (dk_at dksX4_street_1 7 rfl rfl)
theorem dX4_street_32 : decode cX4_street 32 = .ok (.iconst 0, 1) := dk_3 (dk_at dksX4_street_1 10 rfl rfl)
theorem dX4_street_33 : decode cX4_street 33 = .ok (.ireturn, 1) := dk_172 (dk_at dksX4_street_1 11 rfl rfl)
theorem dX4_street_34 : decode cX4_street 34 = .ok (.iload_n 2, 1) := dk_28 (dk_at dksX4_street_1 12 rfl rfl)
theorem dX4_street_35 : decode cX4_street 35 = .ok (.tableswitch 75 0 4 #[33, 39, 49, 59, 69], 33) := by decide +kernel
theorem dX4_street_68 : decode cX4_street 68 = .ok (.aload_n 0, 1) := dk_42 (dk_at dksX4_street_3 0 rfl rfl)
theorem dX4_street_69 : decode cX4_street 69 = .ok (.iload_n 1, 1) := dk_27 (dk_at dksX4_street_3 1 rfl rfl)
theorem dX4_street_70 : decode cX4_street 70 = .ok (.invokevirtual 98, 3) := dk_182 0 98 (dk_at dksX4_street_3 2 rfl rfl)
theorem dX4_street_73 : decode cX4_street 73 = .ok (.ireturn, 1) := dk_172 (dk_at dksX4_street_3 5 rfl rfl)
theorem dX4_street_74 : decode cX4_street 74 = .ok (.aload_n 0, 1) := dk_42 (dk_at dksX4_street_3 6 rfl rfl)
theorem dX4_street_75 : decode cX4_street 75 = .ok (.getfield 7, 3) := dk_180 0 7 (dk_at dksX4_street_3 7 rfl rfl)
theorem dX4_street_78 : decode cX4_street 78 = .ok (.bipush 39, 2) := dk_16 39 (dk_at dksX4_street_3 10 rfl rfl)
theorem dX4_street_80 : decode cX4_street 80 = .ok (.iload_n 1, 1) := dk_27 (dk_at dksX4_street_3 12 rfl rfl)
theorem dX4_street_81 : decode cX4_street 81 = .ok (.iadd, 1) := dk_96 (dk_at dksX4_street_3 13 rfl rfl)
theorem dX4_street_82 : decode cX4_street 82 = .ok (.iaload, 1) := dk_46 (dk_at dksX4_street_3 14 rfl rfl)
theorem dX4_street_83 : decode cX4_street 83 = .ok (.ireturn, 1) := dk_172 (dk_at dksX4_street_3 15 rfl rfl)
theorem dX4_street_84 : decode cX4_street 84 = .ok (.aload_n 0, 1) := dk_42 (dk_at dksX4_street_3 16 rfl rfl)
theorem dX4_street_85 : decode cX4_street 85 = .ok (.getfield 7, 3) := dk_180 0 7 (dk_at dksX4_street_3 17 rfl rfl)
theorem dX4_street_88 : decode cX4_street 88 = .ok (.bipush 51, 2) := dk_16 51 (dk_at dksX4_street_3 20 rfl rfl)
theorem dX4_street_90 : decode cX4_street 90 = .ok (.iload_n 1, 1) := dk_27 (dk_at dksX4_street_3 22 rfl rfl)
theorem dX4_street_91 : decode cX4_street 91 = .ok (.iadd, 1) := dk_96 (dk_at dksX4_street_3 23 rfl rfl)
theorem dX4_street_92 : decode cX4_street 92 = .ok (.iaload, 1) := dk_46 (dk_at dksX4_street_4 0 rfl rfl)
theorem dX4_street_93 : decode cX4_street 93 = .ok (.ireturn, 1) := dk_172 (dk_at dksX4_street_4 1 rfl rfl)
theorem dX4_street_94 : decode cX4_street 94 = .ok (.aload_n 0, 1) := dk_42 (dk_at dksX4_street_4 2 rfl rfl)
theorem dX4_street_95 : decode cX4_street 95 = .ok (.getfield 16, 3) := dk_180 0 16 (dk_at dksX4_street_4 3 rfl rfl)
theorem dX4_street_98 : decode cX4_street 98 = .ok (.bipush 11, 2) := dk_16 11 (dk_at dksX4_street_4 6 rfl rfl)
theorem dX4_street_100 : decode cX4_street 100 = .ok (.iload_n 1, 1) := dk_27 (dk_at dksX4_street_4 8 rfl rfl)
theorem dX4_street_101 : decode cX4_street 101 = .ok (.iadd, 1) := dk_96 (dk_at dksX4_street_4 9 rfl rfl)
theorem dX4_street_102 : decode cX4_street 102 = .ok (.iaload, 1) := dk_46 (dk_at dksX4_street_4 10 rfl rfl)
theorem dX4_street_103 : decode cX4_street 103 = .ok (.ireturn, 1) := dk_172 (dk_at dksX4_street_4 11 rfl rfl)
theorem dX4_street_104 : decode cX4_street 104 = .ok (.aload_n 0, 1) := dk_42 (dk_at dksX4_street_4 12 rfl rfl)
theorem dX4_street_105 : decode cX4_street 105 = .ok (.iload_n 1, 1) := dk_27 (dk_at dksX4_street_4 13 rfl rfl)
theorem dX4_street_106 : decode cX4_street 106 = .ok (.invokevirtual 215, 3) := dk_182 0 215 (dk_at dksX4_street_4 14 rfl rfl)
theorem dX4_street_109 : decode cX4_street 109 = .ok (.ireturn, 1) := dk_172 (dk_at dksX4_street_4 17 rfl rfl)
theorem dX4_street_110 : decode cX4_street 110 = .ok (.aload_n 0, 1) := dk_42 (dk_at dksX4_street_4 18 rfl rfl)
theorem dX4_street_111 : decode cX4_street 111 = .ok (.bipush 63, 2) := dk_16 63 (dk_at dksX4_street_4 19 rfl rfl)
theorem dX4_street_113 : decode cX4_street 113 = .ok (.aload_n 0, 1) := dk_42 (dk_at dksX4_street_4 21 rfl rfl)
theorem dX4_street_114 : decode cX4_street 114 = .ok (.getfield 7, 3) := dk_180 0 7 (dk_at dksX4_street_5 0 rfl rfl)
theorem dX4_street_117 : decode cX4_street 117 = .ok (.iconst 2, 1) := dk_5 (dk_at dksX4_street_5 3 rfl rfl)
theorem dX4_street_118 : decode cX4_street 118 = .ok (.iaload, 1) := dk_46 (dk_at dksX4_street_5 4 rfl rfl)
theorem dX4_street_119 : decode cX4_street 119 = .ok (.iload_n 1, 1) := dk_27 (dk_at dksX4_street_5 5 rfl rfl)
theorem dX4_street_120 : decode cX4_street 120 = .ok (.invokevirtual 279, 3) := dk_182 1 23 (dk_at dksX4_street_5 6 rfl rfl)
theorem dX4_street_123 : decode cX4_street 123 = .ok (.ireturn, 1) := dk_172 (dk_at dksX4_street_5 9 rfl rfl)
abbrev cX4_house : ByteArray := prog_21_method_99_code
def yX4_house : MethodName := ⟨RX4, "house", "(II)I"⟩
def dkwX4_house_5 : List UInt8 := [182, 0, 167, 172, 42, 27, 182, 0, 118, 172, 42, 27, 182, 0, 198, 172]
abbrev dktX4_house_5 : List UInt8 := dkwX4_house_5 ++ []
def dkwX4_house_4 : List UInt8 := [46, 172, 42, 180, 0, 7, 16, 95, 27, 96, 46, 172, 42, 180, 0, 16, 16, 23, 27, 96, 46, 172, 42, 27]
abbrev dktX4_house_4 : List UInt8 := dkwX4_house_4 ++ dktX4_house_5
def dkwX4_house_3 : List UInt8 := [42, 180, 0, 7, 16, 63, 27, 96, 46, 172, 42, 27, 182, 0, 105, 172, 42, 180, 0, 7, 16, 79, 27, 96]
abbrev dktX4_house_3 : List UInt8 := dkwX4_house_3 ++ dktX4_house_4
def dkwX4_house_2 : List UInt8 := [170, 0, 0, 0, 99, 0, 0, 0, 0, 0, 0, 0, 6, 0, 0, 0, 41, 0, 0, 0, 51, 0, 0, 0, 57, 0, 0, 0, 67, 0, 0, 0, 77, 0, 0, 0, 87, 0, 0, 0, 93]
abbrev dktX4_house_2 : List UInt8 := dkwX4_house_2 ++ dktX4_house_3
def dkwX4_house_1 : List UInt8 := [167, 0, 4, 3, 182, 0, 90, 154, 0, 5, 3, 172, 28]
abbrev dktX4_house_1 : List UInt8 := dkwX4_house_1 ++ dktX4_house_2
def dkwX4_house_0 : List UInt8 := [42, 42, 27, 182, 0, 157, 153, 0, 19, 28, 133, 9, 20, 0, 179, 184, 0, 144, 153, 0, 7, 4]
abbrev dktX4_house_0 : List UInt8 := dkwX4_house_0 ++ dktX4_house_1
theorem dksX4_house_0 : cX4_house.data.toList.drop 0 = dktX4_house_0 := by decide +kernel
theorem dksX4_house_1 : cX4_house.data.toList.drop 22 = dktX4_house_1 := dk_seg dksX4_house_0 22 rfl rfl
theorem dksX4_house_2 : cX4_house.data.toList.drop 35 = dktX4_house_2 := dk_seg dksX4_house_1 13 rfl rfl
theorem dksX4_house_3 : cX4_house.data.toList.drop 76 = dktX4_house_3 := dk_seg dksX4_house_2 41 rfl rfl
theorem dksX4_house_4 : cX4_house.data.toList.drop 100 = dktX4_house_4 := dk_seg dksX4_house_3 24 rfl rfl
theorem dksX4_house_5 : cX4_house.data.toList.drop 124 = dktX4_house_5 := dk_seg dksX4_house_4 24 rfl rfl
theorem dX4_house_0 : decode cX4_house 0 = .ok (.aload_n 0, 1) := dk_42 (dk_at dksX4_house_0 0 rfl rfl)
theorem dX4_house_1 : decode cX4_house 1 = .ok (.aload_n 0, 1) := dk_42 (dk_at dksX4_house_0 1 rfl rfl)
theorem dX4_house_2 : decode cX4_house 2 = .ok (.iload_n 1, 1) := dk_27 (dk_at dksX4_house_0 2 rfl rfl)
theorem dX4_house_3 : decode cX4_house 3 = .ok (.invokevirtual 157, 3) := dk_182 0 157 (dk_at dksX4_house_0 3 rfl rfl)
theorem dX4_house_6 : decode cX4_house 6 = .ok (.ifCond .eq 19, 3) := dk_153 0 19 (dk_at dksX4_house_0 6 rfl rfl)
theorem dX4_house_9 : decode cX4_house 9 = .ok (.iload_n 2, 1) := dk_28 (dk_at dksX4_house_0 9 rfl rfl)
theorem dX4_house_10 : decode cX4_house 10 = .ok (.i2l, 1) := dk_133 (dk_at dksX4_house_0 10 rfl rfl)
theorem dX4_house_11 : decode cX4_house 11 = .ok (.lconst 0, 1) := dk_9 (dk_at dksX4_house_0 11 rfl rfl)
theorem dX4_house_12 : decode cX4_house 12 = .ok (.ldc2_w 179, 3) := dk_20 0 179 (dk_at dksX4_house_0 12 rfl rfl)
theorem dX4_house_15 : decode cX4_house 15 = .ok (.invokestatic 144, 3) := dk_184 0 144 (dk_at dksX4_house_0 15 rfl rfl)
theorem dX4_house_18 : decode cX4_house 18 = .ok (.ifCond .eq 7, 3) := dk_153 0 7 (dk_at dksX4_house_0 18 rfl rfl)
theorem dX4_house_21 : decode cX4_house 21 = .ok (.iconst 1, 1) := dk_4 (dk_at dksX4_house_0 21 rfl rfl)
theorem dX4_house_22 : decode cX4_house 22 = .ok (.goto 4, 3) := dk_167 0 4 (dk_at dksX4_house_1 0 rfl rfl)
theorem dX4_house_25 : decode cX4_house 25 = .ok (.iconst 0, 1) := dk_3 (dk_at dksX4_house_1 3 rfl rfl)
theorem dX4_house_26 : decode cX4_house 26 = .ok (.invokevirtual 90, 3) := dk_182 0 90 (dk_at dksX4_house_1 4 rfl rfl)
theorem dX4_house_29 : decode cX4_house 29 = .ok (.ifCond .ne 5, 3) := dk_154 0 5 (dk_at dksX4_house_1 7 rfl rfl)
theorem dX4_house_32 : decode cX4_house 32 = .ok (.iconst 0, 1) := dk_3 (dk_at dksX4_house_1 10 rfl rfl)
theorem dX4_house_33 : decode cX4_house 33 = .ok (.ireturn, 1) := dk_172 (dk_at dksX4_house_1 11 rfl rfl)
theorem dX4_house_34 : decode cX4_house 34 = .ok (.iload_n 2, 1) := dk_28 (dk_at dksX4_house_1 12 rfl rfl)
theorem dX4_house_35 : decode cX4_house 35 = .ok (.tableswitch 99 0 6 #[41, 51, 57, 67, 77, 87, 93], 41) := by decide +kernel
theorem dX4_house_76 : decode cX4_house 76 = .ok (.aload_n 0, 1) := dk_42 (dk_at dksX4_house_3 0 rfl rfl)
theorem dX4_house_77 : decode cX4_house 77 = .ok (.getfield 7, 3) := dk_180 0 7 (dk_at dksX4_house_3 1 rfl rfl)
theorem dX4_house_80 : decode cX4_house 80 = .ok (.bipush 63, 2) := dk_16 63 (dk_at dksX4_house_3 4 rfl rfl)
theorem dX4_house_82 : decode cX4_house 82 = .ok (.iload_n 1, 1) := dk_27 (dk_at dksX4_house_3 6 rfl rfl)
theorem dX4_house_83 : decode cX4_house 83 = .ok (.iadd, 1) := dk_96 (dk_at dksX4_house_3 7 rfl rfl)
theorem dX4_house_84 : decode cX4_house 84 = .ok (.iaload, 1) := dk_46 (dk_at dksX4_house_3 8 rfl rfl)
theorem dX4_house_85 : decode cX4_house 85 = .ok (.ireturn, 1) := dk_172 (dk_at dksX4_house_3 9 rfl rfl)
theorem dX4_house_86 : decode cX4_house 86 = .ok (.aload_n 0, 1) := dk_42 (dk_at dksX4_house_3 10 rfl rfl)
theorem dX4_house_87 : decode cX4_house 87 = .ok (.iload_n 1, 1) := dk_27 (dk_at dksX4_house_3 11 rfl rfl)
theorem dX4_house_88 : decode cX4_house 88 = .ok (.invokevirtual 105, 3) := dk_182 0 105 (dk_at dksX4_house_3 12 rfl rfl)
theorem dX4_house_91 : decode cX4_house 91 = .ok (.ireturn, 1) := dk_172 (dk_at dksX4_house_3 15 rfl rfl)
theorem dX4_house_92 : decode cX4_house 92 = .ok (.aload_n 0, 1) := dk_42 (dk_at dksX4_house_3 16 rfl rfl)
theorem dX4_house_93 : decode cX4_house 93 = .ok (.getfield 7, 3) := dk_180 0 7 (dk_at dksX4_house_3 17 rfl rfl)
theorem dX4_house_96 : decode cX4_house 96 = .ok (.bipush 79, 2) := dk_16 79 (dk_at dksX4_house_3 20 rfl rfl)
theorem dX4_house_98 : decode cX4_house 98 = .ok (.iload_n 1, 1) := dk_27 (dk_at dksX4_house_3 22 rfl rfl)
theorem dX4_house_99 : decode cX4_house 99 = .ok (.iadd, 1) := dk_96 (dk_at dksX4_house_3 23 rfl rfl)
theorem dX4_house_100 : decode cX4_house 100 = .ok (.iaload, 1) := dk_46 (dk_at dksX4_house_4 0 rfl rfl)
theorem dX4_house_101 : decode cX4_house 101 = .ok (.ireturn, 1) := dk_172 (dk_at dksX4_house_4 1 rfl rfl)
theorem dX4_house_102 : decode cX4_house 102 = .ok (.aload_n 0, 1) := dk_42 (dk_at dksX4_house_4 2 rfl rfl)
theorem dX4_house_103 : decode cX4_house 103 = .ok (.getfield 7, 3) := dk_180 0 7 (dk_at dksX4_house_4 3 rfl rfl)
theorem dX4_house_106 : decode cX4_house 106 = .ok (.bipush 95, 2) := dk_16 95 (dk_at dksX4_house_4 6 rfl rfl)
theorem dX4_house_108 : decode cX4_house 108 = .ok (.iload_n 1, 1) := dk_27 (dk_at dksX4_house_4 8 rfl rfl)
theorem dX4_house_109 : decode cX4_house 109 = .ok (.iadd, 1) := dk_96 (dk_at dksX4_house_4 9 rfl rfl)
theorem dX4_house_110 : decode cX4_house 110 = .ok (.iaload, 1) := dk_46 (dk_at dksX4_house_4 10 rfl rfl)
theorem dX4_house_111 : decode cX4_house 111 = .ok (.ireturn, 1) := dk_172 (dk_at dksX4_house_4 11 rfl rfl)
theorem dX4_house_112 : decode cX4_house 112 = .ok (.aload_n 0, 1) := dk_42 (dk_at dksX4_house_4 12 rfl rfl)
theorem dX4_house_113 : decode cX4_house 113 = .ok (.getfield 16, 3) := dk_180 0 16 (dk_at dksX4_house_4 13 rfl rfl)
theorem dX4_house_116 : decode cX4_house 116 = .ok (.bipush 23, 2) := dk_16 23 (dk_at dksX4_house_4 16 rfl rfl)
theorem dX4_house_118 : decode cX4_house 118 = .ok (.iload_n 1, 1) := dk_27 (dk_at dksX4_house_4 18 rfl rfl)
theorem dX4_house_119 : decode cX4_house 119 = .ok (.iadd, 1) := dk_96 (dk_at dksX4_house_4 19 rfl rfl)
theorem dX4_house_120 : decode cX4_house 120 = .ok (.iaload, 1) := dk_46 (dk_at dksX4_house_4 20 rfl rfl)
theorem dX4_house_121 : decode cX4_house 121 = .ok (.ireturn, 1) := dk_172 (dk_at dksX4_house_4 21 rfl rfl)
theorem dX4_house_122 : decode cX4_house 122 = .ok (.aload_n 0, 1) := dk_42 (dk_at dksX4_house_4 22 rfl rfl)
theorem dX4_house_123 : decode cX4_house 123 = .ok (.iload_n 1, 1) := dk_27 (dk_at dksX4_house_4 23 rfl rfl)
theorem dX4_house_124 : decode cX4_house 124 = .ok (.invokevirtual 167, 3) := dk_182 0 167 (dk_at dksX4_house_5 0 rfl rfl)
theorem dX4_house_127 : decode cX4_house 127 = .ok (.ireturn, 1) := dk_172 (dk_at dksX4_house_5 3 rfl rfl)
theorem dX4_house_128 : decode cX4_house 128 = .ok (.aload_n 0, 1) := dk_42 (dk_at dksX4_house_5 4 rfl rfl)
theorem dX4_house_129 : decode cX4_house 129 = .ok (.iload_n 1, 1) := dk_27 (dk_at dksX4_house_5 5 rfl rfl)
theorem dX4_house_130 : decode cX4_house 130 = .ok (.invokevirtual 118, 3) := dk_182 0 118 (dk_at dksX4_house_5 6 rfl rfl)
theorem dX4_house_133 : decode cX4_house 133 = .ok (.ireturn, 1) := dk_172 (dk_at dksX4_house_5 9 rfl rfl)
theorem dX4_house_134 : decode cX4_house 134 = .ok (.aload_n 0, 1) := dk_42 (dk_at dksX4_house_5 10 rfl rfl)
theorem dX4_house_135 : decode cX4_house 135 = .ok (.iload_n 1, 1) := dk_27 (dk_at dksX4_house_5 11 rfl rfl)
theorem dX4_house_136 : decode cX4_house 136 = .ok (.invokevirtual 198, 3) := dk_182 0 198 (dk_at dksX4_house_5 12 rfl rfl)
theorem dX4_house_139 : decode cX4_house 139 = .ok (.ireturn, 1) := dk_172 (dk_at dksX4_house_5 15 rfl rfl)
abbrev cX4_offerIn : ByteArray := prog_21_method_102_code
def yX4_offerIn : MethodName := ⟨RX4, "offerIn", "(II)I"⟩
def dkwX4_offerIn_4 : List UInt8 := [100, 182, 1, 32, 172, 42, 182, 0, 135, 54, 5, 167, 255, 219, 42, 2, 182, 1, 32, 172]
abbrev dktX4_offerIn_4 : List UInt8 := dkwX4_offerIn_4 ++ []
def dkwX4_offerIn_3 : List UInt8 := [21, 4, 163, 0, 36, 42, 21, 5, 182, 0, 151, 42, 27, 5, 182, 0, 102, 153, 0, 12, 42, 21, 5, 29]
abbrev dktX4_offerIn_3 : List UInt8 := dkwX4_offerIn_3 ++ dktX4_offerIn_4
def dkwX4_offerIn_2 : List UInt8 := [180, 0, 16, 3, 46, 62, 29, 17, 5, 160, 28, 104, 96, 54, 4, 42, 182, 0, 135, 54, 5, 21, 5]
abbrev dktX4_offerIn_2 : List UInt8 := dkwX4_offerIn_2 ++ dktX4_offerIn_3
def dkwX4_offerIn_1 : List UInt8 := [182, 0, 163, 154, 0, 5, 3, 172, 42, 27, 5, 182, 0, 102, 153, 0, 5, 2, 172, 42, 182, 1, 29, 42]
abbrev dktX4_offerIn_1 : List UInt8 := dkwX4_offerIn_1 ++ dktX4_offerIn_2
def dkwX4_offerIn_0 : List UInt8 := [42, 42, 27, 182, 0, 176, 182, 0, 90, 153, 0, 20, 42, 28, 133, 10, 20, 1, 27, 184, 0, 144, 5]
abbrev dktX4_offerIn_0 : List UInt8 := dkwX4_offerIn_0 ++ dktX4_offerIn_1
theorem dksX4_offerIn_0 : cX4_offerIn.data.toList.drop 0 = dktX4_offerIn_0 := by decide +kernel
theorem dksX4_offerIn_1 : cX4_offerIn.data.toList.drop 23 = dktX4_offerIn_1 := dk_seg dksX4_offerIn_0 23 rfl rfl
theorem dksX4_offerIn_2 : cX4_offerIn.data.toList.drop 47 = dktX4_offerIn_2 := dk_seg dksX4_offerIn_1 24 rfl rfl
theorem dksX4_offerIn_3 : cX4_offerIn.data.toList.drop 70 = dktX4_offerIn_3 := dk_seg dksX4_offerIn_2 23 rfl rfl
theorem dksX4_offerIn_4 : cX4_offerIn.data.toList.drop 94 = dktX4_offerIn_4 := dk_seg dksX4_offerIn_3 24 rfl rfl
theorem dX4_offerIn_0 : decode cX4_offerIn 0 = .ok (.aload_n 0, 1) := dk_42 (dk_at dksX4_offerIn_0 0 rfl rfl)
theorem dX4_offerIn_1 : decode cX4_offerIn 1 = .ok (.aload_n 0, 1) := dk_42 (dk_at dksX4_offerIn_0 1 rfl rfl)
theorem dX4_offerIn_2 : decode cX4_offerIn 2 = .ok (.iload_n 1, 1) := dk_27 (dk_at dksX4_offerIn_0 2 rfl rfl)
theorem dX4_offerIn_3 : decode cX4_offerIn 3 = .ok (.invokevirtual 176, 3) := dk_182 0 176 (dk_at dksX4_offerIn_0 3 rfl rfl)
theorem dX4_offerIn_6 : decode cX4_offerIn 6 = .ok (.invokevirtual 90, 3) := dk_182 0 90 (dk_at dksX4_offerIn_0 6 rfl rfl)
theorem dX4_offerIn_9 : decode cX4_offerIn 9 = .ok (.ifCond .eq 20, 3) := dk_153 0 20 (dk_at dksX4_offerIn_0 9 rfl rfl)
theorem dX4_offerIn_12 : decode cX4_offerIn 12 = .ok (.aload_n 0, 1) := dk_42 (dk_at dksX4_offerIn_0 12 rfl rfl)
theorem dX4_offerIn_13 : decode cX4_offerIn 13 = .ok (.iload_n 2, 1) := dk_28 (dk_at dksX4_offerIn_0 13 rfl rfl)
theorem dX4_offerIn_14 : decode cX4_offerIn 14 = .ok (.i2l, 1) := dk_133 (dk_at dksX4_offerIn_0 14 rfl rfl)
theorem dX4_offerIn_15 : decode cX4_offerIn 15 = .ok (.lconst 1, 1) := dk_10 (dk_at dksX4_offerIn_0 15 rfl rfl)
theorem dX4_offerIn_16 : decode cX4_offerIn 16 = .ok (.ldc2_w 283, 3) := dk_20 1 27 (dk_at dksX4_offerIn_0 16 rfl rfl)
theorem dX4_offerIn_19 : decode cX4_offerIn 19 = .ok (.invokestatic 144, 3) := dk_184 0 144 (dk_at dksX4_offerIn_0 19 rfl rfl)
theorem dX4_offerIn_22 : decode cX4_offerIn 22 = .ok (.iconst 2, 1) := dk_5 (dk_at dksX4_offerIn_0 22 rfl rfl)
theorem dX4_offerIn_23 : decode cX4_offerIn 23 = .ok (.invokevirtual 163, 3) := dk_182 0 163 (dk_at dksX4_offerIn_1 0 rfl rfl)
theorem dX4_offerIn_26 : decode cX4_offerIn 26 = .ok (.ifCond .ne 5, 3) := dk_154 0 5 (dk_at dksX4_offerIn_1 3 rfl rfl)
theorem dX4_offerIn_29 : decode cX4_offerIn 29 = .ok (.iconst 0, 1) := dk_3 (dk_at dksX4_offerIn_1 6 rfl rfl)
theorem dX4_offerIn_30 : decode cX4_offerIn 30 = .ok (.ireturn, 1) := dk_172 (dk_at dksX4_offerIn_1 7 rfl rfl)
theorem dX4_offerIn_31 : decode cX4_offerIn 31 = .ok (.aload_n 0, 1) := dk_42 (dk_at dksX4_offerIn_1 8 rfl rfl)
theorem dX4_offerIn_32 : decode cX4_offerIn 32 = .ok (.iload_n 1, 1) := dk_27 (dk_at dksX4_offerIn_1 9 rfl rfl)
theorem dX4_offerIn_33 : decode cX4_offerIn 33 = .ok (.iconst 2, 1) := dk_5 (dk_at dksX4_offerIn_1 10 rfl rfl)
theorem dX4_offerIn_34 : decode cX4_offerIn 34 = .ok (.invokevirtual 102, 3) := dk_182 0 102 (dk_at dksX4_offerIn_1 11 rfl rfl)
theorem dX4_offerIn_37 : decode cX4_offerIn 37 = .ok (.ifCond .eq 5, 3) := dk_153 0 5 (dk_at dksX4_offerIn_1 14 rfl rfl)
theorem dX4_offerIn_40 : decode cX4_offerIn 40 = .ok (.iconst (-1), 1) := dk_2 (dk_at dksX4_offerIn_1 17 rfl rfl)
theorem dX4_offerIn_41 : decode cX4_offerIn 41 = .ok (.ireturn, 1) := dk_172 (dk_at dksX4_offerIn_1 18 rfl rfl)
theorem dX4_offerIn_42 : decode cX4_offerIn 42 = .ok (.aload_n 0, 1) := dk_42 (dk_at dksX4_offerIn_1 19 rfl rfl)
theorem dX4_offerIn_43 : decode cX4_offerIn 43 = .ok (.invokevirtual 285, 3) := dk_182 1 29 (dk_at dksX4_offerIn_1 20 rfl rfl)
theorem dX4_offerIn_46 : decode cX4_offerIn 46 = .ok (.aload_n 0, 1) := dk_42 (dk_at dksX4_offerIn_1 23 rfl rfl)
theorem dX4_offerIn_47 : decode cX4_offerIn 47 = .ok (.getfield 16, 3) := dk_180 0 16 (dk_at dksX4_offerIn_2 0 rfl rfl)
theorem dX4_offerIn_50 : decode cX4_offerIn 50 = .ok (.iconst 0, 1) := dk_3 (dk_at dksX4_offerIn_2 3 rfl rfl)
theorem dX4_offerIn_51 : decode cX4_offerIn 51 = .ok (.iaload, 1) := dk_46 (dk_at dksX4_offerIn_2 4 rfl rfl)
theorem dX4_offerIn_52 : decode cX4_offerIn 52 = .ok (.istore_n 3, 1) := dk_62 (dk_at dksX4_offerIn_2 5 rfl rfl)
theorem dX4_offerIn_53 : decode cX4_offerIn 53 = .ok (.iload_n 3, 1) := dk_29 (dk_at dksX4_offerIn_2 6 rfl rfl)
theorem dX4_offerIn_54 : decode cX4_offerIn 54 = .ok (.sipush 1440, 3) := dk_17 5 160 (dk_at dksX4_offerIn_2 7 rfl rfl)
theorem dX4_offerIn_57 : decode cX4_offerIn 57 = .ok (.iload_n 2, 1) := dk_28 (dk_at dksX4_offerIn_2 10 rfl rfl)
theorem dX4_offerIn_58 : decode cX4_offerIn 58 = .ok (.imul, 1) := dk_104 (dk_at dksX4_offerIn_2 11 rfl rfl)
theorem dX4_offerIn_59 : decode cX4_offerIn 59 = .ok (.iadd, 1) := dk_96 (dk_at dksX4_offerIn_2 12 rfl rfl)
theorem dX4_offerIn_60 : decode cX4_offerIn 60 = .ok (.istore 4, 2) := dk_54 4 (dk_at dksX4_offerIn_2 13 rfl rfl)
theorem dX4_offerIn_62 : decode cX4_offerIn 62 = .ok (.aload_n 0, 1) := dk_42 (dk_at dksX4_offerIn_2 15 rfl rfl)
theorem dX4_offerIn_63 : decode cX4_offerIn 63 = .ok (.invokevirtual 135, 3) := dk_182 0 135 (dk_at dksX4_offerIn_2 16 rfl rfl)
theorem dX4_offerIn_66 : decode cX4_offerIn 66 = .ok (.istore 5, 2) := dk_54 5 (dk_at dksX4_offerIn_2 19 rfl rfl)
theorem dX4_offerIn_68 : decode cX4_offerIn 68 = .ok (.iload 5, 2) := dk_21 5 (dk_at dksX4_offerIn_2 21 rfl rfl)
theorem dX4_offerIn_70 : decode cX4_offerIn 70 = .ok (.iload 4, 2) := dk_21 4 (dk_at dksX4_offerIn_3 0 rfl rfl)
theorem dX4_offerIn_72 : decode cX4_offerIn 72 = .ok (.if_icmp .gt 36, 3) := dk_163 0 36 (dk_at dksX4_offerIn_3 2 rfl rfl)
theorem dX4_offerIn_75 : decode cX4_offerIn 75 = .ok (.aload_n 0, 1) := dk_42 (dk_at dksX4_offerIn_3 5 rfl rfl)
theorem dX4_offerIn_76 : decode cX4_offerIn 76 = .ok (.iload 5, 2) := dk_21 5 (dk_at dksX4_offerIn_3 6 rfl rfl)
theorem dX4_offerIn_78 : decode cX4_offerIn 78 = .ok (.invokevirtual 151, 3) := dk_182 0 151 (dk_at dksX4_offerIn_3 8 rfl rfl)
theorem dX4_offerIn_81 : decode cX4_offerIn 81 = .ok (.aload_n 0, 1) := dk_42 (dk_at dksX4_offerIn_3 11 rfl rfl)
theorem dX4_offerIn_82 : decode cX4_offerIn 82 = .ok (.iload_n 1, 1) := dk_27 (dk_at dksX4_offerIn_3 12 rfl rfl)
theorem dX4_offerIn_83 : decode cX4_offerIn 83 = .ok (.iconst 2, 1) := dk_5 (dk_at dksX4_offerIn_3 13 rfl rfl)
theorem dX4_offerIn_84 : decode cX4_offerIn 84 = .ok (.invokevirtual 102, 3) := dk_182 0 102 (dk_at dksX4_offerIn_3 14 rfl rfl)
theorem dX4_offerIn_87 : decode cX4_offerIn 87 = .ok (.ifCond .eq 12, 3) := dk_153 0 12 (dk_at dksX4_offerIn_3 17 rfl rfl)
theorem dX4_offerIn_90 : decode cX4_offerIn 90 = .ok (.aload_n 0, 1) := dk_42 (dk_at dksX4_offerIn_3 20 rfl rfl)
theorem dX4_offerIn_91 : decode cX4_offerIn 91 = .ok (.iload 5, 2) := dk_21 5 (dk_at dksX4_offerIn_3 21 rfl rfl)
theorem dX4_offerIn_93 : decode cX4_offerIn 93 = .ok (.iload_n 3, 1) := dk_29 (dk_at dksX4_offerIn_3 23 rfl rfl)
theorem dX4_offerIn_94 : decode cX4_offerIn 94 = .ok (.isub, 1) := dk_100 (dk_at dksX4_offerIn_4 0 rfl rfl)
theorem dX4_offerIn_95 : decode cX4_offerIn 95 = .ok (.invokevirtual 288, 3) := dk_182 1 32 (dk_at dksX4_offerIn_4 1 rfl rfl)
theorem dX4_offerIn_98 : decode cX4_offerIn 98 = .ok (.ireturn, 1) := dk_172 (dk_at dksX4_offerIn_4 4 rfl rfl)
theorem dX4_offerIn_99 : decode cX4_offerIn 99 = .ok (.aload_n 0, 1) := dk_42 (dk_at dksX4_offerIn_4 5 rfl rfl)
theorem dX4_offerIn_100 : decode cX4_offerIn 100 = .ok (.invokevirtual 135, 3) := dk_182 0 135 (dk_at dksX4_offerIn_4 6 rfl rfl)
theorem dX4_offerIn_103 : decode cX4_offerIn 103 = .ok (.istore 5, 2) := dk_54 5 (dk_at dksX4_offerIn_4 9 rfl rfl)
theorem dX4_offerIn_105 : decode cX4_offerIn 105 = .ok (.goto (-37), 3) := dk_167 255 219 (dk_at dksX4_offerIn_4 11 rfl rfl)
theorem dX4_offerIn_108 : decode cX4_offerIn 108 = .ok (.aload_n 0, 1) := dk_42 (dk_at dksX4_offerIn_4 14 rfl rfl)
theorem dX4_offerIn_109 : decode cX4_offerIn 109 = .ok (.iconst (-1), 1) := dk_2 (dk_at dksX4_offerIn_4 15 rfl rfl)
theorem dX4_offerIn_110 : decode cX4_offerIn 110 = .ok (.invokevirtual 288, 3) := dk_182 1 32 (dk_at dksX4_offerIn_4 16 rfl rfl)
theorem dX4_offerIn_113 : decode cX4_offerIn 113 = .ok (.ireturn, 1) := dk_172 (dk_at dksX4_offerIn_4 19 rfl rfl)
abbrev cX4_tries : ByteArray := prog_21_method_100_code
def yX4_tries : MethodName := ⟨RX4, "tries", "()V"⟩
def dkwX4_tries_0 : List UInt8 := [42, 180, 0, 16, 42, 180, 0, 22, 184, 0, 80, 177]
abbrev dktX4_tries_0 : List UInt8 := dkwX4_tries_0 ++ []
theorem dksX4_tries_0 : cX4_tries.data.toList.drop 0 = dktX4_tries_0 := by decide +kernel
theorem dX4_tries_0 : decode cX4_tries 0 = .ok (.aload_n 0, 1) := dk_42 (dk_at dksX4_tries_0 0 rfl rfl)
theorem dX4_tries_1 : decode cX4_tries 1 = .ok (.getfield 16, 3) := dk_180 0 16 (dk_at dksX4_tries_0 1 rfl rfl)
theorem dX4_tries_4 : decode cX4_tries 4 = .ok (.aload_n 0, 1) := dk_42 (dk_at dksX4_tries_0 4 rfl rfl)
theorem dX4_tries_5 : decode cX4_tries 5 = .ok (.getfield 22, 3) := dk_180 0 22 (dk_at dksX4_tries_0 5 rfl rfl)
theorem dX4_tries_8 : decode cX4_tries 8 = .ok (.invokestatic 80, 3) := dk_184 0 80 (dk_at dksX4_tries_0 8 rfl rfl)
theorem dX4_tries_11 : decode cX4_tries 11 = .ok (.return_, 1) := dk_177 (dk_at dksX4_tries_0 11 rfl rfl)
abbrev cX4_laysBack : ByteArray := prog_21_method_101_code
def yX4_laysBack : MethodName := ⟨RX4, "laysBack", "(I)I"⟩
def dkwX4_laysBack_0 : List UInt8 := [42, 180, 0, 22, 42, 180, 0, 16, 184, 0, 80, 27, 172]
abbrev dktX4_laysBack_0 : List UInt8 := dkwX4_laysBack_0 ++ []
theorem dksX4_laysBack_0 : cX4_laysBack.data.toList.drop 0 = dktX4_laysBack_0 := by decide +kernel
theorem dX4_laysBack_0 : decode cX4_laysBack 0 = .ok (.aload_n 0, 1) := dk_42 (dk_at dksX4_laysBack_0 0 rfl rfl)
theorem dX4_laysBack_1 : decode cX4_laysBack 1 = .ok (.getfield 22, 3) := dk_180 0 22 (dk_at dksX4_laysBack_0 1 rfl rfl)
theorem dX4_laysBack_4 : decode cX4_laysBack 4 = .ok (.aload_n 0, 1) := dk_42 (dk_at dksX4_laysBack_0 4 rfl rfl)
theorem dX4_laysBack_5 : decode cX4_laysBack 5 = .ok (.getfield 16, 3) := dk_180 0 16 (dk_at dksX4_laysBack_0 5 rfl rfl)
theorem dX4_laysBack_8 : decode cX4_laysBack 8 = .ok (.invokestatic 80, 3) := dk_184 0 80 (dk_at dksX4_laysBack_0 8 rfl rfl)
theorem dX4_laysBack_11 : decode cX4_laysBack 11 = .ok (.iload_n 1, 1) := dk_27 (dk_at dksX4_laysBack_0 11 rfl rfl)
theorem dX4_laysBack_12 : decode cX4_laysBack 12 = .ok (.ireturn, 1) := dk_172 (dk_at dksX4_laysBack_0 12 rfl rfl)
abbrev cX4_finesIn : ByteArray := prog_21_method_103_code
def yX4_finesIn : MethodName := ⟨RX4, "finesIn", "(II)I"⟩
def dkwX4_finesIn_2 : List UInt8 := [42, 42, 27, 182, 1, 35, 182, 1, 32, 172]
abbrev dktX4_finesIn_2 : List UInt8 := dkwX4_finesIn_2 ++ []
def dkwX4_finesIn_1 : List UInt8 := [182, 0, 163, 154, 0, 5, 3, 172, 42, 182, 1, 29, 42, 42, 180, 0, 16, 3, 46, 28, 96, 182, 0, 151]
abbrev dktX4_finesIn_1 : List UInt8 := dkwX4_finesIn_1 ++ dktX4_finesIn_2
def dkwX4_finesIn_0 : List UInt8 := [42, 42, 27, 182, 0, 218, 182, 0, 90, 153, 0, 20, 42, 28, 133, 9, 20, 0, 142, 184, 0, 144, 5]
abbrev dktX4_finesIn_0 : List UInt8 := dkwX4_finesIn_0 ++ dktX4_finesIn_1
theorem dksX4_finesIn_0 : cX4_finesIn.data.toList.drop 0 = dktX4_finesIn_0 := by decide +kernel
theorem dksX4_finesIn_1 : cX4_finesIn.data.toList.drop 23 = dktX4_finesIn_1 := dk_seg dksX4_finesIn_0 23 rfl rfl
theorem dksX4_finesIn_2 : cX4_finesIn.data.toList.drop 47 = dktX4_finesIn_2 := dk_seg dksX4_finesIn_1 24 rfl rfl
theorem dX4_finesIn_0 : decode cX4_finesIn 0 = .ok (.aload_n 0, 1) := dk_42 (dk_at dksX4_finesIn_0 0 rfl rfl)
theorem dX4_finesIn_1 : decode cX4_finesIn 1 = .ok (.aload_n 0, 1) := dk_42 (dk_at dksX4_finesIn_0 1 rfl rfl)
theorem dX4_finesIn_2 : decode cX4_finesIn 2 = .ok (.iload_n 1, 1) := dk_27 (dk_at dksX4_finesIn_0 2 rfl rfl)
theorem dX4_finesIn_3 : decode cX4_finesIn 3 = .ok (.invokevirtual 218, 3) := dk_182 0 218 (dk_at dksX4_finesIn_0 3 rfl rfl)
theorem dX4_finesIn_6 : decode cX4_finesIn 6 = .ok (.invokevirtual 90, 3) := dk_182 0 90 (dk_at dksX4_finesIn_0 6 rfl rfl)
theorem dX4_finesIn_9 : decode cX4_finesIn 9 = .ok (.ifCond .eq 20, 3) := dk_153 0 20 (dk_at dksX4_finesIn_0 9 rfl rfl)
theorem dX4_finesIn_12 : decode cX4_finesIn 12 = .ok (.aload_n 0, 1) := dk_42 (dk_at dksX4_finesIn_0 12 rfl rfl)
theorem dX4_finesIn_13 : decode cX4_finesIn 13 = .ok (.iload_n 2, 1) := dk_28 (dk_at dksX4_finesIn_0 13 rfl rfl)
theorem dX4_finesIn_14 : decode cX4_finesIn 14 = .ok (.i2l, 1) := dk_133 (dk_at dksX4_finesIn_0 14 rfl rfl)
theorem dX4_finesIn_15 : decode cX4_finesIn 15 = .ok (.lconst 0, 1) := dk_9 (dk_at dksX4_finesIn_0 15 rfl rfl)
theorem dX4_finesIn_16 : decode cX4_finesIn 16 = .ok (.ldc2_w 142, 3) := dk_20 0 142 (dk_at dksX4_finesIn_0 16 rfl rfl)
theorem dX4_finesIn_19 : decode cX4_finesIn 19 = .ok (.invokestatic 144, 3) := dk_184 0 144 (dk_at dksX4_finesIn_0 19 rfl rfl)
theorem dX4_finesIn_22 : decode cX4_finesIn 22 = .ok (.iconst 2, 1) := dk_5 (dk_at dksX4_finesIn_0 22 rfl rfl)
theorem dX4_finesIn_23 : decode cX4_finesIn 23 = .ok (.invokevirtual 163, 3) := dk_182 0 163 (dk_at dksX4_finesIn_1 0 rfl rfl)
theorem dX4_finesIn_26 : decode cX4_finesIn 26 = .ok (.ifCond .ne 5, 3) := dk_154 0 5 (dk_at dksX4_finesIn_1 3 rfl rfl)
theorem dX4_finesIn_29 : decode cX4_finesIn 29 = .ok (.iconst 0, 1) := dk_3 (dk_at dksX4_finesIn_1 6 rfl rfl)
theorem dX4_finesIn_30 : decode cX4_finesIn 30 = .ok (.ireturn, 1) := dk_172 (dk_at dksX4_finesIn_1 7 rfl rfl)
theorem dX4_finesIn_31 : decode cX4_finesIn 31 = .ok (.aload_n 0, 1) := dk_42 (dk_at dksX4_finesIn_1 8 rfl rfl)
theorem dX4_finesIn_32 : decode cX4_finesIn 32 = .ok (.invokevirtual 285, 3) := dk_182 1 29 (dk_at dksX4_finesIn_1 9 rfl rfl)
theorem dX4_finesIn_35 : decode cX4_finesIn 35 = .ok (.aload_n 0, 1) := dk_42 (dk_at dksX4_finesIn_1 12 rfl rfl)
theorem dX4_finesIn_36 : decode cX4_finesIn 36 = .ok (.aload_n 0, 1) := dk_42 (dk_at dksX4_finesIn_1 13 rfl rfl)
theorem dX4_finesIn_37 : decode cX4_finesIn 37 = .ok (.getfield 16, 3) := dk_180 0 16 (dk_at dksX4_finesIn_1 14 rfl rfl)
theorem dX4_finesIn_40 : decode cX4_finesIn 40 = .ok (.iconst 0, 1) := dk_3 (dk_at dksX4_finesIn_1 17 rfl rfl)
theorem dX4_finesIn_41 : decode cX4_finesIn 41 = .ok (.iaload, 1) := dk_46 (dk_at dksX4_finesIn_1 18 rfl rfl)
theorem dX4_finesIn_42 : decode cX4_finesIn 42 = .ok (.iload_n 2, 1) := dk_28 (dk_at dksX4_finesIn_1 19 rfl rfl)
theorem dX4_finesIn_43 : decode cX4_finesIn 43 = .ok (.iadd, 1) := dk_96 (dk_at dksX4_finesIn_1 20 rfl rfl)
theorem dX4_finesIn_44 : decode cX4_finesIn 44 = .ok (.invokevirtual 151, 3) := dk_182 0 151 (dk_at dksX4_finesIn_1 21 rfl rfl)
theorem dX4_finesIn_47 : decode cX4_finesIn 47 = .ok (.aload_n 0, 1) := dk_42 (dk_at dksX4_finesIn_2 0 rfl rfl)
theorem dX4_finesIn_48 : decode cX4_finesIn 48 = .ok (.aload_n 0, 1) := dk_42 (dk_at dksX4_finesIn_2 1 rfl rfl)
theorem dX4_finesIn_49 : decode cX4_finesIn 49 = .ok (.iload_n 1, 1) := dk_27 (dk_at dksX4_finesIn_2 2 rfl rfl)
theorem dX4_finesIn_50 : decode cX4_finesIn 50 = .ok (.invokevirtual 291, 3) := dk_182 1 35 (dk_at dksX4_finesIn_2 3 rfl rfl)
theorem dX4_finesIn_53 : decode cX4_finesIn 53 = .ok (.invokevirtual 288, 3) := dk_182 1 32 (dk_at dksX4_finesIn_2 6 rfl rfl)
theorem dX4_finesIn_56 : decode cX4_finesIn 56 = .ok (.ireturn, 1) := dk_172 (dk_at dksX4_finesIn_2 9 rfl rfl)
abbrev cX4_wouldFine : ByteArray := prog_21_method_83_code
def yX4_wouldFine : MethodName := ⟨RX4, "wouldFine", "(I)I"⟩
def dkwX4_wouldFine_2 : List UInt8 := [180, 0, 16, 7, 46, 100, 164, 0, 15, 16, 99, 42, 180, 0, 16, 7, 46, 100, 167, 0, 4, 28, 172]
abbrev dktX4_wouldFine_2 : List UInt8 := dkwX4_wouldFine_2 ++ []
def dkwX4_wouldFine_1 : List UInt8 := [42, 29, 182, 1, 3, 158, 0, 7, 28, 4, 96, 61, 132, 3, 1, 167, 255, 221, 28, 16, 99, 42]
abbrev dktX4_wouldFine_1 : List UInt8 := dkwX4_wouldFine_1 ++ dktX4_wouldFine_2
def dkwX4_wouldFine_0 : List UInt8 := [3, 61, 3, 62, 29, 42, 180, 0, 16, 6, 46, 162, 0, 31, 42, 29, 4, 182, 0, 212, 27, 160, 0, 15]
abbrev dktX4_wouldFine_0 : List UInt8 := dkwX4_wouldFine_0 ++ dktX4_wouldFine_1
theorem dksX4_wouldFine_0 : cX4_wouldFine.data.toList.drop 0 = dktX4_wouldFine_0 := by decide +kernel
theorem dksX4_wouldFine_1 : cX4_wouldFine.data.toList.drop 24 = dktX4_wouldFine_1 := dk_seg dksX4_wouldFine_0 24 rfl rfl
theorem dksX4_wouldFine_2 : cX4_wouldFine.data.toList.drop 46 = dktX4_wouldFine_2 := dk_seg dksX4_wouldFine_1 22 rfl rfl
theorem dX4_wouldFine_0 : decode cX4_wouldFine 0 = .ok (.iconst 0, 1) := dk_3 (dk_at dksX4_wouldFine_0 0 rfl rfl)
theorem dX4_wouldFine_1 : decode cX4_wouldFine 1 = .ok (.istore_n 2, 1) := dk_61 (dk_at dksX4_wouldFine_0 1 rfl rfl)
theorem dX4_wouldFine_2 : decode cX4_wouldFine 2 = .ok (.iconst 0, 1) := dk_3 (dk_at dksX4_wouldFine_0 2 rfl rfl)
theorem dX4_wouldFine_3 : decode cX4_wouldFine 3 = .ok (.istore_n 3, 1) := dk_62 (dk_at dksX4_wouldFine_0 3 rfl rfl)
theorem dX4_wouldFine_4 : decode cX4_wouldFine 4 = .ok (.iload_n 3, 1) := dk_29 (dk_at dksX4_wouldFine_0 4 rfl rfl)
theorem dX4_wouldFine_5 : decode cX4_wouldFine 5 = .ok (.aload_n 0, 1) := dk_42 (dk_at dksX4_wouldFine_0 5 rfl rfl)
theorem dX4_wouldFine_6 : decode cX4_wouldFine 6 = .ok (.getfield 16, 3) := dk_180 0 16 (dk_at dksX4_wouldFine_0 6 rfl rfl)
theorem dX4_wouldFine_9 : decode cX4_wouldFine 9 = .ok (.iconst 3, 1) := dk_6 (dk_at dksX4_wouldFine_0 9 rfl rfl)
theorem dX4_wouldFine_10 : decode cX4_wouldFine 10 = .ok (.iaload, 1) := dk_46 (dk_at dksX4_wouldFine_0 10 rfl rfl)
theorem dX4_wouldFine_11 : decode cX4_wouldFine 11 = .ok (.if_icmp .ge 31, 3) := dk_162 0 31 (dk_at dksX4_wouldFine_0 11 rfl rfl)
theorem dX4_wouldFine_14 : decode cX4_wouldFine 14 = .ok (.aload_n 0, 1) := dk_42 (dk_at dksX4_wouldFine_0 14 rfl rfl)
theorem dX4_wouldFine_15 : decode cX4_wouldFine 15 = .ok (.iload_n 3, 1) := dk_29 (dk_at dksX4_wouldFine_0 15 rfl rfl)
theorem dX4_wouldFine_16 : decode cX4_wouldFine 16 = .ok (.iconst 1, 1) := dk_4 (dk_at dksX4_wouldFine_0 16 rfl rfl)
theorem dX4_wouldFine_17 : decode cX4_wouldFine 17 = .ok (.invokevirtual 212, 3) := dk_182 0 212 (dk_at dksX4_wouldFine_0 17 rfl rfl)
theorem dX4_wouldFine_20 : decode cX4_wouldFine 20 = .ok (.iload_n 1, 1) := dk_27 (dk_at dksX4_wouldFine_0 20 rfl rfl)
theorem dX4_wouldFine_21 : decode cX4_wouldFine 21 = .ok (.if_icmp .ne 15, 3) := dk_160 0 15 (dk_at dksX4_wouldFine_0 21 rfl rfl)
theorem dX4_wouldFine_24 : decode cX4_wouldFine 24 = .ok (.aload_n 0, 1) := dk_42 (dk_at dksX4_wouldFine_1 0 rfl rfl)
theorem dX4_wouldFine_25 : decode cX4_wouldFine 25 = .ok (.iload_n 3, 1) := dk_29 (dk_at dksX4_wouldFine_1 1 rfl rfl)
theorem dX4_wouldFine_26 : decode cX4_wouldFine 26 = .ok (.invokevirtual 259, 3) := dk_182 1 3 (dk_at dksX4_wouldFine_1 2 rfl rfl)
theorem dX4_wouldFine_29 : decode cX4_wouldFine 29 = .ok (.ifCond .le 7, 3) := dk_158 0 7 (dk_at dksX4_wouldFine_1 5 rfl rfl)
theorem dX4_wouldFine_32 : decode cX4_wouldFine 32 = .ok (.iload_n 2, 1) := dk_28 (dk_at dksX4_wouldFine_1 8 rfl rfl)
theorem dX4_wouldFine_33 : decode cX4_wouldFine 33 = .ok (.iconst 1, 1) := dk_4 (dk_at dksX4_wouldFine_1 9 rfl rfl)
theorem dX4_wouldFine_34 : decode cX4_wouldFine 34 = .ok (.iadd, 1) := dk_96 (dk_at dksX4_wouldFine_1 10 rfl rfl)
theorem dX4_wouldFine_35 : decode cX4_wouldFine 35 = .ok (.istore_n 2, 1) := dk_61 (dk_at dksX4_wouldFine_1 11 rfl rfl)
theorem dX4_wouldFine_36 : decode cX4_wouldFine 36 = .ok (.iinc 3 1, 3) := dk_132 3 1 (dk_at dksX4_wouldFine_1 12 rfl rfl)
theorem dX4_wouldFine_39 : decode cX4_wouldFine 39 = .ok (.goto (-35), 3) := dk_167 255 221 (dk_at dksX4_wouldFine_1 15 rfl rfl)
theorem dX4_wouldFine_42 : decode cX4_wouldFine 42 = .ok (.iload_n 2, 1) := dk_28 (dk_at dksX4_wouldFine_1 18 rfl rfl)
theorem dX4_wouldFine_43 : decode cX4_wouldFine 43 = .ok (.bipush 99, 2) := dk_16 99 (dk_at dksX4_wouldFine_1 19 rfl rfl)
theorem dX4_wouldFine_45 : decode cX4_wouldFine 45 = .ok (.aload_n 0, 1) := dk_42 (dk_at dksX4_wouldFine_1 21 rfl rfl)
theorem dX4_wouldFine_46 : decode cX4_wouldFine 46 = .ok (.getfield 16, 3) := dk_180 0 16 (dk_at dksX4_wouldFine_2 0 rfl rfl)
theorem dX4_wouldFine_49 : decode cX4_wouldFine 49 = .ok (.iconst 4, 1) := dk_7 (dk_at dksX4_wouldFine_2 3 rfl rfl)
theorem dX4_wouldFine_50 : decode cX4_wouldFine 50 = .ok (.iaload, 1) := dk_46 (dk_at dksX4_wouldFine_2 4 rfl rfl)
theorem dX4_wouldFine_51 : decode cX4_wouldFine 51 = .ok (.isub, 1) := dk_100 (dk_at dksX4_wouldFine_2 5 rfl rfl)
theorem dX4_wouldFine_52 : decode cX4_wouldFine 52 = .ok (.if_icmp .le 15, 3) := dk_164 0 15 (dk_at dksX4_wouldFine_2 6 rfl rfl)
theorem dX4_wouldFine_55 : decode cX4_wouldFine 55 = .ok (.bipush 99, 2) := dk_16 99 (dk_at dksX4_wouldFine_2 9 rfl rfl)
theorem dX4_wouldFine_57 : decode cX4_wouldFine 57 = .ok (.aload_n 0, 1) := dk_42 (dk_at dksX4_wouldFine_2 11 rfl rfl)
theorem dX4_wouldFine_58 : decode cX4_wouldFine 58 = .ok (.getfield 16, 3) := dk_180 0 16 (dk_at dksX4_wouldFine_2 12 rfl rfl)
theorem dX4_wouldFine_61 : decode cX4_wouldFine 61 = .ok (.iconst 4, 1) := dk_7 (dk_at dksX4_wouldFine_2 15 rfl rfl)
theorem dX4_wouldFine_62 : decode cX4_wouldFine 62 = .ok (.iaload, 1) := dk_46 (dk_at dksX4_wouldFine_2 16 rfl rfl)
theorem dX4_wouldFine_63 : decode cX4_wouldFine 63 = .ok (.isub, 1) := dk_100 (dk_at dksX4_wouldFine_2 17 rfl rfl)
theorem dX4_wouldFine_64 : decode cX4_wouldFine 64 = .ok (.goto 4, 3) := dk_167 0 4 (dk_at dksX4_wouldFine_2 18 rfl rfl)
theorem dX4_wouldFine_67 : decode cX4_wouldFine 67 = .ok (.iload_n 2, 1) := dk_28 (dk_at dksX4_wouldFine_2 21 rfl rfl)
theorem dX4_wouldFine_68 : decode cX4_wouldFine 68 = .ok (.ireturn, 1) := dk_172 (dk_at dksX4_wouldFine_2 22 rfl rfl)
abbrev cX4_bestInspection : ByteArray := prog_21_method_104_code
def yX4_bestInspection : MethodName := ⟨RX4, "bestInspection", "(II)I"⟩
def dkwX4_bestInspection_5 : List UInt8 := [182, 1, 32, 172]
abbrev dktX4_bestInspection_5 : List UInt8 := dkwX4_bestInspection_5 ++ []
def dkwX4_bestInspection_4 : List UInt8 := [167, 0, 15, 21, 7, 54, 5, 42, 180, 0, 16, 3, 46, 54, 4, 132, 6, 1, 167, 255, 207, 42, 21, 4]
abbrev dktX4_bestInspection_4 : List UInt8 := dkwX4_bestInspection_4 ++ dktX4_bestInspection_5
def dkwX4_bestInspection_3 : List UInt8 := [16, 60, 21, 6, 104, 96, 182, 0, 151, 42, 27, 182, 1, 35, 54, 7, 21, 7, 21, 5, 163, 0, 6]
abbrev dktX4_bestInspection_3 : List UInt8 := dkwX4_bestInspection_3 ++ dktX4_bestInspection_4
def dkwX4_bestInspection_2 : List UInt8 := [16, 60, 108, 16, 60, 104, 62, 29, 54, 4, 2, 54, 5, 3, 54, 6, 21, 6, 28, 162, 0, 49, 42, 29]
abbrev dktX4_bestInspection_2 : List UInt8 := dkwX4_bestInspection_2 ++ dktX4_bestInspection_3
def dkwX4_bestInspection_1 : List UInt8 := [182, 0, 163, 154, 0, 5, 3, 172, 42, 182, 1, 29, 42, 180, 0, 16, 3, 46, 16, 60, 96, 4, 100]
abbrev dktX4_bestInspection_1 : List UInt8 := dkwX4_bestInspection_1 ++ dktX4_bestInspection_2
def dkwX4_bestInspection_0 : List UInt8 := [42, 42, 27, 182, 0, 218, 182, 0, 90, 153, 0, 20, 42, 28, 133, 10, 20, 1, 38, 184, 0, 144, 5]
abbrev dktX4_bestInspection_0 : List UInt8 := dkwX4_bestInspection_0 ++ dktX4_bestInspection_1
theorem dksX4_bestInspection_0 : cX4_bestInspection.data.toList.drop 0 = dktX4_bestInspection_0 := by decide +kernel
theorem dksX4_bestInspection_1 : cX4_bestInspection.data.toList.drop 23 = dktX4_bestInspection_1 := dk_seg dksX4_bestInspection_0 23 rfl rfl
theorem dksX4_bestInspection_2 : cX4_bestInspection.data.toList.drop 46 = dktX4_bestInspection_2 := dk_seg dksX4_bestInspection_1 23 rfl rfl
theorem dksX4_bestInspection_3 : cX4_bestInspection.data.toList.drop 70 = dktX4_bestInspection_3 := dk_seg dksX4_bestInspection_2 24 rfl rfl
theorem dksX4_bestInspection_4 : cX4_bestInspection.data.toList.drop 93 = dktX4_bestInspection_4 := dk_seg dksX4_bestInspection_3 23 rfl rfl
theorem dksX4_bestInspection_5 : cX4_bestInspection.data.toList.drop 117 = dktX4_bestInspection_5 := dk_seg dksX4_bestInspection_4 24 rfl rfl
theorem dX4_bestInspection_0 : decode cX4_bestInspection 0 = .ok (.aload_n 0, 1) := dk_42 (dk_at dksX4_bestInspection_0 0 rfl rfl)
theorem dX4_bestInspection_1 : decode cX4_bestInspection 1 = .ok (.aload_n 0, 1) := dk_42 (dk_at dksX4_bestInspection_0 1 rfl rfl)
theorem dX4_bestInspection_2 : decode cX4_bestInspection 2 = .ok (.iload_n 1, 1) := dk_27 (dk_at dksX4_bestInspection_0 2 rfl rfl)
theorem dX4_bestInspection_3 : decode cX4_bestInspection 3 = .ok (.invokevirtual 218, 3) := dk_182 0 218 (dk_at dksX4_bestInspection_0 3 rfl rfl)
theorem dX4_bestInspection_6 : decode cX4_bestInspection 6 = .ok (.invokevirtual 90, 3) := dk_182 0 90 (dk_at dksX4_bestInspection_0 6 rfl rfl)
theorem dX4_bestInspection_9 : decode cX4_bestInspection 9 = .ok (.ifCond .eq 20, 3) := dk_153 0 20 (dk_at dksX4_bestInspection_0 9 rfl rfl)
theorem dX4_bestInspection_12 : decode cX4_bestInspection 12 = .ok (.aload_n 0, 1) := dk_42 (dk_at dksX4_bestInspection_0 12 rfl rfl)
theorem dX4_bestInspection_13 : decode cX4_bestInspection 13 = .ok (.iload_n 2, 1) := dk_28 (dk_at dksX4_bestInspection_0 13 rfl rfl)
theorem dX4_bestInspection_14 : decode cX4_bestInspection 14 = .ok (.i2l, 1) := dk_133 (dk_at dksX4_bestInspection_0 14 rfl rfl)
theorem dX4_bestInspection_15 : decode cX4_bestInspection 15 = .ok (.lconst 1, 1) := dk_10 (dk_at dksX4_bestInspection_0 15 rfl rfl)
theorem dX4_bestInspection_16 : decode cX4_bestInspection 16 = .ok (.ldc2_w 294, 3) := dk_20 1 38 (dk_at dksX4_bestInspection_0 16 rfl rfl)
theorem dX4_bestInspection_19 : decode cX4_bestInspection 19 = .ok (.invokestatic 144, 3) := dk_184 0 144 (dk_at dksX4_bestInspection_0 19 rfl rfl)
theorem dX4_bestInspection_22 : decode cX4_bestInspection 22 = .ok (.iconst 2, 1) := dk_5 (dk_at dksX4_bestInspection_0 22 rfl rfl)
theorem dX4_bestInspection_23 : decode cX4_bestInspection 23 = .ok (.invokevirtual 163, 3) := dk_182 0 163 (dk_at dksX4_bestInspection_1 0 rfl rfl)
theorem dX4_bestInspection_26 : decode cX4_bestInspection 26 = .ok (.ifCond .ne 5, 3) := dk_154 0 5 (dk_at dksX4_bestInspection_1 3 rfl rfl)
theorem dX4_bestInspection_29 : decode cX4_bestInspection 29 = .ok (.iconst 0, 1) := dk_3 (dk_at dksX4_bestInspection_1 6 rfl rfl)
theorem dX4_bestInspection_30 : decode cX4_bestInspection 30 = .ok (.ireturn, 1) := dk_172 (dk_at dksX4_bestInspection_1 7 rfl rfl)
theorem dX4_bestInspection_31 : decode cX4_bestInspection 31 = .ok (.aload_n 0, 1) := dk_42 (dk_at dksX4_bestInspection_1 8 rfl rfl)
theorem dX4_bestInspection_32 : decode cX4_bestInspection 32 = .ok (.invokevirtual 285, 3) := dk_182 1 29 (dk_at dksX4_bestInspection_1 9 rfl rfl)
theorem dX4_bestInspection_35 : decode cX4_bestInspection 35 = .ok (.aload_n 0, 1) := dk_42 (dk_at dksX4_bestInspection_1 12 rfl rfl)
theorem dX4_bestInspection_36 : decode cX4_bestInspection 36 = .ok (.getfield 16, 3) := dk_180 0 16 (dk_at dksX4_bestInspection_1 13 rfl rfl)
theorem dX4_bestInspection_39 : decode cX4_bestInspection 39 = .ok (.iconst 0, 1) := dk_3 (dk_at dksX4_bestInspection_1 16 rfl rfl)
theorem dX4_bestInspection_40 : decode cX4_bestInspection 40 = .ok (.iaload, 1) := dk_46 (dk_at dksX4_bestInspection_1 17 rfl rfl)
theorem dX4_bestInspection_41 : decode cX4_bestInspection 41 = .ok (.bipush 60, 2) := dk_16 60 (dk_at dksX4_bestInspection_1 18 rfl rfl)
theorem dX4_bestInspection_43 : decode cX4_bestInspection 43 = .ok (.iadd, 1) := dk_96 (dk_at dksX4_bestInspection_1 20 rfl rfl)
theorem dX4_bestInspection_44 : decode cX4_bestInspection 44 = .ok (.iconst 1, 1) := dk_4 (dk_at dksX4_bestInspection_1 21 rfl rfl)
theorem dX4_bestInspection_45 : decode cX4_bestInspection 45 = .ok (.isub, 1) := dk_100 (dk_at dksX4_bestInspection_1 22 rfl rfl)
theorem dX4_bestInspection_46 : decode cX4_bestInspection 46 = .ok (.bipush 60, 2) := dk_16 60 (dk_at dksX4_bestInspection_2 0 rfl rfl)
theorem dX4_bestInspection_48 : decode cX4_bestInspection 48 = .ok (.idiv, 1) := dk_108 (dk_at dksX4_bestInspection_2 2 rfl rfl)
theorem dX4_bestInspection_49 : decode cX4_bestInspection 49 = .ok (.bipush 60, 2) := dk_16 60 (dk_at dksX4_bestInspection_2 3 rfl rfl)
theorem dX4_bestInspection_51 : decode cX4_bestInspection 51 = .ok (.imul, 1) := dk_104 (dk_at dksX4_bestInspection_2 5 rfl rfl)
theorem dX4_bestInspection_52 : decode cX4_bestInspection 52 = .ok (.istore_n 3, 1) := dk_62 (dk_at dksX4_bestInspection_2 6 rfl rfl)
theorem dX4_bestInspection_53 : decode cX4_bestInspection 53 = .ok (.iload_n 3, 1) := dk_29 (dk_at dksX4_bestInspection_2 7 rfl rfl)
theorem dX4_bestInspection_54 : decode cX4_bestInspection 54 = .ok (.istore 4, 2) := dk_54 4 (dk_at dksX4_bestInspection_2 8 rfl rfl)
theorem dX4_bestInspection_56 : decode cX4_bestInspection 56 = .ok (.iconst (-1), 1) := dk_2 (dk_at dksX4_bestInspection_2 10 rfl rfl)
theorem dX4_bestInspection_57 : decode cX4_bestInspection 57 = .ok (.istore 5, 2) := dk_54 5 (dk_at dksX4_bestInspection_2 11 rfl rfl)
theorem dX4_bestInspection_59 : decode cX4_bestInspection 59 = .ok (.iconst 0, 1) := dk_3 (dk_at dksX4_bestInspection_2 13 rfl rfl)
theorem dX4_bestInspection_60 : decode cX4_bestInspection 60 = .ok (.istore 6, 2) := dk_54 6 (dk_at dksX4_bestInspection_2 14 rfl rfl)
theorem dX4_bestInspection_62 : decode cX4_bestInspection 62 = .ok (.iload 6, 2) := dk_21 6 (dk_at dksX4_bestInspection_2 16 rfl rfl)
theorem dX4_bestInspection_64 : decode cX4_bestInspection 64 = .ok (.iload_n 2, 1) := dk_28 (dk_at dksX4_bestInspection_2 18 rfl rfl)
theorem dX4_bestInspection_65 : decode cX4_bestInspection 65 = .ok (.if_icmp .ge 49, 3) := dk_162 0 49 (dk_at dksX4_bestInspection_2 19 rfl rfl)
theorem dX4_bestInspection_68 : decode cX4_bestInspection 68 = .ok (.aload_n 0, 1) := dk_42 (dk_at dksX4_bestInspection_2 22 rfl rfl)
theorem dX4_bestInspection_69 : decode cX4_bestInspection 69 = .ok (.iload_n 3, 1) := dk_29 (dk_at dksX4_bestInspection_2 23 rfl rfl)
theorem dX4_bestInspection_70 : decode cX4_bestInspection 70 = .ok (.bipush 60, 2) := dk_16 60 (dk_at dksX4_bestInspection_3 0 rfl rfl)
theorem dX4_bestInspection_72 : decode cX4_bestInspection 72 = .ok (.iload 6, 2) := dk_21 6 (dk_at dksX4_bestInspection_3 2 rfl rfl)
theorem dX4_bestInspection_74 : decode cX4_bestInspection 74 = .ok (.imul, 1) := dk_104 (dk_at dksX4_bestInspection_3 4 rfl rfl)
theorem dX4_bestInspection_75 : decode cX4_bestInspection 75 = .ok (.iadd, 1) := dk_96 (dk_at dksX4_bestInspection_3 5 rfl rfl)
theorem dX4_bestInspection_76 : decode cX4_bestInspection 76 = .ok (.invokevirtual 151, 3) := dk_182 0 151 (dk_at dksX4_bestInspection_3 6 rfl rfl)
theorem dX4_bestInspection_79 : decode cX4_bestInspection 79 = .ok (.aload_n 0, 1) := dk_42 (dk_at dksX4_bestInspection_3 9 rfl rfl)
theorem dX4_bestInspection_80 : decode cX4_bestInspection 80 = .ok (.iload_n 1, 1) := dk_27 (dk_at dksX4_bestInspection_3 10 rfl rfl)
theorem dX4_bestInspection_81 : decode cX4_bestInspection 81 = .ok (.invokevirtual 291, 3) := dk_182 1 35 (dk_at dksX4_bestInspection_3 11 rfl rfl)
theorem dX4_bestInspection_84 : decode cX4_bestInspection 84 = .ok (.istore 7, 2) := dk_54 7 (dk_at dksX4_bestInspection_3 14 rfl rfl)
theorem dX4_bestInspection_86 : decode cX4_bestInspection 86 = .ok (.iload 7, 2) := dk_21 7 (dk_at dksX4_bestInspection_3 16 rfl rfl)
theorem dX4_bestInspection_88 : decode cX4_bestInspection 88 = .ok (.iload 5, 2) := dk_21 5 (dk_at dksX4_bestInspection_3 18 rfl rfl)
theorem dX4_bestInspection_90 : decode cX4_bestInspection 90 = .ok (.if_icmp .gt 6, 3) := dk_163 0 6 (dk_at dksX4_bestInspection_3 20 rfl rfl)
theorem dX4_bestInspection_93 : decode cX4_bestInspection 93 = .ok (.goto 15, 3) := dk_167 0 15 (dk_at dksX4_bestInspection_4 0 rfl rfl)
theorem dX4_bestInspection_96 : decode cX4_bestInspection 96 = .ok (.iload 7, 2) := dk_21 7 (dk_at dksX4_bestInspection_4 3 rfl rfl)
theorem dX4_bestInspection_98 : decode cX4_bestInspection 98 = .ok (.istore 5, 2) := dk_54 5 (dk_at dksX4_bestInspection_4 5 rfl rfl)
theorem dX4_bestInspection_100 : decode cX4_bestInspection 100 = .ok (.aload_n 0, 1) := dk_42 (dk_at dksX4_bestInspection_4 7 rfl rfl)
theorem dX4_bestInspection_101 : decode cX4_bestInspection 101 = .ok (.getfield 16, 3) := dk_180 0 16 (dk_at dksX4_bestInspection_4 8 rfl rfl)
theorem dX4_bestInspection_104 : decode cX4_bestInspection 104 = .ok (.iconst 0, 1) := dk_3 (dk_at dksX4_bestInspection_4 11 rfl rfl)
theorem dX4_bestInspection_105 : decode cX4_bestInspection 105 = .ok (.iaload, 1) := dk_46 (dk_at dksX4_bestInspection_4 12 rfl rfl)
theorem dX4_bestInspection_106 : decode cX4_bestInspection 106 = .ok (.istore 4, 2) := dk_54 4 (dk_at dksX4_bestInspection_4 13 rfl rfl)
theorem dX4_bestInspection_108 : decode cX4_bestInspection 108 = .ok (.iinc 6 1, 3) := dk_132 6 1 (dk_at dksX4_bestInspection_4 15 rfl rfl)
theorem dX4_bestInspection_111 : decode cX4_bestInspection 111 = .ok (.goto (-49), 3) := dk_167 255 207 (dk_at dksX4_bestInspection_4 18 rfl rfl)
theorem dX4_bestInspection_114 : decode cX4_bestInspection 114 = .ok (.aload_n 0, 1) := dk_42 (dk_at dksX4_bestInspection_4 21 rfl rfl)
theorem dX4_bestInspection_115 : decode cX4_bestInspection 115 = .ok (.iload 4, 2) := dk_21 4 (dk_at dksX4_bestInspection_4 22 rfl rfl)
theorem dX4_bestInspection_117 : decode cX4_bestInspection 117 = .ok (.invokevirtual 288, 3) := dk_182 1 32 (dk_at dksX4_bestInspection_5 0 rfl rfl)
theorem dX4_bestInspection_120 : decode cX4_bestInspection 120 = .ok (.ireturn, 1) := dk_172 (dk_at dksX4_bestInspection_5 3 rfl rfl)
abbrev cX4_enoughLimit : ByteArray := prog_21_method_105_code
def yX4_enoughLimit : MethodName := ⟨RX4, "enoughLimit", "(I)I"⟩
def dkwX4_enoughLimit_1 : List UInt8 := [167, 0, 4, 3, 172]
abbrev dktX4_enoughLimit_1 : List UInt8 := dkwX4_enoughLimit_1 ++ []
def dkwX4_enoughLimit_0 : List UInt8 := [42, 42, 27, 182, 0, 181, 182, 0, 90, 153, 0, 18, 42, 27, 182, 0, 131, 42, 27, 3, 182, 0, 111, 96]
abbrev dktX4_enoughLimit_0 : List UInt8 := dkwX4_enoughLimit_0 ++ dktX4_enoughLimit_1
theorem dksX4_enoughLimit_0 : cX4_enoughLimit.data.toList.drop 0 = dktX4_enoughLimit_0 := by decide +kernel
theorem dksX4_enoughLimit_1 : cX4_enoughLimit.data.toList.drop 24 = dktX4_enoughLimit_1 := dk_seg dksX4_enoughLimit_0 24 rfl rfl
theorem dX4_enoughLimit_0 : decode cX4_enoughLimit 0 = .ok (.aload_n 0, 1) := dk_42 (dk_at dksX4_enoughLimit_0 0 rfl rfl)
theorem dX4_enoughLimit_1 : decode cX4_enoughLimit 1 = .ok (.aload_n 0, 1) := dk_42 (dk_at dksX4_enoughLimit_0 1 rfl rfl)
theorem dX4_enoughLimit_2 : decode cX4_enoughLimit 2 = .ok (.iload_n 1, 1) := dk_27 (dk_at dksX4_enoughLimit_0 2 rfl rfl)
theorem dX4_enoughLimit_3 : decode cX4_enoughLimit 3 = .ok (.invokevirtual 181, 3) := dk_182 0 181 (dk_at dksX4_enoughLimit_0 3 rfl rfl)
theorem dX4_enoughLimit_6 : decode cX4_enoughLimit 6 = .ok (.invokevirtual 90, 3) := dk_182 0 90 (dk_at dksX4_enoughLimit_0 6 rfl rfl)
theorem dX4_enoughLimit_9 : decode cX4_enoughLimit 9 = .ok (.ifCond .eq 18, 3) := dk_153 0 18 (dk_at dksX4_enoughLimit_0 9 rfl rfl)
theorem dX4_enoughLimit_12 : decode cX4_enoughLimit 12 = .ok (.aload_n 0, 1) := dk_42 (dk_at dksX4_enoughLimit_0 12 rfl rfl)
theorem dX4_enoughLimit_13 : decode cX4_enoughLimit 13 = .ok (.iload_n 1, 1) := dk_27 (dk_at dksX4_enoughLimit_0 13 rfl rfl)
theorem dX4_enoughLimit_14 : decode cX4_enoughLimit 14 = .ok (.invokevirtual 131, 3) := dk_182 0 131 (dk_at dksX4_enoughLimit_0 14 rfl rfl)
theorem dX4_enoughLimit_17 : decode cX4_enoughLimit 17 = .ok (.aload_n 0, 1) := dk_42 (dk_at dksX4_enoughLimit_0 17 rfl rfl)
theorem dX4_enoughLimit_18 : decode cX4_enoughLimit 18 = .ok (.iload_n 1, 1) := dk_27 (dk_at dksX4_enoughLimit_0 18 rfl rfl)
theorem dX4_enoughLimit_19 : decode cX4_enoughLimit 19 = .ok (.iconst 0, 1) := dk_3 (dk_at dksX4_enoughLimit_0 19 rfl rfl)
theorem dX4_enoughLimit_20 : decode cX4_enoughLimit 20 = .ok (.invokevirtual 111, 3) := dk_182 0 111 (dk_at dksX4_enoughLimit_0 20 rfl rfl)
theorem dX4_enoughLimit_23 : decode cX4_enoughLimit 23 = .ok (.iadd, 1) := dk_96 (dk_at dksX4_enoughLimit_0 23 rfl rfl)
theorem dX4_enoughLimit_24 : decode cX4_enoughLimit 24 = .ok (.goto 4, 3) := dk_167 0 4 (dk_at dksX4_enoughLimit_1 0 rfl rfl)
theorem dX4_enoughLimit_27 : decode cX4_enoughLimit 27 = .ok (.iconst 0, 1) := dk_3 (dk_at dksX4_enoughLimit_1 3 rfl rfl)
theorem dX4_enoughLimit_28 : decode cX4_enoughLimit 28 = .ok (.ireturn, 1) := dk_172 (dk_at dksX4_enoughLimit_1 4 rfl rfl)
abbrev cX4_feed : ByteArray := prog_21_method_106_code
def yX4_feed : MethodName := ⟨RX4, "feed", "(IIIII)I"⟩
def dkwX4_feed_5 : List UInt8 := [180, 1, 40, 172]
abbrev dktX4_feed_5 : List UInt8 := dkwX4_feed_5 ++ []
def dkwX4_feed_4 : List UInt8 := [112, 104, 100, 122, 145, 84, 42, 42, 180, 1, 40, 4, 96, 181, 1, 40, 132, 6, 1, 167, 255, 165, 42]
abbrev dktX4_feed_4 : List UInt8 := dkwX4_feed_4 ++ dktX4_feed_5
def dkwX4_feed_3 : List UInt8 := [167, 0, 5, 21, 5, 54, 7, 42, 180, 0, 41, 42, 180, 1, 40, 21, 7, 16, 24, 16, 8, 21, 6, 7]
abbrev dktX4_feed_3 : List UInt8 := dkwX4_feed_3 ++ dktX4_feed_4
def dkwX4_feed_2 : List UInt8 := [28, 167, 0, 28, 21, 6, 16, 12, 162, 0, 7, 29, 167, 0, 17, 21, 6, 16, 16, 162, 0, 8, 21, 4]
abbrev dktX4_feed_2 : List UInt8 := dkwX4_feed_2 ++ dktX4_feed_3
def dkwX4_feed_1 : List UInt8 := [21, 6, 16, 20, 162, 0, 90, 21, 6, 7, 162, 0, 7, 27, 167, 0, 39, 21, 6, 16, 8, 162, 0, 7]
abbrev dktX4_feed_1 : List UInt8 := dkwX4_feed_1 ++ dktX4_feed_2
def dkwX4_feed_0 : List UInt8 := [42, 3, 181, 0, 77, 42, 180, 1, 40, 16, 20, 96, 17, 3, 132, 164, 0, 5, 2, 172, 3, 54, 6]
abbrev dktX4_feed_0 : List UInt8 := dkwX4_feed_0 ++ dktX4_feed_1
theorem dksX4_feed_0 : cX4_feed.data.toList.drop 0 = dktX4_feed_0 := by decide +kernel
theorem dksX4_feed_1 : cX4_feed.data.toList.drop 23 = dktX4_feed_1 := dk_seg dksX4_feed_0 23 rfl rfl
theorem dksX4_feed_2 : cX4_feed.data.toList.drop 47 = dktX4_feed_2 := dk_seg dksX4_feed_1 24 rfl rfl
theorem dksX4_feed_3 : cX4_feed.data.toList.drop 71 = dktX4_feed_3 := dk_seg dksX4_feed_2 24 rfl rfl
theorem dksX4_feed_4 : cX4_feed.data.toList.drop 95 = dktX4_feed_4 := dk_seg dksX4_feed_3 24 rfl rfl
theorem dksX4_feed_5 : cX4_feed.data.toList.drop 118 = dktX4_feed_5 := dk_seg dksX4_feed_4 23 rfl rfl
theorem dX4_feed_0 : decode cX4_feed 0 = .ok (.aload_n 0, 1) := dk_42 (dk_at dksX4_feed_0 0 rfl rfl)
theorem dX4_feed_1 : decode cX4_feed 1 = .ok (.iconst 0, 1) := dk_3 (dk_at dksX4_feed_0 1 rfl rfl)
theorem dX4_feed_2 : decode cX4_feed 2 = .ok (.putfield 77, 3) := dk_181 0 77 (dk_at dksX4_feed_0 2 rfl rfl)
theorem dX4_feed_5 : decode cX4_feed 5 = .ok (.aload_n 0, 1) := dk_42 (dk_at dksX4_feed_0 5 rfl rfl)
theorem dX4_feed_6 : decode cX4_feed 6 = .ok (.getfield 296, 3) := dk_180 1 40 (dk_at dksX4_feed_0 6 rfl rfl)
theorem dX4_feed_9 : decode cX4_feed 9 = .ok (.bipush 20, 2) := dk_16 20 (dk_at dksX4_feed_0 9 rfl rfl)
theorem dX4_feed_11 : decode cX4_feed 11 = .ok (.iadd, 1) := dk_96 (dk_at dksX4_feed_0 11 rfl rfl)
theorem dX4_feed_12 : decode cX4_feed 12 = .ok (.sipush 900, 3) := dk_17 3 132 (dk_at dksX4_feed_0 12 rfl rfl)
theorem dX4_feed_15 : decode cX4_feed 15 = .ok (.if_icmp .le 5, 3) := dk_164 0 5 (dk_at dksX4_feed_0 15 rfl rfl)
theorem dX4_feed_18 : decode cX4_feed 18 = .ok (.iconst (-1), 1) := dk_2 (dk_at dksX4_feed_0 18 rfl rfl)
theorem dX4_feed_19 : decode cX4_feed 19 = .ok (.ireturn, 1) := dk_172 (dk_at dksX4_feed_0 19 rfl rfl)
theorem dX4_feed_20 : decode cX4_feed 20 = .ok (.iconst 0, 1) := dk_3 (dk_at dksX4_feed_0 20 rfl rfl)
theorem dX4_feed_21 : decode cX4_feed 21 = .ok (.istore 6, 2) := dk_54 6 (dk_at dksX4_feed_0 21 rfl rfl)
theorem dX4_feed_23 : decode cX4_feed 23 = .ok (.iload 6, 2) := dk_21 6 (dk_at dksX4_feed_1 0 rfl rfl)
theorem dX4_feed_25 : decode cX4_feed 25 = .ok (.bipush 20, 2) := dk_16 20 (dk_at dksX4_feed_1 2 rfl rfl)
theorem dX4_feed_27 : decode cX4_feed 27 = .ok (.if_icmp .ge 90, 3) := dk_162 0 90 (dk_at dksX4_feed_1 4 rfl rfl)
theorem dX4_feed_30 : decode cX4_feed 30 = .ok (.iload 6, 2) := dk_21 6 (dk_at dksX4_feed_1 7 rfl rfl)
theorem dX4_feed_32 : decode cX4_feed 32 = .ok (.iconst 4, 1) := dk_7 (dk_at dksX4_feed_1 9 rfl rfl)
theorem dX4_feed_33 : decode cX4_feed 33 = .ok (.if_icmp .ge 7, 3) := dk_162 0 7 (dk_at dksX4_feed_1 10 rfl rfl)
theorem dX4_feed_36 : decode cX4_feed 36 = .ok (.iload_n 1, 1) := dk_27 (dk_at dksX4_feed_1 13 rfl rfl)
theorem dX4_feed_37 : decode cX4_feed 37 = .ok (.goto 39, 3) := dk_167 0 39 (dk_at dksX4_feed_1 14 rfl rfl)
theorem dX4_feed_40 : decode cX4_feed 40 = .ok (.iload 6, 2) := dk_21 6 (dk_at dksX4_feed_1 17 rfl rfl)
theorem dX4_feed_42 : decode cX4_feed 42 = .ok (.bipush 8, 2) := dk_16 8 (dk_at dksX4_feed_1 19 rfl rfl)
theorem dX4_feed_44 : decode cX4_feed 44 = .ok (.if_icmp .ge 7, 3) := dk_162 0 7 (dk_at dksX4_feed_1 21 rfl rfl)
theorem dX4_feed_47 : decode cX4_feed 47 = .ok (.iload_n 2, 1) := dk_28 (dk_at dksX4_feed_2 0 rfl rfl)
theorem dX4_feed_48 : decode cX4_feed 48 = .ok (.goto 28, 3) := dk_167 0 28 (dk_at dksX4_feed_2 1 rfl rfl)
theorem dX4_feed_51 : decode cX4_feed 51 = .ok (.iload 6, 2) := dk_21 6 (dk_at dksX4_feed_2 4 rfl rfl)
theorem dX4_feed_53 : decode cX4_feed 53 = .ok (.bipush 12, 2) := dk_16 12 (dk_at dksX4_feed_2 6 rfl rfl)
theorem dX4_feed_55 : decode cX4_feed 55 = .ok (.if_icmp .ge 7, 3) := dk_162 0 7 (dk_at dksX4_feed_2 8 rfl rfl)
theorem dX4_feed_58 : decode cX4_feed 58 = .ok (.iload_n 3, 1) := dk_29 (dk_at dksX4_feed_2 11 rfl rfl)
theorem dX4_feed_59 : decode cX4_feed 59 = .ok (.goto 17, 3) := dk_167 0 17 (dk_at dksX4_feed_2 12 rfl rfl)
theorem dX4_feed_62 : decode cX4_feed 62 = .ok (.iload 6, 2) := dk_21 6 (dk_at dksX4_feed_2 15 rfl rfl)
theorem dX4_feed_64 : decode cX4_feed 64 = .ok (.bipush 16, 2) := dk_16 16 (dk_at dksX4_feed_2 17 rfl rfl)
theorem dX4_feed_66 : decode cX4_feed 66 = .ok (.if_icmp .ge 8, 3) := dk_162 0 8 (dk_at dksX4_feed_2 19 rfl rfl)
theorem dX4_feed_69 : decode cX4_feed 69 = .ok (.iload 4, 2) := dk_21 4 (dk_at dksX4_feed_2 22 rfl rfl)
theorem dX4_feed_71 : decode cX4_feed 71 = .ok (.goto 5, 3) := dk_167 0 5 (dk_at dksX4_feed_3 0 rfl rfl)
theorem dX4_feed_74 : decode cX4_feed 74 = .ok (.iload 5, 2) := dk_21 5 (dk_at dksX4_feed_3 3 rfl rfl)
theorem dX4_feed_76 : decode cX4_feed 76 = .ok (.istore 7, 2) := dk_54 7 (dk_at dksX4_feed_3 5 rfl rfl)
theorem dX4_feed_78 : decode cX4_feed 78 = .ok (.aload_n 0, 1) := dk_42 (dk_at dksX4_feed_3 7 rfl rfl)
theorem dX4_feed_79 : decode cX4_feed 79 = .ok (.getfield 41, 3) := dk_180 0 41 (dk_at dksX4_feed_3 8 rfl rfl)
theorem dX4_feed_82 : decode cX4_feed 82 = .ok (.aload_n 0, 1) := dk_42 (dk_at dksX4_feed_3 11 rfl rfl)
theorem dX4_feed_83 : decode cX4_feed 83 = .ok (.getfield 296, 3) := dk_180 1 40 (dk_at dksX4_feed_3 12 rfl rfl)
theorem dX4_feed_86 : decode cX4_feed 86 = .ok (.iload 7, 2) := dk_21 7 (dk_at dksX4_feed_3 15 rfl rfl)
theorem dX4_feed_88 : decode cX4_feed 88 = .ok (.bipush 24, 2) := dk_16 24 (dk_at dksX4_feed_3 17 rfl rfl)
theorem dX4_feed_90 : decode cX4_feed 90 = .ok (.bipush 8, 2) := dk_16 8 (dk_at dksX4_feed_3 19 rfl rfl)
theorem dX4_feed_92 : decode cX4_feed 92 = .ok (.iload 6, 2) := dk_21 6 (dk_at dksX4_feed_3 21 rfl rfl)
theorem dX4_feed_94 : decode cX4_feed 94 = .ok (.iconst 4, 1) := dk_7 (dk_at dksX4_feed_3 23 rfl rfl)
theorem dX4_feed_95 : decode cX4_feed 95 = .ok (.irem, 1) := dk_112 (dk_at dksX4_feed_4 0 rfl rfl)
theorem dX4_feed_96 : decode cX4_feed 96 = .ok (.imul, 1) := dk_104 (dk_at dksX4_feed_4 1 rfl rfl)
theorem dX4_feed_97 : decode cX4_feed 97 = .ok (.isub, 1) := dk_100 (dk_at dksX4_feed_4 2 rfl rfl)
theorem dX4_feed_98 : decode cX4_feed 98 = .ok (.ishr, 1) := dk_122 (dk_at dksX4_feed_4 3 rfl rfl)
theorem dX4_feed_99 : decode cX4_feed 99 = .ok (.i2b, 1) := dk_145 (dk_at dksX4_feed_4 4 rfl rfl)
theorem dX4_feed_100 : decode cX4_feed 100 = .ok (.bastore, 1) := dk_84 (dk_at dksX4_feed_4 5 rfl rfl)
theorem dX4_feed_101 : decode cX4_feed 101 = .ok (.aload_n 0, 1) := dk_42 (dk_at dksX4_feed_4 6 rfl rfl)
theorem dX4_feed_102 : decode cX4_feed 102 = .ok (.aload_n 0, 1) := dk_42 (dk_at dksX4_feed_4 7 rfl rfl)
theorem dX4_feed_103 : decode cX4_feed 103 = .ok (.getfield 296, 3) := dk_180 1 40 (dk_at dksX4_feed_4 8 rfl rfl)
theorem dX4_feed_106 : decode cX4_feed 106 = .ok (.iconst 1, 1) := dk_4 (dk_at dksX4_feed_4 11 rfl rfl)
theorem dX4_feed_107 : decode cX4_feed 107 = .ok (.iadd, 1) := dk_96 (dk_at dksX4_feed_4 12 rfl rfl)
theorem dX4_feed_108 : decode cX4_feed 108 = .ok (.putfield 296, 3) := dk_181 1 40 (dk_at dksX4_feed_4 13 rfl rfl)
theorem dX4_feed_111 : decode cX4_feed 111 = .ok (.iinc 6 1, 3) := dk_132 6 1 (dk_at dksX4_feed_4 16 rfl rfl)
theorem dX4_feed_114 : decode cX4_feed 114 = .ok (.goto (-91), 3) := dk_167 255 165 (dk_at dksX4_feed_4 19 rfl rfl)
theorem dX4_feed_117 : decode cX4_feed 117 = .ok (.aload_n 0, 1) := dk_42 (dk_at dksX4_feed_4 22 rfl rfl)
theorem dX4_feed_118 : decode cX4_feed 118 = .ok (.getfield 296, 3) := dk_180 1 40 (dk_at dksX4_feed_5 0 rfl rfl)
theorem dX4_feed_121 : decode cX4_feed 121 = .ok (.ireturn, 1) := dk_172 (dk_at dksX4_feed_5 3 rfl rfl)
abbrev cX4_truncate : ByteArray := prog_21_method_107_code
def yX4_truncate : MethodName := ⟨RX4, "truncate", "(I)Z"⟩
def dkwX4_truncate_1 : List UInt8 := [181, 1, 40, 4, 172]
abbrev dktX4_truncate_1 : List UInt8 := dkwX4_truncate_1 ++ []
def dkwX4_truncate_0 : List UInt8 := [42, 3, 181, 0, 77, 27, 133, 9, 42, 180, 1, 40, 133, 184, 0, 144, 154, 0, 5, 3, 172, 42, 27]
abbrev dktX4_truncate_0 : List UInt8 := dkwX4_truncate_0 ++ dktX4_truncate_1
theorem dksX4_truncate_0 : cX4_truncate.data.toList.drop 0 = dktX4_truncate_0 := by decide +kernel
theorem dksX4_truncate_1 : cX4_truncate.data.toList.drop 23 = dktX4_truncate_1 := dk_seg dksX4_truncate_0 23 rfl rfl
theorem dX4_truncate_0 : decode cX4_truncate 0 = .ok (.aload_n 0, 1) := dk_42 (dk_at dksX4_truncate_0 0 rfl rfl)
theorem dX4_truncate_1 : decode cX4_truncate 1 = .ok (.iconst 0, 1) := dk_3 (dk_at dksX4_truncate_0 1 rfl rfl)
theorem dX4_truncate_2 : decode cX4_truncate 2 = .ok (.putfield 77, 3) := dk_181 0 77 (dk_at dksX4_truncate_0 2 rfl rfl)
theorem dX4_truncate_5 : decode cX4_truncate 5 = .ok (.iload_n 1, 1) := dk_27 (dk_at dksX4_truncate_0 5 rfl rfl)
theorem dX4_truncate_6 : decode cX4_truncate 6 = .ok (.i2l, 1) := dk_133 (dk_at dksX4_truncate_0 6 rfl rfl)
theorem dX4_truncate_7 : decode cX4_truncate 7 = .ok (.lconst 0, 1) := dk_9 (dk_at dksX4_truncate_0 7 rfl rfl)
theorem dX4_truncate_8 : decode cX4_truncate 8 = .ok (.aload_n 0, 1) := dk_42 (dk_at dksX4_truncate_0 8 rfl rfl)
theorem dX4_truncate_9 : decode cX4_truncate 9 = .ok (.getfield 296, 3) := dk_180 1 40 (dk_at dksX4_truncate_0 9 rfl rfl)
theorem dX4_truncate_12 : decode cX4_truncate 12 = .ok (.i2l, 1) := dk_133 (dk_at dksX4_truncate_0 12 rfl rfl)
theorem dX4_truncate_13 : decode cX4_truncate 13 = .ok (.invokestatic 144, 3) := dk_184 0 144 (dk_at dksX4_truncate_0 13 rfl rfl)
theorem dX4_truncate_16 : decode cX4_truncate 16 = .ok (.ifCond .ne 5, 3) := dk_154 0 5 (dk_at dksX4_truncate_0 16 rfl rfl)
theorem dX4_truncate_19 : decode cX4_truncate 19 = .ok (.iconst 0, 1) := dk_3 (dk_at dksX4_truncate_0 19 rfl rfl)
theorem dX4_truncate_20 : decode cX4_truncate 20 = .ok (.ireturn, 1) := dk_172 (dk_at dksX4_truncate_0 20 rfl rfl)
theorem dX4_truncate_21 : decode cX4_truncate 21 = .ok (.aload_n 0, 1) := dk_42 (dk_at dksX4_truncate_0 21 rfl rfl)
theorem dX4_truncate_22 : decode cX4_truncate 22 = .ok (.iload_n 1, 1) := dk_27 (dk_at dksX4_truncate_0 22 rfl rfl)
theorem dX4_truncate_23 : decode cX4_truncate 23 = .ok (.putfield 296, 3) := dk_181 1 40 (dk_at dksX4_truncate_1 0 rfl rfl)
theorem dX4_truncate_26 : decode cX4_truncate 26 = .ok (.iconst 1, 1) := dk_4 (dk_at dksX4_truncate_1 3 rfl rfl)
theorem dX4_truncate_27 : decode cX4_truncate 27 = .ok (.ireturn, 1) := dk_172 (dk_at dksX4_truncate_1 4 rfl rfl)
abbrev cX4_parse : ByteArray := prog_21_method_133_code
def yX4_parse : MethodName := ⟨RX4, "parse", "()I"⟩
def dkwX4_parse_2 : List UInt8 := [154, 0, 5, 2, 172, 42, 182, 0, 64, 42, 180, 0, 7, 5, 46, 172]
abbrev dktX4_parse_2 : List UInt8 := dkwX4_parse_2 ++ []
def dkwX4_parse_1 : List UInt8 := [182, 1, 88, 153, 0, 17, 42, 180, 1, 55, 153, 0, 10, 42, 182, 1, 166, 167, 255, 238, 42, 182, 1, 88]
abbrev dktX4_parse_1 : List UInt8 := dkwX4_parse_1 ++ dktX4_parse_2
def dkwX4_parse_0 : List UInt8 := [42, 3, 181, 0, 77, 42, 3, 181, 1, 85, 42, 2, 181, 0, 45, 42, 182, 0, 61, 42, 182, 1, 163, 42]
abbrev dktX4_parse_0 : List UInt8 := dkwX4_parse_0 ++ dktX4_parse_1
theorem dksX4_parse_0 : cX4_parse.data.toList.drop 0 = dktX4_parse_0 := by decide +kernel
theorem dksX4_parse_1 : cX4_parse.data.toList.drop 24 = dktX4_parse_1 := dk_seg dksX4_parse_0 24 rfl rfl
theorem dksX4_parse_2 : cX4_parse.data.toList.drop 48 = dktX4_parse_2 := dk_seg dksX4_parse_1 24 rfl rfl
theorem dX4_parse_0 : decode cX4_parse 0 = .ok (.aload_n 0, 1) := dk_42 (dk_at dksX4_parse_0 0 rfl rfl)
theorem dX4_parse_1 : decode cX4_parse 1 = .ok (.iconst 0, 1) := dk_3 (dk_at dksX4_parse_0 1 rfl rfl)
theorem dX4_parse_2 : decode cX4_parse 2 = .ok (.putfield 77, 3) := dk_181 0 77 (dk_at dksX4_parse_0 2 rfl rfl)
theorem dX4_parse_5 : decode cX4_parse 5 = .ok (.aload_n 0, 1) := dk_42 (dk_at dksX4_parse_0 5 rfl rfl)
theorem dX4_parse_6 : decode cX4_parse 6 = .ok (.iconst 0, 1) := dk_3 (dk_at dksX4_parse_0 6 rfl rfl)
theorem dX4_parse_7 : decode cX4_parse 7 = .ok (.putfield 341, 3) := dk_181 1 85 (dk_at dksX4_parse_0 7 rfl rfl)
theorem dX4_parse_10 : decode cX4_parse 10 = .ok (.aload_n 0, 1) := dk_42 (dk_at dksX4_parse_0 10 rfl rfl)
theorem dX4_parse_11 : decode cX4_parse 11 = .ok (.iconst (-1), 1) := dk_2 (dk_at dksX4_parse_0 11 rfl rfl)
theorem dX4_parse_12 : decode cX4_parse 12 = .ok (.putfield 45, 3) := dk_181 0 45 (dk_at dksX4_parse_0 12 rfl rfl)
theorem dX4_parse_15 : decode cX4_parse 15 = .ok (.aload_n 0, 1) := dk_42 (dk_at dksX4_parse_0 15 rfl rfl)
theorem dX4_parse_16 : decode cX4_parse 16 = .ok (.invokevirtual 61, 3) := dk_182 0 61 (dk_at dksX4_parse_0 16 rfl rfl)
theorem dX4_parse_19 : decode cX4_parse 19 = .ok (.aload_n 0, 1) := dk_42 (dk_at dksX4_parse_0 19 rfl rfl)
theorem dX4_parse_20 : decode cX4_parse 20 = .ok (.invokevirtual 419, 3) := dk_182 1 163 (dk_at dksX4_parse_0 20 rfl rfl)
theorem dX4_parse_23 : decode cX4_parse 23 = .ok (.aload_n 0, 1) := dk_42 (dk_at dksX4_parse_0 23 rfl rfl)
theorem dX4_parse_24 : decode cX4_parse 24 = .ok (.invokevirtual 344, 3) := dk_182 1 88 (dk_at dksX4_parse_1 0 rfl rfl)
theorem dX4_parse_27 : decode cX4_parse 27 = .ok (.ifCond .eq 17, 3) := dk_153 0 17 (dk_at dksX4_parse_1 3 rfl rfl)
theorem dX4_parse_30 : decode cX4_parse 30 = .ok (.aload_n 0, 1) := dk_42 (dk_at dksX4_parse_1 6 rfl rfl)
theorem dX4_parse_31 : decode cX4_parse 31 = .ok (.getfield 311, 3) := dk_180 1 55 (dk_at dksX4_parse_1 7 rfl rfl)
theorem dX4_parse_34 : decode cX4_parse 34 = .ok (.ifCond .eq 10, 3) := dk_153 0 10 (dk_at dksX4_parse_1 10 rfl rfl)
theorem dX4_parse_37 : decode cX4_parse 37 = .ok (.aload_n 0, 1) := dk_42 (dk_at dksX4_parse_1 13 rfl rfl)
theorem dX4_parse_38 : decode cX4_parse 38 = .ok (.invokevirtual 422, 3) := dk_182 1 166 (dk_at dksX4_parse_1 14 rfl rfl)
theorem dX4_parse_41 : decode cX4_parse 41 = .ok (.goto (-18), 3) := dk_167 255 238 (dk_at dksX4_parse_1 17 rfl rfl)
theorem dX4_parse_44 : decode cX4_parse 44 = .ok (.aload_n 0, 1) := dk_42 (dk_at dksX4_parse_1 20 rfl rfl)
theorem dX4_parse_45 : decode cX4_parse 45 = .ok (.invokevirtual 344, 3) := dk_182 1 88 (dk_at dksX4_parse_1 21 rfl rfl)
theorem dX4_parse_48 : decode cX4_parse 48 = .ok (.ifCond .ne 5, 3) := dk_154 0 5 (dk_at dksX4_parse_2 0 rfl rfl)
theorem dX4_parse_51 : decode cX4_parse 51 = .ok (.iconst (-1), 1) := dk_2 (dk_at dksX4_parse_2 3 rfl rfl)
theorem dX4_parse_52 : decode cX4_parse 52 = .ok (.ireturn, 1) := dk_172 (dk_at dksX4_parse_2 4 rfl rfl)
theorem dX4_parse_53 : decode cX4_parse 53 = .ok (.aload_n 0, 1) := dk_42 (dk_at dksX4_parse_2 5 rfl rfl)
theorem dX4_parse_54 : decode cX4_parse 54 = .ok (.invokevirtual 64, 3) := dk_182 0 64 (dk_at dksX4_parse_2 6 rfl rfl)
theorem dX4_parse_57 : decode cX4_parse 57 = .ok (.aload_n 0, 1) := dk_42 (dk_at dksX4_parse_2 9 rfl rfl)
theorem dX4_parse_58 : decode cX4_parse 58 = .ok (.getfield 7, 3) := dk_180 0 7 (dk_at dksX4_parse_2 10 rfl rfl)
theorem dX4_parse_61 : decode cX4_parse 61 = .ok (.iconst 2, 1) := dk_5 (dk_at dksX4_parse_2 13 rfl rfl)
theorem dX4_parse_62 : decode cX4_parse 62 = .ok (.iaload, 1) := dk_46 (dk_at dksX4_parse_2 14 rfl rfl)
theorem dX4_parse_63 : decode cX4_parse 63 = .ok (.ireturn, 1) := dk_172 (dk_at dksX4_parse_2 15 rfl rfl)
abbrev cX4_startsReading : ByteArray := prog_21_method_132_code
def yX4_startsReading : MethodName := ⟨RX4, "startsReading", "()V"⟩
def dkwX4_startsReading_0 : List UInt8 := [42, 42, 180, 1, 40, 181, 1, 43, 42, 3, 181, 1, 40, 42, 3, 181, 1, 46, 42, 182, 1, 92, 177]
abbrev dktX4_startsReading_0 : List UInt8 := dkwX4_startsReading_0 ++ []
theorem dksX4_startsReading_0 : cX4_startsReading.data.toList.drop 0 = dktX4_startsReading_0 := by decide +kernel
theorem dX4_startsReading_0 : decode cX4_startsReading 0 = .ok (.aload_n 0, 1) := dk_42 (dk_at dksX4_startsReading_0 0 rfl rfl)
theorem dX4_startsReading_1 : decode cX4_startsReading 1 = .ok (.aload_n 0, 1) := dk_42 (dk_at dksX4_startsReading_0 1 rfl rfl)
theorem dX4_startsReading_2 : decode cX4_startsReading 2 = .ok (.getfield 296, 3) := dk_180 1 40 (dk_at dksX4_startsReading_0 2 rfl rfl)
theorem dX4_startsReading_5 : decode cX4_startsReading 5 = .ok (.putfield 299, 3) := dk_181 1 43 (dk_at dksX4_startsReading_0 5 rfl rfl)
theorem dX4_startsReading_8 : decode cX4_startsReading 8 = .ok (.aload_n 0, 1) := dk_42 (dk_at dksX4_startsReading_0 8 rfl rfl)
theorem dX4_startsReading_9 : decode cX4_startsReading 9 = .ok (.iconst 0, 1) := dk_3 (dk_at dksX4_startsReading_0 9 rfl rfl)
theorem dX4_startsReading_10 : decode cX4_startsReading 10 = .ok (.putfield 296, 3) := dk_181 1 40 (dk_at dksX4_startsReading_0 10 rfl rfl)
theorem dX4_startsReading_13 : decode cX4_startsReading 13 = .ok (.aload_n 0, 1) := dk_42 (dk_at dksX4_startsReading_0 13 rfl rfl)
theorem dX4_startsReading_14 : decode cX4_startsReading 14 = .ok (.iconst 0, 1) := dk_3 (dk_at dksX4_startsReading_0 14 rfl rfl)
theorem dX4_startsReading_15 : decode cX4_startsReading 15 = .ok (.putfield 302, 3) := dk_181 1 46 (dk_at dksX4_startsReading_0 15 rfl rfl)
theorem dX4_startsReading_18 : decode cX4_startsReading 18 = .ok (.aload_n 0, 1) := dk_42 (dk_at dksX4_startsReading_0 18 rfl rfl)
theorem dX4_startsReading_19 : decode cX4_startsReading 19 = .ok (.invokevirtual 348, 3) := dk_182 1 92 (dk_at dksX4_startsReading_0 19 rfl rfl)
theorem dX4_startsReading_22 : decode cX4_startsReading 22 = .ok (.return_, 1) := dk_177 (dk_at dksX4_startsReading_0 22 rfl rfl)
abbrev cX4_next : ByteArray := prog_21_method_109_code
def yX4_next : MethodName := ⟨RX4, "next", "()V"⟩
def dkwX4_next_11 : List UInt8 := [42, 27, 16, 59, 160, 0, 7, 6, 167, 0, 4, 7, 181, 1, 55, 177]
abbrev dktX4_next_11 : List UInt8 := dkwX4_next_11 ++ []
def dkwX4_next_10 : List UInt8 := [164, 0, 7, 7, 167, 0, 4, 5, 181, 1, 55, 167, 0, 28, 42, 42, 180, 1, 46, 4, 96, 181, 1, 46]
abbrev dktX4_next_10 : List UInt8 := dkwX4_next_10 ++ dktX4_next_11
def dkwX4_next_9 : List UInt8 := [180, 1, 46, 4, 96, 181, 1, 46, 167, 255, 189, 42, 42, 180, 1, 46, 42, 180, 1, 52, 100, 6]
abbrev dktX4_next_9 : List UInt8 := dkwX4_next_9 ++ dktX4_next_10
def dkwX4_next_8 : List UInt8 := [16, 10, 42, 180, 1, 72, 104, 42, 42, 180, 1, 46, 182, 1, 49, 96, 16, 48, 100, 181, 1, 72, 42, 89]
abbrev dktX4_next_8 : List UInt8 := dkwX4_next_8 ++ dktX4_next_9
def dkwX4_next_7 : List UInt8 := [20, 1, 70, 184, 0, 144, 153, 0, 52, 42, 180, 1, 46, 42, 180, 1, 52, 100, 6, 162, 0, 26, 42]
abbrev dktX4_next_7 : List UInt8 := dkwX4_next_7 ++ dktX4_next_8
def dkwX4_next_6 : List UInt8 := [184, 0, 144, 153, 0, 103, 42, 3, 181, 1, 72, 42, 42, 180, 1, 46, 182, 1, 49, 133, 20, 1, 68]
abbrev dktX4_next_6 : List UInt8 := dkwX4_next_6 ++ dktX4_next_7
def dkwX4_next_5 : List UInt8 := [181, 1, 55, 42, 42, 182, 1, 62, 181, 1, 65, 167, 0, 142, 27, 133, 20, 1, 68, 20, 1, 70]
abbrev dktX4_next_5 : List UInt8 := dkwX4_next_5 ++ dktX4_next_6
def dkwX4_next_4 : List UInt8 := [20, 1, 60, 184, 0, 144, 153, 0, 16, 42, 42, 180, 1, 46, 4, 96, 181, 1, 46, 167, 255, 225, 42, 4]
abbrev dktX4_next_4 : List UInt8 := dkwX4_next_4 ++ dktX4_next_5
def dkwX4_next_3 : List UInt8 := [20, 1, 58, 20, 1, 60, 184, 0, 144, 153, 0, 53, 42, 42, 180, 1, 46, 182, 1, 49, 133, 20, 1, 58]
abbrev dktX4_next_3 : List UInt8 := dkwX4_next_3 ++ dktX4_next_4
def dkwX4_next_2 : List UInt8 := [42, 42, 180, 1, 46, 182, 1, 49, 60, 27, 2, 160, 0, 11, 42, 3, 181, 1, 55, 167, 0, 206, 27, 133]
abbrev dktX4_next_2 : List UInt8 := dkwX4_next_2 ++ dktX4_next_3
def dkwX4_next_1 : List UInt8 := [160, 0, 16, 42, 42, 180, 1, 46, 4, 96, 181, 1, 46, 167, 255, 220, 42, 42, 180, 1, 46, 181, 1, 52]
abbrev dktX4_next_1 : List UInt8 := dkwX4_next_1 ++ dktX4_next_2
def dkwX4_next_0 : List UInt8 := [42, 42, 180, 1, 46, 182, 1, 49, 16, 32, 159, 0, 16, 42, 42, 180, 1, 46, 182, 1, 49, 16, 10]
abbrev dktX4_next_0 : List UInt8 := dkwX4_next_0 ++ dktX4_next_1
theorem dksX4_next_0 : cX4_next.data.toList.drop 0 = dktX4_next_0 := by decide +kernel
theorem dksX4_next_1 : cX4_next.data.toList.drop 23 = dktX4_next_1 := dk_seg dksX4_next_0 23 rfl rfl
theorem dksX4_next_2 : cX4_next.data.toList.drop 47 = dktX4_next_2 := dk_seg dksX4_next_1 24 rfl rfl
theorem dksX4_next_3 : cX4_next.data.toList.drop 71 = dktX4_next_3 := dk_seg dksX4_next_2 24 rfl rfl
theorem dksX4_next_4 : cX4_next.data.toList.drop 95 = dktX4_next_4 := dk_seg dksX4_next_3 24 rfl rfl
theorem dksX4_next_5 : cX4_next.data.toList.drop 119 = dktX4_next_5 := dk_seg dksX4_next_4 24 rfl rfl
theorem dksX4_next_6 : cX4_next.data.toList.drop 141 = dktX4_next_6 := dk_seg dksX4_next_5 22 rfl rfl
theorem dksX4_next_7 : cX4_next.data.toList.drop 164 = dktX4_next_7 := dk_seg dksX4_next_6 23 rfl rfl
theorem dksX4_next_8 : cX4_next.data.toList.drop 187 = dktX4_next_8 := dk_seg dksX4_next_7 23 rfl rfl
theorem dksX4_next_9 : cX4_next.data.toList.drop 211 = dktX4_next_9 := dk_seg dksX4_next_8 24 rfl rfl
theorem dksX4_next_10 : cX4_next.data.toList.drop 233 = dktX4_next_10 := dk_seg dksX4_next_9 22 rfl rfl
theorem dksX4_next_11 : cX4_next.data.toList.drop 257 = dktX4_next_11 := dk_seg dksX4_next_10 24 rfl rfl
theorem dX4_next_0 : decode cX4_next 0 = .ok (.aload_n 0, 1) := dk_42 (dk_at dksX4_next_0 0 rfl rfl)
theorem dX4_next_1 : decode cX4_next 1 = .ok (.aload_n 0, 1) := dk_42 (dk_at dksX4_next_0 1 rfl rfl)
theorem dX4_next_2 : decode cX4_next 2 = .ok (.getfield 302, 3) := dk_180 1 46 (dk_at dksX4_next_0 2 rfl rfl)
theorem dX4_next_5 : decode cX4_next 5 = .ok (.invokevirtual 305, 3) := dk_182 1 49 (dk_at dksX4_next_0 5 rfl rfl)
theorem dX4_next_8 : decode cX4_next 8 = .ok (.bipush 32, 2) := dk_16 32 (dk_at dksX4_next_0 8 rfl rfl)
theorem dX4_next_10 : decode cX4_next 10 = .ok (.if_icmp .eq 16, 3) := dk_159 0 16 (dk_at dksX4_next_0 10 rfl rfl)
theorem dX4_next_13 : decode cX4_next 13 = .ok (.aload_n 0, 1) := dk_42 (dk_at dksX4_next_0 13 rfl rfl)
theorem dX4_next_14 : decode cX4_next 14 = .ok (.aload_n 0, 1) := dk_42 (dk_at dksX4_next_0 14 rfl rfl)
theorem dX4_next_15 : decode cX4_next 15 = .ok (.getfield 302, 3) := dk_180 1 46 (dk_at dksX4_next_0 15 rfl rfl)
theorem dX4_next_18 : decode cX4_next 18 = .ok (.invokevirtual 305, 3) := dk_182 1 49 (dk_at dksX4_next_0 18 rfl rfl)
theorem dX4_next_21 : decode cX4_next 21 = .ok (.bipush 10, 2) := dk_16 10 (dk_at dksX4_next_0 21 rfl rfl)
theorem dX4_next_23 : decode cX4_next 23 = .ok (.if_icmp .ne 16, 3) := dk_160 0 16 (dk_at dksX4_next_1 0 rfl rfl)
theorem dX4_next_26 : decode cX4_next 26 = .ok (.aload_n 0, 1) := dk_42 (dk_at dksX4_next_1 3 rfl rfl)
theorem dX4_next_27 : decode cX4_next 27 = .ok (.aload_n 0, 1) := dk_42 (dk_at dksX4_next_1 4 rfl rfl)
theorem dX4_next_28 : decode cX4_next 28 = .ok (.getfield 302, 3) := dk_180 1 46 (dk_at dksX4_next_1 5 rfl rfl)
theorem dX4_next_31 : decode cX4_next 31 = .ok (.iconst 1, 1) := dk_4 (dk_at dksX4_next_1 8 rfl rfl)
theorem dX4_next_32 : decode cX4_next 32 = .ok (.iadd, 1) := dk_96 (dk_at dksX4_next_1 9 rfl rfl)
theorem dX4_next_33 : decode cX4_next 33 = .ok (.putfield 302, 3) := dk_181 1 46 (dk_at dksX4_next_1 10 rfl rfl)
theorem dX4_next_36 : decode cX4_next 36 = .ok (.goto (-36), 3) := dk_167 255 220 (dk_at dksX4_next_1 13 rfl rfl)
theorem dX4_next_39 : decode cX4_next 39 = .ok (.aload_n 0, 1) := dk_42 (dk_at dksX4_next_1 16 rfl rfl)
theorem dX4_next_40 : decode cX4_next 40 = .ok (.aload_n 0, 1) := dk_42 (dk_at dksX4_next_1 17 rfl rfl)
theorem dX4_next_41 : decode cX4_next 41 = .ok (.getfield 302, 3) := dk_180 1 46 (dk_at dksX4_next_1 18 rfl rfl)
theorem dX4_next_44 : decode cX4_next 44 = .ok (.putfield 308, 3) := dk_181 1 52 (dk_at dksX4_next_1 21 rfl rfl)
theorem dX4_next_47 : decode cX4_next 47 = .ok (.aload_n 0, 1) := dk_42 (dk_at dksX4_next_2 0 rfl rfl)
theorem dX4_next_48 : decode cX4_next 48 = .ok (.aload_n 0, 1) := dk_42 (dk_at dksX4_next_2 1 rfl rfl)
theorem dX4_next_49 : decode cX4_next 49 = .ok (.getfield 302, 3) := dk_180 1 46 (dk_at dksX4_next_2 2 rfl rfl)
theorem dX4_next_52 : decode cX4_next 52 = .ok (.invokevirtual 305, 3) := dk_182 1 49 (dk_at dksX4_next_2 5 rfl rfl)
theorem dX4_next_55 : decode cX4_next 55 = .ok (.istore_n 1, 1) := dk_60 (dk_at dksX4_next_2 8 rfl rfl)
theorem dX4_next_56 : decode cX4_next 56 = .ok (.iload_n 1, 1) := dk_27 (dk_at dksX4_next_2 9 rfl rfl)
theorem dX4_next_57 : decode cX4_next 57 = .ok (.iconst (-1), 1) := dk_2 (dk_at dksX4_next_2 10 rfl rfl)
theorem dX4_next_58 : decode cX4_next 58 = .ok (.if_icmp .ne 11, 3) := dk_160 0 11 (dk_at dksX4_next_2 11 rfl rfl)
theorem dX4_next_61 : decode cX4_next 61 = .ok (.aload_n 0, 1) := dk_42 (dk_at dksX4_next_2 14 rfl rfl)
theorem dX4_next_62 : decode cX4_next 62 = .ok (.iconst 0, 1) := dk_3 (dk_at dksX4_next_2 15 rfl rfl)
theorem dX4_next_63 : decode cX4_next 63 = .ok (.putfield 311, 3) := dk_181 1 55 (dk_at dksX4_next_2 16 rfl rfl)
theorem dX4_next_66 : decode cX4_next 66 = .ok (.goto 206, 3) := dk_167 0 206 (dk_at dksX4_next_2 19 rfl rfl)
theorem dX4_next_69 : decode cX4_next 69 = .ok (.iload_n 1, 1) := dk_27 (dk_at dksX4_next_2 22 rfl rfl)
theorem dX4_next_70 : decode cX4_next 70 = .ok (.i2l, 1) := dk_133 (dk_at dksX4_next_2 23 rfl rfl)
theorem dX4_next_71 : decode cX4_next 71 = .ok (.ldc2_w 314, 3) := dk_20 1 58 (dk_at dksX4_next_3 0 rfl rfl)
theorem dX4_next_74 : decode cX4_next 74 = .ok (.ldc2_w 316, 3) := dk_20 1 60 (dk_at dksX4_next_3 3 rfl rfl)
theorem dX4_next_77 : decode cX4_next 77 = .ok (.invokestatic 144, 3) := dk_184 0 144 (dk_at dksX4_next_3 6 rfl rfl)
theorem dX4_next_80 : decode cX4_next 80 = .ok (.ifCond .eq 53, 3) := dk_153 0 53 (dk_at dksX4_next_3 9 rfl rfl)
theorem dX4_next_83 : decode cX4_next 83 = .ok (.aload_n 0, 1) := dk_42 (dk_at dksX4_next_3 12 rfl rfl)
theorem dX4_next_84 : decode cX4_next 84 = .ok (.aload_n 0, 1) := dk_42 (dk_at dksX4_next_3 13 rfl rfl)
theorem dX4_next_85 : decode cX4_next 85 = .ok (.getfield 302, 3) := dk_180 1 46 (dk_at dksX4_next_3 14 rfl rfl)
theorem dX4_next_88 : decode cX4_next 88 = .ok (.invokevirtual 305, 3) := dk_182 1 49 (dk_at dksX4_next_3 17 rfl rfl)
theorem dX4_next_91 : decode cX4_next 91 = .ok (.i2l, 1) := dk_133 (dk_at dksX4_next_3 20 rfl rfl)
theorem dX4_next_92 : decode cX4_next 92 = .ok (.ldc2_w 314, 3) := dk_20 1 58 (dk_at dksX4_next_3 21 rfl rfl)
theorem dX4_next_95 : decode cX4_next 95 = .ok (.ldc2_w 316, 3) := dk_20 1 60 (dk_at dksX4_next_4 0 rfl rfl)
theorem dX4_next_98 : decode cX4_next 98 = .ok (.invokestatic 144, 3) := dk_184 0 144 (dk_at dksX4_next_4 3 rfl rfl)
theorem dX4_next_101 : decode cX4_next 101 = .ok (.ifCond .eq 16, 3) := dk_153 0 16 (dk_at dksX4_next_4 6 rfl rfl)
theorem dX4_next_104 : decode cX4_next 104 = .ok (.aload_n 0, 1) := dk_42 (dk_at dksX4_next_4 9 rfl rfl)
theorem dX4_next_105 : decode cX4_next 105 = .ok (.aload_n 0, 1) := dk_42 (dk_at dksX4_next_4 10 rfl rfl)
theorem dX4_next_106 : decode cX4_next 106 = .ok (.getfield 302, 3) := dk_180 1 46 (dk_at dksX4_next_4 11 rfl rfl)
theorem dX4_next_109 : decode cX4_next 109 = .ok (.iconst 1, 1) := dk_4 (dk_at dksX4_next_4 14 rfl rfl)
theorem dX4_next_110 : decode cX4_next 110 = .ok (.iadd, 1) := dk_96 (dk_at dksX4_next_4 15 rfl rfl)
theorem dX4_next_111 : decode cX4_next 111 = .ok (.putfield 302, 3) := dk_181 1 46 (dk_at dksX4_next_4 16 rfl rfl)
theorem dX4_next_114 : decode cX4_next 114 = .ok (.goto (-31), 3) := dk_167 255 225 (dk_at dksX4_next_4 19 rfl rfl)
theorem dX4_next_117 : decode cX4_next 117 = .ok (.aload_n 0, 1) := dk_42 (dk_at dksX4_next_4 22 rfl rfl)
theorem dX4_next_118 : decode cX4_next 118 = .ok (.iconst 1, 1) := dk_4 (dk_at dksX4_next_4 23 rfl rfl)
theorem dX4_next_119 : decode cX4_next 119 = .ok (.putfield 311, 3) := dk_181 1 55 (dk_at dksX4_next_5 0 rfl rfl)
theorem dX4_next_122 : decode cX4_next 122 = .ok (.aload_n 0, 1) := dk_42 (dk_at dksX4_next_5 3 rfl rfl)
theorem dX4_next_123 : decode cX4_next 123 = .ok (.aload_n 0, 1) := dk_42 (dk_at dksX4_next_5 4 rfl rfl)
theorem dX4_next_124 : decode cX4_next 124 = .ok (.invokevirtual 318, 3) := dk_182 1 62 (dk_at dksX4_next_5 5 rfl rfl)
theorem dX4_next_127 : decode cX4_next 127 = .ok (.putfield 321, 3) := dk_181 1 65 (dk_at dksX4_next_5 8 rfl rfl)
theorem dX4_next_130 : decode cX4_next 130 = .ok (.goto 142, 3) := dk_167 0 142 (dk_at dksX4_next_5 11 rfl rfl)
theorem dX4_next_133 : decode cX4_next 133 = .ok (.iload_n 1, 1) := dk_27 (dk_at dksX4_next_5 14 rfl rfl)
theorem dX4_next_134 : decode cX4_next 134 = .ok (.i2l, 1) := dk_133 (dk_at dksX4_next_5 15 rfl rfl)
theorem dX4_next_135 : decode cX4_next 135 = .ok (.ldc2_w 324, 3) := dk_20 1 68 (dk_at dksX4_next_5 16 rfl rfl)
theorem dX4_next_138 : decode cX4_next 138 = .ok (.ldc2_w 326, 3) := dk_20 1 70 (dk_at dksX4_next_5 19 rfl rfl)
theorem dX4_next_141 : decode cX4_next 141 = .ok (.invokestatic 144, 3) := dk_184 0 144 (dk_at dksX4_next_6 0 rfl rfl)
theorem dX4_next_144 : decode cX4_next 144 = .ok (.ifCond .eq 103, 3) := dk_153 0 103 (dk_at dksX4_next_6 3 rfl rfl)
theorem dX4_next_147 : decode cX4_next 147 = .ok (.aload_n 0, 1) := dk_42 (dk_at dksX4_next_6 6 rfl rfl)
theorem dX4_next_148 : decode cX4_next 148 = .ok (.iconst 0, 1) := dk_3 (dk_at dksX4_next_6 7 rfl rfl)
theorem dX4_next_149 : decode cX4_next 149 = .ok (.putfield 328, 3) := dk_181 1 72 (dk_at dksX4_next_6 8 rfl rfl)
theorem dX4_next_152 : decode cX4_next 152 = .ok (.aload_n 0, 1) := dk_42 (dk_at dksX4_next_6 11 rfl rfl)
theorem dX4_next_153 : decode cX4_next 153 = .ok (.aload_n 0, 1) := dk_42 (dk_at dksX4_next_6 12 rfl rfl)
theorem dX4_next_154 : decode cX4_next 154 = .ok (.getfield 302, 3) := dk_180 1 46 (dk_at dksX4_next_6 13 rfl rfl)
theorem dX4_next_157 : decode cX4_next 157 = .ok (.invokevirtual 305, 3) := dk_182 1 49 (dk_at dksX4_next_6 16 rfl rfl)
theorem dX4_next_160 : decode cX4_next 160 = .ok (.i2l, 1) := dk_133 (dk_at dksX4_next_6 19 rfl rfl)
theorem dX4_next_161 : decode cX4_next 161 = .ok (.ldc2_w 324, 3) := dk_20 1 68 (dk_at dksX4_next_6 20 rfl rfl)
theorem dX4_next_164 : decode cX4_next 164 = .ok (.ldc2_w 326, 3) := dk_20 1 70 (dk_at dksX4_next_7 0 rfl rfl)
theorem dX4_next_167 : decode cX4_next 167 = .ok (.invokestatic 144, 3) := dk_184 0 144 (dk_at dksX4_next_7 3 rfl rfl)
theorem dX4_next_170 : decode cX4_next 170 = .ok (.ifCond .eq 52, 3) := dk_153 0 52 (dk_at dksX4_next_7 6 rfl rfl)
theorem dX4_next_173 : decode cX4_next 173 = .ok (.aload_n 0, 1) := dk_42 (dk_at dksX4_next_7 9 rfl rfl)
theorem dX4_next_174 : decode cX4_next 174 = .ok (.getfield 302, 3) := dk_180 1 46 (dk_at dksX4_next_7 10 rfl rfl)
theorem dX4_next_177 : decode cX4_next 177 = .ok (.aload_n 0, 1) := dk_42 (dk_at dksX4_next_7 13 rfl rfl)
theorem dX4_next_178 : decode cX4_next 178 = .ok (.getfield 308, 3) := dk_180 1 52 (dk_at dksX4_next_7 14 rfl rfl)
theorem dX4_next_181 : decode cX4_next 181 = .ok (.isub, 1) := dk_100 (dk_at dksX4_next_7 17 rfl rfl)
theorem dX4_next_182 : decode cX4_next 182 = .ok (.iconst 3, 1) := dk_6 (dk_at dksX4_next_7 18 rfl rfl)
theorem dX4_next_183 : decode cX4_next 183 = .ok (.if_icmp .ge 26, 3) := dk_162 0 26 (dk_at dksX4_next_7 19 rfl rfl)
theorem dX4_next_186 : decode cX4_next 186 = .ok (.aload_n 0, 1) := dk_42 (dk_at dksX4_next_7 22 rfl rfl)
theorem dX4_next_187 : decode cX4_next 187 = .ok (.bipush 10, 2) := dk_16 10 (dk_at dksX4_next_8 0 rfl rfl)
theorem dX4_next_189 : decode cX4_next 189 = .ok (.aload_n 0, 1) := dk_42 (dk_at dksX4_next_8 2 rfl rfl)
theorem dX4_next_190 : decode cX4_next 190 = .ok (.getfield 328, 3) := dk_180 1 72 (dk_at dksX4_next_8 3 rfl rfl)
theorem dX4_next_193 : decode cX4_next 193 = .ok (.imul, 1) := dk_104 (dk_at dksX4_next_8 6 rfl rfl)
theorem dX4_next_194 : decode cX4_next 194 = .ok (.aload_n 0, 1) := dk_42 (dk_at dksX4_next_8 7 rfl rfl)
theorem dX4_next_195 : decode cX4_next 195 = .ok (.aload_n 0, 1) := dk_42 (dk_at dksX4_next_8 8 rfl rfl)
theorem dX4_next_196 : decode cX4_next 196 = .ok (.getfield 302, 3) := dk_180 1 46 (dk_at dksX4_next_8 9 rfl rfl)
theorem dX4_next_199 : decode cX4_next 199 = .ok (.invokevirtual 305, 3) := dk_182 1 49 (dk_at dksX4_next_8 12 rfl rfl)
theorem dX4_next_202 : decode cX4_next 202 = .ok (.iadd, 1) := dk_96 (dk_at dksX4_next_8 15 rfl rfl)
theorem dX4_next_203 : decode cX4_next 203 = .ok (.bipush 48, 2) := dk_16 48 (dk_at dksX4_next_8 16 rfl rfl)
theorem dX4_next_205 : decode cX4_next 205 = .ok (.isub, 1) := dk_100 (dk_at dksX4_next_8 18 rfl rfl)
theorem dX4_next_206 : decode cX4_next 206 = .ok (.putfield 328, 3) := dk_181 1 72 (dk_at dksX4_next_8 19 rfl rfl)
theorem dX4_next_209 : decode cX4_next 209 = .ok (.aload_n 0, 1) := dk_42 (dk_at dksX4_next_8 22 rfl rfl)
theorem dX4_next_210 : decode cX4_next 210 = .ok (.dup, 1) := dk_89 (dk_at dksX4_next_8 23 rfl rfl)
theorem dX4_next_211 : decode cX4_next 211 = .ok (.getfield 302, 3) := dk_180 1 46 (dk_at dksX4_next_9 0 rfl rfl)
theorem dX4_next_214 : decode cX4_next 214 = .ok (.iconst 1, 1) := dk_4 (dk_at dksX4_next_9 3 rfl rfl)
theorem dX4_next_215 : decode cX4_next 215 = .ok (.iadd, 1) := dk_96 (dk_at dksX4_next_9 4 rfl rfl)
theorem dX4_next_216 : decode cX4_next 216 = .ok (.putfield 302, 3) := dk_181 1 46 (dk_at dksX4_next_9 5 rfl rfl)
theorem dX4_next_219 : decode cX4_next 219 = .ok (.goto (-67), 3) := dk_167 255 189 (dk_at dksX4_next_9 8 rfl rfl)
theorem dX4_next_222 : decode cX4_next 222 = .ok (.aload_n 0, 1) := dk_42 (dk_at dksX4_next_9 11 rfl rfl)
theorem dX4_next_223 : decode cX4_next 223 = .ok (.aload_n 0, 1) := dk_42 (dk_at dksX4_next_9 12 rfl rfl)
theorem dX4_next_224 : decode cX4_next 224 = .ok (.getfield 302, 3) := dk_180 1 46 (dk_at dksX4_next_9 13 rfl rfl)
theorem dX4_next_227 : decode cX4_next 227 = .ok (.aload_n 0, 1) := dk_42 (dk_at dksX4_next_9 16 rfl rfl)
theorem dX4_next_228 : decode cX4_next 228 = .ok (.getfield 308, 3) := dk_180 1 52 (dk_at dksX4_next_9 17 rfl rfl)
theorem dX4_next_231 : decode cX4_next 231 = .ok (.isub, 1) := dk_100 (dk_at dksX4_next_9 20 rfl rfl)
theorem dX4_next_232 : decode cX4_next 232 = .ok (.iconst 3, 1) := dk_6 (dk_at dksX4_next_9 21 rfl rfl)
theorem dX4_next_233 : decode cX4_next 233 = .ok (.if_icmp .le 7, 3) := dk_164 0 7 (dk_at dksX4_next_10 0 rfl rfl)
theorem dX4_next_236 : decode cX4_next 236 = .ok (.iconst 4, 1) := dk_7 (dk_at dksX4_next_10 3 rfl rfl)
theorem dX4_next_237 : decode cX4_next 237 = .ok (.goto 4, 3) := dk_167 0 4 (dk_at dksX4_next_10 4 rfl rfl)
theorem dX4_next_240 : decode cX4_next 240 = .ok (.iconst 2, 1) := dk_5 (dk_at dksX4_next_10 7 rfl rfl)
theorem dX4_next_241 : decode cX4_next 241 = .ok (.putfield 311, 3) := dk_181 1 55 (dk_at dksX4_next_10 8 rfl rfl)
theorem dX4_next_244 : decode cX4_next 244 = .ok (.goto 28, 3) := dk_167 0 28 (dk_at dksX4_next_10 11 rfl rfl)
theorem dX4_next_247 : decode cX4_next 247 = .ok (.aload_n 0, 1) := dk_42 (dk_at dksX4_next_10 14 rfl rfl)
theorem dX4_next_248 : decode cX4_next 248 = .ok (.aload_n 0, 1) := dk_42 (dk_at dksX4_next_10 15 rfl rfl)
theorem dX4_next_249 : decode cX4_next 249 = .ok (.getfield 302, 3) := dk_180 1 46 (dk_at dksX4_next_10 16 rfl rfl)
theorem dX4_next_252 : decode cX4_next 252 = .ok (.iconst 1, 1) := dk_4 (dk_at dksX4_next_10 19 rfl rfl)
theorem dX4_next_253 : decode cX4_next 253 = .ok (.iadd, 1) := dk_96 (dk_at dksX4_next_10 20 rfl rfl)
theorem dX4_next_254 : decode cX4_next 254 = .ok (.putfield 302, 3) := dk_181 1 46 (dk_at dksX4_next_10 21 rfl rfl)
theorem dX4_next_257 : decode cX4_next 257 = .ok (.aload_n 0, 1) := dk_42 (dk_at dksX4_next_11 0 rfl rfl)
theorem dX4_next_258 : decode cX4_next 258 = .ok (.iload_n 1, 1) := dk_27 (dk_at dksX4_next_11 1 rfl rfl)
theorem dX4_next_259 : decode cX4_next 259 = .ok (.bipush 59, 2) := dk_16 59 (dk_at dksX4_next_11 2 rfl rfl)
theorem dX4_next_261 : decode cX4_next 261 = .ok (.if_icmp .ne 7, 3) := dk_160 0 7 (dk_at dksX4_next_11 4 rfl rfl)
theorem dX4_next_264 : decode cX4_next 264 = .ok (.iconst 3, 1) := dk_6 (dk_at dksX4_next_11 7 rfl rfl)
theorem dX4_next_265 : decode cX4_next 265 = .ok (.goto 4, 3) := dk_167 0 4 (dk_at dksX4_next_11 8 rfl rfl)
theorem dX4_next_268 : decode cX4_next 268 = .ok (.iconst 4, 1) := dk_7 (dk_at dksX4_next_11 11 rfl rfl)
theorem dX4_next_269 : decode cX4_next 269 = .ok (.putfield 311, 3) := dk_181 1 55 (dk_at dksX4_next_11 12 rfl rfl)
theorem dX4_next_272 : decode cX4_next 272 = .ok (.return_, 1) := dk_177 (dk_at dksX4_next_11 15 rfl rfl)
abbrev cX4_here : ByteArray := prog_21_method_108_code
def yX4_here : MethodName := ⟨RX4, "here", "(I)I"⟩
def dkwX4_here_0 : List UInt8 := [27, 42, 180, 1, 43, 162, 0, 16, 42, 180, 0, 41, 27, 51, 17, 0, 255, 126, 167, 0, 4, 2, 172]
abbrev dktX4_here_0 : List UInt8 := dkwX4_here_0 ++ []
theorem dksX4_here_0 : cX4_here.data.toList.drop 0 = dktX4_here_0 := by decide +kernel
theorem dX4_here_0 : decode cX4_here 0 = .ok (.iload_n 1, 1) := dk_27 (dk_at dksX4_here_0 0 rfl rfl)
theorem dX4_here_1 : decode cX4_here 1 = .ok (.aload_n 0, 1) := dk_42 (dk_at dksX4_here_0 1 rfl rfl)
theorem dX4_here_2 : decode cX4_here 2 = .ok (.getfield 299, 3) := dk_180 1 43 (dk_at dksX4_here_0 2 rfl rfl)
theorem dX4_here_5 : decode cX4_here 5 = .ok (.if_icmp .ge 16, 3) := dk_162 0 16 (dk_at dksX4_here_0 5 rfl rfl)
theorem dX4_here_8 : decode cX4_here 8 = .ok (.aload_n 0, 1) := dk_42 (dk_at dksX4_here_0 8 rfl rfl)
theorem dX4_here_9 : decode cX4_here 9 = .ok (.getfield 41, 3) := dk_180 0 41 (dk_at dksX4_here_0 9 rfl rfl)
theorem dX4_here_12 : decode cX4_here 12 = .ok (.iload_n 1, 1) := dk_27 (dk_at dksX4_here_0 12 rfl rfl)
theorem dX4_here_13 : decode cX4_here 13 = .ok (.baload, 1) := dk_51 (dk_at dksX4_here_0 13 rfl rfl)
theorem dX4_here_14 : decode cX4_here 14 = .ok (.sipush 255, 3) := dk_17 0 255 (dk_at dksX4_here_0 14 rfl rfl)
theorem dX4_here_17 : decode cX4_here 17 = .ok (.iand, 1) := dk_126 (dk_at dksX4_here_0 17 rfl rfl)
theorem dX4_here_18 : decode cX4_here 18 = .ok (.goto 4, 3) := dk_167 0 4 (dk_at dksX4_here_0 18 rfl rfl)
theorem dX4_here_21 : decode cX4_here 21 = .ok (.iconst (-1), 1) := dk_2 (dk_at dksX4_here_0 21 rfl rfl)
theorem dX4_here_22 : decode cX4_here 22 = .ok (.ireturn, 1) := dk_172 (dk_at dksX4_here_0 22 rfl rfl)
abbrev cX4_wordHere : ByteArray := prog_21_method_110_code
def yX4_wordHere : MethodName := ⟨RX4, "wordHere", "()I"⟩
def dkwX4_wordHere_5 : List UInt8 := [96, 61, 167, 255, 240, 28, 4, 96, 61, 27, 4, 96, 60, 167, 255, 131, 2, 172]
abbrev dktX4_wordHere_5 : List UInt8 := dkwX4_wordHere_5 ++ []
def dkwX4_wordHere_4 : List UInt8 := [96, 42, 180, 1, 46, 160, 0, 5, 27, 172, 19, 1, 75, 28, 182, 1, 81, 16, 32, 159, 0, 10, 28, 4]
abbrev dktX4_wordHere_4 : List UInt8 := dkwX4_wordHere_4 ++ dktX4_wordHere_5
def dkwX4_wordHere_3 : List UInt8 := [96, 62, 167, 255, 202, 19, 1, 75, 28, 29, 96, 182, 1, 81, 16, 32, 160, 0, 18, 42, 180, 1, 52, 29]
abbrev dktX4_wordHere_3 : List UInt8 := dkwX4_wordHere_3 ++ dktX4_wordHere_4
def dkwX4_wordHere_2 : List UInt8 := [180, 0, 41, 42, 180, 1, 52, 29, 96, 51, 19, 1, 75, 28, 29, 96, 182, 1, 81, 160, 0, 10, 29, 4]
abbrev dktX4_wordHere_2 : List UInt8 := dkwX4_wordHere_2 ++ dktX4_wordHere_3
def dkwX4_wordHere_1 : List UInt8 := [182, 1, 81, 16, 32, 159, 0, 46, 42, 180, 1, 52, 29, 96, 42, 180, 1, 46, 162, 0, 33, 42]
abbrev dktX4_wordHere_1 : List UInt8 := dkwX4_wordHere_1 ++ dktX4_wordHere_2
def dkwX4_wordHere_0 : List UInt8 := [3, 60, 3, 61, 28, 19, 1, 75, 182, 1, 77, 162, 0, 121, 3, 62, 19, 1, 75, 28, 29, 96]
abbrev dktX4_wordHere_0 : List UInt8 := dkwX4_wordHere_0 ++ dktX4_wordHere_1
theorem dksX4_wordHere_0 : cX4_wordHere.data.toList.drop 0 = dktX4_wordHere_0 := by decide +kernel
theorem dksX4_wordHere_1 : cX4_wordHere.data.toList.drop 22 = dktX4_wordHere_1 := dk_seg dksX4_wordHere_0 22 rfl rfl
theorem dksX4_wordHere_2 : cX4_wordHere.data.toList.drop 44 = dktX4_wordHere_2 := dk_seg dksX4_wordHere_1 22 rfl rfl
theorem dksX4_wordHere_3 : cX4_wordHere.data.toList.drop 68 = dktX4_wordHere_3 := dk_seg dksX4_wordHere_2 24 rfl rfl
theorem dksX4_wordHere_4 : cX4_wordHere.data.toList.drop 92 = dktX4_wordHere_4 := dk_seg dksX4_wordHere_3 24 rfl rfl
theorem dksX4_wordHere_5 : cX4_wordHere.data.toList.drop 116 = dktX4_wordHere_5 := dk_seg dksX4_wordHere_4 24 rfl rfl
theorem dX4_wordHere_0 : decode cX4_wordHere 0 = .ok (.iconst 0, 1) := dk_3 (dk_at dksX4_wordHere_0 0 rfl rfl)
theorem dX4_wordHere_1 : decode cX4_wordHere 1 = .ok (.istore_n 1, 1) := dk_60 (dk_at dksX4_wordHere_0 1 rfl rfl)
theorem dX4_wordHere_2 : decode cX4_wordHere 2 = .ok (.iconst 0, 1) := dk_3 (dk_at dksX4_wordHere_0 2 rfl rfl)
theorem dX4_wordHere_3 : decode cX4_wordHere 3 = .ok (.istore_n 2, 1) := dk_61 (dk_at dksX4_wordHere_0 3 rfl rfl)
theorem dX4_wordHere_4 : decode cX4_wordHere 4 = .ok (.iload_n 2, 1) := dk_28 (dk_at dksX4_wordHere_0 4 rfl rfl)
theorem dX4_wordHere_5 : decode cX4_wordHere 5 = .ok (.ldc_w 331, 3) := dk_19 1 75 (dk_at dksX4_wordHere_0 5 rfl rfl)
theorem dX4_wordHere_8 : decode cX4_wordHere 8 = .ok (.invokevirtual 333, 3) := dk_182 1 77 (dk_at dksX4_wordHere_0 8 rfl rfl)
theorem dX4_wordHere_11 : decode cX4_wordHere 11 = .ok (.if_icmp .ge 121, 3) := dk_162 0 121 (dk_at dksX4_wordHere_0 11 rfl rfl)
theorem dX4_wordHere_14 : decode cX4_wordHere 14 = .ok (.iconst 0, 1) := dk_3 (dk_at dksX4_wordHere_0 14 rfl rfl)
theorem dX4_wordHere_15 : decode cX4_wordHere 15 = .ok (.istore_n 3, 1) := dk_62 (dk_at dksX4_wordHere_0 15 rfl rfl)
theorem dX4_wordHere_16 : decode cX4_wordHere 16 = .ok (.ldc_w 331, 3) := dk_19 1 75 (dk_at dksX4_wordHere_0 16 rfl rfl)
theorem dX4_wordHere_19 : decode cX4_wordHere 19 = .ok (.iload_n 2, 1) := dk_28 (dk_at dksX4_wordHere_0 19 rfl rfl)
theorem dX4_wordHere_20 : decode cX4_wordHere 20 = .ok (.iload_n 3, 1) := dk_29 (dk_at dksX4_wordHere_0 20 rfl rfl)
theorem dX4_wordHere_21 : decode cX4_wordHere 21 = .ok (.iadd, 1) := dk_96 (dk_at dksX4_wordHere_0 21 rfl rfl)
theorem dX4_wordHere_22 : decode cX4_wordHere 22 = .ok (.invokevirtual 337, 3) := dk_182 1 81 (dk_at dksX4_wordHere_1 0 rfl rfl)
theorem dX4_wordHere_25 : decode cX4_wordHere 25 = .ok (.bipush 32, 2) := dk_16 32 (dk_at dksX4_wordHere_1 3 rfl rfl)
theorem dX4_wordHere_27 : decode cX4_wordHere 27 = .ok (.if_icmp .eq 46, 3) := dk_159 0 46 (dk_at dksX4_wordHere_1 5 rfl rfl)
theorem dX4_wordHere_30 : decode cX4_wordHere 30 = .ok (.aload_n 0, 1) := dk_42 (dk_at dksX4_wordHere_1 8 rfl rfl)
theorem dX4_wordHere_31 : decode cX4_wordHere 31 = .ok (.getfield 308, 3) := dk_180 1 52 (dk_at dksX4_wordHere_1 9 rfl rfl)
theorem dX4_wordHere_34 : decode cX4_wordHere 34 = .ok (.iload_n 3, 1) := dk_29 (dk_at dksX4_wordHere_1 12 rfl rfl)
theorem dX4_wordHere_35 : decode cX4_wordHere 35 = .ok (.iadd, 1) := dk_96 (dk_at dksX4_wordHere_1 13 rfl rfl)
theorem dX4_wordHere_36 : decode cX4_wordHere 36 = .ok (.aload_n 0, 1) := dk_42 (dk_at dksX4_wordHere_1 14 rfl rfl)
theorem dX4_wordHere_37 : decode cX4_wordHere 37 = .ok (.getfield 302, 3) := dk_180 1 46 (dk_at dksX4_wordHere_1 15 rfl rfl)
theorem dX4_wordHere_40 : decode cX4_wordHere 40 = .ok (.if_icmp .ge 33, 3) := dk_162 0 33 (dk_at dksX4_wordHere_1 18 rfl rfl)
theorem dX4_wordHere_43 : decode cX4_wordHere 43 = .ok (.aload_n 0, 1) := dk_42 (dk_at dksX4_wordHere_1 21 rfl rfl)
theorem dX4_wordHere_44 : decode cX4_wordHere 44 = .ok (.getfield 41, 3) := dk_180 0 41 (dk_at dksX4_wordHere_2 0 rfl rfl)
theorem dX4_wordHere_47 : decode cX4_wordHere 47 = .ok (.aload_n 0, 1) := dk_42 (dk_at dksX4_wordHere_2 3 rfl rfl)
theorem dX4_wordHere_48 : decode cX4_wordHere 48 = .ok (.getfield 308, 3) := dk_180 1 52 (dk_at dksX4_wordHere_2 4 rfl rfl)
theorem dX4_wordHere_51 : decode cX4_wordHere 51 = .ok (.iload_n 3, 1) := dk_29 (dk_at dksX4_wordHere_2 7 rfl rfl)
theorem dX4_wordHere_52 : decode cX4_wordHere 52 = .ok (.iadd, 1) := dk_96 (dk_at dksX4_wordHere_2 8 rfl rfl)
theorem dX4_wordHere_53 : decode cX4_wordHere 53 = .ok (.baload, 1) := dk_51 (dk_at dksX4_wordHere_2 9 rfl rfl)
theorem dX4_wordHere_54 : decode cX4_wordHere 54 = .ok (.ldc_w 331, 3) := dk_19 1 75 (dk_at dksX4_wordHere_2 10 rfl rfl)
theorem dX4_wordHere_57 : decode cX4_wordHere 57 = .ok (.iload_n 2, 1) := dk_28 (dk_at dksX4_wordHere_2 13 rfl rfl)
theorem dX4_wordHere_58 : decode cX4_wordHere 58 = .ok (.iload_n 3, 1) := dk_29 (dk_at dksX4_wordHere_2 14 rfl rfl)
theorem dX4_wordHere_59 : decode cX4_wordHere 59 = .ok (.iadd, 1) := dk_96 (dk_at dksX4_wordHere_2 15 rfl rfl)
theorem dX4_wordHere_60 : decode cX4_wordHere 60 = .ok (.invokevirtual 337, 3) := dk_182 1 81 (dk_at dksX4_wordHere_2 16 rfl rfl)
theorem dX4_wordHere_63 : decode cX4_wordHere 63 = .ok (.if_icmp .ne 10, 3) := dk_160 0 10 (dk_at dksX4_wordHere_2 19 rfl rfl)
theorem dX4_wordHere_66 : decode cX4_wordHere 66 = .ok (.iload_n 3, 1) := dk_29 (dk_at dksX4_wordHere_2 22 rfl rfl)
theorem dX4_wordHere_67 : decode cX4_wordHere 67 = .ok (.iconst 1, 1) := dk_4 (dk_at dksX4_wordHere_2 23 rfl rfl)
theorem dX4_wordHere_68 : decode cX4_wordHere 68 = .ok (.iadd, 1) := dk_96 (dk_at dksX4_wordHere_3 0 rfl rfl)
theorem dX4_wordHere_69 : decode cX4_wordHere 69 = .ok (.istore_n 3, 1) := dk_62 (dk_at dksX4_wordHere_3 1 rfl rfl)
theorem dX4_wordHere_70 : decode cX4_wordHere 70 = .ok (.goto (-54), 3) := dk_167 255 202 (dk_at dksX4_wordHere_3 2 rfl rfl)
theorem dX4_wordHere_73 : decode cX4_wordHere 73 = .ok (.ldc_w 331, 3) := dk_19 1 75 (dk_at dksX4_wordHere_3 5 rfl rfl)
theorem dX4_wordHere_76 : decode cX4_wordHere 76 = .ok (.iload_n 2, 1) := dk_28 (dk_at dksX4_wordHere_3 8 rfl rfl)
theorem dX4_wordHere_77 : decode cX4_wordHere 77 = .ok (.iload_n 3, 1) := dk_29 (dk_at dksX4_wordHere_3 9 rfl rfl)
theorem dX4_wordHere_78 : decode cX4_wordHere 78 = .ok (.iadd, 1) := dk_96 (dk_at dksX4_wordHere_3 10 rfl rfl)
theorem dX4_wordHere_79 : decode cX4_wordHere 79 = .ok (.invokevirtual 337, 3) := dk_182 1 81 (dk_at dksX4_wordHere_3 11 rfl rfl)
theorem dX4_wordHere_82 : decode cX4_wordHere 82 = .ok (.bipush 32, 2) := dk_16 32 (dk_at dksX4_wordHere_3 14 rfl rfl)
theorem dX4_wordHere_84 : decode cX4_wordHere 84 = .ok (.if_icmp .ne 18, 3) := dk_160 0 18 (dk_at dksX4_wordHere_3 16 rfl rfl)
theorem dX4_wordHere_87 : decode cX4_wordHere 87 = .ok (.aload_n 0, 1) := dk_42 (dk_at dksX4_wordHere_3 19 rfl rfl)
theorem dX4_wordHere_88 : decode cX4_wordHere 88 = .ok (.getfield 308, 3) := dk_180 1 52 (dk_at dksX4_wordHere_3 20 rfl rfl)
theorem dX4_wordHere_91 : decode cX4_wordHere 91 = .ok (.iload_n 3, 1) := dk_29 (dk_at dksX4_wordHere_3 23 rfl rfl)
theorem dX4_wordHere_92 : decode cX4_wordHere 92 = .ok (.iadd, 1) := dk_96 (dk_at dksX4_wordHere_4 0 rfl rfl)
theorem dX4_wordHere_93 : decode cX4_wordHere 93 = .ok (.aload_n 0, 1) := dk_42 (dk_at dksX4_wordHere_4 1 rfl rfl)
theorem dX4_wordHere_94 : decode cX4_wordHere 94 = .ok (.getfield 302, 3) := dk_180 1 46 (dk_at dksX4_wordHere_4 2 rfl rfl)
theorem dX4_wordHere_97 : decode cX4_wordHere 97 = .ok (.if_icmp .ne 5, 3) := dk_160 0 5 (dk_at dksX4_wordHere_4 5 rfl rfl)
theorem dX4_wordHere_100 : decode cX4_wordHere 100 = .ok (.iload_n 1, 1) := dk_27 (dk_at dksX4_wordHere_4 8 rfl rfl)
theorem dX4_wordHere_101 : decode cX4_wordHere 101 = .ok (.ireturn, 1) := dk_172 (dk_at dksX4_wordHere_4 9 rfl rfl)
theorem dX4_wordHere_102 : decode cX4_wordHere 102 = .ok (.ldc_w 331, 3) := dk_19 1 75 (dk_at dksX4_wordHere_4 10 rfl rfl)
theorem dX4_wordHere_105 : decode cX4_wordHere 105 = .ok (.iload_n 2, 1) := dk_28 (dk_at dksX4_wordHere_4 13 rfl rfl)
theorem dX4_wordHere_106 : decode cX4_wordHere 106 = .ok (.invokevirtual 337, 3) := dk_182 1 81 (dk_at dksX4_wordHere_4 14 rfl rfl)
theorem dX4_wordHere_109 : decode cX4_wordHere 109 = .ok (.bipush 32, 2) := dk_16 32 (dk_at dksX4_wordHere_4 17 rfl rfl)
theorem dX4_wordHere_111 : decode cX4_wordHere 111 = .ok (.if_icmp .eq 10, 3) := dk_159 0 10 (dk_at dksX4_wordHere_4 19 rfl rfl)
theorem dX4_wordHere_114 : decode cX4_wordHere 114 = .ok (.iload_n 2, 1) := dk_28 (dk_at dksX4_wordHere_4 22 rfl rfl)
theorem dX4_wordHere_115 : decode cX4_wordHere 115 = .ok (.iconst 1, 1) := dk_4 (dk_at dksX4_wordHere_4 23 rfl rfl)
theorem dX4_wordHere_116 : decode cX4_wordHere 116 = .ok (.iadd, 1) := dk_96 (dk_at dksX4_wordHere_5 0 rfl rfl)
theorem dX4_wordHere_117 : decode cX4_wordHere 117 = .ok (.istore_n 2, 1) := dk_61 (dk_at dksX4_wordHere_5 1 rfl rfl)
theorem dX4_wordHere_118 : decode cX4_wordHere 118 = .ok (.goto (-16), 3) := dk_167 255 240 (dk_at dksX4_wordHere_5 2 rfl rfl)
theorem dX4_wordHere_121 : decode cX4_wordHere 121 = .ok (.iload_n 2, 1) := dk_28 (dk_at dksX4_wordHere_5 5 rfl rfl)
theorem dX4_wordHere_122 : decode cX4_wordHere 122 = .ok (.iconst 1, 1) := dk_4 (dk_at dksX4_wordHere_5 6 rfl rfl)
theorem dX4_wordHere_123 : decode cX4_wordHere 123 = .ok (.iadd, 1) := dk_96 (dk_at dksX4_wordHere_5 7 rfl rfl)
theorem dX4_wordHere_124 : decode cX4_wordHere 124 = .ok (.istore_n 2, 1) := dk_61 (dk_at dksX4_wordHere_5 8 rfl rfl)
theorem dX4_wordHere_125 : decode cX4_wordHere 125 = .ok (.iload_n 1, 1) := dk_27 (dk_at dksX4_wordHere_5 9 rfl rfl)
theorem dX4_wordHere_126 : decode cX4_wordHere 126 = .ok (.iconst 1, 1) := dk_4 (dk_at dksX4_wordHere_5 10 rfl rfl)
theorem dX4_wordHere_127 : decode cX4_wordHere 127 = .ok (.iadd, 1) := dk_96 (dk_at dksX4_wordHere_5 11 rfl rfl)
theorem dX4_wordHere_128 : decode cX4_wordHere 128 = .ok (.istore_n 1, 1) := dk_60 (dk_at dksX4_wordHere_5 12 rfl rfl)
theorem dX4_wordHere_129 : decode cX4_wordHere 129 = .ok (.goto (-125), 3) := dk_167 255 131 (dk_at dksX4_wordHere_5 13 rfl rfl)
theorem dX4_wordHere_132 : decode cX4_wordHere 132 = .ok (.iconst (-1), 1) := dk_2 (dk_at dksX4_wordHere_5 16 rfl rfl)
theorem dX4_wordHere_133 : decode cX4_wordHere 133 = .ok (.ireturn, 1) := dk_172 (dk_at dksX4_wordHere_5 17 rfl rfl)
abbrev cX4_fine_2 : ByteArray := prog_21_method_111_code
def yX4_fine_2 : MethodName := ⟨RX4, "fine", "()Z"⟩
def dkwX4_fine_2_0 : List UInt8 := [42, 180, 1, 85, 154, 0, 7, 4, 167, 0, 4, 3, 172]
abbrev dktX4_fine_2_0 : List UInt8 := dkwX4_fine_2_0 ++ []
theorem dksX4_fine_2_0 : cX4_fine_2.data.toList.drop 0 = dktX4_fine_2_0 := by decide +kernel
theorem dX4_fine_2_0 : decode cX4_fine_2 0 = .ok (.aload_n 0, 1) := dk_42 (dk_at dksX4_fine_2_0 0 rfl rfl)
theorem dX4_fine_2_1 : decode cX4_fine_2 1 = .ok (.getfield 341, 3) := dk_180 1 85 (dk_at dksX4_fine_2_0 1 rfl rfl)
theorem dX4_fine_2_4 : decode cX4_fine_2 4 = .ok (.ifCond .ne 7, 3) := dk_154 0 7 (dk_at dksX4_fine_2_0 4 rfl rfl)
theorem dX4_fine_2_7 : decode cX4_fine_2 7 = .ok (.iconst 1, 1) := dk_4 (dk_at dksX4_fine_2_0 7 rfl rfl)
theorem dX4_fine_2_8 : decode cX4_fine_2 8 = .ok (.goto 4, 3) := dk_167 0 4 (dk_at dksX4_fine_2_0 8 rfl rfl)
theorem dX4_fine_2_11 : decode cX4_fine_2 11 = .ok (.iconst 0, 1) := dk_3 (dk_at dksX4_fine_2_0 11 rfl rfl)
theorem dX4_fine_2_12 : decode cX4_fine_2 12 = .ok (.ireturn, 1) := dk_172 (dk_at dksX4_fine_2_0 12 rfl rfl)
abbrev cX4_statement : ByteArray := prog_21_method_131_code
def yX4_statement : MethodName := ⟨RX4, "statement", "()V"⟩
def dkwX4_statement_6 : List UInt8 := [6, 160, 0, 7, 4, 167, 0, 4, 3, 4, 182, 1, 98, 42, 182, 1, 102, 177]
abbrev dktX4_statement_6 : List UInt8 := dkwX4_statement_6 ++ []
def dkwX4_statement_5 : List UInt8 := [182, 1, 95, 153, 0, 10, 42, 182, 1, 160, 167, 0, 9, 42, 3, 4, 182, 1, 98, 42, 42, 180, 1, 55]
abbrev dktX4_statement_5 : List UInt8 := dkwX4_statement_5 ++ dktX4_statement_6
def dkwX4_statement_4 : List UInt8 := [182, 1, 95, 153, 0, 16, 42, 5, 16, 113, 3, 16, 30, 182, 1, 156, 167, 0, 25, 42, 16, 15]
abbrev dktX4_statement_4 : List UInt8 := dkwX4_statement_4 ++ dktX4_statement_5
def dkwX4_statement_3 : List UInt8 := [16, 13, 182, 1, 95, 153, 0, 16, 42, 4, 16, 112, 4, 16, 99, 182, 1, 156, 167, 0, 47, 42, 16, 14]
abbrev dktX4_statement_3 : List UInt8 := dkwX4_statement_3 ++ dktX4_statement_4
def dkwX4_statement_2 : List UInt8 := [16, 12, 182, 1, 95, 153, 0, 17, 42, 3, 16, 111, 4, 17, 1, 109, 182, 1, 156, 167, 0, 69, 42]
abbrev dktX4_statement_2 : List UInt8 := dkwX4_statement_2 ++ dktX4_statement_3
def dkwX4_statement_1 : List UInt8 := [182, 1, 150, 167, 0, 108, 42, 16, 8, 182, 1, 95, 153, 0, 10, 42, 182, 1, 153, 167, 0, 92, 42]
abbrev dktX4_statement_1 : List UInt8 := dkwX4_statement_1 ++ dktX4_statement_2
def dkwX4_statement_0 : List UInt8 := [42, 3, 182, 1, 95, 153, 0, 10, 42, 182, 1, 147, 167, 0, 123, 42, 7, 182, 1, 95, 153, 0, 10, 42]
abbrev dktX4_statement_0 : List UInt8 := dkwX4_statement_0 ++ dktX4_statement_1
theorem dksX4_statement_0 : cX4_statement.data.toList.drop 0 = dktX4_statement_0 := by decide +kernel
theorem dksX4_statement_1 : cX4_statement.data.toList.drop 24 = dktX4_statement_1 := dk_seg dksX4_statement_0 24 rfl rfl
theorem dksX4_statement_2 : cX4_statement.data.toList.drop 47 = dktX4_statement_2 := dk_seg dksX4_statement_1 23 rfl rfl
theorem dksX4_statement_3 : cX4_statement.data.toList.drop 70 = dktX4_statement_3 := dk_seg dksX4_statement_2 23 rfl rfl
theorem dksX4_statement_4 : cX4_statement.data.toList.drop 94 = dktX4_statement_4 := dk_seg dksX4_statement_3 24 rfl rfl
theorem dksX4_statement_5 : cX4_statement.data.toList.drop 116 = dktX4_statement_5 := dk_seg dksX4_statement_4 22 rfl rfl
theorem dksX4_statement_6 : cX4_statement.data.toList.drop 140 = dktX4_statement_6 := dk_seg dksX4_statement_5 24 rfl rfl
theorem dX4_statement_0 : decode cX4_statement 0 = .ok (.aload_n 0, 1) := dk_42 (dk_at dksX4_statement_0 0 rfl rfl)
theorem dX4_statement_1 : decode cX4_statement 1 = .ok (.iconst 0, 1) := dk_3 (dk_at dksX4_statement_0 1 rfl rfl)
theorem dX4_statement_2 : decode cX4_statement 2 = .ok (.invokevirtual 351, 3) := dk_182 1 95 (dk_at dksX4_statement_0 2 rfl rfl)
theorem dX4_statement_5 : decode cX4_statement 5 = .ok (.ifCond .eq 10, 3) := dk_153 0 10 (dk_at dksX4_statement_0 5 rfl rfl)
theorem dX4_statement_8 : decode cX4_statement 8 = .ok (.aload_n 0, 1) := dk_42 (dk_at dksX4_statement_0 8 rfl rfl)
theorem dX4_statement_9 : decode cX4_statement 9 = .ok (.invokevirtual 403, 3) := dk_182 1 147 (dk_at dksX4_statement_0 9 rfl rfl)
theorem dX4_statement_12 : decode cX4_statement 12 = .ok (.goto 123, 3) := dk_167 0 123 (dk_at dksX4_statement_0 12 rfl rfl)
theorem dX4_statement_15 : decode cX4_statement 15 = .ok (.aload_n 0, 1) := dk_42 (dk_at dksX4_statement_0 15 rfl rfl)
theorem dX4_statement_16 : decode cX4_statement 16 = .ok (.iconst 4, 1) := dk_7 (dk_at dksX4_statement_0 16 rfl rfl)
theorem dX4_statement_17 : decode cX4_statement 17 = .ok (.invokevirtual 351, 3) := dk_182 1 95 (dk_at dksX4_statement_0 17 rfl rfl)
theorem dX4_statement_20 : decode cX4_statement 20 = .ok (.ifCond .eq 10, 3) := dk_153 0 10 (dk_at dksX4_statement_0 20 rfl rfl)
theorem dX4_statement_23 : decode cX4_statement 23 = .ok (.aload_n 0, 1) := dk_42 (dk_at dksX4_statement_0 23 rfl rfl)
theorem dX4_statement_24 : decode cX4_statement 24 = .ok (.invokevirtual 406, 3) := dk_182 1 150 (dk_at dksX4_statement_1 0 rfl rfl)
theorem dX4_statement_27 : decode cX4_statement 27 = .ok (.goto 108, 3) := dk_167 0 108 (dk_at dksX4_statement_1 3 rfl rfl)
theorem dX4_statement_30 : decode cX4_statement 30 = .ok (.aload_n 0, 1) := dk_42 (dk_at dksX4_statement_1 6 rfl rfl)
theorem dX4_statement_31 : decode cX4_statement 31 = .ok (.bipush 8, 2) := dk_16 8 (dk_at dksX4_statement_1 7 rfl rfl)
theorem dX4_statement_33 : decode cX4_statement 33 = .ok (.invokevirtual 351, 3) := dk_182 1 95 (dk_at dksX4_statement_1 9 rfl rfl)
theorem dX4_statement_36 : decode cX4_statement 36 = .ok (.ifCond .eq 10, 3) := dk_153 0 10 (dk_at dksX4_statement_1 12 rfl rfl)
theorem dX4_statement_39 : decode cX4_statement 39 = .ok (.aload_n 0, 1) := dk_42 (dk_at dksX4_statement_1 15 rfl rfl)
theorem dX4_statement_40 : decode cX4_statement 40 = .ok (.invokevirtual 409, 3) := dk_182 1 153 (dk_at dksX4_statement_1 16 rfl rfl)
theorem dX4_statement_43 : decode cX4_statement 43 = .ok (.goto 92, 3) := dk_167 0 92 (dk_at dksX4_statement_1 19 rfl rfl)
theorem dX4_statement_46 : decode cX4_statement 46 = .ok (.aload_n 0, 1) := dk_42 (dk_at dksX4_statement_1 22 rfl rfl)
theorem dX4_statement_47 : decode cX4_statement 47 = .ok (.bipush 12, 2) := dk_16 12 (dk_at dksX4_statement_2 0 rfl rfl)
theorem dX4_statement_49 : decode cX4_statement 49 = .ok (.invokevirtual 351, 3) := dk_182 1 95 (dk_at dksX4_statement_2 2 rfl rfl)
theorem dX4_statement_52 : decode cX4_statement 52 = .ok (.ifCond .eq 17, 3) := dk_153 0 17 (dk_at dksX4_statement_2 5 rfl rfl)
theorem dX4_statement_55 : decode cX4_statement 55 = .ok (.aload_n 0, 1) := dk_42 (dk_at dksX4_statement_2 8 rfl rfl)
theorem dX4_statement_56 : decode cX4_statement 56 = .ok (.iconst 0, 1) := dk_3 (dk_at dksX4_statement_2 9 rfl rfl)
theorem dX4_statement_57 : decode cX4_statement 57 = .ok (.bipush 111, 2) := dk_16 111 (dk_at dksX4_statement_2 10 rfl rfl)
theorem dX4_statement_59 : decode cX4_statement 59 = .ok (.iconst 1, 1) := dk_4 (dk_at dksX4_statement_2 12 rfl rfl)
theorem dX4_statement_60 : decode cX4_statement 60 = .ok (.sipush 365, 3) := dk_17 1 109 (dk_at dksX4_statement_2 13 rfl rfl)
theorem dX4_statement_63 : decode cX4_statement 63 = .ok (.invokevirtual 412, 3) := dk_182 1 156 (dk_at dksX4_statement_2 16 rfl rfl)
theorem dX4_statement_66 : decode cX4_statement 66 = .ok (.goto 69, 3) := dk_167 0 69 (dk_at dksX4_statement_2 19 rfl rfl)
theorem dX4_statement_69 : decode cX4_statement 69 = .ok (.aload_n 0, 1) := dk_42 (dk_at dksX4_statement_2 22 rfl rfl)
theorem dX4_statement_70 : decode cX4_statement 70 = .ok (.bipush 13, 2) := dk_16 13 (dk_at dksX4_statement_3 0 rfl rfl)
theorem dX4_statement_72 : decode cX4_statement 72 = .ok (.invokevirtual 351, 3) := dk_182 1 95 (dk_at dksX4_statement_3 2 rfl rfl)
theorem dX4_statement_75 : decode cX4_statement 75 = .ok (.ifCond .eq 16, 3) := dk_153 0 16 (dk_at dksX4_statement_3 5 rfl rfl)
theorem dX4_statement_78 : decode cX4_statement 78 = .ok (.aload_n 0, 1) := dk_42 (dk_at dksX4_statement_3 8 rfl rfl)
theorem dX4_statement_79 : decode cX4_statement 79 = .ok (.iconst 1, 1) := dk_4 (dk_at dksX4_statement_3 9 rfl rfl)
theorem dX4_statement_80 : decode cX4_statement 80 = .ok (.bipush 112, 2) := dk_16 112 (dk_at dksX4_statement_3 10 rfl rfl)
theorem dX4_statement_82 : decode cX4_statement 82 = .ok (.iconst 1, 1) := dk_4 (dk_at dksX4_statement_3 12 rfl rfl)
theorem dX4_statement_83 : decode cX4_statement 83 = .ok (.bipush 99, 2) := dk_16 99 (dk_at dksX4_statement_3 13 rfl rfl)
theorem dX4_statement_85 : decode cX4_statement 85 = .ok (.invokevirtual 412, 3) := dk_182 1 156 (dk_at dksX4_statement_3 15 rfl rfl)
theorem dX4_statement_88 : decode cX4_statement 88 = .ok (.goto 47, 3) := dk_167 0 47 (dk_at dksX4_statement_3 18 rfl rfl)
theorem dX4_statement_91 : decode cX4_statement 91 = .ok (.aload_n 0, 1) := dk_42 (dk_at dksX4_statement_3 21 rfl rfl)
theorem dX4_statement_92 : decode cX4_statement 92 = .ok (.bipush 14, 2) := dk_16 14 (dk_at dksX4_statement_3 22 rfl rfl)
theorem dX4_statement_94 : decode cX4_statement 94 = .ok (.invokevirtual 351, 3) := dk_182 1 95 (dk_at dksX4_statement_4 0 rfl rfl)
theorem dX4_statement_97 : decode cX4_statement 97 = .ok (.ifCond .eq 16, 3) := dk_153 0 16 (dk_at dksX4_statement_4 3 rfl rfl)
theorem dX4_statement_100 : decode cX4_statement 100 = .ok (.aload_n 0, 1) := dk_42 (dk_at dksX4_statement_4 6 rfl rfl)
theorem dX4_statement_101 : decode cX4_statement 101 = .ok (.iconst 2, 1) := dk_5 (dk_at dksX4_statement_4 7 rfl rfl)
theorem dX4_statement_102 : decode cX4_statement 102 = .ok (.bipush 113, 2) := dk_16 113 (dk_at dksX4_statement_4 8 rfl rfl)
theorem dX4_statement_104 : decode cX4_statement 104 = .ok (.iconst 0, 1) := dk_3 (dk_at dksX4_statement_4 10 rfl rfl)
theorem dX4_statement_105 : decode cX4_statement 105 = .ok (.bipush 30, 2) := dk_16 30 (dk_at dksX4_statement_4 11 rfl rfl)
theorem dX4_statement_107 : decode cX4_statement 107 = .ok (.invokevirtual 412, 3) := dk_182 1 156 (dk_at dksX4_statement_4 13 rfl rfl)
theorem dX4_statement_110 : decode cX4_statement 110 = .ok (.goto 25, 3) := dk_167 0 25 (dk_at dksX4_statement_4 16 rfl rfl)
theorem dX4_statement_113 : decode cX4_statement 113 = .ok (.aload_n 0, 1) := dk_42 (dk_at dksX4_statement_4 19 rfl rfl)
theorem dX4_statement_114 : decode cX4_statement 114 = .ok (.bipush 15, 2) := dk_16 15 (dk_at dksX4_statement_4 20 rfl rfl)
theorem dX4_statement_116 : decode cX4_statement 116 = .ok (.invokevirtual 351, 3) := dk_182 1 95 (dk_at dksX4_statement_5 0 rfl rfl)
theorem dX4_statement_119 : decode cX4_statement 119 = .ok (.ifCond .eq 10, 3) := dk_153 0 10 (dk_at dksX4_statement_5 3 rfl rfl)
theorem dX4_statement_122 : decode cX4_statement 122 = .ok (.aload_n 0, 1) := dk_42 (dk_at dksX4_statement_5 6 rfl rfl)
theorem dX4_statement_123 : decode cX4_statement 123 = .ok (.invokevirtual 416, 3) := dk_182 1 160 (dk_at dksX4_statement_5 7 rfl rfl)
theorem dX4_statement_126 : decode cX4_statement 126 = .ok (.goto 9, 3) := dk_167 0 9 (dk_at dksX4_statement_5 10 rfl rfl)
theorem dX4_statement_129 : decode cX4_statement 129 = .ok (.aload_n 0, 1) := dk_42 (dk_at dksX4_statement_5 13 rfl rfl)
theorem dX4_statement_130 : decode cX4_statement 130 = .ok (.iconst 0, 1) := dk_3 (dk_at dksX4_statement_5 14 rfl rfl)
theorem dX4_statement_131 : decode cX4_statement 131 = .ok (.iconst 1, 1) := dk_4 (dk_at dksX4_statement_5 15 rfl rfl)
theorem dX4_statement_132 : decode cX4_statement 132 = .ok (.invokevirtual 354, 3) := dk_182 1 98 (dk_at dksX4_statement_5 16 rfl rfl)
theorem dX4_statement_135 : decode cX4_statement 135 = .ok (.aload_n 0, 1) := dk_42 (dk_at dksX4_statement_5 19 rfl rfl)
theorem dX4_statement_136 : decode cX4_statement 136 = .ok (.aload_n 0, 1) := dk_42 (dk_at dksX4_statement_5 20 rfl rfl)
theorem dX4_statement_137 : decode cX4_statement 137 = .ok (.getfield 311, 3) := dk_180 1 55 (dk_at dksX4_statement_5 21 rfl rfl)
theorem dX4_statement_140 : decode cX4_statement 140 = .ok (.iconst 3, 1) := dk_6 (dk_at dksX4_statement_6 0 rfl rfl)
theorem dX4_statement_141 : decode cX4_statement 141 = .ok (.if_icmp .ne 7, 3) := dk_160 0 7 (dk_at dksX4_statement_6 1 rfl rfl)
theorem dX4_statement_144 : decode cX4_statement 144 = .ok (.iconst 1, 1) := dk_4 (dk_at dksX4_statement_6 4 rfl rfl)
theorem dX4_statement_145 : decode cX4_statement 145 = .ok (.goto 4, 3) := dk_167 0 4 (dk_at dksX4_statement_6 5 rfl rfl)
theorem dX4_statement_148 : decode cX4_statement 148 = .ok (.iconst 0, 1) := dk_3 (dk_at dksX4_statement_6 8 rfl rfl)
theorem dX4_statement_149 : decode cX4_statement 149 = .ok (.iconst 1, 1) := dk_4 (dk_at dksX4_statement_6 9 rfl rfl)
theorem dX4_statement_150 : decode cX4_statement 150 = .ok (.invokevirtual 354, 3) := dk_182 1 98 (dk_at dksX4_statement_6 10 rfl rfl)
theorem dX4_statement_153 : decode cX4_statement 153 = .ok (.aload_n 0, 1) := dk_42 (dk_at dksX4_statement_6 13 rfl rfl)
theorem dX4_statement_154 : decode cX4_statement 154 = .ok (.invokevirtual 358, 3) := dk_182 1 102 (dk_at dksX4_statement_6 14 rfl rfl)
theorem dX4_statement_157 : decode cX4_statement 157 = .ok (.return_, 1) := dk_177 (dk_at dksX4_statement_6 17 rfl rfl)
abbrev cX4_isWord : ByteArray := prog_21_method_114_code
def yX4_isWord : MethodName := ⟨RX4, "isWord", "(I)Z"⟩
def dkwX4_isWord_1 : List UInt8 := [167, 0, 4, 3, 172]
abbrev dktX4_isWord_1 : List UInt8 := dkwX4_isWord_1 ++ []
def dkwX4_isWord_0 : List UInt8 := [42, 182, 1, 88, 153, 0, 23, 42, 180, 1, 55, 4, 160, 0, 15, 42, 180, 1, 65, 27, 160, 0, 7, 4]
abbrev dktX4_isWord_0 : List UInt8 := dkwX4_isWord_0 ++ dktX4_isWord_1
theorem dksX4_isWord_0 : cX4_isWord.data.toList.drop 0 = dktX4_isWord_0 := by decide +kernel
theorem dksX4_isWord_1 : cX4_isWord.data.toList.drop 24 = dktX4_isWord_1 := dk_seg dksX4_isWord_0 24 rfl rfl
theorem dX4_isWord_0 : decode cX4_isWord 0 = .ok (.aload_n 0, 1) := dk_42 (dk_at dksX4_isWord_0 0 rfl rfl)
theorem dX4_isWord_1 : decode cX4_isWord 1 = .ok (.invokevirtual 344, 3) := dk_182 1 88 (dk_at dksX4_isWord_0 1 rfl rfl)
theorem dX4_isWord_4 : decode cX4_isWord 4 = .ok (.ifCond .eq 23, 3) := dk_153 0 23 (dk_at dksX4_isWord_0 4 rfl rfl)
theorem dX4_isWord_7 : decode cX4_isWord 7 = .ok (.aload_n 0, 1) := dk_42 (dk_at dksX4_isWord_0 7 rfl rfl)
theorem dX4_isWord_8 : decode cX4_isWord 8 = .ok (.getfield 311, 3) := dk_180 1 55 (dk_at dksX4_isWord_0 8 rfl rfl)
theorem dX4_isWord_11 : decode cX4_isWord 11 = .ok (.iconst 1, 1) := dk_4 (dk_at dksX4_isWord_0 11 rfl rfl)
theorem dX4_isWord_12 : decode cX4_isWord 12 = .ok (.if_icmp .ne 15, 3) := dk_160 0 15 (dk_at dksX4_isWord_0 12 rfl rfl)
theorem dX4_isWord_15 : decode cX4_isWord 15 = .ok (.aload_n 0, 1) := dk_42 (dk_at dksX4_isWord_0 15 rfl rfl)
theorem dX4_isWord_16 : decode cX4_isWord 16 = .ok (.getfield 321, 3) := dk_180 1 65 (dk_at dksX4_isWord_0 16 rfl rfl)
theorem dX4_isWord_19 : decode cX4_isWord 19 = .ok (.iload_n 1, 1) := dk_27 (dk_at dksX4_isWord_0 19 rfl rfl)
theorem dX4_isWord_20 : decode cX4_isWord 20 = .ok (.if_icmp .ne 7, 3) := dk_160 0 7 (dk_at dksX4_isWord_0 20 rfl rfl)
theorem dX4_isWord_23 : decode cX4_isWord 23 = .ok (.iconst 1, 1) := dk_4 (dk_at dksX4_isWord_0 23 rfl rfl)
theorem dX4_isWord_24 : decode cX4_isWord 24 = .ok (.goto 4, 3) := dk_167 0 4 (dk_at dksX4_isWord_1 0 rfl rfl)
theorem dX4_isWord_27 : decode cX4_isWord 27 = .ok (.iconst 0, 1) := dk_3 (dk_at dksX4_isWord_1 3 rfl rfl)
theorem dX4_isWord_28 : decode cX4_isWord 28 = .ok (.ireturn, 1) := dk_172 (dk_at dksX4_isWord_1 4 rfl rfl)
abbrev cX4_readsZone : ByteArray := prog_21_method_126_code
def yX4_readsZone : MethodName := ⟨RX4, "readsZone", "()V"⟩
def dkwX4_readsZone_4 : List UInt8 := [3, 16, 120, 182, 1, 137, 167, 0, 4, 3, 182, 1, 140, 42, 3, 27, 4, 96, 182, 1, 140, 177]
abbrev dktX4_readsZone_4 : List UInt8 := dkwX4_readsZone_4 ++ []
def dkwX4_readsZone_3 : List UInt8 := [96, 16, 24, 182, 1, 111, 182, 1, 140, 42, 16, 21, 27, 96, 42, 6, 182, 1, 95, 153, 0, 14, 42, 6]
abbrev dktX4_readsZone_3 : List UInt8 := dkwX4_readsZone_3 ++ dktX4_readsZone_4
def dkwX4_readsZone_2 : List UInt8 := [3, 16, 23, 182, 1, 137, 61, 42, 16, 9, 27, 96, 28, 182, 1, 140, 42, 16, 15, 27, 96, 42, 28, 4]
abbrev dktX4_readsZone_2 : List UInt8 := dkwX4_readsZone_2 ++ dktX4_readsZone_3
def dkwX4_readsZone_1 : List UInt8 := [180, 0, 49, 27, 182, 1, 133, 42, 6, 27, 96, 42, 4, 3, 16, 40, 182, 1, 137, 182, 1, 140, 42, 5]
abbrev dktX4_readsZone_1 : List UInt8 := dkwX4_readsZone_1 ++ dktX4_readsZone_2
def dkwX4_readsZone_0 : List UInt8 := [42, 180, 0, 13, 3, 46, 60, 42, 3, 16, 6, 182, 1, 129, 42, 182, 1, 88, 154, 0, 4, 177, 42, 42]
abbrev dktX4_readsZone_0 : List UInt8 := dkwX4_readsZone_0 ++ dktX4_readsZone_1
theorem dksX4_readsZone_0 : cX4_readsZone.data.toList.drop 0 = dktX4_readsZone_0 := by decide +kernel
theorem dksX4_readsZone_1 : cX4_readsZone.data.toList.drop 24 = dktX4_readsZone_1 := dk_seg dksX4_readsZone_0 24 rfl rfl
theorem dksX4_readsZone_2 : cX4_readsZone.data.toList.drop 48 = dktX4_readsZone_2 := dk_seg dksX4_readsZone_1 24 rfl rfl
theorem dksX4_readsZone_3 : cX4_readsZone.data.toList.drop 72 = dktX4_readsZone_3 := dk_seg dksX4_readsZone_2 24 rfl rfl
theorem dksX4_readsZone_4 : cX4_readsZone.data.toList.drop 96 = dktX4_readsZone_4 := dk_seg dksX4_readsZone_3 24 rfl rfl
theorem dX4_readsZone_0 : decode cX4_readsZone 0 = .ok (.aload_n 0, 1) := dk_42 (dk_at dksX4_readsZone_0 0 rfl rfl)
theorem dX4_readsZone_1 : decode cX4_readsZone 1 = .ok (.getfield 13, 3) := dk_180 0 13 (dk_at dksX4_readsZone_0 1 rfl rfl)
theorem dX4_readsZone_4 : decode cX4_readsZone 4 = .ok (.iconst 0, 1) := dk_3 (dk_at dksX4_readsZone_0 4 rfl rfl)
theorem dX4_readsZone_5 : decode cX4_readsZone 5 = .ok (.iaload, 1) := dk_46 (dk_at dksX4_readsZone_0 5 rfl rfl)
theorem dX4_readsZone_6 : decode cX4_readsZone 6 = .ok (.istore_n 1, 1) := dk_60 (dk_at dksX4_readsZone_0 6 rfl rfl)
theorem dX4_readsZone_7 : decode cX4_readsZone 7 = .ok (.aload_n 0, 1) := dk_42 (dk_at dksX4_readsZone_0 7 rfl rfl)
theorem dX4_readsZone_8 : decode cX4_readsZone 8 = .ok (.iconst 0, 1) := dk_3 (dk_at dksX4_readsZone_0 8 rfl rfl)
theorem dX4_readsZone_9 : decode cX4_readsZone 9 = .ok (.bipush 6, 2) := dk_16 6 (dk_at dksX4_readsZone_0 9 rfl rfl)
theorem dX4_readsZone_11 : decode cX4_readsZone 11 = .ok (.invokevirtual 385, 3) := dk_182 1 129 (dk_at dksX4_readsZone_0 11 rfl rfl)
theorem dX4_readsZone_14 : decode cX4_readsZone 14 = .ok (.aload_n 0, 1) := dk_42 (dk_at dksX4_readsZone_0 14 rfl rfl)
theorem dX4_readsZone_15 : decode cX4_readsZone 15 = .ok (.invokevirtual 344, 3) := dk_182 1 88 (dk_at dksX4_readsZone_0 15 rfl rfl)
theorem dX4_readsZone_18 : decode cX4_readsZone 18 = .ok (.ifCond .ne 4, 3) := dk_154 0 4 (dk_at dksX4_readsZone_0 18 rfl rfl)
theorem dX4_readsZone_21 : decode cX4_readsZone 21 = .ok (.return_, 1) := dk_177 (dk_at dksX4_readsZone_0 21 rfl rfl)
theorem dX4_readsZone_22 : decode cX4_readsZone 22 = .ok (.aload_n 0, 1) := dk_42 (dk_at dksX4_readsZone_0 22 rfl rfl)
theorem dX4_readsZone_23 : decode cX4_readsZone 23 = .ok (.aload_n 0, 1) := dk_42 (dk_at dksX4_readsZone_0 23 rfl rfl)
theorem dX4_readsZone_24 : decode cX4_readsZone 24 = .ok (.getfield 49, 3) := dk_180 0 49 (dk_at dksX4_readsZone_1 0 rfl rfl)
theorem dX4_readsZone_27 : decode cX4_readsZone 27 = .ok (.iload_n 1, 1) := dk_27 (dk_at dksX4_readsZone_1 3 rfl rfl)
theorem dX4_readsZone_28 : decode cX4_readsZone 28 = .ok (.invokevirtual 389, 3) := dk_182 1 133 (dk_at dksX4_readsZone_1 4 rfl rfl)
theorem dX4_readsZone_31 : decode cX4_readsZone 31 = .ok (.aload_n 0, 1) := dk_42 (dk_at dksX4_readsZone_1 7 rfl rfl)
theorem dX4_readsZone_32 : decode cX4_readsZone 32 = .ok (.iconst 3, 1) := dk_6 (dk_at dksX4_readsZone_1 8 rfl rfl)
theorem dX4_readsZone_33 : decode cX4_readsZone 33 = .ok (.iload_n 1, 1) := dk_27 (dk_at dksX4_readsZone_1 9 rfl rfl)
theorem dX4_readsZone_34 : decode cX4_readsZone 34 = .ok (.iadd, 1) := dk_96 (dk_at dksX4_readsZone_1 10 rfl rfl)
theorem dX4_readsZone_35 : decode cX4_readsZone 35 = .ok (.aload_n 0, 1) := dk_42 (dk_at dksX4_readsZone_1 11 rfl rfl)
theorem dX4_readsZone_36 : decode cX4_readsZone 36 = .ok (.iconst 1, 1) := dk_4 (dk_at dksX4_readsZone_1 12 rfl rfl)
theorem dX4_readsZone_37 : decode cX4_readsZone 37 = .ok (.iconst 0, 1) := dk_3 (dk_at dksX4_readsZone_1 13 rfl rfl)
theorem dX4_readsZone_38 : decode cX4_readsZone 38 = .ok (.bipush 40, 2) := dk_16 40 (dk_at dksX4_readsZone_1 14 rfl rfl)
theorem dX4_readsZone_40 : decode cX4_readsZone 40 = .ok (.invokevirtual 393, 3) := dk_182 1 137 (dk_at dksX4_readsZone_1 16 rfl rfl)
theorem dX4_readsZone_43 : decode cX4_readsZone 43 = .ok (.invokevirtual 396, 3) := dk_182 1 140 (dk_at dksX4_readsZone_1 19 rfl rfl)
theorem dX4_readsZone_46 : decode cX4_readsZone 46 = .ok (.aload_n 0, 1) := dk_42 (dk_at dksX4_readsZone_1 22 rfl rfl)
theorem dX4_readsZone_47 : decode cX4_readsZone 47 = .ok (.iconst 2, 1) := dk_5 (dk_at dksX4_readsZone_1 23 rfl rfl)
theorem dX4_readsZone_48 : decode cX4_readsZone 48 = .ok (.iconst 0, 1) := dk_3 (dk_at dksX4_readsZone_2 0 rfl rfl)
theorem dX4_readsZone_49 : decode cX4_readsZone 49 = .ok (.bipush 23, 2) := dk_16 23 (dk_at dksX4_readsZone_2 1 rfl rfl)
theorem dX4_readsZone_51 : decode cX4_readsZone 51 = .ok (.invokevirtual 393, 3) := dk_182 1 137 (dk_at dksX4_readsZone_2 3 rfl rfl)
theorem dX4_readsZone_54 : decode cX4_readsZone 54 = .ok (.istore_n 2, 1) := dk_61 (dk_at dksX4_readsZone_2 6 rfl rfl)
theorem dX4_readsZone_55 : decode cX4_readsZone 55 = .ok (.aload_n 0, 1) := dk_42 (dk_at dksX4_readsZone_2 7 rfl rfl)
theorem dX4_readsZone_56 : decode cX4_readsZone 56 = .ok (.bipush 9, 2) := dk_16 9 (dk_at dksX4_readsZone_2 8 rfl rfl)
theorem dX4_readsZone_58 : decode cX4_readsZone 58 = .ok (.iload_n 1, 1) := dk_27 (dk_at dksX4_readsZone_2 10 rfl rfl)
theorem dX4_readsZone_59 : decode cX4_readsZone 59 = .ok (.iadd, 1) := dk_96 (dk_at dksX4_readsZone_2 11 rfl rfl)
theorem dX4_readsZone_60 : decode cX4_readsZone 60 = .ok (.iload_n 2, 1) := dk_28 (dk_at dksX4_readsZone_2 12 rfl rfl)
theorem dX4_readsZone_61 : decode cX4_readsZone 61 = .ok (.invokevirtual 396, 3) := dk_182 1 140 (dk_at dksX4_readsZone_2 13 rfl rfl)
theorem dX4_readsZone_64 : decode cX4_readsZone 64 = .ok (.aload_n 0, 1) := dk_42 (dk_at dksX4_readsZone_2 16 rfl rfl)
theorem dX4_readsZone_65 : decode cX4_readsZone 65 = .ok (.bipush 15, 2) := dk_16 15 (dk_at dksX4_readsZone_2 17 rfl rfl)
theorem dX4_readsZone_67 : decode cX4_readsZone 67 = .ok (.iload_n 1, 1) := dk_27 (dk_at dksX4_readsZone_2 19 rfl rfl)
theorem dX4_readsZone_68 : decode cX4_readsZone 68 = .ok (.iadd, 1) := dk_96 (dk_at dksX4_readsZone_2 20 rfl rfl)
theorem dX4_readsZone_69 : decode cX4_readsZone 69 = .ok (.aload_n 0, 1) := dk_42 (dk_at dksX4_readsZone_2 21 rfl rfl)
theorem dX4_readsZone_70 : decode cX4_readsZone 70 = .ok (.iload_n 2, 1) := dk_28 (dk_at dksX4_readsZone_2 22 rfl rfl)
theorem dX4_readsZone_71 : decode cX4_readsZone 71 = .ok (.iconst 1, 1) := dk_4 (dk_at dksX4_readsZone_2 23 rfl rfl)
theorem dX4_readsZone_72 : decode cX4_readsZone 72 = .ok (.iadd, 1) := dk_96 (dk_at dksX4_readsZone_3 0 rfl rfl)
theorem dX4_readsZone_73 : decode cX4_readsZone 73 = .ok (.bipush 24, 2) := dk_16 24 (dk_at dksX4_readsZone_3 1 rfl rfl)
theorem dX4_readsZone_75 : decode cX4_readsZone 75 = .ok (.invokevirtual 367, 3) := dk_182 1 111 (dk_at dksX4_readsZone_3 3 rfl rfl)
theorem dX4_readsZone_78 : decode cX4_readsZone 78 = .ok (.invokevirtual 396, 3) := dk_182 1 140 (dk_at dksX4_readsZone_3 6 rfl rfl)
theorem dX4_readsZone_81 : decode cX4_readsZone 81 = .ok (.aload_n 0, 1) := dk_42 (dk_at dksX4_readsZone_3 9 rfl rfl)
theorem dX4_readsZone_82 : decode cX4_readsZone 82 = .ok (.bipush 21, 2) := dk_16 21 (dk_at dksX4_readsZone_3 10 rfl rfl)
theorem dX4_readsZone_84 : decode cX4_readsZone 84 = .ok (.iload_n 1, 1) := dk_27 (dk_at dksX4_readsZone_3 12 rfl rfl)
theorem dX4_readsZone_85 : decode cX4_readsZone 85 = .ok (.iadd, 1) := dk_96 (dk_at dksX4_readsZone_3 13 rfl rfl)
theorem dX4_readsZone_86 : decode cX4_readsZone 86 = .ok (.aload_n 0, 1) := dk_42 (dk_at dksX4_readsZone_3 14 rfl rfl)
theorem dX4_readsZone_87 : decode cX4_readsZone 87 = .ok (.iconst 3, 1) := dk_6 (dk_at dksX4_readsZone_3 15 rfl rfl)
theorem dX4_readsZone_88 : decode cX4_readsZone 88 = .ok (.invokevirtual 351, 3) := dk_182 1 95 (dk_at dksX4_readsZone_3 16 rfl rfl)
theorem dX4_readsZone_91 : decode cX4_readsZone 91 = .ok (.ifCond .eq 14, 3) := dk_153 0 14 (dk_at dksX4_readsZone_3 19 rfl rfl)
theorem dX4_readsZone_94 : decode cX4_readsZone 94 = .ok (.aload_n 0, 1) := dk_42 (dk_at dksX4_readsZone_3 22 rfl rfl)
theorem dX4_readsZone_95 : decode cX4_readsZone 95 = .ok (.iconst 3, 1) := dk_6 (dk_at dksX4_readsZone_3 23 rfl rfl)
theorem dX4_readsZone_96 : decode cX4_readsZone 96 = .ok (.iconst 0, 1) := dk_3 (dk_at dksX4_readsZone_4 0 rfl rfl)
theorem dX4_readsZone_97 : decode cX4_readsZone 97 = .ok (.bipush 120, 2) := dk_16 120 (dk_at dksX4_readsZone_4 1 rfl rfl)
theorem dX4_readsZone_99 : decode cX4_readsZone 99 = .ok (.invokevirtual 393, 3) := dk_182 1 137 (dk_at dksX4_readsZone_4 3 rfl rfl)
theorem dX4_readsZone_102 : decode cX4_readsZone 102 = .ok (.goto 4, 3) := dk_167 0 4 (dk_at dksX4_readsZone_4 6 rfl rfl)
theorem dX4_readsZone_105 : decode cX4_readsZone 105 = .ok (.iconst 0, 1) := dk_3 (dk_at dksX4_readsZone_4 9 rfl rfl)
theorem dX4_readsZone_106 : decode cX4_readsZone 106 = .ok (.invokevirtual 396, 3) := dk_182 1 140 (dk_at dksX4_readsZone_4 10 rfl rfl)
theorem dX4_readsZone_109 : decode cX4_readsZone 109 = .ok (.aload_n 0, 1) := dk_42 (dk_at dksX4_readsZone_4 13 rfl rfl)
theorem dX4_readsZone_110 : decode cX4_readsZone 110 = .ok (.iconst 0, 1) := dk_3 (dk_at dksX4_readsZone_4 14 rfl rfl)
theorem dX4_readsZone_111 : decode cX4_readsZone 111 = .ok (.iload_n 1, 1) := dk_27 (dk_at dksX4_readsZone_4 15 rfl rfl)
theorem dX4_readsZone_112 : decode cX4_readsZone 112 = .ok (.iconst 1, 1) := dk_4 (dk_at dksX4_readsZone_4 16 rfl rfl)
theorem dX4_readsZone_113 : decode cX4_readsZone 113 = .ok (.iadd, 1) := dk_96 (dk_at dksX4_readsZone_4 17 rfl rfl)
theorem dX4_readsZone_114 : decode cX4_readsZone 114 = .ok (.invokevirtual 396, 3) := dk_182 1 140 (dk_at dksX4_readsZone_4 18 rfl rfl)
theorem dX4_readsZone_117 : decode cX4_readsZone 117 = .ok (.return_, 1) := dk_177 (dk_at dksX4_readsZone_4 21 rfl rfl)
abbrev cX4_begins : ByteArray := prog_21_method_125_code
def yX4_begins : MethodName := ⟨RX4, "begins", "(II)V"⟩
def dkwX4_begins_1 : List UInt8 := [177]
abbrev dktX4_begins_1 : List UInt8 := dkwX4_begins_1 ++ []
def dkwX4_begins_0 : List UInt8 := [42, 42, 180, 0, 13, 27, 46, 28, 162, 0, 7, 4, 167, 0, 4, 3, 7, 182, 1, 98, 42, 182, 1, 102]
abbrev dktX4_begins_0 : List UInt8 := dkwX4_begins_0 ++ dktX4_begins_1
theorem dksX4_begins_0 : cX4_begins.data.toList.drop 0 = dktX4_begins_0 := by decide +kernel
theorem dksX4_begins_1 : cX4_begins.data.toList.drop 24 = dktX4_begins_1 := dk_seg dksX4_begins_0 24 rfl rfl
theorem dX4_begins_0 : decode cX4_begins 0 = .ok (.aload_n 0, 1) := dk_42 (dk_at dksX4_begins_0 0 rfl rfl)
theorem dX4_begins_1 : decode cX4_begins 1 = .ok (.aload_n 0, 1) := dk_42 (dk_at dksX4_begins_0 1 rfl rfl)
theorem dX4_begins_2 : decode cX4_begins 2 = .ok (.getfield 13, 3) := dk_180 0 13 (dk_at dksX4_begins_0 2 rfl rfl)
theorem dX4_begins_5 : decode cX4_begins 5 = .ok (.iload_n 1, 1) := dk_27 (dk_at dksX4_begins_0 5 rfl rfl)
theorem dX4_begins_6 : decode cX4_begins 6 = .ok (.iaload, 1) := dk_46 (dk_at dksX4_begins_0 6 rfl rfl)
theorem dX4_begins_7 : decode cX4_begins 7 = .ok (.iload_n 2, 1) := dk_28 (dk_at dksX4_begins_0 7 rfl rfl)
theorem dX4_begins_8 : decode cX4_begins 8 = .ok (.if_icmp .ge 7, 3) := dk_162 0 7 (dk_at dksX4_begins_0 8 rfl rfl)
theorem dX4_begins_11 : decode cX4_begins 11 = .ok (.iconst 1, 1) := dk_4 (dk_at dksX4_begins_0 11 rfl rfl)
theorem dX4_begins_12 : decode cX4_begins 12 = .ok (.goto 4, 3) := dk_167 0 4 (dk_at dksX4_begins_0 12 rfl rfl)
theorem dX4_begins_15 : decode cX4_begins 15 = .ok (.iconst 0, 1) := dk_3 (dk_at dksX4_begins_0 15 rfl rfl)
theorem dX4_begins_16 : decode cX4_begins 16 = .ok (.iconst 4, 1) := dk_7 (dk_at dksX4_begins_0 16 rfl rfl)
theorem dX4_begins_17 : decode cX4_begins 17 = .ok (.invokevirtual 354, 3) := dk_182 1 98 (dk_at dksX4_begins_0 17 rfl rfl)
theorem dX4_begins_20 : decode cX4_begins 20 = .ok (.aload_n 0, 1) := dk_42 (dk_at dksX4_begins_0 20 rfl rfl)
theorem dX4_begins_21 : decode cX4_begins 21 = .ok (.invokevirtual 358, 3) := dk_182 1 102 (dk_at dksX4_begins_0 21 rfl rfl)
theorem dX4_begins_24 : decode cX4_begins 24 = .ok (.return_, 1) := dk_177 (dk_at dksX4_begins_1 0 rfl rfl)
abbrev cX4_needs : ByteArray := prog_21_method_112_code
def yX4_needs : MethodName := ⟨RX4, "needs", "(ZI)V"⟩
def dkwX4_needs_1 : List UInt8 := [181, 0, 45, 177]
abbrev dktX4_needs_1 : List UInt8 := dkwX4_needs_1 ++ []
def dkwX4_needs_0 : List UInt8 := [42, 180, 1, 85, 154, 0, 7, 27, 153, 0, 4, 177, 42, 28, 181, 1, 85, 42, 42, 180, 1, 52]
abbrev dktX4_needs_0 : List UInt8 := dkwX4_needs_0 ++ dktX4_needs_1
theorem dksX4_needs_0 : cX4_needs.data.toList.drop 0 = dktX4_needs_0 := by decide +kernel
theorem dksX4_needs_1 : cX4_needs.data.toList.drop 22 = dktX4_needs_1 := dk_seg dksX4_needs_0 22 rfl rfl
theorem dX4_needs_0 : decode cX4_needs 0 = .ok (.aload_n 0, 1) := dk_42 (dk_at dksX4_needs_0 0 rfl rfl)
theorem dX4_needs_1 : decode cX4_needs 1 = .ok (.getfield 341, 3) := dk_180 1 85 (dk_at dksX4_needs_0 1 rfl rfl)
theorem dX4_needs_4 : decode cX4_needs 4 = .ok (.ifCond .ne 7, 3) := dk_154 0 7 (dk_at dksX4_needs_0 4 rfl rfl)
theorem dX4_needs_7 : decode cX4_needs 7 = .ok (.iload_n 1, 1) := dk_27 (dk_at dksX4_needs_0 7 rfl rfl)
theorem dX4_needs_8 : decode cX4_needs 8 = .ok (.ifCond .eq 4, 3) := dk_153 0 4 (dk_at dksX4_needs_0 8 rfl rfl)
theorem dX4_needs_11 : decode cX4_needs 11 = .ok (.return_, 1) := dk_177 (dk_at dksX4_needs_0 11 rfl rfl)
theorem dX4_needs_12 : decode cX4_needs 12 = .ok (.aload_n 0, 1) := dk_42 (dk_at dksX4_needs_0 12 rfl rfl)
theorem dX4_needs_13 : decode cX4_needs 13 = .ok (.iload_n 2, 1) := dk_28 (dk_at dksX4_needs_0 13 rfl rfl)
theorem dX4_needs_14 : decode cX4_needs 14 = .ok (.putfield 341, 3) := dk_181 1 85 (dk_at dksX4_needs_0 14 rfl rfl)
theorem dX4_needs_17 : decode cX4_needs 17 = .ok (.aload_n 0, 1) := dk_42 (dk_at dksX4_needs_0 17 rfl rfl)
theorem dX4_needs_18 : decode cX4_needs 18 = .ok (.aload_n 0, 1) := dk_42 (dk_at dksX4_needs_0 18 rfl rfl)
theorem dX4_needs_19 : decode cX4_needs 19 = .ok (.getfield 308, 3) := dk_180 1 52 (dk_at dksX4_needs_0 19 rfl rfl)
theorem dX4_needs_22 : decode cX4_needs 22 = .ok (.putfield 45, 3) := dk_181 0 45 (dk_at dksX4_needs_1 0 rfl rfl)
theorem dX4_needs_25 : decode cX4_needs 25 = .ok (.return_, 1) := dk_177 (dk_at dksX4_needs_1 3 rfl rfl)
abbrev cX4_goOn : ByteArray := prog_21_method_113_code
def yX4_goOn : MethodName := ⟨RX4, "goOn", "()V"⟩
def dkwX4_goOn_0 : List UInt8 := [42, 182, 1, 88, 153, 0, 7, 42, 182, 1, 92, 177]
abbrev dktX4_goOn_0 : List UInt8 := dkwX4_goOn_0 ++ []
theorem dksX4_goOn_0 : cX4_goOn.data.toList.drop 0 = dktX4_goOn_0 := by decide +kernel
theorem dX4_goOn_0 : decode cX4_goOn 0 = .ok (.aload_n 0, 1) := dk_42 (dk_at dksX4_goOn_0 0 rfl rfl)
theorem dX4_goOn_1 : decode cX4_goOn 1 = .ok (.invokevirtual 344, 3) := dk_182 1 88 (dk_at dksX4_goOn_0 1 rfl rfl)
theorem dX4_goOn_4 : decode cX4_goOn 4 = .ok (.ifCond .eq 7, 3) := dk_153 0 7 (dk_at dksX4_goOn_0 4 rfl rfl)
theorem dX4_goOn_7 : decode cX4_goOn 7 = .ok (.aload_n 0, 1) := dk_42 (dk_at dksX4_goOn_0 7 rfl rfl)
theorem dX4_goOn_8 : decode cX4_goOn 8 = .ok (.invokevirtual 348, 3) := dk_182 1 92 (dk_at dksX4_goOn_0 8 rfl rfl)
theorem dX4_goOn_11 : decode cX4_goOn 11 = .ok (.return_, 1) := dk_177 (dk_at dksX4_goOn_0 11 rfl rfl)
abbrev cX4_newName : ByteArray := prog_21_method_123_code
def yX4_newName : MethodName := ⟨RX4, "newName", "([JI)V"⟩
def dkwX4_newName_2 : List UInt8 := [28, 42, 42, 180, 1, 46, 182, 1, 121, 80, 42, 182, 1, 102, 177]
abbrev dktX4_newName_2 : List UInt8 := dkwX4_newName_2 ++ []
def dkwX4_newName_1 : List UInt8 := [184, 1, 125, 2, 160, 0, 7, 4, 167, 0, 4, 3, 6, 182, 1, 98, 42, 182, 1, 88, 153, 0, 14, 43]
abbrev dktX4_newName_1 : List UInt8 := dkwX4_newName_1 ++ dktX4_newName_2
def dkwX4_newName_0 : List UInt8 := [42, 182, 1, 118, 42, 182, 1, 88, 154, 0, 4, 177, 42, 42, 42, 180, 1, 46, 182, 1, 121, 43, 28]
abbrev dktX4_newName_0 : List UInt8 := dkwX4_newName_0 ++ dktX4_newName_1
theorem dksX4_newName_0 : cX4_newName.data.toList.drop 0 = dktX4_newName_0 := by decide +kernel
theorem dksX4_newName_1 : cX4_newName.data.toList.drop 23 = dktX4_newName_1 := dk_seg dksX4_newName_0 23 rfl rfl
theorem dksX4_newName_2 : cX4_newName.data.toList.drop 47 = dktX4_newName_2 := dk_seg dksX4_newName_1 24 rfl rfl
theorem dX4_newName_0 : decode cX4_newName 0 = .ok (.aload_n 0, 1) := dk_42 (dk_at dksX4_newName_0 0 rfl rfl)
theorem dX4_newName_1 : decode cX4_newName 1 = .ok (.invokevirtual 374, 3) := dk_182 1 118 (dk_at dksX4_newName_0 1 rfl rfl)
theorem dX4_newName_4 : decode cX4_newName 4 = .ok (.aload_n 0, 1) := dk_42 (dk_at dksX4_newName_0 4 rfl rfl)
theorem dX4_newName_5 : decode cX4_newName 5 = .ok (.invokevirtual 344, 3) := dk_182 1 88 (dk_at dksX4_newName_0 5 rfl rfl)
theorem dX4_newName_8 : decode cX4_newName 8 = .ok (.ifCond .ne 4, 3) := dk_154 0 4 (dk_at dksX4_newName_0 8 rfl rfl)
theorem dX4_newName_11 : decode cX4_newName 11 = .ok (.return_, 1) := dk_177 (dk_at dksX4_newName_0 11 rfl rfl)
theorem dX4_newName_12 : decode cX4_newName 12 = .ok (.aload_n 0, 1) := dk_42 (dk_at dksX4_newName_0 12 rfl rfl)
theorem dX4_newName_13 : decode cX4_newName 13 = .ok (.aload_n 0, 1) := dk_42 (dk_at dksX4_newName_0 13 rfl rfl)
theorem dX4_newName_14 : decode cX4_newName 14 = .ok (.aload_n 0, 1) := dk_42 (dk_at dksX4_newName_0 14 rfl rfl)
theorem dX4_newName_15 : decode cX4_newName 15 = .ok (.getfield 302, 3) := dk_180 1 46 (dk_at dksX4_newName_0 15 rfl rfl)
theorem dX4_newName_18 : decode cX4_newName 18 = .ok (.invokevirtual 377, 3) := dk_182 1 121 (dk_at dksX4_newName_0 18 rfl rfl)
theorem dX4_newName_21 : decode cX4_newName 21 = .ok (.aload_n 1, 1) := dk_43 (dk_at dksX4_newName_0 21 rfl rfl)
theorem dX4_newName_22 : decode cX4_newName 22 = .ok (.iload_n 2, 1) := dk_28 (dk_at dksX4_newName_0 22 rfl rfl)
theorem dX4_newName_23 : decode cX4_newName 23 = .ok (.invokestatic 381, 3) := dk_184 1 125 (dk_at dksX4_newName_1 0 rfl rfl)
theorem dX4_newName_26 : decode cX4_newName 26 = .ok (.iconst (-1), 1) := dk_2 (dk_at dksX4_newName_1 3 rfl rfl)
theorem dX4_newName_27 : decode cX4_newName 27 = .ok (.if_icmp .ne 7, 3) := dk_160 0 7 (dk_at dksX4_newName_1 4 rfl rfl)
theorem dX4_newName_30 : decode cX4_newName 30 = .ok (.iconst 1, 1) := dk_4 (dk_at dksX4_newName_1 7 rfl rfl)
theorem dX4_newName_31 : decode cX4_newName 31 = .ok (.goto 4, 3) := dk_167 0 4 (dk_at dksX4_newName_1 8 rfl rfl)
theorem dX4_newName_34 : decode cX4_newName 34 = .ok (.iconst 0, 1) := dk_3 (dk_at dksX4_newName_1 11 rfl rfl)
theorem dX4_newName_35 : decode cX4_newName 35 = .ok (.iconst 3, 1) := dk_6 (dk_at dksX4_newName_1 12 rfl rfl)
theorem dX4_newName_36 : decode cX4_newName 36 = .ok (.invokevirtual 354, 3) := dk_182 1 98 (dk_at dksX4_newName_1 13 rfl rfl)
theorem dX4_newName_39 : decode cX4_newName 39 = .ok (.aload_n 0, 1) := dk_42 (dk_at dksX4_newName_1 16 rfl rfl)
theorem dX4_newName_40 : decode cX4_newName 40 = .ok (.invokevirtual 344, 3) := dk_182 1 88 (dk_at dksX4_newName_1 17 rfl rfl)
theorem dX4_newName_43 : decode cX4_newName 43 = .ok (.ifCond .eq 14, 3) := dk_153 0 14 (dk_at dksX4_newName_1 20 rfl rfl)
theorem dX4_newName_46 : decode cX4_newName 46 = .ok (.aload_n 1, 1) := dk_43 (dk_at dksX4_newName_1 23 rfl rfl)
theorem dX4_newName_47 : decode cX4_newName 47 = .ok (.iload_n 2, 1) := dk_28 (dk_at dksX4_newName_2 0 rfl rfl)
theorem dX4_newName_48 : decode cX4_newName 48 = .ok (.aload_n 0, 1) := dk_42 (dk_at dksX4_newName_2 1 rfl rfl)
theorem dX4_newName_49 : decode cX4_newName 49 = .ok (.aload_n 0, 1) := dk_42 (dk_at dksX4_newName_2 2 rfl rfl)
theorem dX4_newName_50 : decode cX4_newName 50 = .ok (.getfield 302, 3) := dk_180 1 46 (dk_at dksX4_newName_2 3 rfl rfl)
theorem dX4_newName_53 : decode cX4_newName 53 = .ok (.invokevirtual 377, 3) := dk_182 1 121 (dk_at dksX4_newName_2 6 rfl rfl)
theorem dX4_newName_56 : decode cX4_newName 56 = .ok (.lastore, 1) := dk_80 (dk_at dksX4_newName_2 9 rfl rfl)
theorem dX4_newName_57 : decode cX4_newName 57 = .ok (.aload_n 0, 1) := dk_42 (dk_at dksX4_newName_2 10 rfl rfl)
theorem dX4_newName_58 : decode cX4_newName 58 = .ok (.invokevirtual 358, 3) := dk_182 1 102 (dk_at dksX4_newName_2 11 rfl rfl)
theorem dX4_newName_61 : decode cX4_newName 61 = .ok (.return_, 1) := dk_177 (dk_at dksX4_newName_2 14 rfl rfl)
abbrev cX4_needsName : ByteArray := prog_21_method_122_code
def yX4_needsName : MethodName := ⟨RX4, "needsName", "()V"⟩
def dkwX4_needsName_1 : List UInt8 := [180, 1, 52, 100, 16, 8, 163, 0, 7, 4, 167, 0, 4, 3, 4, 182, 1, 98, 177]
abbrev dktX4_needsName_1 : List UInt8 := dkwX4_needsName_1 ++ []
def dkwX4_needsName_0 : List UInt8 := [42, 42, 180, 1, 55, 4, 160, 0, 29, 42, 180, 1, 65, 2, 160, 0, 21, 42, 180, 1, 46, 42]
abbrev dktX4_needsName_0 : List UInt8 := dkwX4_needsName_0 ++ dktX4_needsName_1
theorem dksX4_needsName_0 : cX4_needsName.data.toList.drop 0 = dktX4_needsName_0 := by decide +kernel
theorem dksX4_needsName_1 : cX4_needsName.data.toList.drop 22 = dktX4_needsName_1 := dk_seg dksX4_needsName_0 22 rfl rfl
theorem dX4_needsName_0 : decode cX4_needsName 0 = .ok (.aload_n 0, 1) := dk_42 (dk_at dksX4_needsName_0 0 rfl rfl)
theorem dX4_needsName_1 : decode cX4_needsName 1 = .ok (.aload_n 0, 1) := dk_42 (dk_at dksX4_needsName_0 1 rfl rfl)
theorem dX4_needsName_2 : decode cX4_needsName 2 = .ok (.getfield 311, 3) := dk_180 1 55 (dk_at dksX4_needsName_0 2 rfl rfl)
theorem dX4_needsName_5 : decode cX4_needsName 5 = .ok (.iconst 1, 1) := dk_4 (dk_at dksX4_needsName_0 5 rfl rfl)
theorem dX4_needsName_6 : decode cX4_needsName 6 = .ok (.if_icmp .ne 29, 3) := dk_160 0 29 (dk_at dksX4_needsName_0 6 rfl rfl)
theorem dX4_needsName_9 : decode cX4_needsName 9 = .ok (.aload_n 0, 1) := dk_42 (dk_at dksX4_needsName_0 9 rfl rfl)
theorem dX4_needsName_10 : decode cX4_needsName 10 = .ok (.getfield 321, 3) := dk_180 1 65 (dk_at dksX4_needsName_0 10 rfl rfl)
theorem dX4_needsName_13 : decode cX4_needsName 13 = .ok (.iconst (-1), 1) := dk_2 (dk_at dksX4_needsName_0 13 rfl rfl)
theorem dX4_needsName_14 : decode cX4_needsName 14 = .ok (.if_icmp .ne 21, 3) := dk_160 0 21 (dk_at dksX4_needsName_0 14 rfl rfl)
theorem dX4_needsName_17 : decode cX4_needsName 17 = .ok (.aload_n 0, 1) := dk_42 (dk_at dksX4_needsName_0 17 rfl rfl)
theorem dX4_needsName_18 : decode cX4_needsName 18 = .ok (.getfield 302, 3) := dk_180 1 46 (dk_at dksX4_needsName_0 18 rfl rfl)
theorem dX4_needsName_21 : decode cX4_needsName 21 = .ok (.aload_n 0, 1) := dk_42 (dk_at dksX4_needsName_0 21 rfl rfl)
theorem dX4_needsName_22 : decode cX4_needsName 22 = .ok (.getfield 308, 3) := dk_180 1 52 (dk_at dksX4_needsName_1 0 rfl rfl)
theorem dX4_needsName_25 : decode cX4_needsName 25 = .ok (.isub, 1) := dk_100 (dk_at dksX4_needsName_1 3 rfl rfl)
theorem dX4_needsName_26 : decode cX4_needsName 26 = .ok (.bipush 8, 2) := dk_16 8 (dk_at dksX4_needsName_1 4 rfl rfl)
theorem dX4_needsName_28 : decode cX4_needsName 28 = .ok (.if_icmp .gt 7, 3) := dk_163 0 7 (dk_at dksX4_needsName_1 6 rfl rfl)
theorem dX4_needsName_31 : decode cX4_needsName 31 = .ok (.iconst 1, 1) := dk_4 (dk_at dksX4_needsName_1 9 rfl rfl)
theorem dX4_needsName_32 : decode cX4_needsName 32 = .ok (.goto 4, 3) := dk_167 0 4 (dk_at dksX4_needsName_1 10 rfl rfl)
theorem dX4_needsName_35 : decode cX4_needsName 35 = .ok (.iconst 0, 1) := dk_3 (dk_at dksX4_needsName_1 13 rfl rfl)
theorem dX4_needsName_36 : decode cX4_needsName 36 = .ok (.iconst 1, 1) := dk_4 (dk_at dksX4_needsName_1 14 rfl rfl)
theorem dX4_needsName_37 : decode cX4_needsName 37 = .ok (.invokevirtual 354, 3) := dk_182 1 98 (dk_at dksX4_needsName_1 15 rfl rfl)
theorem dX4_needsName_40 : decode cX4_needsName 40 = .ok (.return_, 1) := dk_177 (dk_at dksX4_needsName_1 18 rfl rfl)
abbrev cX4_nameTo : ByteArray := prog_21_method_120_code
def yX4_nameTo : MethodName := ⟨RX4, "nameTo", "(I)J"⟩
def dkwX4_nameTo_1 : List UInt8 := [21, 4, 51, 133, 97, 20, 1, 116, 101, 65, 132, 4, 1, 167, 255, 228, 32, 173]
abbrev dktX4_nameTo_1 : List UInt8 := dkwX4_nameTo_1 ++ []
def dkwX4_nameTo_0 : List UInt8 := [9, 65, 42, 180, 1, 52, 54, 4, 21, 4, 27, 162, 0, 28, 20, 1, 114, 32, 105, 42, 180, 0, 41]
abbrev dktX4_nameTo_0 : List UInt8 := dkwX4_nameTo_0 ++ dktX4_nameTo_1
theorem dksX4_nameTo_0 : cX4_nameTo.data.toList.drop 0 = dktX4_nameTo_0 := by decide +kernel
theorem dksX4_nameTo_1 : cX4_nameTo.data.toList.drop 23 = dktX4_nameTo_1 := dk_seg dksX4_nameTo_0 23 rfl rfl
theorem dX4_nameTo_0 : decode cX4_nameTo 0 = .ok (.lconst 0, 1) := dk_9 (dk_at dksX4_nameTo_0 0 rfl rfl)
theorem dX4_nameTo_1 : decode cX4_nameTo 1 = .ok (.lstore_n 2, 1) := dk_65 (dk_at dksX4_nameTo_0 1 rfl rfl)
theorem dX4_nameTo_2 : decode cX4_nameTo 2 = .ok (.aload_n 0, 1) := dk_42 (dk_at dksX4_nameTo_0 2 rfl rfl)
theorem dX4_nameTo_3 : decode cX4_nameTo 3 = .ok (.getfield 308, 3) := dk_180 1 52 (dk_at dksX4_nameTo_0 3 rfl rfl)
theorem dX4_nameTo_6 : decode cX4_nameTo 6 = .ok (.istore 4, 2) := dk_54 4 (dk_at dksX4_nameTo_0 6 rfl rfl)
theorem dX4_nameTo_8 : decode cX4_nameTo 8 = .ok (.iload 4, 2) := dk_21 4 (dk_at dksX4_nameTo_0 8 rfl rfl)
theorem dX4_nameTo_10 : decode cX4_nameTo 10 = .ok (.iload_n 1, 1) := dk_27 (dk_at dksX4_nameTo_0 10 rfl rfl)
theorem dX4_nameTo_11 : decode cX4_nameTo 11 = .ok (.if_icmp .ge 28, 3) := dk_162 0 28 (dk_at dksX4_nameTo_0 11 rfl rfl)
theorem dX4_nameTo_14 : decode cX4_nameTo 14 = .ok (.ldc2_w 370, 3) := dk_20 1 114 (dk_at dksX4_nameTo_0 14 rfl rfl)
theorem dX4_nameTo_17 : decode cX4_nameTo 17 = .ok (.lload_n 2, 1) := dk_32 (dk_at dksX4_nameTo_0 17 rfl rfl)
theorem dX4_nameTo_18 : decode cX4_nameTo 18 = .ok (.lmul, 1) := dk_105 (dk_at dksX4_nameTo_0 18 rfl rfl)
theorem dX4_nameTo_19 : decode cX4_nameTo 19 = .ok (.aload_n 0, 1) := dk_42 (dk_at dksX4_nameTo_0 19 rfl rfl)
theorem dX4_nameTo_20 : decode cX4_nameTo 20 = .ok (.getfield 41, 3) := dk_180 0 41 (dk_at dksX4_nameTo_0 20 rfl rfl)
theorem dX4_nameTo_23 : decode cX4_nameTo 23 = .ok (.iload 4, 2) := dk_21 4 (dk_at dksX4_nameTo_1 0 rfl rfl)
theorem dX4_nameTo_25 : decode cX4_nameTo 25 = .ok (.baload, 1) := dk_51 (dk_at dksX4_nameTo_1 2 rfl rfl)
theorem dX4_nameTo_26 : decode cX4_nameTo 26 = .ok (.i2l, 1) := dk_133 (dk_at dksX4_nameTo_1 3 rfl rfl)
theorem dX4_nameTo_27 : decode cX4_nameTo 27 = .ok (.ladd, 1) := dk_97 (dk_at dksX4_nameTo_1 4 rfl rfl)
theorem dX4_nameTo_28 : decode cX4_nameTo 28 = .ok (.ldc2_w 372, 3) := dk_20 1 116 (dk_at dksX4_nameTo_1 5 rfl rfl)
theorem dX4_nameTo_31 : decode cX4_nameTo 31 = .ok (.lsub, 1) := dk_101 (dk_at dksX4_nameTo_1 8 rfl rfl)
theorem dX4_nameTo_32 : decode cX4_nameTo 32 = .ok (.lstore_n 2, 1) := dk_65 (dk_at dksX4_nameTo_1 9 rfl rfl)
theorem dX4_nameTo_33 : decode cX4_nameTo 33 = .ok (.iinc 4 1, 3) := dk_132 4 1 (dk_at dksX4_nameTo_1 10 rfl rfl)
theorem dX4_nameTo_36 : decode cX4_nameTo 36 = .ok (.goto (-28), 3) := dk_167 255 228 (dk_at dksX4_nameTo_1 13 rfl rfl)
theorem dX4_nameTo_39 : decode cX4_nameTo 39 = .ok (.lload_n 2, 1) := dk_32 (dk_at dksX4_nameTo_1 16 rfl rfl)
theorem dX4_nameTo_40 : decode cX4_nameTo 40 = .ok (.lreturn, 1) := dk_173 (dk_at dksX4_nameTo_1 17 rfl rfl)
abbrev cX4_placeOf : ByteArray := prog_21_method_121_code
def yX4_placeOf : MethodName := ⟨RX4, "placeOf", "(J[JI)I"⟩
def dkwX4_placeOf_1 : List UInt8 := [167, 255, 235, 2, 172]
abbrev dktX4_placeOf_1 : List UInt8 := dkwX4_placeOf_1 ++ []
def dkwX4_placeOf_0 : List UInt8 := [3, 54, 4, 21, 4, 29, 162, 0, 21, 44, 21, 4, 47, 30, 148, 154, 0, 6, 21, 4, 172, 132, 4, 1]
abbrev dktX4_placeOf_0 : List UInt8 := dkwX4_placeOf_0 ++ dktX4_placeOf_1
theorem dksX4_placeOf_0 : cX4_placeOf.data.toList.drop 0 = dktX4_placeOf_0 := by decide +kernel
theorem dksX4_placeOf_1 : cX4_placeOf.data.toList.drop 24 = dktX4_placeOf_1 := dk_seg dksX4_placeOf_0 24 rfl rfl
theorem dX4_placeOf_0 : decode cX4_placeOf 0 = .ok (.iconst 0, 1) := dk_3 (dk_at dksX4_placeOf_0 0 rfl rfl)
theorem dX4_placeOf_1 : decode cX4_placeOf 1 = .ok (.istore 4, 2) := dk_54 4 (dk_at dksX4_placeOf_0 1 rfl rfl)
theorem dX4_placeOf_3 : decode cX4_placeOf 3 = .ok (.iload 4, 2) := dk_21 4 (dk_at dksX4_placeOf_0 3 rfl rfl)
theorem dX4_placeOf_5 : decode cX4_placeOf 5 = .ok (.iload_n 3, 1) := dk_29 (dk_at dksX4_placeOf_0 5 rfl rfl)
theorem dX4_placeOf_6 : decode cX4_placeOf 6 = .ok (.if_icmp .ge 21, 3) := dk_162 0 21 (dk_at dksX4_placeOf_0 6 rfl rfl)
theorem dX4_placeOf_9 : decode cX4_placeOf 9 = .ok (.aload_n 2, 1) := dk_44 (dk_at dksX4_placeOf_0 9 rfl rfl)
theorem dX4_placeOf_10 : decode cX4_placeOf 10 = .ok (.iload 4, 2) := dk_21 4 (dk_at dksX4_placeOf_0 10 rfl rfl)
theorem dX4_placeOf_12 : decode cX4_placeOf 12 = .ok (.laload, 1) := dk_47 (dk_at dksX4_placeOf_0 12 rfl rfl)
theorem dX4_placeOf_13 : decode cX4_placeOf 13 = .ok (.lload_n 0, 1) := dk_30 (dk_at dksX4_placeOf_0 13 rfl rfl)
theorem dX4_placeOf_14 : decode cX4_placeOf 14 = .ok (.lcmp, 1) := dk_148 (dk_at dksX4_placeOf_0 14 rfl rfl)
theorem dX4_placeOf_15 : decode cX4_placeOf 15 = .ok (.ifCond .ne 6, 3) := dk_154 0 6 (dk_at dksX4_placeOf_0 15 rfl rfl)
theorem dX4_placeOf_18 : decode cX4_placeOf 18 = .ok (.iload 4, 2) := dk_21 4 (dk_at dksX4_placeOf_0 18 rfl rfl)
theorem dX4_placeOf_20 : decode cX4_placeOf 20 = .ok (.ireturn, 1) := dk_172 (dk_at dksX4_placeOf_0 20 rfl rfl)
theorem dX4_placeOf_21 : decode cX4_placeOf 21 = .ok (.iinc 4 1, 3) := dk_132 4 1 (dk_at dksX4_placeOf_0 21 rfl rfl)
theorem dX4_placeOf_24 : decode cX4_placeOf 24 = .ok (.goto (-21), 3) := dk_167 255 235 (dk_at dksX4_placeOf_1 0 rfl rfl)
theorem dX4_placeOf_27 : decode cX4_placeOf 27 = .ok (.iconst (-1), 1) := dk_2 (dk_at dksX4_placeOf_1 3 rfl rfl)
theorem dX4_placeOf_28 : decode cX4_placeOf 28 = .ok (.ireturn, 1) := dk_172 (dk_at dksX4_placeOf_1 4 rfl rfl)
abbrev cX4_numberBehind : ByteArray := prog_21_method_118_code
def yX4_numberBehind : MethodName := ⟨RX4, "numberBehind", "(III)I"⟩
def dkwX4_numberBehind_0 : List UInt8 := [42, 27, 182, 1, 108, 42, 28, 29, 182, 1, 111, 172]
abbrev dktX4_numberBehind_0 : List UInt8 := dkwX4_numberBehind_0 ++ []
theorem dksX4_numberBehind_0 : cX4_numberBehind.data.toList.drop 0 = dktX4_numberBehind_0 := by decide +kernel
theorem dX4_numberBehind_0 : decode cX4_numberBehind 0 = .ok (.aload_n 0, 1) := dk_42 (dk_at dksX4_numberBehind_0 0 rfl rfl)
theorem dX4_numberBehind_1 : decode cX4_numberBehind 1 = .ok (.iload_n 1, 1) := dk_27 (dk_at dksX4_numberBehind_0 1 rfl rfl)
theorem dX4_numberBehind_2 : decode cX4_numberBehind 2 = .ok (.invokevirtual 364, 3) := dk_182 1 108 (dk_at dksX4_numberBehind_0 2 rfl rfl)
theorem dX4_numberBehind_5 : decode cX4_numberBehind 5 = .ok (.aload_n 0, 1) := dk_42 (dk_at dksX4_numberBehind_0 5 rfl rfl)
theorem dX4_numberBehind_6 : decode cX4_numberBehind 6 = .ok (.iload_n 2, 1) := dk_28 (dk_at dksX4_numberBehind_0 6 rfl rfl)
theorem dX4_numberBehind_7 : decode cX4_numberBehind 7 = .ok (.iload_n 3, 1) := dk_29 (dk_at dksX4_numberBehind_0 7 rfl rfl)
theorem dX4_numberBehind_8 : decode cX4_numberBehind 8 = .ok (.invokevirtual 367, 3) := dk_182 1 111 (dk_at dksX4_numberBehind_0 8 rfl rfl)
theorem dX4_numberBehind_11 : decode cX4_numberBehind 11 = .ok (.ireturn, 1) := dk_172 (dk_at dksX4_numberBehind_0 11 rfl rfl)
abbrev cX4_passes : ByteArray := prog_21_method_115_code
def yX4_passes : MethodName := ⟨RX4, "passes", "(I)V"⟩
def dkwX4_passes_0 : List UInt8 := [42, 42, 27, 182, 1, 95, 4, 182, 1, 98, 42, 182, 1, 102, 177]
abbrev dktX4_passes_0 : List UInt8 := dkwX4_passes_0 ++ []
theorem dksX4_passes_0 : cX4_passes.data.toList.drop 0 = dktX4_passes_0 := by decide +kernel
theorem dX4_passes_0 : decode cX4_passes 0 = .ok (.aload_n 0, 1) := dk_42 (dk_at dksX4_passes_0 0 rfl rfl)
theorem dX4_passes_1 : decode cX4_passes 1 = .ok (.aload_n 0, 1) := dk_42 (dk_at dksX4_passes_0 1 rfl rfl)
theorem dX4_passes_2 : decode cX4_passes 2 = .ok (.iload_n 1, 1) := dk_27 (dk_at dksX4_passes_0 2 rfl rfl)
theorem dX4_passes_3 : decode cX4_passes 3 = .ok (.invokevirtual 351, 3) := dk_182 1 95 (dk_at dksX4_passes_0 3 rfl rfl)
theorem dX4_passes_6 : decode cX4_passes 6 = .ok (.iconst 1, 1) := dk_4 (dk_at dksX4_passes_0 6 rfl rfl)
theorem dX4_passes_7 : decode cX4_passes 7 = .ok (.invokevirtual 354, 3) := dk_182 1 98 (dk_at dksX4_passes_0 7 rfl rfl)
theorem dX4_passes_10 : decode cX4_passes 10 = .ok (.aload_n 0, 1) := dk_42 (dk_at dksX4_passes_0 10 rfl rfl)
theorem dX4_passes_11 : decode cX4_passes 11 = .ok (.invokevirtual 358, 3) := dk_182 1 102 (dk_at dksX4_passes_0 11 rfl rfl)
theorem dX4_passes_14 : decode cX4_passes 14 = .ok (.return_, 1) := dk_177 (dk_at dksX4_passes_0 14 rfl rfl)
abbrev cX4_number : ByteArray := prog_21_method_117_code
def yX4_number : MethodName := ⟨RX4, "number", "(II)I"⟩
def dkwX4_number_0 : List UInt8 := [42, 27, 28, 182, 1, 105, 62, 42, 182, 1, 102, 29, 172]
abbrev dktX4_number_0 : List UInt8 := dkwX4_number_0 ++ []
theorem dksX4_number_0 : cX4_number.data.toList.drop 0 = dktX4_number_0 := by decide +kernel
theorem dX4_number_0 : decode cX4_number 0 = .ok (.aload_n 0, 1) := dk_42 (dk_at dksX4_number_0 0 rfl rfl)
theorem dX4_number_1 : decode cX4_number 1 = .ok (.iload_n 1, 1) := dk_27 (dk_at dksX4_number_0 1 rfl rfl)
theorem dX4_number_2 : decode cX4_number 2 = .ok (.iload_n 2, 1) := dk_28 (dk_at dksX4_number_0 2 rfl rfl)
theorem dX4_number_3 : decode cX4_number 3 = .ok (.invokevirtual 361, 3) := dk_182 1 105 (dk_at dksX4_number_0 3 rfl rfl)
theorem dX4_number_6 : decode cX4_number 6 = .ok (.istore_n 3, 1) := dk_62 (dk_at dksX4_number_0 6 rfl rfl)
theorem dX4_number_7 : decode cX4_number 7 = .ok (.aload_n 0, 1) := dk_42 (dk_at dksX4_number_0 7 rfl rfl)
theorem dX4_number_8 : decode cX4_number 8 = .ok (.invokevirtual 358, 3) := dk_182 1 102 (dk_at dksX4_number_0 8 rfl rfl)
theorem dX4_number_11 : decode cX4_number 11 = .ok (.iload_n 3, 1) := dk_29 (dk_at dksX4_number_0 11 rfl rfl)
theorem dX4_number_12 : decode cX4_number 12 = .ok (.ireturn, 1) := dk_172 (dk_at dksX4_number_0 12 rfl rfl)
abbrev cX4_look : ByteArray := prog_21_method_116_code
def yX4_look : MethodName := ⟨RX4, "look", "(II)I"⟩
def dkwX4_look_2 : List UInt8 := [172]
abbrev dktX4_look_2 : List UInt8 := dkwX4_look_2 ++ []
def dkwX4_look_1 : List UInt8 := [153, 0, 20, 42, 42, 180, 1, 72, 133, 27, 133, 28, 133, 184, 0, 144, 5, 182, 1, 98, 42, 180, 1, 72]
abbrev dktX4_look_1 : List UInt8 := dkwX4_look_1 ++ dktX4_look_2
def dkwX4_look_0 : List UInt8 := [42, 42, 180, 1, 55, 5, 160, 0, 7, 4, 167, 0, 4, 3, 4, 182, 1, 98, 42, 182, 1, 88]
abbrev dktX4_look_0 : List UInt8 := dkwX4_look_0 ++ dktX4_look_1
theorem dksX4_look_0 : cX4_look.data.toList.drop 0 = dktX4_look_0 := by decide +kernel
theorem dksX4_look_1 : cX4_look.data.toList.drop 22 = dktX4_look_1 := dk_seg dksX4_look_0 22 rfl rfl
theorem dksX4_look_2 : cX4_look.data.toList.drop 46 = dktX4_look_2 := dk_seg dksX4_look_1 24 rfl rfl
theorem dX4_look_0 : decode cX4_look 0 = .ok (.aload_n 0, 1) := dk_42 (dk_at dksX4_look_0 0 rfl rfl)
theorem dX4_look_1 : decode cX4_look 1 = .ok (.aload_n 0, 1) := dk_42 (dk_at dksX4_look_0 1 rfl rfl)
theorem dX4_look_2 : decode cX4_look 2 = .ok (.getfield 311, 3) := dk_180 1 55 (dk_at dksX4_look_0 2 rfl rfl)
theorem dX4_look_5 : decode cX4_look 5 = .ok (.iconst 2, 1) := dk_5 (dk_at dksX4_look_0 5 rfl rfl)
theorem dX4_look_6 : decode cX4_look 6 = .ok (.if_icmp .ne 7, 3) := dk_160 0 7 (dk_at dksX4_look_0 6 rfl rfl)
theorem dX4_look_9 : decode cX4_look 9 = .ok (.iconst 1, 1) := dk_4 (dk_at dksX4_look_0 9 rfl rfl)
theorem dX4_look_10 : decode cX4_look 10 = .ok (.goto 4, 3) := dk_167 0 4 (dk_at dksX4_look_0 10 rfl rfl)
theorem dX4_look_13 : decode cX4_look 13 = .ok (.iconst 0, 1) := dk_3 (dk_at dksX4_look_0 13 rfl rfl)
theorem dX4_look_14 : decode cX4_look 14 = .ok (.iconst 1, 1) := dk_4 (dk_at dksX4_look_0 14 rfl rfl)
theorem dX4_look_15 : decode cX4_look 15 = .ok (.invokevirtual 354, 3) := dk_182 1 98 (dk_at dksX4_look_0 15 rfl rfl)
theorem dX4_look_18 : decode cX4_look 18 = .ok (.aload_n 0, 1) := dk_42 (dk_at dksX4_look_0 18 rfl rfl)
theorem dX4_look_19 : decode cX4_look 19 = .ok (.invokevirtual 344, 3) := dk_182 1 88 (dk_at dksX4_look_0 19 rfl rfl)
theorem dX4_look_22 : decode cX4_look 22 = .ok (.ifCond .eq 20, 3) := dk_153 0 20 (dk_at dksX4_look_1 0 rfl rfl)
theorem dX4_look_25 : decode cX4_look 25 = .ok (.aload_n 0, 1) := dk_42 (dk_at dksX4_look_1 3 rfl rfl)
theorem dX4_look_26 : decode cX4_look 26 = .ok (.aload_n 0, 1) := dk_42 (dk_at dksX4_look_1 4 rfl rfl)
theorem dX4_look_27 : decode cX4_look 27 = .ok (.getfield 328, 3) := dk_180 1 72 (dk_at dksX4_look_1 5 rfl rfl)
theorem dX4_look_30 : decode cX4_look 30 = .ok (.i2l, 1) := dk_133 (dk_at dksX4_look_1 8 rfl rfl)
theorem dX4_look_31 : decode cX4_look 31 = .ok (.iload_n 1, 1) := dk_27 (dk_at dksX4_look_1 9 rfl rfl)
theorem dX4_look_32 : decode cX4_look 32 = .ok (.i2l, 1) := dk_133 (dk_at dksX4_look_1 10 rfl rfl)
theorem dX4_look_33 : decode cX4_look 33 = .ok (.iload_n 2, 1) := dk_28 (dk_at dksX4_look_1 11 rfl rfl)
theorem dX4_look_34 : decode cX4_look 34 = .ok (.i2l, 1) := dk_133 (dk_at dksX4_look_1 12 rfl rfl)
theorem dX4_look_35 : decode cX4_look 35 = .ok (.invokestatic 144, 3) := dk_184 0 144 (dk_at dksX4_look_1 13 rfl rfl)
theorem dX4_look_38 : decode cX4_look 38 = .ok (.iconst 2, 1) := dk_5 (dk_at dksX4_look_1 16 rfl rfl)
theorem dX4_look_39 : decode cX4_look 39 = .ok (.invokevirtual 354, 3) := dk_182 1 98 (dk_at dksX4_look_1 17 rfl rfl)
theorem dX4_look_42 : decode cX4_look 42 = .ok (.aload_n 0, 1) := dk_42 (dk_at dksX4_look_1 20 rfl rfl)
theorem dX4_look_43 : decode cX4_look 43 = .ok (.getfield 328, 3) := dk_180 1 72 (dk_at dksX4_look_1 21 rfl rfl)
theorem dX4_look_46 : decode cX4_look 46 = .ok (.ireturn, 1) := dk_172 (dk_at dksX4_look_2 0 rfl rfl)
abbrev cX4_lays : ByteArray := prog_21_method_119_code
def yX4_lays : MethodName := ⟨RX4, "lays", "(II)V"⟩
def dkwX4_lays_0 : List UInt8 := [42, 182, 1, 88, 153, 0, 10, 42, 180, 0, 13, 27, 28, 79, 177]
abbrev dktX4_lays_0 : List UInt8 := dkwX4_lays_0 ++ []
theorem dksX4_lays_0 : cX4_lays.data.toList.drop 0 = dktX4_lays_0 := by decide +kernel
theorem dX4_lays_0 : decode cX4_lays 0 = .ok (.aload_n 0, 1) := dk_42 (dk_at dksX4_lays_0 0 rfl rfl)
theorem dX4_lays_1 : decode cX4_lays 1 = .ok (.invokevirtual 344, 3) := dk_182 1 88 (dk_at dksX4_lays_0 1 rfl rfl)
theorem dX4_lays_4 : decode cX4_lays 4 = .ok (.ifCond .eq 10, 3) := dk_153 0 10 (dk_at dksX4_lays_0 4 rfl rfl)
theorem dX4_lays_7 : decode cX4_lays 7 = .ok (.aload_n 0, 1) := dk_42 (dk_at dksX4_lays_0 7 rfl rfl)
theorem dX4_lays_8 : decode cX4_lays 8 = .ok (.getfield 13, 3) := dk_180 0 13 (dk_at dksX4_lays_0 8 rfl rfl)
theorem dX4_lays_11 : decode cX4_lays 11 = .ok (.iload_n 1, 1) := dk_27 (dk_at dksX4_lays_0 11 rfl rfl)
theorem dX4_lays_12 : decode cX4_lays 12 = .ok (.iload_n 2, 1) := dk_28 (dk_at dksX4_lays_0 12 rfl rfl)
theorem dX4_lays_13 : decode cX4_lays 13 = .ok (.iastore, 1) := dk_79 (dk_at dksX4_lays_0 13 rfl rfl)
theorem dX4_lays_14 : decode cX4_lays 14 = .ok (.return_, 1) := dk_177 (dk_at dksX4_lays_0 14 rfl rfl)
abbrev cX4_readsStreet : ByteArray := prog_21_method_127_code
def yX4_readsStreet : MethodName := ⟨RX4, "readsStreet", "()V"⟩
def dkwX4_readsStreet_5 : List UInt8 := [182, 1, 140, 42, 4, 27, 4, 96, 182, 1, 140, 177]
abbrev dktX4_readsStreet_5 : List UInt8 := dkwX4_readsStreet_5 ++ []
def dkwX4_readsStreet_4 : List UInt8 := [42, 182, 1, 102, 42, 16, 51, 27, 96, 42, 42, 180, 0, 49, 42, 180, 0, 13, 3, 46, 28, 182, 1, 143]
abbrev dktX4_readsStreet_4 : List UInt8 := dkwX4_readsStreet_4 ++ dktX4_readsStreet_5
def dkwX4_readsStreet_3 : List UInt8 := [182, 1, 137, 182, 1, 140, 42, 16, 51, 27, 96, 2, 182, 1, 140, 42, 16, 7, 182, 1, 95, 153, 0, 30]
abbrev dktX4_readsStreet_3 : List UInt8 := dkwX4_readsStreet_3 ++ dktX4_readsStreet_4
def dkwX4_readsStreet_2 : List UInt8 := [182, 1, 143, 61, 42, 16, 27, 27, 96, 28, 182, 1, 140, 42, 16, 39, 27, 96, 42, 16, 6, 3, 16, 60]
abbrev dktX4_readsStreet_2 : List UInt8 := dkwX4_readsStreet_2 ++ dktX4_readsStreet_3
def dkwX4_readsStreet_1 : List UInt8 := [180, 0, 52, 27, 182, 1, 133, 42, 8, 182, 1, 108, 42, 42, 180, 0, 49, 42, 180, 0, 13, 3, 46, 2]
abbrev dktX4_readsStreet_1 : List UInt8 := dkwX4_readsStreet_1 ++ dktX4_readsStreet_2
def dkwX4_readsStreet_0 : List UInt8 := [42, 180, 0, 13, 4, 46, 60, 42, 4, 16, 12, 182, 1, 129, 42, 182, 1, 88, 154, 0, 4, 177, 42, 42]
abbrev dktX4_readsStreet_0 : List UInt8 := dkwX4_readsStreet_0 ++ dktX4_readsStreet_1
theorem dksX4_readsStreet_0 : cX4_readsStreet.data.toList.drop 0 = dktX4_readsStreet_0 := by decide +kernel
theorem dksX4_readsStreet_1 : cX4_readsStreet.data.toList.drop 24 = dktX4_readsStreet_1 := dk_seg dksX4_readsStreet_0 24 rfl rfl
theorem dksX4_readsStreet_2 : cX4_readsStreet.data.toList.drop 48 = dktX4_readsStreet_2 := dk_seg dksX4_readsStreet_1 24 rfl rfl
theorem dksX4_readsStreet_3 : cX4_readsStreet.data.toList.drop 72 = dktX4_readsStreet_3 := dk_seg dksX4_readsStreet_2 24 rfl rfl
theorem dksX4_readsStreet_4 : cX4_readsStreet.data.toList.drop 96 = dktX4_readsStreet_4 := dk_seg dksX4_readsStreet_3 24 rfl rfl
theorem dksX4_readsStreet_5 : cX4_readsStreet.data.toList.drop 120 = dktX4_readsStreet_5 := dk_seg dksX4_readsStreet_4 24 rfl rfl
theorem dX4_readsStreet_0 : decode cX4_readsStreet 0 = .ok (.aload_n 0, 1) := dk_42 (dk_at dksX4_readsStreet_0 0 rfl rfl)
theorem dX4_readsStreet_1 : decode cX4_readsStreet 1 = .ok (.getfield 13, 3) := dk_180 0 13 (dk_at dksX4_readsStreet_0 1 rfl rfl)
theorem dX4_readsStreet_4 : decode cX4_readsStreet 4 = .ok (.iconst 1, 1) := dk_4 (dk_at dksX4_readsStreet_0 4 rfl rfl)
theorem dX4_readsStreet_5 : decode cX4_readsStreet 5 = .ok (.iaload, 1) := dk_46 (dk_at dksX4_readsStreet_0 5 rfl rfl)
theorem dX4_readsStreet_6 : decode cX4_readsStreet 6 = .ok (.istore_n 1, 1) := dk_60 (dk_at dksX4_readsStreet_0 6 rfl rfl)
theorem dX4_readsStreet_7 : decode cX4_readsStreet 7 = .ok (.aload_n 0, 1) := dk_42 (dk_at dksX4_readsStreet_0 7 rfl rfl)
theorem dX4_readsStreet_8 : decode cX4_readsStreet 8 = .ok (.iconst 1, 1) := dk_4 (dk_at dksX4_readsStreet_0 8 rfl rfl)
theorem dX4_readsStreet_9 : decode cX4_readsStreet 9 = .ok (.bipush 12, 2) := dk_16 12 (dk_at dksX4_readsStreet_0 9 rfl rfl)
theorem dX4_readsStreet_11 : decode cX4_readsStreet 11 = .ok (.invokevirtual 385, 3) := dk_182 1 129 (dk_at dksX4_readsStreet_0 11 rfl rfl)
theorem dX4_readsStreet_14 : decode cX4_readsStreet 14 = .ok (.aload_n 0, 1) := dk_42 (dk_at dksX4_readsStreet_0 14 rfl rfl)
theorem dX4_readsStreet_15 : decode cX4_readsStreet 15 = .ok (.invokevirtual 344, 3) := dk_182 1 88 (dk_at dksX4_readsStreet_0 15 rfl rfl)
theorem dX4_readsStreet_18 : decode cX4_readsStreet 18 = .ok (.ifCond .ne 4, 3) := dk_154 0 4 (dk_at dksX4_readsStreet_0 18 rfl rfl)
theorem dX4_readsStreet_21 : decode cX4_readsStreet 21 = .ok (.return_, 1) := dk_177 (dk_at dksX4_readsStreet_0 21 rfl rfl)
theorem dX4_readsStreet_22 : decode cX4_readsStreet 22 = .ok (.aload_n 0, 1) := dk_42 (dk_at dksX4_readsStreet_0 22 rfl rfl)
theorem dX4_readsStreet_23 : decode cX4_readsStreet 23 = .ok (.aload_n 0, 1) := dk_42 (dk_at dksX4_readsStreet_0 23 rfl rfl)
theorem dX4_readsStreet_24 : decode cX4_readsStreet 24 = .ok (.getfield 52, 3) := dk_180 0 52 (dk_at dksX4_readsStreet_1 0 rfl rfl)
theorem dX4_readsStreet_27 : decode cX4_readsStreet 27 = .ok (.iload_n 1, 1) := dk_27 (dk_at dksX4_readsStreet_1 3 rfl rfl)
theorem dX4_readsStreet_28 : decode cX4_readsStreet 28 = .ok (.invokevirtual 389, 3) := dk_182 1 133 (dk_at dksX4_readsStreet_1 4 rfl rfl)
theorem dX4_readsStreet_31 : decode cX4_readsStreet 31 = .ok (.aload_n 0, 1) := dk_42 (dk_at dksX4_readsStreet_1 7 rfl rfl)
theorem dX4_readsStreet_32 : decode cX4_readsStreet 32 = .ok (.iconst 5, 1) := dk_8 (dk_at dksX4_readsStreet_1 8 rfl rfl)
theorem dX4_readsStreet_33 : decode cX4_readsStreet 33 = .ok (.invokevirtual 364, 3) := dk_182 1 108 (dk_at dksX4_readsStreet_1 9 rfl rfl)
theorem dX4_readsStreet_36 : decode cX4_readsStreet 36 = .ok (.aload_n 0, 1) := dk_42 (dk_at dksX4_readsStreet_1 12 rfl rfl)
theorem dX4_readsStreet_37 : decode cX4_readsStreet 37 = .ok (.aload_n 0, 1) := dk_42 (dk_at dksX4_readsStreet_1 13 rfl rfl)
theorem dX4_readsStreet_38 : decode cX4_readsStreet 38 = .ok (.getfield 49, 3) := dk_180 0 49 (dk_at dksX4_readsStreet_1 14 rfl rfl)
theorem dX4_readsStreet_41 : decode cX4_readsStreet 41 = .ok (.aload_n 0, 1) := dk_42 (dk_at dksX4_readsStreet_1 17 rfl rfl)
theorem dX4_readsStreet_42 : decode cX4_readsStreet 42 = .ok (.getfield 13, 3) := dk_180 0 13 (dk_at dksX4_readsStreet_1 18 rfl rfl)
theorem dX4_readsStreet_45 : decode cX4_readsStreet 45 = .ok (.iconst 0, 1) := dk_3 (dk_at dksX4_readsStreet_1 21 rfl rfl)
theorem dX4_readsStreet_46 : decode cX4_readsStreet 46 = .ok (.iaload, 1) := dk_46 (dk_at dksX4_readsStreet_1 22 rfl rfl)
theorem dX4_readsStreet_47 : decode cX4_readsStreet 47 = .ok (.iconst (-1), 1) := dk_2 (dk_at dksX4_readsStreet_1 23 rfl rfl)
theorem dX4_readsStreet_48 : decode cX4_readsStreet 48 = .ok (.invokevirtual 399, 3) := dk_182 1 143 (dk_at dksX4_readsStreet_2 0 rfl rfl)
theorem dX4_readsStreet_51 : decode cX4_readsStreet 51 = .ok (.istore_n 2, 1) := dk_61 (dk_at dksX4_readsStreet_2 3 rfl rfl)
theorem dX4_readsStreet_52 : decode cX4_readsStreet 52 = .ok (.aload_n 0, 1) := dk_42 (dk_at dksX4_readsStreet_2 4 rfl rfl)
theorem dX4_readsStreet_53 : decode cX4_readsStreet 53 = .ok (.bipush 27, 2) := dk_16 27 (dk_at dksX4_readsStreet_2 5 rfl rfl)
theorem dX4_readsStreet_55 : decode cX4_readsStreet 55 = .ok (.iload_n 1, 1) := dk_27 (dk_at dksX4_readsStreet_2 7 rfl rfl)
theorem dX4_readsStreet_56 : decode cX4_readsStreet 56 = .ok (.iadd, 1) := dk_96 (dk_at dksX4_readsStreet_2 8 rfl rfl)
theorem dX4_readsStreet_57 : decode cX4_readsStreet 57 = .ok (.iload_n 2, 1) := dk_28 (dk_at dksX4_readsStreet_2 9 rfl rfl)
theorem dX4_readsStreet_58 : decode cX4_readsStreet 58 = .ok (.invokevirtual 396, 3) := dk_182 1 140 (dk_at dksX4_readsStreet_2 10 rfl rfl)
theorem dX4_readsStreet_61 : decode cX4_readsStreet 61 = .ok (.aload_n 0, 1) := dk_42 (dk_at dksX4_readsStreet_2 13 rfl rfl)
theorem dX4_readsStreet_62 : decode cX4_readsStreet 62 = .ok (.bipush 39, 2) := dk_16 39 (dk_at dksX4_readsStreet_2 14 rfl rfl)
theorem dX4_readsStreet_64 : decode cX4_readsStreet 64 = .ok (.iload_n 1, 1) := dk_27 (dk_at dksX4_readsStreet_2 16 rfl rfl)
theorem dX4_readsStreet_65 : decode cX4_readsStreet 65 = .ok (.iadd, 1) := dk_96 (dk_at dksX4_readsStreet_2 17 rfl rfl)
theorem dX4_readsStreet_66 : decode cX4_readsStreet 66 = .ok (.aload_n 0, 1) := dk_42 (dk_at dksX4_readsStreet_2 18 rfl rfl)
theorem dX4_readsStreet_67 : decode cX4_readsStreet 67 = .ok (.bipush 6, 2) := dk_16 6 (dk_at dksX4_readsStreet_2 19 rfl rfl)
theorem dX4_readsStreet_69 : decode cX4_readsStreet 69 = .ok (.iconst 0, 1) := dk_3 (dk_at dksX4_readsStreet_2 21 rfl rfl)
theorem dX4_readsStreet_70 : decode cX4_readsStreet 70 = .ok (.bipush 60, 2) := dk_16 60 (dk_at dksX4_readsStreet_2 22 rfl rfl)
theorem dX4_readsStreet_72 : decode cX4_readsStreet 72 = .ok (.invokevirtual 393, 3) := dk_182 1 137 (dk_at dksX4_readsStreet_3 0 rfl rfl)
theorem dX4_readsStreet_75 : decode cX4_readsStreet 75 = .ok (.invokevirtual 396, 3) := dk_182 1 140 (dk_at dksX4_readsStreet_3 3 rfl rfl)
theorem dX4_readsStreet_78 : decode cX4_readsStreet 78 = .ok (.aload_n 0, 1) := dk_42 (dk_at dksX4_readsStreet_3 6 rfl rfl)
theorem dX4_readsStreet_79 : decode cX4_readsStreet 79 = .ok (.bipush 51, 2) := dk_16 51 (dk_at dksX4_readsStreet_3 7 rfl rfl)
theorem dX4_readsStreet_81 : decode cX4_readsStreet 81 = .ok (.iload_n 1, 1) := dk_27 (dk_at dksX4_readsStreet_3 9 rfl rfl)
theorem dX4_readsStreet_82 : decode cX4_readsStreet 82 = .ok (.iadd, 1) := dk_96 (dk_at dksX4_readsStreet_3 10 rfl rfl)
theorem dX4_readsStreet_83 : decode cX4_readsStreet 83 = .ok (.iconst (-1), 1) := dk_2 (dk_at dksX4_readsStreet_3 11 rfl rfl)
theorem dX4_readsStreet_84 : decode cX4_readsStreet 84 = .ok (.invokevirtual 396, 3) := dk_182 1 140 (dk_at dksX4_readsStreet_3 12 rfl rfl)
theorem dX4_readsStreet_87 : decode cX4_readsStreet 87 = .ok (.aload_n 0, 1) := dk_42 (dk_at dksX4_readsStreet_3 15 rfl rfl)
theorem dX4_readsStreet_88 : decode cX4_readsStreet 88 = .ok (.bipush 7, 2) := dk_16 7 (dk_at dksX4_readsStreet_3 16 rfl rfl)
theorem dX4_readsStreet_90 : decode cX4_readsStreet 90 = .ok (.invokevirtual 351, 3) := dk_182 1 95 (dk_at dksX4_readsStreet_3 18 rfl rfl)
theorem dX4_readsStreet_93 : decode cX4_readsStreet 93 = .ok (.ifCond .eq 30, 3) := dk_153 0 30 (dk_at dksX4_readsStreet_3 21 rfl rfl)
theorem dX4_readsStreet_96 : decode cX4_readsStreet 96 = .ok (.aload_n 0, 1) := dk_42 (dk_at dksX4_readsStreet_4 0 rfl rfl)
theorem dX4_readsStreet_97 : decode cX4_readsStreet 97 = .ok (.invokevirtual 358, 3) := dk_182 1 102 (dk_at dksX4_readsStreet_4 1 rfl rfl)
theorem dX4_readsStreet_100 : decode cX4_readsStreet 100 = .ok (.aload_n 0, 1) := dk_42 (dk_at dksX4_readsStreet_4 4 rfl rfl)
theorem dX4_readsStreet_101 : decode cX4_readsStreet 101 = .ok (.bipush 51, 2) := dk_16 51 (dk_at dksX4_readsStreet_4 5 rfl rfl)
theorem dX4_readsStreet_103 : decode cX4_readsStreet 103 = .ok (.iload_n 1, 1) := dk_27 (dk_at dksX4_readsStreet_4 7 rfl rfl)
theorem dX4_readsStreet_104 : decode cX4_readsStreet 104 = .ok (.iadd, 1) := dk_96 (dk_at dksX4_readsStreet_4 8 rfl rfl)
theorem dX4_readsStreet_105 : decode cX4_readsStreet 105 = .ok (.aload_n 0, 1) := dk_42 (dk_at dksX4_readsStreet_4 9 rfl rfl)
theorem dX4_readsStreet_106 : decode cX4_readsStreet 106 = .ok (.aload_n 0, 1) := dk_42 (dk_at dksX4_readsStreet_4 10 rfl rfl)
theorem dX4_readsStreet_107 : decode cX4_readsStreet 107 = .ok (.getfield 49, 3) := dk_180 0 49 (dk_at dksX4_readsStreet_4 11 rfl rfl)
theorem dX4_readsStreet_110 : decode cX4_readsStreet 110 = .ok (.aload_n 0, 1) := dk_42 (dk_at dksX4_readsStreet_4 14 rfl rfl)
theorem dX4_readsStreet_111 : decode cX4_readsStreet 111 = .ok (.getfield 13, 3) := dk_180 0 13 (dk_at dksX4_readsStreet_4 15 rfl rfl)
theorem dX4_readsStreet_114 : decode cX4_readsStreet 114 = .ok (.iconst 0, 1) := dk_3 (dk_at dksX4_readsStreet_4 18 rfl rfl)
theorem dX4_readsStreet_115 : decode cX4_readsStreet 115 = .ok (.iaload, 1) := dk_46 (dk_at dksX4_readsStreet_4 19 rfl rfl)
theorem dX4_readsStreet_116 : decode cX4_readsStreet 116 = .ok (.iload_n 2, 1) := dk_28 (dk_at dksX4_readsStreet_4 20 rfl rfl)
theorem dX4_readsStreet_117 : decode cX4_readsStreet 117 = .ok (.invokevirtual 399, 3) := dk_182 1 143 (dk_at dksX4_readsStreet_4 21 rfl rfl)
theorem dX4_readsStreet_120 : decode cX4_readsStreet 120 = .ok (.invokevirtual 396, 3) := dk_182 1 140 (dk_at dksX4_readsStreet_5 0 rfl rfl)
theorem dX4_readsStreet_123 : decode cX4_readsStreet 123 = .ok (.aload_n 0, 1) := dk_42 (dk_at dksX4_readsStreet_5 3 rfl rfl)
theorem dX4_readsStreet_124 : decode cX4_readsStreet 124 = .ok (.iconst 1, 1) := dk_4 (dk_at dksX4_readsStreet_5 4 rfl rfl)
theorem dX4_readsStreet_125 : decode cX4_readsStreet 125 = .ok (.iload_n 1, 1) := dk_27 (dk_at dksX4_readsStreet_5 5 rfl rfl)
theorem dX4_readsStreet_126 : decode cX4_readsStreet 126 = .ok (.iconst 1, 1) := dk_4 (dk_at dksX4_readsStreet_5 6 rfl rfl)
theorem dX4_readsStreet_127 : decode cX4_readsStreet 127 = .ok (.iadd, 1) := dk_96 (dk_at dksX4_readsStreet_5 7 rfl rfl)
theorem dX4_readsStreet_128 : decode cX4_readsStreet 128 = .ok (.invokevirtual 396, 3) := dk_182 1 140 (dk_at dksX4_readsStreet_5 8 rfl rfl)
theorem dX4_readsStreet_131 : decode cX4_readsStreet 131 = .ok (.return_, 1) := dk_177 (dk_at dksX4_readsStreet_5 11 rfl rfl)
abbrev cX4_oldName : ByteArray := prog_21_method_124_code
def yX4_oldName : MethodName := ⟨RX4, "oldName", "([JII)I"⟩
def dkwX4_oldName_2 : List UInt8 := [182, 1, 98, 42, 182, 1, 102, 21, 4, 172]
abbrev dktX4_oldName_2 : List UInt8 := dkwX4_oldName_2 ++ []
def dkwX4_oldName_1 : List UInt8 := [184, 1, 125, 54, 4, 42, 21, 4, 2, 159, 0, 13, 21, 4, 29, 159, 0, 7, 4, 167, 0, 4, 3, 6]
abbrev dktX4_oldName_1 : List UInt8 := dkwX4_oldName_1 ++ dktX4_oldName_2
def dkwX4_oldName_0 : List UInt8 := [42, 182, 1, 118, 42, 182, 1, 88, 154, 0, 5, 3, 172, 42, 42, 180, 1, 46, 182, 1, 121, 43, 28]
abbrev dktX4_oldName_0 : List UInt8 := dkwX4_oldName_0 ++ dktX4_oldName_1
theorem dksX4_oldName_0 : cX4_oldName.data.toList.drop 0 = dktX4_oldName_0 := by decide +kernel
theorem dksX4_oldName_1 : cX4_oldName.data.toList.drop 23 = dktX4_oldName_1 := dk_seg dksX4_oldName_0 23 rfl rfl
theorem dksX4_oldName_2 : cX4_oldName.data.toList.drop 47 = dktX4_oldName_2 := dk_seg dksX4_oldName_1 24 rfl rfl
theorem dX4_oldName_0 : decode cX4_oldName 0 = .ok (.aload_n 0, 1) := dk_42 (dk_at dksX4_oldName_0 0 rfl rfl)
theorem dX4_oldName_1 : decode cX4_oldName 1 = .ok (.invokevirtual 374, 3) := dk_182 1 118 (dk_at dksX4_oldName_0 1 rfl rfl)
theorem dX4_oldName_4 : decode cX4_oldName 4 = .ok (.aload_n 0, 1) := dk_42 (dk_at dksX4_oldName_0 4 rfl rfl)
theorem dX4_oldName_5 : decode cX4_oldName 5 = .ok (.invokevirtual 344, 3) := dk_182 1 88 (dk_at dksX4_oldName_0 5 rfl rfl)
theorem dX4_oldName_8 : decode cX4_oldName 8 = .ok (.ifCond .ne 5, 3) := dk_154 0 5 (dk_at dksX4_oldName_0 8 rfl rfl)
theorem dX4_oldName_11 : decode cX4_oldName 11 = .ok (.iconst 0, 1) := dk_3 (dk_at dksX4_oldName_0 11 rfl rfl)
theorem dX4_oldName_12 : decode cX4_oldName 12 = .ok (.ireturn, 1) := dk_172 (dk_at dksX4_oldName_0 12 rfl rfl)
theorem dX4_oldName_13 : decode cX4_oldName 13 = .ok (.aload_n 0, 1) := dk_42 (dk_at dksX4_oldName_0 13 rfl rfl)
theorem dX4_oldName_14 : decode cX4_oldName 14 = .ok (.aload_n 0, 1) := dk_42 (dk_at dksX4_oldName_0 14 rfl rfl)
theorem dX4_oldName_15 : decode cX4_oldName 15 = .ok (.getfield 302, 3) := dk_180 1 46 (dk_at dksX4_oldName_0 15 rfl rfl)
theorem dX4_oldName_18 : decode cX4_oldName 18 = .ok (.invokevirtual 377, 3) := dk_182 1 121 (dk_at dksX4_oldName_0 18 rfl rfl)
theorem dX4_oldName_21 : decode cX4_oldName 21 = .ok (.aload_n 1, 1) := dk_43 (dk_at dksX4_oldName_0 21 rfl rfl)
theorem dX4_oldName_22 : decode cX4_oldName 22 = .ok (.iload_n 2, 1) := dk_28 (dk_at dksX4_oldName_0 22 rfl rfl)
theorem dX4_oldName_23 : decode cX4_oldName 23 = .ok (.invokestatic 381, 3) := dk_184 1 125 (dk_at dksX4_oldName_1 0 rfl rfl)
theorem dX4_oldName_26 : decode cX4_oldName 26 = .ok (.istore 4, 2) := dk_54 4 (dk_at dksX4_oldName_1 3 rfl rfl)
theorem dX4_oldName_28 : decode cX4_oldName 28 = .ok (.aload_n 0, 1) := dk_42 (dk_at dksX4_oldName_1 5 rfl rfl)
theorem dX4_oldName_29 : decode cX4_oldName 29 = .ok (.iload 4, 2) := dk_21 4 (dk_at dksX4_oldName_1 6 rfl rfl)
theorem dX4_oldName_31 : decode cX4_oldName 31 = .ok (.iconst (-1), 1) := dk_2 (dk_at dksX4_oldName_1 8 rfl rfl)
theorem dX4_oldName_32 : decode cX4_oldName 32 = .ok (.if_icmp .eq 13, 3) := dk_159 0 13 (dk_at dksX4_oldName_1 9 rfl rfl)
theorem dX4_oldName_35 : decode cX4_oldName 35 = .ok (.iload 4, 2) := dk_21 4 (dk_at dksX4_oldName_1 12 rfl rfl)
theorem dX4_oldName_37 : decode cX4_oldName 37 = .ok (.iload_n 3, 1) := dk_29 (dk_at dksX4_oldName_1 14 rfl rfl)
theorem dX4_oldName_38 : decode cX4_oldName 38 = .ok (.if_icmp .eq 7, 3) := dk_159 0 7 (dk_at dksX4_oldName_1 15 rfl rfl)
theorem dX4_oldName_41 : decode cX4_oldName 41 = .ok (.iconst 1, 1) := dk_4 (dk_at dksX4_oldName_1 18 rfl rfl)
theorem dX4_oldName_42 : decode cX4_oldName 42 = .ok (.goto 4, 3) := dk_167 0 4 (dk_at dksX4_oldName_1 19 rfl rfl)
theorem dX4_oldName_45 : decode cX4_oldName 45 = .ok (.iconst 0, 1) := dk_3 (dk_at dksX4_oldName_1 22 rfl rfl)
theorem dX4_oldName_46 : decode cX4_oldName 46 = .ok (.iconst 3, 1) := dk_6 (dk_at dksX4_oldName_1 23 rfl rfl)
theorem dX4_oldName_47 : decode cX4_oldName 47 = .ok (.invokevirtual 354, 3) := dk_182 1 98 (dk_at dksX4_oldName_2 0 rfl rfl)
theorem dX4_oldName_50 : decode cX4_oldName 50 = .ok (.aload_n 0, 1) := dk_42 (dk_at dksX4_oldName_2 3 rfl rfl)
theorem dX4_oldName_51 : decode cX4_oldName 51 = .ok (.invokevirtual 358, 3) := dk_182 1 102 (dk_at dksX4_oldName_2 4 rfl rfl)
theorem dX4_oldName_54 : decode cX4_oldName 54 = .ok (.iload 4, 2) := dk_21 4 (dk_at dksX4_oldName_2 7 rfl rfl)
theorem dX4_oldName_56 : decode cX4_oldName 56 = .ok (.ireturn, 1) := dk_172 (dk_at dksX4_oldName_2 9 rfl rfl)
abbrev cX4_readsHouse : ByteArray := prog_21_method_128_code
def yX4_readsHouse : MethodName := ⟨RX4, "readsHouse", "()V"⟩
def dkwX4_readsHouse_4 : List UInt8 := [5, 27, 4, 96, 182, 1, 140, 177]
abbrev dktX4_readsHouse_4 : List UInt8 := dkwX4_readsHouse_4 ++ []
def dkwX4_readsHouse_3 : List UInt8 := [182, 1, 137, 182, 1, 140, 42, 16, 95, 27, 96, 42, 16, 11, 3, 16, 100, 182, 1, 137, 182, 1, 140, 42]
abbrev dktX4_readsHouse_3 : List UInt8 := dkwX4_readsHouse_3 ++ dktX4_readsHouse_4
def dkwX4_readsHouse_2 : List UInt8 := [180, 0, 13, 4, 46, 2, 182, 1, 143, 182, 1, 140, 42, 16, 79, 27, 96, 42, 16, 10, 4, 6]
abbrev dktX4_readsHouse_2 : List UInt8 := dkwX4_readsHouse_2 ++ dktX4_readsHouse_3
def dkwX4_readsHouse_1 : List UInt8 := [180, 0, 55, 27, 182, 1, 133, 42, 16, 9, 182, 1, 108, 42, 16, 63, 27, 96, 42, 42, 180, 0, 52, 42]
abbrev dktX4_readsHouse_1 : List UInt8 := dkwX4_readsHouse_1 ++ dktX4_readsHouse_2
def dkwX4_readsHouse_0 : List UInt8 := [42, 180, 0, 13, 5, 46, 60, 42, 5, 16, 16, 182, 1, 129, 42, 182, 1, 88, 154, 0, 4, 177, 42, 42]
abbrev dktX4_readsHouse_0 : List UInt8 := dkwX4_readsHouse_0 ++ dktX4_readsHouse_1
theorem dksX4_readsHouse_0 : cX4_readsHouse.data.toList.drop 0 = dktX4_readsHouse_0 := by decide +kernel
theorem dksX4_readsHouse_1 : cX4_readsHouse.data.toList.drop 24 = dktX4_readsHouse_1 := dk_seg dksX4_readsHouse_0 24 rfl rfl
theorem dksX4_readsHouse_2 : cX4_readsHouse.data.toList.drop 48 = dktX4_readsHouse_2 := dk_seg dksX4_readsHouse_1 24 rfl rfl
theorem dksX4_readsHouse_3 : cX4_readsHouse.data.toList.drop 70 = dktX4_readsHouse_3 := dk_seg dksX4_readsHouse_2 22 rfl rfl
theorem dksX4_readsHouse_4 : cX4_readsHouse.data.toList.drop 94 = dktX4_readsHouse_4 := dk_seg dksX4_readsHouse_3 24 rfl rfl
theorem dX4_readsHouse_0 : decode cX4_readsHouse 0 = .ok (.aload_n 0, 1) := dk_42 (dk_at dksX4_readsHouse_0 0 rfl rfl)
theorem dX4_readsHouse_1 : decode cX4_readsHouse 1 = .ok (.getfield 13, 3) := dk_180 0 13 (dk_at dksX4_readsHouse_0 1 rfl rfl)
theorem dX4_readsHouse_4 : decode cX4_readsHouse 4 = .ok (.iconst 2, 1) := dk_5 (dk_at dksX4_readsHouse_0 4 rfl rfl)
theorem dX4_readsHouse_5 : decode cX4_readsHouse 5 = .ok (.iaload, 1) := dk_46 (dk_at dksX4_readsHouse_0 5 rfl rfl)
theorem dX4_readsHouse_6 : decode cX4_readsHouse 6 = .ok (.istore_n 1, 1) := dk_60 (dk_at dksX4_readsHouse_0 6 rfl rfl)
theorem dX4_readsHouse_7 : decode cX4_readsHouse 7 = .ok (.aload_n 0, 1) := dk_42 (dk_at dksX4_readsHouse_0 7 rfl rfl)
theorem dX4_readsHouse_8 : decode cX4_readsHouse 8 = .ok (.iconst 2, 1) := dk_5 (dk_at dksX4_readsHouse_0 8 rfl rfl)
theorem dX4_readsHouse_9 : decode cX4_readsHouse 9 = .ok (.bipush 16, 2) := dk_16 16 (dk_at dksX4_readsHouse_0 9 rfl rfl)
theorem dX4_readsHouse_11 : decode cX4_readsHouse 11 = .ok (.invokevirtual 385, 3) := dk_182 1 129 (dk_at dksX4_readsHouse_0 11 rfl rfl)
theorem dX4_readsHouse_14 : decode cX4_readsHouse 14 = .ok (.aload_n 0, 1) := dk_42 (dk_at dksX4_readsHouse_0 14 rfl rfl)
theorem dX4_readsHouse_15 : decode cX4_readsHouse 15 = .ok (.invokevirtual 344, 3) := dk_182 1 88 (dk_at dksX4_readsHouse_0 15 rfl rfl)
theorem dX4_readsHouse_18 : decode cX4_readsHouse 18 = .ok (.ifCond .ne 4, 3) := dk_154 0 4 (dk_at dksX4_readsHouse_0 18 rfl rfl)
theorem dX4_readsHouse_21 : decode cX4_readsHouse 21 = .ok (.return_, 1) := dk_177 (dk_at dksX4_readsHouse_0 21 rfl rfl)
theorem dX4_readsHouse_22 : decode cX4_readsHouse 22 = .ok (.aload_n 0, 1) := dk_42 (dk_at dksX4_readsHouse_0 22 rfl rfl)
theorem dX4_readsHouse_23 : decode cX4_readsHouse 23 = .ok (.aload_n 0, 1) := dk_42 (dk_at dksX4_readsHouse_0 23 rfl rfl)
theorem dX4_readsHouse_24 : decode cX4_readsHouse 24 = .ok (.getfield 55, 3) := dk_180 0 55 (dk_at dksX4_readsHouse_1 0 rfl rfl)
theorem dX4_readsHouse_27 : decode cX4_readsHouse 27 = .ok (.iload_n 1, 1) := dk_27 (dk_at dksX4_readsHouse_1 3 rfl rfl)
theorem dX4_readsHouse_28 : decode cX4_readsHouse 28 = .ok (.invokevirtual 389, 3) := dk_182 1 133 (dk_at dksX4_readsHouse_1 4 rfl rfl)
theorem dX4_readsHouse_31 : decode cX4_readsHouse 31 = .ok (.aload_n 0, 1) := dk_42 (dk_at dksX4_readsHouse_1 7 rfl rfl)
theorem dX4_readsHouse_32 : decode cX4_readsHouse 32 = .ok (.bipush 9, 2) := dk_16 9 (dk_at dksX4_readsHouse_1 8 rfl rfl)
theorem dX4_readsHouse_34 : decode cX4_readsHouse 34 = .ok (.invokevirtual 364, 3) := dk_182 1 108 (dk_at dksX4_readsHouse_1 10 rfl rfl)
theorem dX4_readsHouse_37 : decode cX4_readsHouse 37 = .ok (.aload_n 0, 1) := dk_42 (dk_at dksX4_readsHouse_1 13 rfl rfl)
theorem dX4_readsHouse_38 : decode cX4_readsHouse 38 = .ok (.bipush 63, 2) := dk_16 63 (dk_at dksX4_readsHouse_1 14 rfl rfl)
theorem dX4_readsHouse_40 : decode cX4_readsHouse 40 = .ok (.iload_n 1, 1) := dk_27 (dk_at dksX4_readsHouse_1 16 rfl rfl)
theorem dX4_readsHouse_41 : decode cX4_readsHouse 41 = .ok (.iadd, 1) := dk_96 (dk_at dksX4_readsHouse_1 17 rfl rfl)
theorem dX4_readsHouse_42 : decode cX4_readsHouse 42 = .ok (.aload_n 0, 1) := dk_42 (dk_at dksX4_readsHouse_1 18 rfl rfl)
theorem dX4_readsHouse_43 : decode cX4_readsHouse 43 = .ok (.aload_n 0, 1) := dk_42 (dk_at dksX4_readsHouse_1 19 rfl rfl)
theorem dX4_readsHouse_44 : decode cX4_readsHouse 44 = .ok (.getfield 52, 3) := dk_180 0 52 (dk_at dksX4_readsHouse_1 20 rfl rfl)
theorem dX4_readsHouse_47 : decode cX4_readsHouse 47 = .ok (.aload_n 0, 1) := dk_42 (dk_at dksX4_readsHouse_1 23 rfl rfl)
theorem dX4_readsHouse_48 : decode cX4_readsHouse 48 = .ok (.getfield 13, 3) := dk_180 0 13 (dk_at dksX4_readsHouse_2 0 rfl rfl)
theorem dX4_readsHouse_51 : decode cX4_readsHouse 51 = .ok (.iconst 1, 1) := dk_4 (dk_at dksX4_readsHouse_2 3 rfl rfl)
theorem dX4_readsHouse_52 : decode cX4_readsHouse 52 = .ok (.iaload, 1) := dk_46 (dk_at dksX4_readsHouse_2 4 rfl rfl)
theorem dX4_readsHouse_53 : decode cX4_readsHouse 53 = .ok (.iconst (-1), 1) := dk_2 (dk_at dksX4_readsHouse_2 5 rfl rfl)
theorem dX4_readsHouse_54 : decode cX4_readsHouse 54 = .ok (.invokevirtual 399, 3) := dk_182 1 143 (dk_at dksX4_readsHouse_2 6 rfl rfl)
theorem dX4_readsHouse_57 : decode cX4_readsHouse 57 = .ok (.invokevirtual 396, 3) := dk_182 1 140 (dk_at dksX4_readsHouse_2 9 rfl rfl)
theorem dX4_readsHouse_60 : decode cX4_readsHouse 60 = .ok (.aload_n 0, 1) := dk_42 (dk_at dksX4_readsHouse_2 12 rfl rfl)
theorem dX4_readsHouse_61 : decode cX4_readsHouse 61 = .ok (.bipush 79, 2) := dk_16 79 (dk_at dksX4_readsHouse_2 13 rfl rfl)
theorem dX4_readsHouse_63 : decode cX4_readsHouse 63 = .ok (.iload_n 1, 1) := dk_27 (dk_at dksX4_readsHouse_2 15 rfl rfl)
theorem dX4_readsHouse_64 : decode cX4_readsHouse 64 = .ok (.iadd, 1) := dk_96 (dk_at dksX4_readsHouse_2 16 rfl rfl)
theorem dX4_readsHouse_65 : decode cX4_readsHouse 65 = .ok (.aload_n 0, 1) := dk_42 (dk_at dksX4_readsHouse_2 17 rfl rfl)
theorem dX4_readsHouse_66 : decode cX4_readsHouse 66 = .ok (.bipush 10, 2) := dk_16 10 (dk_at dksX4_readsHouse_2 18 rfl rfl)
theorem dX4_readsHouse_68 : decode cX4_readsHouse 68 = .ok (.iconst 1, 1) := dk_4 (dk_at dksX4_readsHouse_2 20 rfl rfl)
theorem dX4_readsHouse_69 : decode cX4_readsHouse 69 = .ok (.iconst 3, 1) := dk_6 (dk_at dksX4_readsHouse_2 21 rfl rfl)
theorem dX4_readsHouse_70 : decode cX4_readsHouse 70 = .ok (.invokevirtual 393, 3) := dk_182 1 137 (dk_at dksX4_readsHouse_3 0 rfl rfl)
theorem dX4_readsHouse_73 : decode cX4_readsHouse 73 = .ok (.invokevirtual 396, 3) := dk_182 1 140 (dk_at dksX4_readsHouse_3 3 rfl rfl)
theorem dX4_readsHouse_76 : decode cX4_readsHouse 76 = .ok (.aload_n 0, 1) := dk_42 (dk_at dksX4_readsHouse_3 6 rfl rfl)
theorem dX4_readsHouse_77 : decode cX4_readsHouse 77 = .ok (.bipush 95, 2) := dk_16 95 (dk_at dksX4_readsHouse_3 7 rfl rfl)
theorem dX4_readsHouse_79 : decode cX4_readsHouse 79 = .ok (.iload_n 1, 1) := dk_27 (dk_at dksX4_readsHouse_3 9 rfl rfl)
theorem dX4_readsHouse_80 : decode cX4_readsHouse 80 = .ok (.iadd, 1) := dk_96 (dk_at dksX4_readsHouse_3 10 rfl rfl)
theorem dX4_readsHouse_81 : decode cX4_readsHouse 81 = .ok (.aload_n 0, 1) := dk_42 (dk_at dksX4_readsHouse_3 11 rfl rfl)
theorem dX4_readsHouse_82 : decode cX4_readsHouse 82 = .ok (.bipush 11, 2) := dk_16 11 (dk_at dksX4_readsHouse_3 12 rfl rfl)
theorem dX4_readsHouse_84 : decode cX4_readsHouse 84 = .ok (.iconst 0, 1) := dk_3 (dk_at dksX4_readsHouse_3 14 rfl rfl)
theorem dX4_readsHouse_85 : decode cX4_readsHouse 85 = .ok (.bipush 100, 2) := dk_16 100 (dk_at dksX4_readsHouse_3 15 rfl rfl)
theorem dX4_readsHouse_87 : decode cX4_readsHouse 87 = .ok (.invokevirtual 393, 3) := dk_182 1 137 (dk_at dksX4_readsHouse_3 17 rfl rfl)
theorem dX4_readsHouse_90 : decode cX4_readsHouse 90 = .ok (.invokevirtual 396, 3) := dk_182 1 140 (dk_at dksX4_readsHouse_3 20 rfl rfl)
theorem dX4_readsHouse_93 : decode cX4_readsHouse 93 = .ok (.aload_n 0, 1) := dk_42 (dk_at dksX4_readsHouse_3 23 rfl rfl)
theorem dX4_readsHouse_94 : decode cX4_readsHouse 94 = .ok (.iconst 2, 1) := dk_5 (dk_at dksX4_readsHouse_4 0 rfl rfl)
theorem dX4_readsHouse_95 : decode cX4_readsHouse 95 = .ok (.iload_n 1, 1) := dk_27 (dk_at dksX4_readsHouse_4 1 rfl rfl)
theorem dX4_readsHouse_96 : decode cX4_readsHouse 96 = .ok (.iconst 1, 1) := dk_4 (dk_at dksX4_readsHouse_4 2 rfl rfl)
theorem dX4_readsHouse_97 : decode cX4_readsHouse 97 = .ok (.iadd, 1) := dk_96 (dk_at dksX4_readsHouse_4 3 rfl rfl)
theorem dX4_readsHouse_98 : decode cX4_readsHouse 98 = .ok (.invokevirtual 396, 3) := dk_182 1 140 (dk_at dksX4_readsHouse_4 4 rfl rfl)
theorem dX4_readsHouse_101 : decode cX4_readsHouse 101 = .ok (.return_, 1) := dk_177 (dk_at dksX4_readsHouse_4 7 rfl rfl)
abbrev cX4_readsOnce : ByteArray := prog_21_method_129_code
def yX4_readsOnce : MethodName := ⟨RX4, "readsOnce", "(IIII)V"⟩
def dkwX4_readsOnce_2 : List UInt8 := [177]
abbrev dktX4_readsOnce_2 : List UInt8 := dkwX4_readsOnce_2 ++ []
def dkwX4_readsOnce_1 : List UInt8 := [182, 1, 102, 42, 16, 120, 27, 96, 4, 182, 1, 140, 42, 28, 42, 29, 21, 4, 182, 1, 111, 182, 1, 140]
abbrev dktX4_readsOnce_1 : List UInt8 := dkwX4_readsOnce_1 ++ dktX4_readsOnce_2
def dkwX4_readsOnce_0 : List UInt8 := [42, 42, 180, 0, 13, 16, 120, 27, 96, 46, 154, 0, 7, 4, 167, 0, 4, 3, 6, 182, 1, 98, 42]
abbrev dktX4_readsOnce_0 : List UInt8 := dkwX4_readsOnce_0 ++ dktX4_readsOnce_1
theorem dksX4_readsOnce_0 : cX4_readsOnce.data.toList.drop 0 = dktX4_readsOnce_0 := by decide +kernel
theorem dksX4_readsOnce_1 : cX4_readsOnce.data.toList.drop 23 = dktX4_readsOnce_1 := dk_seg dksX4_readsOnce_0 23 rfl rfl
theorem dksX4_readsOnce_2 : cX4_readsOnce.data.toList.drop 47 = dktX4_readsOnce_2 := dk_seg dksX4_readsOnce_1 24 rfl rfl
theorem dX4_readsOnce_0 : decode cX4_readsOnce 0 = .ok (.aload_n 0, 1) := dk_42 (dk_at dksX4_readsOnce_0 0 rfl rfl)
theorem dX4_readsOnce_1 : decode cX4_readsOnce 1 = .ok (.aload_n 0, 1) := dk_42 (dk_at dksX4_readsOnce_0 1 rfl rfl)
theorem dX4_readsOnce_2 : decode cX4_readsOnce 2 = .ok (.getfield 13, 3) := dk_180 0 13 (dk_at dksX4_readsOnce_0 2 rfl rfl)
theorem dX4_readsOnce_5 : decode cX4_readsOnce 5 = .ok (.bipush 120, 2) := dk_16 120 (dk_at dksX4_readsOnce_0 5 rfl rfl)
theorem dX4_readsOnce_7 : decode cX4_readsOnce 7 = .ok (.iload_n 1, 1) := dk_27 (dk_at dksX4_readsOnce_0 7 rfl rfl)
theorem dX4_readsOnce_8 : decode cX4_readsOnce 8 = .ok (.iadd, 1) := dk_96 (dk_at dksX4_readsOnce_0 8 rfl rfl)
theorem dX4_readsOnce_9 : decode cX4_readsOnce 9 = .ok (.iaload, 1) := dk_46 (dk_at dksX4_readsOnce_0 9 rfl rfl)
theorem dX4_readsOnce_10 : decode cX4_readsOnce 10 = .ok (.ifCond .ne 7, 3) := dk_154 0 7 (dk_at dksX4_readsOnce_0 10 rfl rfl)
theorem dX4_readsOnce_13 : decode cX4_readsOnce 13 = .ok (.iconst 1, 1) := dk_4 (dk_at dksX4_readsOnce_0 13 rfl rfl)
theorem dX4_readsOnce_14 : decode cX4_readsOnce 14 = .ok (.goto 4, 3) := dk_167 0 4 (dk_at dksX4_readsOnce_0 14 rfl rfl)
theorem dX4_readsOnce_17 : decode cX4_readsOnce 17 = .ok (.iconst 0, 1) := dk_3 (dk_at dksX4_readsOnce_0 17 rfl rfl)
theorem dX4_readsOnce_18 : decode cX4_readsOnce 18 = .ok (.iconst 3, 1) := dk_6 (dk_at dksX4_readsOnce_0 18 rfl rfl)
theorem dX4_readsOnce_19 : decode cX4_readsOnce 19 = .ok (.invokevirtual 354, 3) := dk_182 1 98 (dk_at dksX4_readsOnce_0 19 rfl rfl)
theorem dX4_readsOnce_22 : decode cX4_readsOnce 22 = .ok (.aload_n 0, 1) := dk_42 (dk_at dksX4_readsOnce_0 22 rfl rfl)
theorem dX4_readsOnce_23 : decode cX4_readsOnce 23 = .ok (.invokevirtual 358, 3) := dk_182 1 102 (dk_at dksX4_readsOnce_1 0 rfl rfl)
theorem dX4_readsOnce_26 : decode cX4_readsOnce 26 = .ok (.aload_n 0, 1) := dk_42 (dk_at dksX4_readsOnce_1 3 rfl rfl)
theorem dX4_readsOnce_27 : decode cX4_readsOnce 27 = .ok (.bipush 120, 2) := dk_16 120 (dk_at dksX4_readsOnce_1 4 rfl rfl)
theorem dX4_readsOnce_29 : decode cX4_readsOnce 29 = .ok (.iload_n 1, 1) := dk_27 (dk_at dksX4_readsOnce_1 6 rfl rfl)
theorem dX4_readsOnce_30 : decode cX4_readsOnce 30 = .ok (.iadd, 1) := dk_96 (dk_at dksX4_readsOnce_1 7 rfl rfl)
theorem dX4_readsOnce_31 : decode cX4_readsOnce 31 = .ok (.iconst 1, 1) := dk_4 (dk_at dksX4_readsOnce_1 8 rfl rfl)
theorem dX4_readsOnce_32 : decode cX4_readsOnce 32 = .ok (.invokevirtual 396, 3) := dk_182 1 140 (dk_at dksX4_readsOnce_1 9 rfl rfl)
theorem dX4_readsOnce_35 : decode cX4_readsOnce 35 = .ok (.aload_n 0, 1) := dk_42 (dk_at dksX4_readsOnce_1 12 rfl rfl)
theorem dX4_readsOnce_36 : decode cX4_readsOnce 36 = .ok (.iload_n 2, 1) := dk_28 (dk_at dksX4_readsOnce_1 13 rfl rfl)
theorem dX4_readsOnce_37 : decode cX4_readsOnce 37 = .ok (.aload_n 0, 1) := dk_42 (dk_at dksX4_readsOnce_1 14 rfl rfl)
theorem dX4_readsOnce_38 : decode cX4_readsOnce 38 = .ok (.iload_n 3, 1) := dk_29 (dk_at dksX4_readsOnce_1 15 rfl rfl)
theorem dX4_readsOnce_39 : decode cX4_readsOnce 39 = .ok (.iload 4, 2) := dk_21 4 (dk_at dksX4_readsOnce_1 16 rfl rfl)
theorem dX4_readsOnce_41 : decode cX4_readsOnce 41 = .ok (.invokevirtual 367, 3) := dk_182 1 111 (dk_at dksX4_readsOnce_1 18 rfl rfl)
theorem dX4_readsOnce_44 : decode cX4_readsOnce 44 = .ok (.invokevirtual 396, 3) := dk_182 1 140 (dk_at dksX4_readsOnce_1 21 rfl rfl)
theorem dX4_readsOnce_47 : decode cX4_readsOnce 47 = .ok (.return_, 1) := dk_177 (dk_at dksX4_readsOnce_2 0 rfl rfl)
abbrev cX4_readsFine : ByteArray := prog_21_method_130_code
def yX4_readsFine : MethodName := ⟨RX4, "readsFine", "()V"⟩
def dkwX4_readsFine_3 : List UInt8 := [79, 42, 180, 0, 13, 16, 114, 27, 96, 4, 100, 28, 79, 177]
abbrev dktX4_readsFine_3 : List UInt8 := dkwX4_readsFine_3 ++ []
def dkwX4_readsFine_2 : List UInt8 := [17, 3, 231, 182, 1, 111, 61, 42, 182, 1, 88, 154, 0, 4, 177, 42, 180, 0, 13, 16, 122, 27, 96, 4]
abbrev dktX4_readsFine_2 : List UInt8 := dkwX4_readsFine_2 ++ dktX4_readsFine_3
def dkwX4_readsFine_1 : List UInt8 := [16, 122, 27, 96, 46, 154, 0, 7, 4, 167, 0, 4, 3, 6, 182, 1, 98, 42, 182, 1, 102, 42, 3]
abbrev dktX4_readsFine_1 : List UInt8 := dkwX4_readsFine_1 ++ dktX4_readsFine_2
def dkwX4_readsFine_0 : List UInt8 := [42, 182, 1, 102, 42, 4, 16, 6, 182, 1, 105, 60, 42, 182, 1, 88, 153, 0, 25, 42, 42, 180, 0, 13]
abbrev dktX4_readsFine_0 : List UInt8 := dkwX4_readsFine_0 ++ dktX4_readsFine_1
theorem dksX4_readsFine_0 : cX4_readsFine.data.toList.drop 0 = dktX4_readsFine_0 := by decide +kernel
theorem dksX4_readsFine_1 : cX4_readsFine.data.toList.drop 24 = dktX4_readsFine_1 := dk_seg dksX4_readsFine_0 24 rfl rfl
theorem dksX4_readsFine_2 : cX4_readsFine.data.toList.drop 47 = dktX4_readsFine_2 := dk_seg dksX4_readsFine_1 23 rfl rfl
theorem dksX4_readsFine_3 : cX4_readsFine.data.toList.drop 71 = dktX4_readsFine_3 := dk_seg dksX4_readsFine_2 24 rfl rfl
theorem dX4_readsFine_0 : decode cX4_readsFine 0 = .ok (.aload_n 0, 1) := dk_42 (dk_at dksX4_readsFine_0 0 rfl rfl)
theorem dX4_readsFine_1 : decode cX4_readsFine 1 = .ok (.invokevirtual 358, 3) := dk_182 1 102 (dk_at dksX4_readsFine_0 1 rfl rfl)
theorem dX4_readsFine_4 : decode cX4_readsFine 4 = .ok (.aload_n 0, 1) := dk_42 (dk_at dksX4_readsFine_0 4 rfl rfl)
theorem dX4_readsFine_5 : decode cX4_readsFine 5 = .ok (.iconst 1, 1) := dk_4 (dk_at dksX4_readsFine_0 5 rfl rfl)
theorem dX4_readsFine_6 : decode cX4_readsFine 6 = .ok (.bipush 6, 2) := dk_16 6 (dk_at dksX4_readsFine_0 6 rfl rfl)
theorem dX4_readsFine_8 : decode cX4_readsFine 8 = .ok (.invokevirtual 361, 3) := dk_182 1 105 (dk_at dksX4_readsFine_0 8 rfl rfl)
theorem dX4_readsFine_11 : decode cX4_readsFine 11 = .ok (.istore_n 1, 1) := dk_60 (dk_at dksX4_readsFine_0 11 rfl rfl)
theorem dX4_readsFine_12 : decode cX4_readsFine 12 = .ok (.aload_n 0, 1) := dk_42 (dk_at dksX4_readsFine_0 12 rfl rfl)
theorem dX4_readsFine_13 : decode cX4_readsFine 13 = .ok (.invokevirtual 344, 3) := dk_182 1 88 (dk_at dksX4_readsFine_0 13 rfl rfl)
theorem dX4_readsFine_16 : decode cX4_readsFine 16 = .ok (.ifCond .eq 25, 3) := dk_153 0 25 (dk_at dksX4_readsFine_0 16 rfl rfl)
theorem dX4_readsFine_19 : decode cX4_readsFine 19 = .ok (.aload_n 0, 1) := dk_42 (dk_at dksX4_readsFine_0 19 rfl rfl)
theorem dX4_readsFine_20 : decode cX4_readsFine 20 = .ok (.aload_n 0, 1) := dk_42 (dk_at dksX4_readsFine_0 20 rfl rfl)
theorem dX4_readsFine_21 : decode cX4_readsFine 21 = .ok (.getfield 13, 3) := dk_180 0 13 (dk_at dksX4_readsFine_0 21 rfl rfl)
theorem dX4_readsFine_24 : decode cX4_readsFine 24 = .ok (.bipush 122, 2) := dk_16 122 (dk_at dksX4_readsFine_1 0 rfl rfl)
theorem dX4_readsFine_26 : decode cX4_readsFine 26 = .ok (.iload_n 1, 1) := dk_27 (dk_at dksX4_readsFine_1 2 rfl rfl)
theorem dX4_readsFine_27 : decode cX4_readsFine 27 = .ok (.iadd, 1) := dk_96 (dk_at dksX4_readsFine_1 3 rfl rfl)
theorem dX4_readsFine_28 : decode cX4_readsFine 28 = .ok (.iaload, 1) := dk_46 (dk_at dksX4_readsFine_1 4 rfl rfl)
theorem dX4_readsFine_29 : decode cX4_readsFine 29 = .ok (.ifCond .ne 7, 3) := dk_154 0 7 (dk_at dksX4_readsFine_1 5 rfl rfl)
theorem dX4_readsFine_32 : decode cX4_readsFine 32 = .ok (.iconst 1, 1) := dk_4 (dk_at dksX4_readsFine_1 8 rfl rfl)
theorem dX4_readsFine_33 : decode cX4_readsFine 33 = .ok (.goto 4, 3) := dk_167 0 4 (dk_at dksX4_readsFine_1 9 rfl rfl)
theorem dX4_readsFine_36 : decode cX4_readsFine 36 = .ok (.iconst 0, 1) := dk_3 (dk_at dksX4_readsFine_1 12 rfl rfl)
theorem dX4_readsFine_37 : decode cX4_readsFine 37 = .ok (.iconst 3, 1) := dk_6 (dk_at dksX4_readsFine_1 13 rfl rfl)
theorem dX4_readsFine_38 : decode cX4_readsFine 38 = .ok (.invokevirtual 354, 3) := dk_182 1 98 (dk_at dksX4_readsFine_1 14 rfl rfl)
theorem dX4_readsFine_41 : decode cX4_readsFine 41 = .ok (.aload_n 0, 1) := dk_42 (dk_at dksX4_readsFine_1 17 rfl rfl)
theorem dX4_readsFine_42 : decode cX4_readsFine 42 = .ok (.invokevirtual 358, 3) := dk_182 1 102 (dk_at dksX4_readsFine_1 18 rfl rfl)
theorem dX4_readsFine_45 : decode cX4_readsFine 45 = .ok (.aload_n 0, 1) := dk_42 (dk_at dksX4_readsFine_1 21 rfl rfl)
theorem dX4_readsFine_46 : decode cX4_readsFine 46 = .ok (.iconst 0, 1) := dk_3 (dk_at dksX4_readsFine_1 22 rfl rfl)
theorem dX4_readsFine_47 : decode cX4_readsFine 47 = .ok (.sipush 999, 3) := dk_17 3 231 (dk_at dksX4_readsFine_2 0 rfl rfl)
theorem dX4_readsFine_50 : decode cX4_readsFine 50 = .ok (.invokevirtual 367, 3) := dk_182 1 111 (dk_at dksX4_readsFine_2 3 rfl rfl)
theorem dX4_readsFine_53 : decode cX4_readsFine 53 = .ok (.istore_n 2, 1) := dk_61 (dk_at dksX4_readsFine_2 6 rfl rfl)
theorem dX4_readsFine_54 : decode cX4_readsFine 54 = .ok (.aload_n 0, 1) := dk_42 (dk_at dksX4_readsFine_2 7 rfl rfl)
theorem dX4_readsFine_55 : decode cX4_readsFine 55 = .ok (.invokevirtual 344, 3) := dk_182 1 88 (dk_at dksX4_readsFine_2 8 rfl rfl)
theorem dX4_readsFine_58 : decode cX4_readsFine 58 = .ok (.ifCond .ne 4, 3) := dk_154 0 4 (dk_at dksX4_readsFine_2 11 rfl rfl)
theorem dX4_readsFine_61 : decode cX4_readsFine 61 = .ok (.return_, 1) := dk_177 (dk_at dksX4_readsFine_2 14 rfl rfl)
theorem dX4_readsFine_62 : decode cX4_readsFine 62 = .ok (.aload_n 0, 1) := dk_42 (dk_at dksX4_readsFine_2 15 rfl rfl)
theorem dX4_readsFine_63 : decode cX4_readsFine 63 = .ok (.getfield 13, 3) := dk_180 0 13 (dk_at dksX4_readsFine_2 16 rfl rfl)
theorem dX4_readsFine_66 : decode cX4_readsFine 66 = .ok (.bipush 122, 2) := dk_16 122 (dk_at dksX4_readsFine_2 19 rfl rfl)
theorem dX4_readsFine_68 : decode cX4_readsFine 68 = .ok (.iload_n 1, 1) := dk_27 (dk_at dksX4_readsFine_2 21 rfl rfl)
theorem dX4_readsFine_69 : decode cX4_readsFine 69 = .ok (.iadd, 1) := dk_96 (dk_at dksX4_readsFine_2 22 rfl rfl)
theorem dX4_readsFine_70 : decode cX4_readsFine 70 = .ok (.iconst 1, 1) := dk_4 (dk_at dksX4_readsFine_2 23 rfl rfl)
theorem dX4_readsFine_71 : decode cX4_readsFine 71 = .ok (.iastore, 1) := dk_79 (dk_at dksX4_readsFine_3 0 rfl rfl)
theorem dX4_readsFine_72 : decode cX4_readsFine 72 = .ok (.aload_n 0, 1) := dk_42 (dk_at dksX4_readsFine_3 1 rfl rfl)
theorem dX4_readsFine_73 : decode cX4_readsFine 73 = .ok (.getfield 13, 3) := dk_180 0 13 (dk_at dksX4_readsFine_3 2 rfl rfl)
theorem dX4_readsFine_76 : decode cX4_readsFine 76 = .ok (.bipush 114, 2) := dk_16 114 (dk_at dksX4_readsFine_3 5 rfl rfl)
theorem dX4_readsFine_78 : decode cX4_readsFine 78 = .ok (.iload_n 1, 1) := dk_27 (dk_at dksX4_readsFine_3 7 rfl rfl)
theorem dX4_readsFine_79 : decode cX4_readsFine 79 = .ok (.iadd, 1) := dk_96 (dk_at dksX4_readsFine_3 8 rfl rfl)
theorem dX4_readsFine_80 : decode cX4_readsFine 80 = .ok (.iconst 1, 1) := dk_4 (dk_at dksX4_readsFine_3 9 rfl rfl)
theorem dX4_readsFine_81 : decode cX4_readsFine 81 = .ok (.isub, 1) := dk_100 (dk_at dksX4_readsFine_3 10 rfl rfl)
theorem dX4_readsFine_82 : decode cX4_readsFine 82 = .ok (.iload_n 2, 1) := dk_28 (dk_at dksX4_readsFine_3 11 rfl rfl)
theorem dX4_readsFine_83 : decode cX4_readsFine 83 = .ok (.iastore, 1) := dk_79 (dk_at dksX4_readsFine_3 12 rfl rfl)
theorem dX4_readsFine_84 : decode cX4_readsFine 84 = .ok (.return_, 1) := dk_177 (dk_at dksX4_readsFine_3 13 rfl rfl)
abbrev cX4_errorCode : ByteArray := prog_21_method_134_code
def yX4_errorCode : MethodName := ⟨RX4, "errorCode", "()I"⟩
def dkwX4_errorCode_0 : List UInt8 := [42, 3, 181, 0, 77, 42, 180, 1, 85, 172]
abbrev dktX4_errorCode_0 : List UInt8 := dkwX4_errorCode_0 ++ []
theorem dksX4_errorCode_0 : cX4_errorCode.data.toList.drop 0 = dktX4_errorCode_0 := by decide +kernel
theorem dX4_errorCode_0 : decode cX4_errorCode 0 = .ok (.aload_n 0, 1) := dk_42 (dk_at dksX4_errorCode_0 0 rfl rfl)
theorem dX4_errorCode_1 : decode cX4_errorCode 1 = .ok (.iconst 0, 1) := dk_3 (dk_at dksX4_errorCode_0 1 rfl rfl)
theorem dX4_errorCode_2 : decode cX4_errorCode 2 = .ok (.putfield 77, 3) := dk_181 0 77 (dk_at dksX4_errorCode_0 2 rfl rfl)
theorem dX4_errorCode_5 : decode cX4_errorCode 5 = .ok (.aload_n 0, 1) := dk_42 (dk_at dksX4_errorCode_0 5 rfl rfl)
theorem dX4_errorCode_6 : decode cX4_errorCode 6 = .ok (.getfield 341, 3) := dk_180 1 85 (dk_at dksX4_errorCode_0 6 rfl rfl)
theorem dX4_errorCode_9 : decode cX4_errorCode 9 = .ok (.ireturn, 1) := dk_172 (dk_at dksX4_errorCode_0 9 rfl rfl)
abbrev cX4_errorOffset : ByteArray := prog_21_method_135_code
def yX4_errorOffset : MethodName := ⟨RX4, "errorOffset", "()I"⟩
def dkwX4_errorOffset_0 : List UInt8 := [42, 3, 181, 0, 77, 42, 180, 0, 45, 172]
abbrev dktX4_errorOffset_0 : List UInt8 := dkwX4_errorOffset_0 ++ []
theorem dksX4_errorOffset_0 : cX4_errorOffset.data.toList.drop 0 = dktX4_errorOffset_0 := by decide +kernel
theorem dX4_errorOffset_0 : decode cX4_errorOffset 0 = .ok (.aload_n 0, 1) := dk_42 (dk_at dksX4_errorOffset_0 0 rfl rfl)
theorem dX4_errorOffset_1 : decode cX4_errorOffset 1 = .ok (.iconst 0, 1) := dk_3 (dk_at dksX4_errorOffset_0 1 rfl rfl)
theorem dX4_errorOffset_2 : decode cX4_errorOffset 2 = .ok (.putfield 77, 3) := dk_181 0 77 (dk_at dksX4_errorOffset_0 2 rfl rfl)
theorem dX4_errorOffset_5 : decode cX4_errorOffset 5 = .ok (.aload_n 0, 1) := dk_42 (dk_at dksX4_errorOffset_0 5 rfl rfl)
theorem dX4_errorOffset_6 : decode cX4_errorOffset 6 = .ok (.getfield 45, 3) := dk_180 0 45 (dk_at dksX4_errorOffset_0 6 rfl rfl)
theorem dX4_errorOffset_9 : decode cX4_errorOffset 9 = .ok (.ireturn, 1) := dk_172 (dk_at dksX4_errorOffset_0 9 rfl rfl)
abbrev cX4_find : ByteArray := prog_21_method_136_code
def yX4_find : MethodName := ⟨RX4, "find", "(I)I"⟩
def dkwX4_find_5 : List UInt8 := [182, 1, 121, 42, 180, 0, 38, 42, 180, 0, 7, 5, 46, 184, 1, 125, 172]
abbrev dktX4_find_5 : List UInt8 := dkwX4_find_5 ++ []
def dkwX4_find_4 : List UInt8 := [182, 1, 121, 42, 180, 0, 35, 42, 180, 0, 7, 4, 46, 184, 1, 125, 167, 0, 24, 42, 42, 180, 1, 46]
abbrev dktX4_find_4 : List UInt8 := dkwX4_find_4 ++ dktX4_find_5
def dkwX4_find_3 : List UInt8 := [180, 0, 31, 42, 180, 0, 7, 3, 46, 184, 1, 125, 172, 27, 4, 160, 0, 27, 42, 42, 180, 1, 46]
abbrev dktX4_find_3 : List UInt8 := dkwX4_find_3 ++ dktX4_find_4
def dkwX4_find_2 : List UInt8 := [160, 0, 9, 28, 16, 8, 164, 0, 5, 2, 172, 27, 154, 0, 25, 42, 42, 180, 1, 46, 182, 1, 121, 42]
abbrev dktX4_find_2 : List UInt8 := dkwX4_find_2 ++ dktX4_find_3
def dkwX4_find_1 : List UInt8 := [182, 1, 163, 42, 180, 1, 55, 4, 160, 0, 24, 42, 180, 1, 52, 154, 0, 17, 42, 180, 1, 46, 28]
abbrev dktX4_find_1 : List UInt8 := dkwX4_find_1 ++ dktX4_find_2
def dkwX4_find_0 : List UInt8 := [42, 27, 133, 9, 20, 1, 14, 184, 0, 144, 182, 0, 90, 154, 0, 5, 3, 172, 42, 180, 1, 40, 61, 42]
abbrev dktX4_find_0 : List UInt8 := dkwX4_find_0 ++ dktX4_find_1
theorem dksX4_find_0 : cX4_find.data.toList.drop 0 = dktX4_find_0 := by decide +kernel
theorem dksX4_find_1 : cX4_find.data.toList.drop 24 = dktX4_find_1 := dk_seg dksX4_find_0 24 rfl rfl
theorem dksX4_find_2 : cX4_find.data.toList.drop 47 = dktX4_find_2 := dk_seg dksX4_find_1 23 rfl rfl
theorem dksX4_find_3 : cX4_find.data.toList.drop 71 = dktX4_find_3 := dk_seg dksX4_find_2 24 rfl rfl
theorem dksX4_find_4 : cX4_find.data.toList.drop 94 = dktX4_find_4 := dk_seg dksX4_find_3 23 rfl rfl
theorem dksX4_find_5 : cX4_find.data.toList.drop 118 = dktX4_find_5 := dk_seg dksX4_find_4 24 rfl rfl
theorem dX4_find_0 : decode cX4_find 0 = .ok (.aload_n 0, 1) := dk_42 (dk_at dksX4_find_0 0 rfl rfl)
theorem dX4_find_1 : decode cX4_find 1 = .ok (.iload_n 1, 1) := dk_27 (dk_at dksX4_find_0 1 rfl rfl)
theorem dX4_find_2 : decode cX4_find 2 = .ok (.i2l, 1) := dk_133 (dk_at dksX4_find_0 2 rfl rfl)
theorem dX4_find_3 : decode cX4_find 3 = .ok (.lconst 0, 1) := dk_9 (dk_at dksX4_find_0 3 rfl rfl)
theorem dX4_find_4 : decode cX4_find 4 = .ok (.ldc2_w 270, 3) := dk_20 1 14 (dk_at dksX4_find_0 4 rfl rfl)
theorem dX4_find_7 : decode cX4_find 7 = .ok (.invokestatic 144, 3) := dk_184 0 144 (dk_at dksX4_find_0 7 rfl rfl)
theorem dX4_find_10 : decode cX4_find 10 = .ok (.invokevirtual 90, 3) := dk_182 0 90 (dk_at dksX4_find_0 10 rfl rfl)
theorem dX4_find_13 : decode cX4_find 13 = .ok (.ifCond .ne 5, 3) := dk_154 0 5 (dk_at dksX4_find_0 13 rfl rfl)
theorem dX4_find_16 : decode cX4_find 16 = .ok (.iconst 0, 1) := dk_3 (dk_at dksX4_find_0 16 rfl rfl)
theorem dX4_find_17 : decode cX4_find 17 = .ok (.ireturn, 1) := dk_172 (dk_at dksX4_find_0 17 rfl rfl)
theorem dX4_find_18 : decode cX4_find 18 = .ok (.aload_n 0, 1) := dk_42 (dk_at dksX4_find_0 18 rfl rfl)
theorem dX4_find_19 : decode cX4_find 19 = .ok (.getfield 296, 3) := dk_180 1 40 (dk_at dksX4_find_0 19 rfl rfl)
theorem dX4_find_22 : decode cX4_find 22 = .ok (.istore_n 2, 1) := dk_61 (dk_at dksX4_find_0 22 rfl rfl)
theorem dX4_find_23 : decode cX4_find 23 = .ok (.aload_n 0, 1) := dk_42 (dk_at dksX4_find_0 23 rfl rfl)
theorem dX4_find_24 : decode cX4_find 24 = .ok (.invokevirtual 419, 3) := dk_182 1 163 (dk_at dksX4_find_1 0 rfl rfl)
theorem dX4_find_27 : decode cX4_find 27 = .ok (.aload_n 0, 1) := dk_42 (dk_at dksX4_find_1 3 rfl rfl)
theorem dX4_find_28 : decode cX4_find 28 = .ok (.getfield 311, 3) := dk_180 1 55 (dk_at dksX4_find_1 4 rfl rfl)
theorem dX4_find_31 : decode cX4_find 31 = .ok (.iconst 1, 1) := dk_4 (dk_at dksX4_find_1 7 rfl rfl)
theorem dX4_find_32 : decode cX4_find 32 = .ok (.if_icmp .ne 24, 3) := dk_160 0 24 (dk_at dksX4_find_1 8 rfl rfl)
theorem dX4_find_35 : decode cX4_find 35 = .ok (.aload_n 0, 1) := dk_42 (dk_at dksX4_find_1 11 rfl rfl)
theorem dX4_find_36 : decode cX4_find 36 = .ok (.getfield 308, 3) := dk_180 1 52 (dk_at dksX4_find_1 12 rfl rfl)
theorem dX4_find_39 : decode cX4_find 39 = .ok (.ifCond .ne 17, 3) := dk_154 0 17 (dk_at dksX4_find_1 15 rfl rfl)
theorem dX4_find_42 : decode cX4_find 42 = .ok (.aload_n 0, 1) := dk_42 (dk_at dksX4_find_1 18 rfl rfl)
theorem dX4_find_43 : decode cX4_find 43 = .ok (.getfield 302, 3) := dk_180 1 46 (dk_at dksX4_find_1 19 rfl rfl)
theorem dX4_find_46 : decode cX4_find 46 = .ok (.iload_n 2, 1) := dk_28 (dk_at dksX4_find_1 22 rfl rfl)
theorem dX4_find_47 : decode cX4_find 47 = .ok (.if_icmp .ne 9, 3) := dk_160 0 9 (dk_at dksX4_find_2 0 rfl rfl)
theorem dX4_find_50 : decode cX4_find 50 = .ok (.iload_n 2, 1) := dk_28 (dk_at dksX4_find_2 3 rfl rfl)
theorem dX4_find_51 : decode cX4_find 51 = .ok (.bipush 8, 2) := dk_16 8 (dk_at dksX4_find_2 4 rfl rfl)
theorem dX4_find_53 : decode cX4_find 53 = .ok (.if_icmp .le 5, 3) := dk_164 0 5 (dk_at dksX4_find_2 6 rfl rfl)
theorem dX4_find_56 : decode cX4_find 56 = .ok (.iconst (-1), 1) := dk_2 (dk_at dksX4_find_2 9 rfl rfl)
theorem dX4_find_57 : decode cX4_find 57 = .ok (.ireturn, 1) := dk_172 (dk_at dksX4_find_2 10 rfl rfl)
theorem dX4_find_58 : decode cX4_find 58 = .ok (.iload_n 1, 1) := dk_27 (dk_at dksX4_find_2 11 rfl rfl)
theorem dX4_find_59 : decode cX4_find 59 = .ok (.ifCond .ne 25, 3) := dk_154 0 25 (dk_at dksX4_find_2 12 rfl rfl)
theorem dX4_find_62 : decode cX4_find 62 = .ok (.aload_n 0, 1) := dk_42 (dk_at dksX4_find_2 15 rfl rfl)
theorem dX4_find_63 : decode cX4_find 63 = .ok (.aload_n 0, 1) := dk_42 (dk_at dksX4_find_2 16 rfl rfl)
theorem dX4_find_64 : decode cX4_find 64 = .ok (.getfield 302, 3) := dk_180 1 46 (dk_at dksX4_find_2 17 rfl rfl)
theorem dX4_find_67 : decode cX4_find 67 = .ok (.invokevirtual 377, 3) := dk_182 1 121 (dk_at dksX4_find_2 20 rfl rfl)
theorem dX4_find_70 : decode cX4_find 70 = .ok (.aload_n 0, 1) := dk_42 (dk_at dksX4_find_2 23 rfl rfl)
theorem dX4_find_71 : decode cX4_find 71 = .ok (.getfield 31, 3) := dk_180 0 31 (dk_at dksX4_find_3 0 rfl rfl)
theorem dX4_find_74 : decode cX4_find 74 = .ok (.aload_n 0, 1) := dk_42 (dk_at dksX4_find_3 3 rfl rfl)
theorem dX4_find_75 : decode cX4_find 75 = .ok (.getfield 7, 3) := dk_180 0 7 (dk_at dksX4_find_3 4 rfl rfl)
theorem dX4_find_78 : decode cX4_find 78 = .ok (.iconst 0, 1) := dk_3 (dk_at dksX4_find_3 7 rfl rfl)
theorem dX4_find_79 : decode cX4_find 79 = .ok (.iaload, 1) := dk_46 (dk_at dksX4_find_3 8 rfl rfl)
theorem dX4_find_80 : decode cX4_find 80 = .ok (.invokestatic 381, 3) := dk_184 1 125 (dk_at dksX4_find_3 9 rfl rfl)
theorem dX4_find_83 : decode cX4_find 83 = .ok (.ireturn, 1) := dk_172 (dk_at dksX4_find_3 12 rfl rfl)
theorem dX4_find_84 : decode cX4_find 84 = .ok (.iload_n 1, 1) := dk_27 (dk_at dksX4_find_3 13 rfl rfl)
theorem dX4_find_85 : decode cX4_find 85 = .ok (.iconst 1, 1) := dk_4 (dk_at dksX4_find_3 14 rfl rfl)
theorem dX4_find_86 : decode cX4_find 86 = .ok (.if_icmp .ne 27, 3) := dk_160 0 27 (dk_at dksX4_find_3 15 rfl rfl)
theorem dX4_find_89 : decode cX4_find 89 = .ok (.aload_n 0, 1) := dk_42 (dk_at dksX4_find_3 18 rfl rfl)
theorem dX4_find_90 : decode cX4_find 90 = .ok (.aload_n 0, 1) := dk_42 (dk_at dksX4_find_3 19 rfl rfl)
theorem dX4_find_91 : decode cX4_find 91 = .ok (.getfield 302, 3) := dk_180 1 46 (dk_at dksX4_find_3 20 rfl rfl)
theorem dX4_find_94 : decode cX4_find 94 = .ok (.invokevirtual 377, 3) := dk_182 1 121 (dk_at dksX4_find_4 0 rfl rfl)
theorem dX4_find_97 : decode cX4_find 97 = .ok (.aload_n 0, 1) := dk_42 (dk_at dksX4_find_4 3 rfl rfl)
theorem dX4_find_98 : decode cX4_find 98 = .ok (.getfield 35, 3) := dk_180 0 35 (dk_at dksX4_find_4 4 rfl rfl)
theorem dX4_find_101 : decode cX4_find 101 = .ok (.aload_n 0, 1) := dk_42 (dk_at dksX4_find_4 7 rfl rfl)
theorem dX4_find_102 : decode cX4_find 102 = .ok (.getfield 7, 3) := dk_180 0 7 (dk_at dksX4_find_4 8 rfl rfl)
theorem dX4_find_105 : decode cX4_find 105 = .ok (.iconst 1, 1) := dk_4 (dk_at dksX4_find_4 11 rfl rfl)
theorem dX4_find_106 : decode cX4_find 106 = .ok (.iaload, 1) := dk_46 (dk_at dksX4_find_4 12 rfl rfl)
theorem dX4_find_107 : decode cX4_find 107 = .ok (.invokestatic 381, 3) := dk_184 1 125 (dk_at dksX4_find_4 13 rfl rfl)
theorem dX4_find_110 : decode cX4_find 110 = .ok (.goto 24, 3) := dk_167 0 24 (dk_at dksX4_find_4 16 rfl rfl)
theorem dX4_find_113 : decode cX4_find 113 = .ok (.aload_n 0, 1) := dk_42 (dk_at dksX4_find_4 19 rfl rfl)
theorem dX4_find_114 : decode cX4_find 114 = .ok (.aload_n 0, 1) := dk_42 (dk_at dksX4_find_4 20 rfl rfl)
theorem dX4_find_115 : decode cX4_find 115 = .ok (.getfield 302, 3) := dk_180 1 46 (dk_at dksX4_find_4 21 rfl rfl)
theorem dX4_find_118 : decode cX4_find 118 = .ok (.invokevirtual 377, 3) := dk_182 1 121 (dk_at dksX4_find_5 0 rfl rfl)
theorem dX4_find_121 : decode cX4_find 121 = .ok (.aload_n 0, 1) := dk_42 (dk_at dksX4_find_5 3 rfl rfl)
theorem dX4_find_122 : decode cX4_find 122 = .ok (.getfield 38, 3) := dk_180 0 38 (dk_at dksX4_find_5 4 rfl rfl)
theorem dX4_find_125 : decode cX4_find 125 = .ok (.aload_n 0, 1) := dk_42 (dk_at dksX4_find_5 7 rfl rfl)
theorem dX4_find_126 : decode cX4_find 126 = .ok (.getfield 7, 3) := dk_180 0 7 (dk_at dksX4_find_5 8 rfl rfl)
theorem dX4_find_129 : decode cX4_find 129 = .ok (.iconst 2, 1) := dk_5 (dk_at dksX4_find_5 11 rfl rfl)
theorem dX4_find_130 : decode cX4_find 130 = .ok (.iaload, 1) := dk_46 (dk_at dksX4_find_5 12 rfl rfl)
theorem dX4_find_131 : decode cX4_find 131 = .ok (.invokestatic 381, 3) := dk_184 1 125 (dk_at dksX4_find_5 13 rfl rfl)
theorem dX4_find_134 : decode cX4_find 134 = .ok (.ireturn, 1) := dk_172 (dk_at dksX4_find_5 16 rfl rfl)
abbrev cX4_printZone : ByteArray := prog_21_method_140_code
def yX4_printZone : MethodName := ⟨RX4, "printZone", "(I)I"⟩
def dkwX4_printZone_2 : List UInt8 := [167, 255, 231, 42, 27, 4, 16, 111, 182, 1, 178, 42, 27, 5, 16, 118, 182, 1, 178, 42, 180, 1, 169, 172]
abbrev dktX4_printZone_2 : List UInt8 := dkwX4_printZone_2 ++ []
def dkwX4_printZone_1 : List UInt8 := [3, 182, 0, 111, 162, 0, 21, 42, 16, 119, 42, 27, 28, 182, 0, 128, 182, 1, 175, 132, 2, 1]
abbrev dktX4_printZone_1 : List UInt8 := dkwX4_printZone_1 ++ dktX4_printZone_2
def dkwX4_printZone_0 : List UInt8 := [42, 42, 27, 182, 0, 181, 182, 0, 90, 154, 0, 5, 3, 172, 42, 3, 181, 1, 169, 3, 61, 28, 42, 27]
abbrev dktX4_printZone_0 : List UInt8 := dkwX4_printZone_0 ++ dktX4_printZone_1
theorem dksX4_printZone_0 : cX4_printZone.data.toList.drop 0 = dktX4_printZone_0 := by decide +kernel
theorem dksX4_printZone_1 : cX4_printZone.data.toList.drop 24 = dktX4_printZone_1 := dk_seg dksX4_printZone_0 24 rfl rfl
theorem dksX4_printZone_2 : cX4_printZone.data.toList.drop 46 = dktX4_printZone_2 := dk_seg dksX4_printZone_1 22 rfl rfl
theorem dX4_printZone_0 : decode cX4_printZone 0 = .ok (.aload_n 0, 1) := dk_42 (dk_at dksX4_printZone_0 0 rfl rfl)
theorem dX4_printZone_1 : decode cX4_printZone 1 = .ok (.aload_n 0, 1) := dk_42 (dk_at dksX4_printZone_0 1 rfl rfl)
theorem dX4_printZone_2 : decode cX4_printZone 2 = .ok (.iload_n 1, 1) := dk_27 (dk_at dksX4_printZone_0 2 rfl rfl)
theorem dX4_printZone_3 : decode cX4_printZone 3 = .ok (.invokevirtual 181, 3) := dk_182 0 181 (dk_at dksX4_printZone_0 3 rfl rfl)
theorem dX4_printZone_6 : decode cX4_printZone 6 = .ok (.invokevirtual 90, 3) := dk_182 0 90 (dk_at dksX4_printZone_0 6 rfl rfl)
theorem dX4_printZone_9 : decode cX4_printZone 9 = .ok (.ifCond .ne 5, 3) := dk_154 0 5 (dk_at dksX4_printZone_0 9 rfl rfl)
theorem dX4_printZone_12 : decode cX4_printZone 12 = .ok (.iconst 0, 1) := dk_3 (dk_at dksX4_printZone_0 12 rfl rfl)
theorem dX4_printZone_13 : decode cX4_printZone 13 = .ok (.ireturn, 1) := dk_172 (dk_at dksX4_printZone_0 13 rfl rfl)
theorem dX4_printZone_14 : decode cX4_printZone 14 = .ok (.aload_n 0, 1) := dk_42 (dk_at dksX4_printZone_0 14 rfl rfl)
theorem dX4_printZone_15 : decode cX4_printZone 15 = .ok (.iconst 0, 1) := dk_3 (dk_at dksX4_printZone_0 15 rfl rfl)
theorem dX4_printZone_16 : decode cX4_printZone 16 = .ok (.putfield 425, 3) := dk_181 1 169 (dk_at dksX4_printZone_0 16 rfl rfl)
theorem dX4_printZone_19 : decode cX4_printZone 19 = .ok (.iconst 0, 1) := dk_3 (dk_at dksX4_printZone_0 19 rfl rfl)
theorem dX4_printZone_20 : decode cX4_printZone 20 = .ok (.istore_n 2, 1) := dk_61 (dk_at dksX4_printZone_0 20 rfl rfl)
theorem dX4_printZone_21 : decode cX4_printZone 21 = .ok (.iload_n 2, 1) := dk_28 (dk_at dksX4_printZone_0 21 rfl rfl)
theorem dX4_printZone_22 : decode cX4_printZone 22 = .ok (.aload_n 0, 1) := dk_42 (dk_at dksX4_printZone_0 22 rfl rfl)
theorem dX4_printZone_23 : decode cX4_printZone 23 = .ok (.iload_n 1, 1) := dk_27 (dk_at dksX4_printZone_0 23 rfl rfl)
theorem dX4_printZone_24 : decode cX4_printZone 24 = .ok (.iconst 0, 1) := dk_3 (dk_at dksX4_printZone_1 0 rfl rfl)
theorem dX4_printZone_25 : decode cX4_printZone 25 = .ok (.invokevirtual 111, 3) := dk_182 0 111 (dk_at dksX4_printZone_1 1 rfl rfl)
theorem dX4_printZone_28 : decode cX4_printZone 28 = .ok (.if_icmp .ge 21, 3) := dk_162 0 21 (dk_at dksX4_printZone_1 4 rfl rfl)
theorem dX4_printZone_31 : decode cX4_printZone 31 = .ok (.aload_n 0, 1) := dk_42 (dk_at dksX4_printZone_1 7 rfl rfl)
theorem dX4_printZone_32 : decode cX4_printZone 32 = .ok (.bipush 119, 2) := dk_16 119 (dk_at dksX4_printZone_1 8 rfl rfl)
theorem dX4_printZone_34 : decode cX4_printZone 34 = .ok (.aload_n 0, 1) := dk_42 (dk_at dksX4_printZone_1 10 rfl rfl)
theorem dX4_printZone_35 : decode cX4_printZone 35 = .ok (.iload_n 1, 1) := dk_27 (dk_at dksX4_printZone_1 11 rfl rfl)
theorem dX4_printZone_36 : decode cX4_printZone 36 = .ok (.iload_n 2, 1) := dk_28 (dk_at dksX4_printZone_1 12 rfl rfl)
theorem dX4_printZone_37 : decode cX4_printZone 37 = .ok (.invokevirtual 128, 3) := dk_182 0 128 (dk_at dksX4_printZone_1 13 rfl rfl)
theorem dX4_printZone_40 : decode cX4_printZone 40 = .ok (.invokevirtual 431, 3) := dk_182 1 175 (dk_at dksX4_printZone_1 16 rfl rfl)
theorem dX4_printZone_43 : decode cX4_printZone 43 = .ok (.iinc 2 1, 3) := dk_132 2 1 (dk_at dksX4_printZone_1 19 rfl rfl)
theorem dX4_printZone_46 : decode cX4_printZone 46 = .ok (.goto (-25), 3) := dk_167 255 231 (dk_at dksX4_printZone_2 0 rfl rfl)
theorem dX4_printZone_49 : decode cX4_printZone 49 = .ok (.aload_n 0, 1) := dk_42 (dk_at dksX4_printZone_2 3 rfl rfl)
theorem dX4_printZone_50 : decode cX4_printZone 50 = .ok (.iload_n 1, 1) := dk_27 (dk_at dksX4_printZone_2 4 rfl rfl)
theorem dX4_printZone_51 : decode cX4_printZone 51 = .ok (.iconst 1, 1) := dk_4 (dk_at dksX4_printZone_2 5 rfl rfl)
theorem dX4_printZone_52 : decode cX4_printZone 52 = .ok (.bipush 111, 2) := dk_16 111 (dk_at dksX4_printZone_2 6 rfl rfl)
theorem dX4_printZone_54 : decode cX4_printZone 54 = .ok (.invokevirtual 434, 3) := dk_182 1 178 (dk_at dksX4_printZone_2 8 rfl rfl)
theorem dX4_printZone_57 : decode cX4_printZone 57 = .ok (.aload_n 0, 1) := dk_42 (dk_at dksX4_printZone_2 11 rfl rfl)
theorem dX4_printZone_58 : decode cX4_printZone 58 = .ok (.iload_n 1, 1) := dk_27 (dk_at dksX4_printZone_2 12 rfl rfl)
theorem dX4_printZone_59 : decode cX4_printZone 59 = .ok (.iconst 2, 1) := dk_5 (dk_at dksX4_printZone_2 13 rfl rfl)
theorem dX4_printZone_60 : decode cX4_printZone 60 = .ok (.bipush 118, 2) := dk_16 118 (dk_at dksX4_printZone_2 14 rfl rfl)
theorem dX4_printZone_62 : decode cX4_printZone 62 = .ok (.invokevirtual 434, 3) := dk_182 1 178 (dk_at dksX4_printZone_2 16 rfl rfl)
theorem dX4_printZone_65 : decode cX4_printZone 65 = .ok (.aload_n 0, 1) := dk_42 (dk_at dksX4_printZone_2 19 rfl rfl)
theorem dX4_printZone_66 : decode cX4_printZone 66 = .ok (.getfield 425, 3) := dk_180 1 169 (dk_at dksX4_printZone_2 20 rfl rfl)
theorem dX4_printZone_69 : decode cX4_printZone 69 = .ok (.ireturn, 1) := dk_172 (dk_at dksX4_printZone_2 23 rfl rfl)
abbrev cX4_saysPermit : ByteArray := prog_21_method_138_code
def yX4_saysPermit : MethodName := ⟨RX4, "saysPermit", "(II)V"⟩
def dkwX4_saysPermit_1 : List UInt8 := [16, 48, 28, 16, 10, 112, 96, 182, 1, 172, 42, 16, 10, 182, 1, 172, 177]
abbrev dktX4_saysPermit_1 : List UInt8 := dkwX4_saysPermit_1 ++ []
def dkwX4_saysPermit_0 : List UInt8 := [42, 27, 182, 1, 172, 28, 16, 9, 164, 0, 14, 42, 16, 48, 28, 16, 10, 108, 96, 182, 1, 172, 42]
abbrev dktX4_saysPermit_0 : List UInt8 := dkwX4_saysPermit_0 ++ dktX4_saysPermit_1
theorem dksX4_saysPermit_0 : cX4_saysPermit.data.toList.drop 0 = dktX4_saysPermit_0 := by decide +kernel
theorem dksX4_saysPermit_1 : cX4_saysPermit.data.toList.drop 23 = dktX4_saysPermit_1 := dk_seg dksX4_saysPermit_0 23 rfl rfl
theorem dX4_saysPermit_0 : decode cX4_saysPermit 0 = .ok (.aload_n 0, 1) := dk_42 (dk_at dksX4_saysPermit_0 0 rfl rfl)
theorem dX4_saysPermit_1 : decode cX4_saysPermit 1 = .ok (.iload_n 1, 1) := dk_27 (dk_at dksX4_saysPermit_0 1 rfl rfl)
theorem dX4_saysPermit_2 : decode cX4_saysPermit 2 = .ok (.invokevirtual 428, 3) := dk_182 1 172 (dk_at dksX4_saysPermit_0 2 rfl rfl)
theorem dX4_saysPermit_5 : decode cX4_saysPermit 5 = .ok (.iload_n 2, 1) := dk_28 (dk_at dksX4_saysPermit_0 5 rfl rfl)
theorem dX4_saysPermit_6 : decode cX4_saysPermit 6 = .ok (.bipush 9, 2) := dk_16 9 (dk_at dksX4_saysPermit_0 6 rfl rfl)
theorem dX4_saysPermit_8 : decode cX4_saysPermit 8 = .ok (.if_icmp .le 14, 3) := dk_164 0 14 (dk_at dksX4_saysPermit_0 8 rfl rfl)
theorem dX4_saysPermit_11 : decode cX4_saysPermit 11 = .ok (.aload_n 0, 1) := dk_42 (dk_at dksX4_saysPermit_0 11 rfl rfl)
theorem dX4_saysPermit_12 : decode cX4_saysPermit 12 = .ok (.bipush 48, 2) := dk_16 48 (dk_at dksX4_saysPermit_0 12 rfl rfl)
theorem dX4_saysPermit_14 : decode cX4_saysPermit 14 = .ok (.iload_n 2, 1) := dk_28 (dk_at dksX4_saysPermit_0 14 rfl rfl)
theorem dX4_saysPermit_15 : decode cX4_saysPermit 15 = .ok (.bipush 10, 2) := dk_16 10 (dk_at dksX4_saysPermit_0 15 rfl rfl)
theorem dX4_saysPermit_17 : decode cX4_saysPermit 17 = .ok (.idiv, 1) := dk_108 (dk_at dksX4_saysPermit_0 17 rfl rfl)
theorem dX4_saysPermit_18 : decode cX4_saysPermit 18 = .ok (.iadd, 1) := dk_96 (dk_at dksX4_saysPermit_0 18 rfl rfl)
theorem dX4_saysPermit_19 : decode cX4_saysPermit 19 = .ok (.invokevirtual 428, 3) := dk_182 1 172 (dk_at dksX4_saysPermit_0 19 rfl rfl)
theorem dX4_saysPermit_22 : decode cX4_saysPermit 22 = .ok (.aload_n 0, 1) := dk_42 (dk_at dksX4_saysPermit_0 22 rfl rfl)
theorem dX4_saysPermit_23 : decode cX4_saysPermit 23 = .ok (.bipush 48, 2) := dk_16 48 (dk_at dksX4_saysPermit_1 0 rfl rfl)
theorem dX4_saysPermit_25 : decode cX4_saysPermit 25 = .ok (.iload_n 2, 1) := dk_28 (dk_at dksX4_saysPermit_1 2 rfl rfl)
theorem dX4_saysPermit_26 : decode cX4_saysPermit 26 = .ok (.bipush 10, 2) := dk_16 10 (dk_at dksX4_saysPermit_1 3 rfl rfl)
theorem dX4_saysPermit_28 : decode cX4_saysPermit 28 = .ok (.irem, 1) := dk_112 (dk_at dksX4_saysPermit_1 5 rfl rfl)
theorem dX4_saysPermit_29 : decode cX4_saysPermit 29 = .ok (.iadd, 1) := dk_96 (dk_at dksX4_saysPermit_1 6 rfl rfl)
theorem dX4_saysPermit_30 : decode cX4_saysPermit 30 = .ok (.invokevirtual 428, 3) := dk_182 1 172 (dk_at dksX4_saysPermit_1 7 rfl rfl)
theorem dX4_saysPermit_33 : decode cX4_saysPermit 33 = .ok (.aload_n 0, 1) := dk_42 (dk_at dksX4_saysPermit_1 10 rfl rfl)
theorem dX4_saysPermit_34 : decode cX4_saysPermit 34 = .ok (.bipush 10, 2) := dk_16 10 (dk_at dksX4_saysPermit_1 11 rfl rfl)
theorem dX4_saysPermit_36 : decode cX4_saysPermit 36 = .ok (.invokevirtual 428, 3) := dk_182 1 172 (dk_at dksX4_saysPermit_1 13 rfl rfl)
theorem dX4_saysPermit_39 : decode cX4_saysPermit 39 = .ok (.return_, 1) := dk_177 (dk_at dksX4_saysPermit_1 16 rfl rfl)
abbrev cX4_says : ByteArray := prog_21_method_137_code
def yX4_says : MethodName := ⟨RX4, "says", "(I)V"⟩
def dkwX4_says_0 : List UInt8 := [42, 180, 0, 58, 42, 180, 1, 169, 27, 145, 84, 42, 42, 180, 1, 169, 4, 96, 181, 1, 169, 177]
abbrev dktX4_says_0 : List UInt8 := dkwX4_says_0 ++ []
theorem dksX4_says_0 : cX4_says.data.toList.drop 0 = dktX4_says_0 := by decide +kernel
theorem dX4_says_0 : decode cX4_says 0 = .ok (.aload_n 0, 1) := dk_42 (dk_at dksX4_says_0 0 rfl rfl)
theorem dX4_says_1 : decode cX4_says 1 = .ok (.getfield 58, 3) := dk_180 0 58 (dk_at dksX4_says_0 1 rfl rfl)
theorem dX4_says_4 : decode cX4_says 4 = .ok (.aload_n 0, 1) := dk_42 (dk_at dksX4_says_0 4 rfl rfl)
theorem dX4_says_5 : decode cX4_says 5 = .ok (.getfield 425, 3) := dk_180 1 169 (dk_at dksX4_says_0 5 rfl rfl)
theorem dX4_says_8 : decode cX4_says 8 = .ok (.iload_n 1, 1) := dk_27 (dk_at dksX4_says_0 8 rfl rfl)
theorem dX4_says_9 : decode cX4_says 9 = .ok (.i2b, 1) := dk_145 (dk_at dksX4_says_0 9 rfl rfl)
theorem dX4_says_10 : decode cX4_says 10 = .ok (.bastore, 1) := dk_84 (dk_at dksX4_says_0 10 rfl rfl)
theorem dX4_says_11 : decode cX4_says 11 = .ok (.aload_n 0, 1) := dk_42 (dk_at dksX4_says_0 11 rfl rfl)
theorem dX4_says_12 : decode cX4_says 12 = .ok (.aload_n 0, 1) := dk_42 (dk_at dksX4_says_0 12 rfl rfl)
theorem dX4_says_13 : decode cX4_says 13 = .ok (.getfield 425, 3) := dk_180 1 169 (dk_at dksX4_says_0 13 rfl rfl)
theorem dX4_says_16 : decode cX4_says 16 = .ok (.iconst 1, 1) := dk_4 (dk_at dksX4_says_0 16 rfl rfl)
theorem dX4_says_17 : decode cX4_says 17 = .ok (.iadd, 1) := dk_96 (dk_at dksX4_says_0 17 rfl rfl)
theorem dX4_says_18 : decode cX4_says 18 = .ok (.putfield 425, 3) := dk_181 1 169 (dk_at dksX4_says_0 18 rfl rfl)
theorem dX4_says_21 : decode cX4_says 21 = .ok (.return_, 1) := dk_177 (dk_at dksX4_says_0 21 rfl rfl)
abbrev cX4_saysAll : ByteArray := prog_21_method_139_code
def yX4_saysAll : MethodName := ⟨RX4, "saysAll", "(III)V"⟩
def dkwX4_saysAll_2 : List UInt8 := [177]
abbrev dktX4_saysAll_2 : List UInt8 := dkwX4_saysAll_2 ++ []
def dkwX4_saysAll_1 : List UInt8 := [42, 21, 4, 5, 182, 0, 102, 28, 160, 0, 10, 42, 29, 21, 4, 182, 1, 175, 132, 4, 1, 167, 255, 214]
abbrev dktX4_saysAll_1 : List UInt8 := dkwX4_saysAll_1 ++ dktX4_saysAll_2
def dkwX4_saysAll_0 : List UInt8 := [3, 54, 4, 21, 4, 42, 180, 0, 16, 4, 46, 162, 0, 37, 42, 21, 4, 182, 0, 108, 27, 160, 0, 21]
abbrev dktX4_saysAll_0 : List UInt8 := dkwX4_saysAll_0 ++ dktX4_saysAll_1
theorem dksX4_saysAll_0 : cX4_saysAll.data.toList.drop 0 = dktX4_saysAll_0 := by decide +kernel
theorem dksX4_saysAll_1 : cX4_saysAll.data.toList.drop 24 = dktX4_saysAll_1 := dk_seg dksX4_saysAll_0 24 rfl rfl
theorem dksX4_saysAll_2 : cX4_saysAll.data.toList.drop 48 = dktX4_saysAll_2 := dk_seg dksX4_saysAll_1 24 rfl rfl
theorem dX4_saysAll_0 : decode cX4_saysAll 0 = .ok (.iconst 0, 1) := dk_3 (dk_at dksX4_saysAll_0 0 rfl rfl)
theorem dX4_saysAll_1 : decode cX4_saysAll 1 = .ok (.istore 4, 2) := dk_54 4 (dk_at dksX4_saysAll_0 1 rfl rfl)
theorem dX4_saysAll_3 : decode cX4_saysAll 3 = .ok (.iload 4, 2) := dk_21 4 (dk_at dksX4_saysAll_0 3 rfl rfl)
theorem dX4_saysAll_5 : decode cX4_saysAll 5 = .ok (.aload_n 0, 1) := dk_42 (dk_at dksX4_saysAll_0 5 rfl rfl)
theorem dX4_saysAll_6 : decode cX4_saysAll 6 = .ok (.getfield 16, 3) := dk_180 0 16 (dk_at dksX4_saysAll_0 6 rfl rfl)
theorem dX4_saysAll_9 : decode cX4_saysAll 9 = .ok (.iconst 1, 1) := dk_4 (dk_at dksX4_saysAll_0 9 rfl rfl)
theorem dX4_saysAll_10 : decode cX4_saysAll 10 = .ok (.iaload, 1) := dk_46 (dk_at dksX4_saysAll_0 10 rfl rfl)
theorem dX4_saysAll_11 : decode cX4_saysAll 11 = .ok (.if_icmp .ge 37, 3) := dk_162 0 37 (dk_at dksX4_saysAll_0 11 rfl rfl)
theorem dX4_saysAll_14 : decode cX4_saysAll 14 = .ok (.aload_n 0, 1) := dk_42 (dk_at dksX4_saysAll_0 14 rfl rfl)
theorem dX4_saysAll_15 : decode cX4_saysAll 15 = .ok (.iload 4, 2) := dk_21 4 (dk_at dksX4_saysAll_0 15 rfl rfl)
theorem dX4_saysAll_17 : decode cX4_saysAll 17 = .ok (.invokevirtual 108, 3) := dk_182 0 108 (dk_at dksX4_saysAll_0 17 rfl rfl)
theorem dX4_saysAll_20 : decode cX4_saysAll 20 = .ok (.iload_n 1, 1) := dk_27 (dk_at dksX4_saysAll_0 20 rfl rfl)
theorem dX4_saysAll_21 : decode cX4_saysAll 21 = .ok (.if_icmp .ne 21, 3) := dk_160 0 21 (dk_at dksX4_saysAll_0 21 rfl rfl)
theorem dX4_saysAll_24 : decode cX4_saysAll 24 = .ok (.aload_n 0, 1) := dk_42 (dk_at dksX4_saysAll_1 0 rfl rfl)
theorem dX4_saysAll_25 : decode cX4_saysAll 25 = .ok (.iload 4, 2) := dk_21 4 (dk_at dksX4_saysAll_1 1 rfl rfl)
theorem dX4_saysAll_27 : decode cX4_saysAll 27 = .ok (.iconst 2, 1) := dk_5 (dk_at dksX4_saysAll_1 3 rfl rfl)
theorem dX4_saysAll_28 : decode cX4_saysAll 28 = .ok (.invokevirtual 102, 3) := dk_182 0 102 (dk_at dksX4_saysAll_1 4 rfl rfl)
theorem dX4_saysAll_31 : decode cX4_saysAll 31 = .ok (.iload_n 2, 1) := dk_28 (dk_at dksX4_saysAll_1 7 rfl rfl)
theorem dX4_saysAll_32 : decode cX4_saysAll 32 = .ok (.if_icmp .ne 10, 3) := dk_160 0 10 (dk_at dksX4_saysAll_1 8 rfl rfl)
theorem dX4_saysAll_35 : decode cX4_saysAll 35 = .ok (.aload_n 0, 1) := dk_42 (dk_at dksX4_saysAll_1 11 rfl rfl)
theorem dX4_saysAll_36 : decode cX4_saysAll 36 = .ok (.iload_n 3, 1) := dk_29 (dk_at dksX4_saysAll_1 12 rfl rfl)
theorem dX4_saysAll_37 : decode cX4_saysAll 37 = .ok (.iload 4, 2) := dk_21 4 (dk_at dksX4_saysAll_1 13 rfl rfl)
theorem dX4_saysAll_39 : decode cX4_saysAll 39 = .ok (.invokevirtual 431, 3) := dk_182 1 175 (dk_at dksX4_saysAll_1 15 rfl rfl)
theorem dX4_saysAll_42 : decode cX4_saysAll 42 = .ok (.iinc 4 1, 3) := dk_132 4 1 (dk_at dksX4_saysAll_1 18 rfl rfl)
theorem dX4_saysAll_45 : decode cX4_saysAll 45 = .ok (.goto (-42), 3) := dk_167 255 214 (dk_at dksX4_saysAll_1 21 rfl rfl)
theorem dX4_saysAll_48 : decode cX4_saysAll 48 = .ok (.return_, 1) := dk_177 (dk_at dksX4_saysAll_2 0 rfl rfl)
abbrev cX4_outputByte : ByteArray := prog_21_method_141_code
def yX4_outputByte : MethodName := ⟨RX4, "outputByte", "(I)I"⟩
def dkwX4_outputByte_1 : List UInt8 := [180, 0, 58, 27, 51, 167, 0, 4, 2, 172]
abbrev dktX4_outputByte_1 : List UInt8 := dkwX4_outputByte_1 ++ []
def dkwX4_outputByte_0 : List UInt8 := [42, 3, 181, 0, 77, 27, 133, 9, 42, 180, 1, 169, 133, 10, 101, 184, 0, 144, 153, 0, 12, 42]
abbrev dktX4_outputByte_0 : List UInt8 := dkwX4_outputByte_0 ++ dktX4_outputByte_1
theorem dksX4_outputByte_0 : cX4_outputByte.data.toList.drop 0 = dktX4_outputByte_0 := by decide +kernel
theorem dksX4_outputByte_1 : cX4_outputByte.data.toList.drop 22 = dktX4_outputByte_1 := dk_seg dksX4_outputByte_0 22 rfl rfl
theorem dX4_outputByte_0 : decode cX4_outputByte 0 = .ok (.aload_n 0, 1) := dk_42 (dk_at dksX4_outputByte_0 0 rfl rfl)
theorem dX4_outputByte_1 : decode cX4_outputByte 1 = .ok (.iconst 0, 1) := dk_3 (dk_at dksX4_outputByte_0 1 rfl rfl)
theorem dX4_outputByte_2 : decode cX4_outputByte 2 = .ok (.putfield 77, 3) := dk_181 0 77 (dk_at dksX4_outputByte_0 2 rfl rfl)
theorem dX4_outputByte_5 : decode cX4_outputByte 5 = .ok (.iload_n 1, 1) := dk_27 (dk_at dksX4_outputByte_0 5 rfl rfl)
theorem dX4_outputByte_6 : decode cX4_outputByte 6 = .ok (.i2l, 1) := dk_133 (dk_at dksX4_outputByte_0 6 rfl rfl)
theorem dX4_outputByte_7 : decode cX4_outputByte 7 = .ok (.lconst 0, 1) := dk_9 (dk_at dksX4_outputByte_0 7 rfl rfl)
theorem dX4_outputByte_8 : decode cX4_outputByte 8 = .ok (.aload_n 0, 1) := dk_42 (dk_at dksX4_outputByte_0 8 rfl rfl)
theorem dX4_outputByte_9 : decode cX4_outputByte 9 = .ok (.getfield 425, 3) := dk_180 1 169 (dk_at dksX4_outputByte_0 9 rfl rfl)
theorem dX4_outputByte_12 : decode cX4_outputByte 12 = .ok (.i2l, 1) := dk_133 (dk_at dksX4_outputByte_0 12 rfl rfl)
theorem dX4_outputByte_13 : decode cX4_outputByte 13 = .ok (.lconst 1, 1) := dk_10 (dk_at dksX4_outputByte_0 13 rfl rfl)
theorem dX4_outputByte_14 : decode cX4_outputByte 14 = .ok (.lsub, 1) := dk_101 (dk_at dksX4_outputByte_0 14 rfl rfl)
theorem dX4_outputByte_15 : decode cX4_outputByte 15 = .ok (.invokestatic 144, 3) := dk_184 0 144 (dk_at dksX4_outputByte_0 15 rfl rfl)
theorem dX4_outputByte_18 : decode cX4_outputByte 18 = .ok (.ifCond .eq 12, 3) := dk_153 0 12 (dk_at dksX4_outputByte_0 18 rfl rfl)
theorem dX4_outputByte_21 : decode cX4_outputByte 21 = .ok (.aload_n 0, 1) := dk_42 (dk_at dksX4_outputByte_0 21 rfl rfl)
theorem dX4_outputByte_22 : decode cX4_outputByte 22 = .ok (.getfield 58, 3) := dk_180 0 58 (dk_at dksX4_outputByte_1 0 rfl rfl)
theorem dX4_outputByte_25 : decode cX4_outputByte 25 = .ok (.iload_n 1, 1) := dk_27 (dk_at dksX4_outputByte_1 3 rfl rfl)
theorem dX4_outputByte_26 : decode cX4_outputByte 26 = .ok (.baload, 1) := dk_51 (dk_at dksX4_outputByte_1 4 rfl rfl)
theorem dX4_outputByte_27 : decode cX4_outputByte 27 = .ok (.goto 4, 3) := dk_167 0 4 (dk_at dksX4_outputByte_1 5 rfl rfl)
theorem dX4_outputByte_30 : decode cX4_outputByte 30 = .ok (.iconst (-1), 1) := dk_2 (dk_at dksX4_outputByte_1 8 rfl rfl)
theorem dX4_outputByte_31 : decode cX4_outputByte 31 = .ok (.ireturn, 1) := dk_172 (dk_at dksX4_outputByte_1 9 rfl rfl)
theorem q178 : (Jvm.Cond.initialized "ParkingOfficeModel") ∈ lw_all := lw_g (lw_at lw_m1 31 rfl) rfl
theorem q314 : (Jvm.Cond.selects "ParkingOfficeModel" ({ cls := "java/lang/Object", name := "getClass", desc := "()Ljava/lang/Class;" } : Jvm.MethodName) ({ cls := "java/lang/Object", name := "getClass", desc := "()Ljava/lang/Class;" } : Jvm.MethodName)) ∈ lw_all := lw_g (lw_at lw_m1 167 rfl) rfl
theorem q1317 : (Jvm.Cond.selects "ParkingOfficeModel" ({ cls := "java/lang/Object", name := "equals", desc := "(Ljava/lang/Object;)Z" } : Jvm.MethodName) ({ cls := "java/lang/Object", name := "equals", desc := "(Ljava/lang/Object;)Z" } : Jvm.MethodName)) ∈ lw_all := lw_g (lw_at lw_m5 210 rfl) rfl
theorem q3125 : (Jvm.Cond.instantiable "ParkingOfficeModel" (28 : Nat)) ∈ lw_all := lw_g (lw_at lw_m13 98 rfl) rfl
theorem q3127 : (Jvm.Cond.instanceMethod ({ cls := "ParkingOfficeModel", name := "<init>", desc := "()V" } : Jvm.MethodName)) ∈ lw_all := lw_g (lw_at lw_m13 100 rfl) rfl
theorem q3128 : (Jvm.Cond.code ({ cls := "ParkingOfficeModel", name := "<init>", desc := "()V" } : Jvm.MethodName) prog_21_method_1_code (1 : Nat) (Option.none : Option Jvm.ClassFile.FieldType)) ∈ lw_all := lw_g (lw_at lw_m13 101 rfl) rfl
theorem q3129 : (Jvm.Cond.methodLink "ParkingOfficeModel" (1 : Nat) ({ cls := "java/lang/Object", name := "<init>", desc := "()V" } : Jvm.MethodName)) ∈ lw_all := lw_g (lw_at lw_m13 102 rfl) rfl
theorem q3130 : (Jvm.Cond.methodLink "ParkingOfficeModel" (61 : Nat) ({ cls := "ParkingOfficeModel", name := "clears", desc := "()V" } : Jvm.MethodName)) ∈ lw_all := lw_g (lw_at lw_m13 103 rfl) rfl
theorem q3131 : (Jvm.Cond.privateMethod ({ cls := "ParkingOfficeModel", name := "clears", desc := "()V" } : Jvm.MethodName)) ∈ lw_tbl := lw_at lw_m13 104 rfl
theorem q3132 : (Jvm.Cond.instanceMethod ({ cls := "ParkingOfficeModel", name := "clears", desc := "()V" } : Jvm.MethodName)) ∈ lw_all := lw_g (lw_at lw_m13 105 rfl) rfl
theorem q3133 : (Jvm.Cond.code ({ cls := "ParkingOfficeModel", name := "clears", desc := "()V" } : Jvm.MethodName) prog_21_method_2_code (2 : Nat) (Option.none : Option Jvm.ClassFile.FieldType)) ∈ lw_all := lw_g (lw_at lw_m13 106 rfl) rfl
theorem q3134 : (Jvm.Cond.methodLink "ParkingOfficeModel" (64 : Nat) ({ cls := "ParkingOfficeModel", name := "takesDraft", desc := "()V" } : Jvm.MethodName)) ∈ lw_all := lw_g (lw_at lw_m13 107 rfl) rfl
theorem q3135 : (Jvm.Cond.privateMethod ({ cls := "ParkingOfficeModel", name := "takesDraft", desc := "()V" } : Jvm.MethodName)) ∈ lw_tbl := lw_at lw_m13 108 rfl
theorem q3136 : (Jvm.Cond.instanceMethod ({ cls := "ParkingOfficeModel", name := "takesDraft", desc := "()V" } : Jvm.MethodName)) ∈ lw_all := lw_g (lw_at lw_m13 109 rfl) rfl
theorem q3137 : (Jvm.Cond.code ({ cls := "ParkingOfficeModel", name := "takesDraft", desc := "()V" } : Jvm.MethodName) prog_21_method_3_code (2 : Nat) (Option.none : Option Jvm.ClassFile.FieldType)) ∈ lw_all := lw_g (lw_at lw_m13 110 rfl) rfl
theorem q3138 : (Jvm.Cond.methodLink "ParkingOfficeModel" (67 : Nat) ({ cls := "ParkingOfficeModel", name := "laysBooks", desc := "()V" } : Jvm.MethodName)) ∈ lw_all := lw_g (lw_at lw_m13 111 rfl) rfl
theorem q3139 : (Jvm.Cond.privateMethod ({ cls := "ParkingOfficeModel", name := "laysBooks", desc := "()V" } : Jvm.MethodName)) ∈ lw_tbl := lw_at lw_m13 112 rfl
theorem q3140 : (Jvm.Cond.instanceMethod ({ cls := "ParkingOfficeModel", name := "laysBooks", desc := "()V" } : Jvm.MethodName)) ∈ lw_all := lw_g (lw_at lw_m13 113 rfl) rfl
theorem q3141 : (Jvm.Cond.code ({ cls := "ParkingOfficeModel", name := "laysBooks", desc := "()V" } : Jvm.MethodName) prog_21_method_4_code (2 : Nat) (Option.none : Option Jvm.ClassFile.FieldType)) ∈ lw_all := lw_g (lw_at lw_m13 114 rfl) rfl
theorem q3142 : (Jvm.Cond.fieldLink "ParkingOfficeModel" (77 : Nat) "ParkingOfficeModel" "told" "I") ∈ lw_all := lw_g (lw_at lw_m13 115 rfl) rfl
theorem q3143 : (Jvm.Cond.fieldLink "ParkingOfficeModel" (7 : Nat) "ParkingOfficeModel" "setup" "[I") ∈ lw_all := lw_g (lw_at lw_m13 116 rfl) rfl
theorem q3144 : (Jvm.Cond.fieldLink "ParkingOfficeModel" (13 : Nat) "ParkingOfficeModel" "draft" "[I") ∈ lw_all := lw_g (lw_at lw_m13 117 rfl) rfl
theorem q3145 : (Jvm.Cond.fieldLink "ParkingOfficeModel" (16 : Nat) "ParkingOfficeModel" "now" "[I") ∈ lw_all := lw_g (lw_at lw_m13 118 rfl) rfl
theorem q3146 : (Jvm.Cond.fieldLink "ParkingOfficeModel" (19 : Nat) "ParkingOfficeModel" "aside" "[I") ∈ lw_all := lw_g (lw_at lw_m13 119 rfl) rfl
theorem q3147 : (Jvm.Cond.fieldLink "ParkingOfficeModel" (22 : Nat) "ParkingOfficeModel" "tried" "[I") ∈ lw_all := lw_g (lw_at lw_m13 120 rfl) rfl
theorem q3148 : (Jvm.Cond.fieldLink "ParkingOfficeModel" (25 : Nat) "ParkingOfficeModel" "saved" "[I") ∈ lw_all := lw_g (lw_at lw_m13 121 rfl) rfl
theorem q3149 : (Jvm.Cond.fieldLink "ParkingOfficeModel" (28 : Nat) "ParkingOfficeModel" "history" "[I") ∈ lw_all := lw_g (lw_at lw_m13 122 rfl) rfl
theorem q3150 : (Jvm.Cond.fieldLink "ParkingOfficeModel" (70 : Nat) "ParkingOfficeModel" "historyMany" "I") ∈ lw_all := lw_g (lw_at lw_m13 123 rfl) rfl
theorem q3151 : (Jvm.Cond.fieldLink "ParkingOfficeModel" (73 : Nat) "ParkingOfficeModel" "isSaved" "Z") ∈ lw_all := lw_g (lw_at lw_m13 124 rfl) rfl
theorem q3152 : (Jvm.Cond.fieldLink "ParkingOfficeModel" (31 : Nat) "ParkingOfficeModel" "zoneNames" "[J") ∈ lw_all := lw_g (lw_at lw_m13 125 rfl) rfl
theorem q3153 : (Jvm.Cond.fieldLink "ParkingOfficeModel" (35 : Nat) "ParkingOfficeModel" "streetNames" "[J") ∈ lw_all := lw_g (lw_at lw_m13 126 rfl) rfl
theorem q3154 : (Jvm.Cond.fieldLink "ParkingOfficeModel" (38 : Nat) "ParkingOfficeModel" "houseNames" "[J") ∈ lw_all := lw_g (lw_at lw_m13 127 rfl) rfl
theorem q3155 : (Jvm.Cond.fieldLink "ParkingOfficeModel" (41 : Nat) "ParkingOfficeModel" "buffer" "[B") ∈ lw_all := lw_g (lw_at lw_m13 128 rfl) rfl
theorem q3156 : (Jvm.Cond.fieldLink "ParkingOfficeModel" (296 : Nat) "ParkingOfficeModel" "filled" "I") ∈ lw_all := lw_g (lw_at lw_m13 129 rfl) rfl
theorem q3157 : (Jvm.Cond.fieldLink "ParkingOfficeModel" (299 : Nat) "ParkingOfficeModel" "length" "I") ∈ lw_all := lw_g (lw_at lw_m13 130 rfl) rfl
theorem q3158 : (Jvm.Cond.fieldLink "ParkingOfficeModel" (302 : Nat) "ParkingOfficeModel" "at" "I") ∈ lw_all := lw_g (lw_at lw_m13 131 rfl) rfl
theorem q3159 : (Jvm.Cond.fieldLink "ParkingOfficeModel" (308 : Nat) "ParkingOfficeModel" "from" "I") ∈ lw_all := lw_g (lw_at lw_m13 132 rfl) rfl
theorem q3160 : (Jvm.Cond.fieldLink "ParkingOfficeModel" (311 : Nat) "ParkingOfficeModel" "token" "I") ∈ lw_all := lw_g (lw_at lw_m13 133 rfl) rfl
theorem q3161 : (Jvm.Cond.fieldLink "ParkingOfficeModel" (321 : Nat) "ParkingOfficeModel" "word" "I") ∈ lw_all := lw_g (lw_at lw_m13 134 rfl) rfl
theorem q3162 : (Jvm.Cond.fieldLink "ParkingOfficeModel" (328 : Nat) "ParkingOfficeModel" "value" "I") ∈ lw_all := lw_g (lw_at lw_m13 135 rfl) rfl
theorem q3163 : (Jvm.Cond.fieldLink "ParkingOfficeModel" (341 : Nat) "ParkingOfficeModel" "code" "I") ∈ lw_all := lw_g (lw_at lw_m13 136 rfl) rfl
theorem q3164 : (Jvm.Cond.fieldLink "ParkingOfficeModel" (45 : Nat) "ParkingOfficeModel" "offset" "I") ∈ lw_all := lw_g (lw_at lw_m13 137 rfl) rfl
theorem q3165 : (Jvm.Cond.fieldLink "ParkingOfficeModel" (49 : Nat) "ParkingOfficeModel" "draftZones" "[J") ∈ lw_all := lw_g (lw_at lw_m13 138 rfl) rfl
theorem q3166 : (Jvm.Cond.fieldLink "ParkingOfficeModel" (52 : Nat) "ParkingOfficeModel" "draftStreets" "[J") ∈ lw_all := lw_g (lw_at lw_m13 139 rfl) rfl
theorem q3167 : (Jvm.Cond.fieldLink "ParkingOfficeModel" (55 : Nat) "ParkingOfficeModel" "draftHouses" "[J") ∈ lw_all := lw_g (lw_at lw_m13 140 rfl) rfl
theorem q3168 : (Jvm.Cond.fieldLink "ParkingOfficeModel" (58 : Nat) "ParkingOfficeModel" "output" "[B") ∈ lw_all := lw_g (lw_at lw_m13 141 rfl) rfl
theorem q3169 : (Jvm.Cond.fieldLink "ParkingOfficeModel" (425 : Nat) "ParkingOfficeModel" "written" "I") ∈ lw_all := lw_g (lw_at lw_m13 142 rfl) rfl
theorem q3170 : (Jvm.Cond.lays "ParkingOfficeModel" "ParkingOfficeModel" "told" "I") ∈ lw_all := lw_g (lw_at lw_m13 143 rfl) rfl
theorem q3171 : (Jvm.Cond.soleField "ParkingOfficeModel" "told") ∈ lw_all := lw_g (lw_at lw_m13 144 rfl) rfl
theorem q3172 : (Jvm.Cond.laysFinal "ParkingOfficeModel" "ParkingOfficeModel" "setup" "[I") ∈ lw_all := lw_g (lw_at lw_m13 145 rfl) rfl
theorem q3173 : (Jvm.Cond.soleField "ParkingOfficeModel" "setup") ∈ lw_all := lw_g (lw_at lw_m13 146 rfl) rfl
theorem q3174 : (Jvm.Cond.laysFinal "ParkingOfficeModel" "ParkingOfficeModel" "draft" "[I") ∈ lw_all := lw_g (lw_at lw_m13 147 rfl) rfl
theorem q3175 : (Jvm.Cond.soleField "ParkingOfficeModel" "draft") ∈ lw_all := lw_g (lw_at lw_m13 148 rfl) rfl
theorem q3176 : (Jvm.Cond.laysFinal "ParkingOfficeModel" "ParkingOfficeModel" "now" "[I") ∈ lw_all := lw_g (lw_at lw_m13 149 rfl) rfl
theorem q3177 : (Jvm.Cond.soleField "ParkingOfficeModel" "now") ∈ lw_all := lw_g (lw_at lw_m13 150 rfl) rfl
theorem q3178 : (Jvm.Cond.laysFinal "ParkingOfficeModel" "ParkingOfficeModel" "aside" "[I") ∈ lw_all := lw_g (lw_at lw_m13 151 rfl) rfl
theorem q3179 : (Jvm.Cond.soleField "ParkingOfficeModel" "aside") ∈ lw_all := lw_g (lw_at lw_m13 152 rfl) rfl
theorem q3180 : (Jvm.Cond.laysFinal "ParkingOfficeModel" "ParkingOfficeModel" "tried" "[I") ∈ lw_all := lw_g (lw_at lw_m13 153 rfl) rfl
theorem q3181 : (Jvm.Cond.soleField "ParkingOfficeModel" "tried") ∈ lw_all := lw_g (lw_at lw_m13 154 rfl) rfl
theorem q3182 : (Jvm.Cond.laysFinal "ParkingOfficeModel" "ParkingOfficeModel" "saved" "[I") ∈ lw_all := lw_g (lw_at lw_m13 155 rfl) rfl
theorem q3183 : (Jvm.Cond.soleField "ParkingOfficeModel" "saved") ∈ lw_all := lw_g (lw_at lw_m13 156 rfl) rfl
theorem q3184 : (Jvm.Cond.laysFinal "ParkingOfficeModel" "ParkingOfficeModel" "history" "[I") ∈ lw_all := lw_g (lw_at lw_m13 157 rfl) rfl
theorem q3185 : (Jvm.Cond.soleField "ParkingOfficeModel" "history") ∈ lw_all := lw_g (lw_at lw_m13 158 rfl) rfl
theorem q3186 : (Jvm.Cond.lays "ParkingOfficeModel" "ParkingOfficeModel" "historyMany" "I") ∈ lw_all := lw_g (lw_at lw_m13 159 rfl) rfl
theorem q3187 : (Jvm.Cond.soleField "ParkingOfficeModel" "historyMany") ∈ lw_all := lw_g (lw_at lw_m13 160 rfl) rfl
theorem q3188 : (Jvm.Cond.lays "ParkingOfficeModel" "ParkingOfficeModel" "isSaved" "Z") ∈ lw_all := lw_g (lw_at lw_m13 161 rfl) rfl
theorem q3189 : (Jvm.Cond.soleField "ParkingOfficeModel" "isSaved") ∈ lw_all := lw_g (lw_at lw_m13 162 rfl) rfl
theorem q3190 : (Jvm.Cond.laysFinal "ParkingOfficeModel" "ParkingOfficeModel" "zoneNames" "[J") ∈ lw_all := lw_g (lw_at lw_m13 163 rfl) rfl
theorem q3191 : (Jvm.Cond.soleField "ParkingOfficeModel" "zoneNames") ∈ lw_all := lw_g (lw_at lw_m13 164 rfl) rfl
theorem q3192 : (Jvm.Cond.laysFinal "ParkingOfficeModel" "ParkingOfficeModel" "streetNames" "[J") ∈ lw_all := lw_g (lw_at lw_m13 165 rfl) rfl
theorem q3193 : (Jvm.Cond.soleField "ParkingOfficeModel" "streetNames") ∈ lw_all := lw_g (lw_at lw_m13 166 rfl) rfl
theorem q3194 : (Jvm.Cond.laysFinal "ParkingOfficeModel" "ParkingOfficeModel" "houseNames" "[J") ∈ lw_all := lw_g (lw_at lw_m13 167 rfl) rfl
theorem q3195 : (Jvm.Cond.soleField "ParkingOfficeModel" "houseNames") ∈ lw_all := lw_g (lw_at lw_m13 168 rfl) rfl
theorem q3196 : (Jvm.Cond.laysFinal "ParkingOfficeModel" "ParkingOfficeModel" "buffer" "[B") ∈ lw_all := lw_g (lw_at lw_m13 169 rfl) rfl
theorem q3197 : (Jvm.Cond.soleField "ParkingOfficeModel" "buffer") ∈ lw_all := lw_g (lw_at lw_m13 170 rfl) rfl
theorem q3198 : (Jvm.Cond.lays "ParkingOfficeModel" "ParkingOfficeModel" "filled" "I") ∈ lw_all := lw_g (lw_at lw_m13 171 rfl) rfl
theorem q3199 : (Jvm.Cond.soleField "ParkingOfficeModel" "filled") ∈ lw_all := lw_g (lw_at lw_m13 172 rfl) rfl
theorem q3200 : (Jvm.Cond.lays "ParkingOfficeModel" "ParkingOfficeModel" "length" "I") ∈ lw_all := lw_g (lw_at lw_m13 173 rfl) rfl
theorem q3201 : (Jvm.Cond.soleField "ParkingOfficeModel" "length") ∈ lw_all := lw_g (lw_at lw_m13 174 rfl) rfl
theorem q3202 : (Jvm.Cond.lays "ParkingOfficeModel" "ParkingOfficeModel" "at" "I") ∈ lw_all := lw_g (lw_at lw_m13 175 rfl) rfl
theorem q3203 : (Jvm.Cond.soleField "ParkingOfficeModel" "at") ∈ lw_all := lw_g (lw_at lw_m13 176 rfl) rfl
theorem q3204 : (Jvm.Cond.lays "ParkingOfficeModel" "ParkingOfficeModel" "from" "I") ∈ lw_all := lw_g (lw_at lw_m13 177 rfl) rfl
theorem q3205 : (Jvm.Cond.soleField "ParkingOfficeModel" "from") ∈ lw_all := lw_g (lw_at lw_m13 178 rfl) rfl
theorem q3206 : (Jvm.Cond.lays "ParkingOfficeModel" "ParkingOfficeModel" "token" "I") ∈ lw_all := lw_g (lw_at lw_m13 179 rfl) rfl
theorem q3207 : (Jvm.Cond.soleField "ParkingOfficeModel" "token") ∈ lw_all := lw_g (lw_at lw_m13 180 rfl) rfl
theorem q3208 : (Jvm.Cond.lays "ParkingOfficeModel" "ParkingOfficeModel" "word" "I") ∈ lw_all := lw_g (lw_at lw_m13 181 rfl) rfl
theorem q3209 : (Jvm.Cond.soleField "ParkingOfficeModel" "word") ∈ lw_all := lw_g (lw_at lw_m13 182 rfl) rfl
theorem q3210 : (Jvm.Cond.lays "ParkingOfficeModel" "ParkingOfficeModel" "value" "I") ∈ lw_all := lw_g (lw_at lw_m13 183 rfl) rfl
theorem q3211 : (Jvm.Cond.soleField "ParkingOfficeModel" "value") ∈ lw_all := lw_g (lw_at lw_m13 184 rfl) rfl
theorem q3212 : (Jvm.Cond.lays "ParkingOfficeModel" "ParkingOfficeModel" "code" "I") ∈ lw_all := lw_g (lw_at lw_m13 185 rfl) rfl
theorem q3213 : (Jvm.Cond.soleField "ParkingOfficeModel" "code") ∈ lw_all := lw_g (lw_at lw_m13 186 rfl) rfl
theorem q3214 : (Jvm.Cond.lays "ParkingOfficeModel" "ParkingOfficeModel" "offset" "I") ∈ lw_all := lw_g (lw_at lw_m13 187 rfl) rfl
theorem q3215 : (Jvm.Cond.soleField "ParkingOfficeModel" "offset") ∈ lw_all := lw_g (lw_at lw_m13 188 rfl) rfl
theorem q3216 : (Jvm.Cond.laysFinal "ParkingOfficeModel" "ParkingOfficeModel" "draftZones" "[J") ∈ lw_all := lw_g (lw_at lw_m13 189 rfl) rfl
theorem q3217 : (Jvm.Cond.soleField "ParkingOfficeModel" "draftZones") ∈ lw_all := lw_g (lw_at lw_m13 190 rfl) rfl
theorem q3218 : (Jvm.Cond.laysFinal "ParkingOfficeModel" "ParkingOfficeModel" "draftStreets" "[J") ∈ lw_all := lw_g (lw_at lw_m13 191 rfl) rfl
theorem q3219 : (Jvm.Cond.soleField "ParkingOfficeModel" "draftStreets") ∈ lw_all := lw_g (lw_at lw_m13 192 rfl) rfl
theorem q3220 : (Jvm.Cond.laysFinal "ParkingOfficeModel" "ParkingOfficeModel" "draftHouses" "[J") ∈ lw_all := lw_g (lw_at lw_m13 193 rfl) rfl
theorem q3221 : (Jvm.Cond.soleField "ParkingOfficeModel" "draftHouses") ∈ lw_all := lw_g (lw_at lw_m13 194 rfl) rfl
theorem q3222 : (Jvm.Cond.laysFinal "ParkingOfficeModel" "ParkingOfficeModel" "output" "[B") ∈ lw_all := lw_g (lw_at lw_m13 195 rfl) rfl
theorem q3223 : (Jvm.Cond.soleField "ParkingOfficeModel" "output") ∈ lw_all := lw_g (lw_at lw_m13 196 rfl) rfl
theorem q3224 : (Jvm.Cond.lays "ParkingOfficeModel" "ParkingOfficeModel" "written" "I") ∈ lw_all := lw_g (lw_at lw_m13 197 rfl) rfl
theorem q3225 : (Jvm.Cond.soleField "ParkingOfficeModel" "written") ∈ lw_all := lw_g (lw_at lw_m13 198 rfl) rfl
theorem q3226 : (Jvm.Cond.superclass "ParkingOfficeModel" "java/lang/Object") ∈ lw_all := lw_g (lw_at lw_m13 199 rfl) rfl
theorem q3228 : (Jvm.Cond.instanceMethod ({ cls := "ParkingOfficeModel", name := "thrown", desc := "()I" } : Jvm.MethodName)) ∈ lw_all := lw_g (lw_at lw_m13 201 rfl) rfl
theorem q3229 : (Jvm.Cond.selects "ParkingOfficeModel" ({ cls := "ParkingOfficeModel", name := "thrown", desc := "()I" } : Jvm.MethodName) ({ cls := "ParkingOfficeModel", name := "thrown", desc := "()I" } : Jvm.MethodName)) ∈ lw_all := lw_g (lw_at lw_m13 202 rfl) rfl
theorem q3230 : (Jvm.Cond.code ({ cls := "ParkingOfficeModel", name := "thrown", desc := "()I" } : Jvm.MethodName) prog_21_method_5_code (1 : Nat) (Option.some Jvm.ClassFile.FieldType.int)) ∈ lw_all := lw_g (lw_at lw_m13 203 rfl) rfl
theorem q3232 : (Jvm.Cond.instanceMethod ({ cls := "ParkingOfficeModel", name := "undo", desc := "()I" } : Jvm.MethodName)) ∈ lw_all := lw_g (lw_at lw_m13 205 rfl) rfl
theorem q3233 : (Jvm.Cond.selects "ParkingOfficeModel" ({ cls := "ParkingOfficeModel", name := "undo", desc := "()I" } : Jvm.MethodName) ({ cls := "ParkingOfficeModel", name := "undo", desc := "()I" } : Jvm.MethodName)) ∈ lw_all := lw_g (lw_at lw_m13 206 rfl) rfl
theorem q3234 : (Jvm.Cond.code ({ cls := "ParkingOfficeModel", name := "undo", desc := "()I" } : Jvm.MethodName) prog_21_method_13_code (2 : Nat) (Option.some Jvm.ClassFile.FieldType.int)) ∈ lw_all := lw_g (lw_at lw_m13 207 rfl) rfl
theorem q3235 : (Jvm.Cond.methodLink "ParkingOfficeModel" (90 : Nat) ({ cls := "ParkingOfficeModel", name := "is", desc := "(Z)Z" } : Jvm.MethodName)) ∈ lw_all := lw_g (lw_at lw_m13 208 rfl) rfl
theorem q3236 : (Jvm.Cond.privateMethod ({ cls := "ParkingOfficeModel", name := "is", desc := "(Z)Z" } : Jvm.MethodName)) ∈ lw_tbl := lw_at lw_m13 209 rfl
theorem q3237 : (Jvm.Cond.instanceMethod ({ cls := "ParkingOfficeModel", name := "is", desc := "(Z)Z" } : Jvm.MethodName)) ∈ lw_all := lw_g (lw_at lw_m13 210 rfl) rfl
theorem q3238 : (Jvm.Cond.code ({ cls := "ParkingOfficeModel", name := "is", desc := "(Z)Z" } : Jvm.MethodName) prog_21_method_6_code (2 : Nat) (Option.some Jvm.ClassFile.FieldType.boolean)) ∈ lw_all := lw_g (lw_at lw_m13 211 rfl) rfl
theorem q3240 : (Jvm.Cond.instanceMethod ({ cls := "ParkingOfficeModel", name := "saveState", desc := "()I" } : Jvm.MethodName)) ∈ lw_all := lw_g (lw_at lw_m13 213 rfl) rfl
theorem q3241 : (Jvm.Cond.selects "ParkingOfficeModel" ({ cls := "ParkingOfficeModel", name := "saveState", desc := "()I" } : Jvm.MethodName) ({ cls := "ParkingOfficeModel", name := "saveState", desc := "()I" } : Jvm.MethodName)) ∈ lw_all := lw_g (lw_at lw_m13 214 rfl) rfl
theorem q3242 : (Jvm.Cond.code ({ cls := "ParkingOfficeModel", name := "saveState", desc := "()I" } : Jvm.MethodName) prog_21_method_14_code (1 : Nat) (Option.some Jvm.ClassFile.FieldType.int)) ∈ lw_all := lw_g (lw_at lw_m13 215 rfl) rfl
theorem q3243 : (Jvm.Cond.methodLink "ParkingOfficeModel" (80 : Nat) ({ cls := "ParkingOfficeModel", name := "copies", desc := "([I[I)V" } : Jvm.MethodName)) ∈ lw_all := lw_g (lw_at lw_m13 216 rfl) rfl
theorem q3244 : (Jvm.Cond.static ({ cls := "ParkingOfficeModel", name := "copies", desc := "([I[I)V" } : Jvm.MethodName)) ∈ lw_all := lw_g (lw_at lw_m13 217 rfl) rfl
theorem q3245 : (Jvm.Cond.code ({ cls := "ParkingOfficeModel", name := "copies", desc := "([I[I)V" } : Jvm.MethodName) prog_21_method_9_code (3 : Nat) (Option.none : Option Jvm.ClassFile.FieldType)) ∈ lw_all := lw_g (lw_at lw_m13 218 rfl) rfl
theorem q3247 : (Jvm.Cond.instanceMethod ({ cls := "ParkingOfficeModel", name := "restoreState", desc := "()I" } : Jvm.MethodName)) ∈ lw_all := lw_g (lw_at lw_m13 220 rfl) rfl
theorem q3248 : (Jvm.Cond.selects "ParkingOfficeModel" ({ cls := "ParkingOfficeModel", name := "restoreState", desc := "()I" } : Jvm.MethodName) ({ cls := "ParkingOfficeModel", name := "restoreState", desc := "()I" } : Jvm.MethodName)) ∈ lw_all := lw_g (lw_at lw_m13 221 rfl) rfl
theorem q3249 : (Jvm.Cond.code ({ cls := "ParkingOfficeModel", name := "restoreState", desc := "()I" } : Jvm.MethodName) prog_21_method_15_code (1 : Nat) (Option.some Jvm.ClassFile.FieldType.int)) ∈ lw_all := lw_g (lw_at lw_m13 222 rfl) rfl
theorem q3251 : (Jvm.Cond.instanceMethod ({ cls := "ParkingOfficeModel", name := "pass", desc := "(I)I" } : Jvm.MethodName)) ∈ lw_all := lw_g (lw_at lw_m13 224 rfl) rfl
theorem q3252 : (Jvm.Cond.selects "ParkingOfficeModel" ({ cls := "ParkingOfficeModel", name := "pass", desc := "(I)I" } : Jvm.MethodName) ({ cls := "ParkingOfficeModel", name := "pass", desc := "(I)I" } : Jvm.MethodName)) ∈ lw_all := lw_g (lw_at lw_m13 225 rfl) rfl
theorem q3253 : (Jvm.Cond.code ({ cls := "ParkingOfficeModel", name := "pass", desc := "(I)I" } : Jvm.MethodName) prog_21_method_33_code (2 : Nat) (Option.some Jvm.ClassFile.FieldType.int)) ∈ lw_all := lw_g (lw_at lw_m13 226 rfl) rfl
theorem q3254 : (Jvm.Cond.constantLong "ParkingOfficeModel" (142 : Nat) (20160 : Int64)) ∈ lw_all := lw_g (lw_at lw_m13 227 rfl) rfl
theorem q3255 : (Jvm.Cond.methodLink "ParkingOfficeModel" (144 : Nat) ({ cls := "ParkingOfficeModel", name := "isIn", desc := "(JJJ)Z" } : Jvm.MethodName)) ∈ lw_all := lw_g (lw_at lw_m13 228 rfl) rfl
theorem q3256 : (Jvm.Cond.static ({ cls := "ParkingOfficeModel", name := "isIn", desc := "(JJJ)Z" } : Jvm.MethodName)) ∈ lw_all := lw_g (lw_at lw_m13 229 rfl) rfl
theorem q3257 : (Jvm.Cond.code ({ cls := "ParkingOfficeModel", name := "isIn", desc := "(JJJ)Z" } : Jvm.MethodName) prog_21_method_8_code (6 : Nat) (Option.some Jvm.ClassFile.FieldType.boolean)) ∈ lw_all := lw_g (lw_at lw_m13 230 rfl) rfl
theorem q3258 : (Jvm.Cond.methodLink "ParkingOfficeModel" (148 : Nat) ({ cls := "ParkingOfficeModel", name := "starts", desc := "()V" } : Jvm.MethodName)) ∈ lw_all := lw_g (lw_at lw_m13 231 rfl) rfl
theorem q3259 : (Jvm.Cond.privateMethod ({ cls := "ParkingOfficeModel", name := "starts", desc := "()V" } : Jvm.MethodName)) ∈ lw_tbl := lw_at lw_m13 232 rfl
theorem q3260 : (Jvm.Cond.instanceMethod ({ cls := "ParkingOfficeModel", name := "starts", desc := "()V" } : Jvm.MethodName)) ∈ lw_all := lw_g (lw_at lw_m13 233 rfl) rfl
theorem q3261 : (Jvm.Cond.code ({ cls := "ParkingOfficeModel", name := "starts", desc := "()V" } : Jvm.MethodName) prog_21_method_10_code (1 : Nat) (Option.none : Option Jvm.ClassFile.FieldType)) ∈ lw_all := lw_g (lw_at lw_m13 234 rfl) rfl
theorem q3262 : (Jvm.Cond.methodLink "ParkingOfficeModel" (151 : Nat) ({ cls := "ParkingOfficeModel", name := "goesTo", desc := "(I)V" } : Jvm.MethodName)) ∈ lw_all := lw_g (lw_at lw_m13 235 rfl) rfl
theorem q3263 : (Jvm.Cond.privateMethod ({ cls := "ParkingOfficeModel", name := "goesTo", desc := "(I)V" } : Jvm.MethodName)) ∈ lw_tbl := lw_at lw_m13 236 rfl
theorem q3264 : (Jvm.Cond.instanceMethod ({ cls := "ParkingOfficeModel", name := "goesTo", desc := "(I)V" } : Jvm.MethodName)) ∈ lw_all := lw_g (lw_at lw_m13 237 rfl) rfl
theorem q3265 : (Jvm.Cond.code ({ cls := "ParkingOfficeModel", name := "goesTo", desc := "(I)V" } : Jvm.MethodName) prog_21_method_32_code (3 : Nat) (Option.none : Option Jvm.ClassFile.FieldType)) ∈ lw_all := lw_g (lw_at lw_m13 238 rfl) rfl
theorem q3266 : (Jvm.Cond.methodLink "ParkingOfficeModel" (135 : Nat) ({ cls := "ParkingOfficeModel", name := "nextDue", desc := "()I" } : Jvm.MethodName)) ∈ lw_all := lw_g (lw_at lw_m13 239 rfl) rfl
theorem q3267 : (Jvm.Cond.privateMethod ({ cls := "ParkingOfficeModel", name := "nextDue", desc := "()I" } : Jvm.MethodName)) ∈ lw_tbl := lw_at lw_m14 0 rfl
theorem q3268 : (Jvm.Cond.instanceMethod ({ cls := "ParkingOfficeModel", name := "nextDue", desc := "()I" } : Jvm.MethodName)) ∈ lw_all := lw_g (lw_at lw_m14 1 rfl) rfl
theorem q3269 : (Jvm.Cond.code ({ cls := "ParkingOfficeModel", name := "nextDue", desc := "()I" } : Jvm.MethodName) prog_21_method_30_code (4 : Nat) (Option.some Jvm.ClassFile.FieldType.int)) ∈ lw_all := lw_g (lw_at lw_m14 2 rfl) rfl
theorem q3270 : (Jvm.Cond.constant "ParkingOfficeModel" (134 : Nat) (43200 : Int32)) ∈ lw_all := lw_g (lw_at lw_m14 3 rfl) rfl
theorem q3271 : (Jvm.Cond.methodLink "ParkingOfficeModel" (102 : Nat) ({ cls := "ParkingOfficeModel", name := "ofPermit", desc := "(II)I" } : Jvm.MethodName)) ∈ lw_all := lw_g (lw_at lw_m14 4 rfl) rfl
theorem q3272 : (Jvm.Cond.privateMethod ({ cls := "ParkingOfficeModel", name := "ofPermit", desc := "(II)I" } : Jvm.MethodName)) ∈ lw_tbl := lw_at lw_m14 5 rfl
theorem q3273 : (Jvm.Cond.instanceMethod ({ cls := "ParkingOfficeModel", name := "ofPermit", desc := "(II)I" } : Jvm.MethodName)) ∈ lw_all := lw_g (lw_at lw_m14 6 rfl) rfl
theorem q3274 : (Jvm.Cond.code ({ cls := "ParkingOfficeModel", name := "ofPermit", desc := "(II)I" } : Jvm.MethodName) prog_21_method_17_code (3 : Nat) (Option.some Jvm.ClassFile.FieldType.int)) ∈ lw_all := lw_g (lw_at lw_m14 7 rfl) rfl
theorem q3275 : (Jvm.Cond.methodLink "ParkingOfficeModel" (94 : Nat) ({ cls := "ParkingOfficeModel", name := "permitAt", desc := "(II)I" } : Jvm.MethodName)) ∈ lw_all := lw_g (lw_at lw_m14 8 rfl) rfl
theorem q3276 : (Jvm.Cond.privateMethod ({ cls := "ParkingOfficeModel", name := "permitAt", desc := "(II)I" } : Jvm.MethodName)) ∈ lw_tbl := lw_at lw_m14 9 rfl
theorem q3277 : (Jvm.Cond.instanceMethod ({ cls := "ParkingOfficeModel", name := "permitAt", desc := "(II)I" } : Jvm.MethodName)) ∈ lw_all := lw_g (lw_at lw_m14 10 rfl) rfl
theorem q3278 : (Jvm.Cond.code ({ cls := "ParkingOfficeModel", name := "permitAt", desc := "(II)I" } : Jvm.MethodName) prog_21_method_16_code (3 : Nat) (Option.some Jvm.ClassFile.FieldType.int)) ∈ lw_all := lw_g (lw_at lw_m14 11 rfl) rfl
theorem q3279 : (Jvm.Cond.methodLink "ParkingOfficeModel" (139 : Nat) ({ cls := "ParkingOfficeModel", name := "happens", desc := "()V" } : Jvm.MethodName)) ∈ lw_all := lw_g (lw_at lw_m14 12 rfl) rfl
theorem q3280 : (Jvm.Cond.privateMethod ({ cls := "ParkingOfficeModel", name := "happens", desc := "()V" } : Jvm.MethodName)) ∈ lw_tbl := lw_at lw_m14 13 rfl
theorem q3281 : (Jvm.Cond.instanceMethod ({ cls := "ParkingOfficeModel", name := "happens", desc := "()V" } : Jvm.MethodName)) ∈ lw_all := lw_g (lw_at lw_m14 14 rfl) rfl
theorem q3282 : (Jvm.Cond.code ({ cls := "ParkingOfficeModel", name := "happens", desc := "()V" } : Jvm.MethodName) prog_21_method_31_code (2 : Nat) (Option.none : Option Jvm.ClassFile.FieldType)) ∈ lw_all := lw_g (lw_at lw_m14 15 rfl) rfl
theorem q3283 : (Jvm.Cond.methodLink "ParkingOfficeModel" (84 : Nat) ({ cls := "ParkingOfficeModel", name := "offers", desc := "()V" } : Jvm.MethodName)) ∈ lw_all := lw_g (lw_at lw_m14 16 rfl) rfl
theorem q3284 : (Jvm.Cond.privateMethod ({ cls := "ParkingOfficeModel", name := "offers", desc := "()V" } : Jvm.MethodName)) ∈ lw_tbl := lw_at lw_m14 17 rfl
theorem q3285 : (Jvm.Cond.instanceMethod ({ cls := "ParkingOfficeModel", name := "offers", desc := "()V" } : Jvm.MethodName)) ∈ lw_all := lw_g (lw_at lw_m14 18 rfl) rfl
theorem q3286 : (Jvm.Cond.code ({ cls := "ParkingOfficeModel", name := "offers", desc := "()V" } : Jvm.MethodName) prog_21_method_29_code (3 : Nat) (Option.none : Option Jvm.ClassFile.FieldType)) ∈ lw_all := lw_g (lw_at lw_m14 19 rfl) rfl
theorem q3287 : (Jvm.Cond.methodLink "ParkingOfficeModel" (128 : Nat) ({ cls := "ParkingOfficeModel", name := "waitingAt", desc := "(II)I" } : Jvm.MethodName)) ∈ lw_all := lw_g (lw_at lw_m14 20 rfl) rfl
theorem q3288 : (Jvm.Cond.privateMethod ({ cls := "ParkingOfficeModel", name := "waitingAt", desc := "(II)I" } : Jvm.MethodName)) ∈ lw_tbl := lw_at lw_m14 21 rfl
theorem q3289 : (Jvm.Cond.instanceMethod ({ cls := "ParkingOfficeModel", name := "waitingAt", desc := "(II)I" } : Jvm.MethodName)) ∈ lw_all := lw_g (lw_at lw_m14 22 rfl) rfl
theorem q3290 : (Jvm.Cond.code ({ cls := "ParkingOfficeModel", name := "waitingAt", desc := "(II)I" } : Jvm.MethodName) prog_21_method_28_code (4 : Nat) (Option.some Jvm.ClassFile.FieldType.int)) ∈ lw_all := lw_g (lw_at lw_m14 23 rfl) rfl
theorem q3291 : (Jvm.Cond.methodLink "ParkingOfficeModel" (121 : Nat) ({ cls := "ParkingOfficeModel", name := "isWaiting", desc := "(II)Z" } : Jvm.MethodName)) ∈ lw_all := lw_g (lw_at lw_m14 24 rfl) rfl
theorem q3292 : (Jvm.Cond.privateMethod ({ cls := "ParkingOfficeModel", name := "isWaiting", desc := "(II)Z" } : Jvm.MethodName)) ∈ lw_tbl := lw_at lw_m14 25 rfl
theorem q3293 : (Jvm.Cond.instanceMethod ({ cls := "ParkingOfficeModel", name := "isWaiting", desc := "(II)Z" } : Jvm.MethodName)) ∈ lw_all := lw_g (lw_at lw_m14 26 rfl) rfl
theorem q3294 : (Jvm.Cond.code ({ cls := "ParkingOfficeModel", name := "isWaiting", desc := "(II)Z" } : Jvm.MethodName) prog_21_method_26_code (3 : Nat) (Option.some Jvm.ClassFile.FieldType.boolean)) ∈ lw_all := lw_g (lw_at lw_m14 27 rfl) rfl
theorem q3295 : (Jvm.Cond.methodLink "ParkingOfficeModel" (108 : Nat) ({ cls := "ParkingOfficeModel", name := "zoneOf", desc := "(I)I" } : Jvm.MethodName)) ∈ lw_all := lw_g (lw_at lw_m14 28 rfl) rfl
theorem q3296 : (Jvm.Cond.privateMethod ({ cls := "ParkingOfficeModel", name := "zoneOf", desc := "(I)I" } : Jvm.MethodName)) ∈ lw_tbl := lw_at lw_m14 29 rfl
theorem q3297 : (Jvm.Cond.instanceMethod ({ cls := "ParkingOfficeModel", name := "zoneOf", desc := "(I)I" } : Jvm.MethodName)) ∈ lw_all := lw_g (lw_at lw_m14 30 rfl) rfl
theorem q3298 : (Jvm.Cond.code ({ cls := "ParkingOfficeModel", name := "zoneOf", desc := "(I)I" } : Jvm.MethodName) prog_21_method_20_code (2 : Nat) (Option.some Jvm.ClassFile.FieldType.int)) ∈ lw_all := lw_g (lw_at lw_m14 31 rfl) rfl
theorem q3299 : (Jvm.Cond.methodLink "ParkingOfficeModel" (105 : Nat) ({ cls := "ParkingOfficeModel", name := "zoneOfHouse", desc := "(I)I" } : Jvm.MethodName)) ∈ lw_all := lw_g (lw_at lw_m14 32 rfl) rfl
theorem q3300 : (Jvm.Cond.privateMethod ({ cls := "ParkingOfficeModel", name := "zoneOfHouse", desc := "(I)I" } : Jvm.MethodName)) ∈ lw_tbl := lw_at lw_m14 33 rfl
theorem q3301 : (Jvm.Cond.instanceMethod ({ cls := "ParkingOfficeModel", name := "zoneOfHouse", desc := "(I)I" } : Jvm.MethodName)) ∈ lw_all := lw_g (lw_at lw_m14 34 rfl) rfl
theorem q3302 : (Jvm.Cond.code ({ cls := "ParkingOfficeModel", name := "zoneOfHouse", desc := "(I)I" } : Jvm.MethodName) prog_21_method_19_code (2 : Nat) (Option.some Jvm.ClassFile.FieldType.int)) ∈ lw_all := lw_g (lw_at lw_m14 35 rfl) rfl
theorem q3303 : (Jvm.Cond.methodLink "ParkingOfficeModel" (98 : Nat) ({ cls := "ParkingOfficeModel", name := "zoneOfStreet", desc := "(I)I" } : Jvm.MethodName)) ∈ lw_all := lw_g (lw_at lw_m14 36 rfl) rfl
theorem q3304 : (Jvm.Cond.privateMethod ({ cls := "ParkingOfficeModel", name := "zoneOfStreet", desc := "(I)I" } : Jvm.MethodName)) ∈ lw_tbl := lw_at lw_m14 37 rfl
theorem q3305 : (Jvm.Cond.instanceMethod ({ cls := "ParkingOfficeModel", name := "zoneOfStreet", desc := "(I)I" } : Jvm.MethodName)) ∈ lw_all := lw_g (lw_at lw_m14 38 rfl) rfl
theorem q3306 : (Jvm.Cond.code ({ cls := "ParkingOfficeModel", name := "zoneOfStreet", desc := "(I)I" } : Jvm.MethodName) prog_21_method_18_code (2 : Nat) (Option.some Jvm.ClassFile.FieldType.int)) ∈ lw_all := lw_g (lw_at lw_m14 39 rfl) rfl
theorem q3307 : (Jvm.Cond.methodLink "ParkingOfficeModel" (125 : Nat) ({ cls := "ParkingOfficeModel", name := "ahead", desc := "(I)I" } : Jvm.MethodName)) ∈ lw_all := lw_g (lw_at lw_m14 40 rfl) rfl
theorem q3308 : (Jvm.Cond.privateMethod ({ cls := "ParkingOfficeModel", name := "ahead", desc := "(I)I" } : Jvm.MethodName)) ∈ lw_tbl := lw_at lw_m14 41 rfl
theorem q3309 : (Jvm.Cond.instanceMethod ({ cls := "ParkingOfficeModel", name := "ahead", desc := "(I)I" } : Jvm.MethodName)) ∈ lw_all := lw_g (lw_at lw_m14 42 rfl) rfl
theorem q3310 : (Jvm.Cond.code ({ cls := "ParkingOfficeModel", name := "ahead", desc := "(I)I" } : Jvm.MethodName) prog_21_method_27_code (7 : Nat) (Option.some Jvm.ClassFile.FieldType.int)) ∈ lw_all := lw_g (lw_at lw_m14 43 rfl) rfl
theorem q3311 : (Jvm.Cond.methodLink "ParkingOfficeModel" (118 : Nat) ({ cls := "ParkingOfficeModel", name := "validOfHouse", desc := "(I)I" } : Jvm.MethodName)) ∈ lw_all := lw_g (lw_at lw_m14 44 rfl) rfl
theorem q3312 : (Jvm.Cond.privateMethod ({ cls := "ParkingOfficeModel", name := "validOfHouse", desc := "(I)I" } : Jvm.MethodName)) ∈ lw_tbl := lw_at lw_m14 45 rfl
theorem q3313 : (Jvm.Cond.instanceMethod ({ cls := "ParkingOfficeModel", name := "validOfHouse", desc := "(I)I" } : Jvm.MethodName)) ∈ lw_all := lw_g (lw_at lw_m14 46 rfl) rfl
theorem q3314 : (Jvm.Cond.code ({ cls := "ParkingOfficeModel", name := "validOfHouse", desc := "(I)I" } : Jvm.MethodName) prog_21_method_24_code (4 : Nat) (Option.some Jvm.ClassFile.FieldType.int)) ∈ lw_all := lw_g (lw_at lw_m14 47 rfl) rfl
theorem q3315 : (Jvm.Cond.methodLink "ParkingOfficeModel" (131 : Nat) ({ cls := "ParkingOfficeModel", name := "taken", desc := "(I)I" } : Jvm.MethodName)) ∈ lw_all := lw_g (lw_at lw_m14 48 rfl) rfl
theorem q3316 : (Jvm.Cond.privateMethod ({ cls := "ParkingOfficeModel", name := "taken", desc := "(I)I" } : Jvm.MethodName)) ∈ lw_tbl := lw_at lw_m14 49 rfl
theorem q3317 : (Jvm.Cond.instanceMethod ({ cls := "ParkingOfficeModel", name := "taken", desc := "(I)I" } : Jvm.MethodName)) ∈ lw_all := lw_g (lw_at lw_m14 50 rfl) rfl
theorem q3318 : (Jvm.Cond.code ({ cls := "ParkingOfficeModel", name := "taken", desc := "(I)I" } : Jvm.MethodName) prog_21_method_23_code (2 : Nat) (Option.some Jvm.ClassFile.FieldType.int)) ∈ lw_all := lw_g (lw_at lw_m14 51 rfl) rfl
theorem q3319 : (Jvm.Cond.methodLink "ParkingOfficeModel" (111 : Nat) ({ cls := "ParkingOfficeModel", name := "manyOf", desc := "(II)I" } : Jvm.MethodName)) ∈ lw_all := lw_g (lw_at lw_m14 52 rfl) rfl
theorem q3320 : (Jvm.Cond.privateMethod ({ cls := "ParkingOfficeModel", name := "manyOf", desc := "(II)I" } : Jvm.MethodName)) ∈ lw_tbl := lw_at lw_m14 53 rfl
theorem q3321 : (Jvm.Cond.instanceMethod ({ cls := "ParkingOfficeModel", name := "manyOf", desc := "(II)I" } : Jvm.MethodName)) ∈ lw_all := lw_g (lw_at lw_m14 54 rfl) rfl
theorem q3322 : (Jvm.Cond.code ({ cls := "ParkingOfficeModel", name := "manyOf", desc := "(II)I" } : Jvm.MethodName) prog_21_method_22_code (5 : Nat) (Option.some Jvm.ClassFile.FieldType.int)) ∈ lw_all := lw_g (lw_at lw_m14 55 rfl) rfl
theorem q3323 : (Jvm.Cond.methodLink "ParkingOfficeModel" (87 : Nat) ({ cls := "ParkingOfficeModel", name := "keeps", desc := "()V" } : Jvm.MethodName)) ∈ lw_all := lw_g (lw_at lw_m14 56 rfl) rfl
theorem q3324 : (Jvm.Cond.privateMethod ({ cls := "ParkingOfficeModel", name := "keeps", desc := "()V" } : Jvm.MethodName)) ∈ lw_tbl := lw_at lw_m14 57 rfl
theorem q3325 : (Jvm.Cond.instanceMethod ({ cls := "ParkingOfficeModel", name := "keeps", desc := "()V" } : Jvm.MethodName)) ∈ lw_all := lw_g (lw_at lw_m14 58 rfl) rfl
theorem q3326 : (Jvm.Cond.code ({ cls := "ParkingOfficeModel", name := "keeps", desc := "()V" } : Jvm.MethodName) prog_21_method_11_code (2 : Nat) (Option.none : Option Jvm.ClassFile.FieldType)) ∈ lw_all := lw_g (lw_at lw_m14 59 rfl) rfl
theorem q3328 : (Jvm.Cond.instanceMethod ({ cls := "ParkingOfficeModel", name := "apply", desc := "(II)I" } : Jvm.MethodName)) ∈ lw_all := lw_g (lw_at lw_m14 61 rfl) rfl
theorem q3329 : (Jvm.Cond.selects "ParkingOfficeModel" ({ cls := "ParkingOfficeModel", name := "apply", desc := "(II)I" } : Jvm.MethodName) ({ cls := "ParkingOfficeModel", name := "apply", desc := "(II)I" } : Jvm.MethodName)) ∈ lw_all := lw_g (lw_at lw_m14 62 rfl) rfl
theorem q3330 : (Jvm.Cond.code ({ cls := "ParkingOfficeModel", name := "apply", desc := "(II)I" } : Jvm.MethodName) prog_21_method_40_code (4 : Nat) (Option.some Jvm.ClassFile.FieldType.int)) ∈ lw_all := lw_g (lw_at lw_m14 63 rfl) rfl
theorem q3331 : (Jvm.Cond.methodLink "ParkingOfficeModel" (157 : Nat) ({ cls := "ParkingOfficeModel", name := "isHouse", desc := "(I)Z" } : Jvm.MethodName)) ∈ lw_all := lw_g (lw_at lw_m14 64 rfl) rfl
theorem q3332 : (Jvm.Cond.privateMethod ({ cls := "ParkingOfficeModel", name := "isHouse", desc := "(I)Z" } : Jvm.MethodName)) ∈ lw_tbl := lw_at lw_m14 65 rfl
theorem q3333 : (Jvm.Cond.instanceMethod ({ cls := "ParkingOfficeModel", name := "isHouse", desc := "(I)Z" } : Jvm.MethodName)) ∈ lw_all := lw_g (lw_at lw_m14 66 rfl) rfl
theorem q3334 : (Jvm.Cond.code ({ cls := "ParkingOfficeModel", name := "isHouse", desc := "(I)Z" } : Jvm.MethodName) prog_21_method_35_code (2 : Nat) (Option.some Jvm.ClassFile.FieldType.boolean)) ∈ lw_all := lw_g (lw_at lw_m14 67 rfl) rfl
theorem q3335 : (Jvm.Cond.methodLink "ParkingOfficeModel" (160 : Nat) ({ cls := "ParkingOfficeModel", name := "isPlate", desc := "(I)Z" } : Jvm.MethodName)) ∈ lw_all := lw_g (lw_at lw_m14 68 rfl) rfl
theorem q3336 : (Jvm.Cond.static ({ cls := "ParkingOfficeModel", name := "isPlate", desc := "(I)Z" } : Jvm.MethodName)) ∈ lw_all := lw_g (lw_at lw_m14 69 rfl) rfl
theorem q3337 : (Jvm.Cond.code ({ cls := "ParkingOfficeModel", name := "isPlate", desc := "(I)Z" } : Jvm.MethodName) prog_21_method_38_code (1 : Nat) (Option.some Jvm.ClassFile.FieldType.boolean)) ∈ lw_all := lw_g (lw_at lw_m14 70 rfl) rfl
theorem q3338 : (Jvm.Cond.constantLong "ParkingOfficeModel" (155 : Nat) (9999 : Int64)) ∈ lw_all := lw_g (lw_at lw_m14 71 rfl) rfl
theorem q3339 : (Jvm.Cond.methodLink "ParkingOfficeModel" (163 : Nat) ({ cls := "ParkingOfficeModel", name := "may", desc := "(ZI)Z" } : Jvm.MethodName)) ∈ lw_all := lw_g (lw_at lw_m14 72 rfl) rfl
theorem q3340 : (Jvm.Cond.privateMethod ({ cls := "ParkingOfficeModel", name := "may", desc := "(ZI)Z" } : Jvm.MethodName)) ∈ lw_tbl := lw_at lw_m14 73 rfl
theorem q3341 : (Jvm.Cond.instanceMethod ({ cls := "ParkingOfficeModel", name := "may", desc := "(ZI)Z" } : Jvm.MethodName)) ∈ lw_all := lw_g (lw_at lw_m14 74 rfl) rfl
theorem q3342 : (Jvm.Cond.code ({ cls := "ParkingOfficeModel", name := "may", desc := "(ZI)Z" } : Jvm.MethodName) prog_21_method_7_code (3 : Nat) (Option.some Jvm.ClassFile.FieldType.boolean)) ∈ lw_all := lw_g (lw_at lw_m14 75 rfl) rfl
theorem q3343 : (Jvm.Cond.methodLink "ParkingOfficeModel" (167 : Nat) ({ cls := "ParkingOfficeModel", name := "activeOfHouse", desc := "(I)I" } : Jvm.MethodName)) ∈ lw_all := lw_g (lw_at lw_m14 76 rfl) rfl
theorem q3344 : (Jvm.Cond.privateMethod ({ cls := "ParkingOfficeModel", name := "activeOfHouse", desc := "(I)I" } : Jvm.MethodName)) ∈ lw_tbl := lw_at lw_m14 77 rfl
theorem q3345 : (Jvm.Cond.instanceMethod ({ cls := "ParkingOfficeModel", name := "activeOfHouse", desc := "(I)I" } : Jvm.MethodName)) ∈ lw_all := lw_g (lw_at lw_m14 78 rfl) rfl
theorem q3346 : (Jvm.Cond.code ({ cls := "ParkingOfficeModel", name := "activeOfHouse", desc := "(I)I" } : Jvm.MethodName) prog_21_method_25_code (4 : Nat) (Option.some Jvm.ClassFile.FieldType.int)) ∈ lw_all := lw_g (lw_at lw_m14 79 rfl) rfl
theorem q3347 : (Jvm.Cond.methodLink "ParkingOfficeModel" (114 : Nat) ({ cls := "ParkingOfficeModel", name := "isActive", desc := "(I)Z" } : Jvm.MethodName)) ∈ lw_all := lw_g (lw_at lw_m14 80 rfl) rfl
theorem q3348 : (Jvm.Cond.privateMethod ({ cls := "ParkingOfficeModel", name := "isActive", desc := "(I)Z" } : Jvm.MethodName)) ∈ lw_tbl := lw_at lw_m14 81 rfl
theorem q3349 : (Jvm.Cond.instanceMethod ({ cls := "ParkingOfficeModel", name := "isActive", desc := "(I)Z" } : Jvm.MethodName)) ∈ lw_all := lw_g (lw_at lw_m14 82 rfl) rfl
theorem q3350 : (Jvm.Cond.code ({ cls := "ParkingOfficeModel", name := "isActive", desc := "(I)Z" } : Jvm.MethodName) prog_21_method_21_code (2 : Nat) (Option.some Jvm.ClassFile.FieldType.boolean)) ∈ lw_all := lw_g (lw_at lw_m14 83 rfl) rfl
theorem q3351 : (Jvm.Cond.methodLink "ParkingOfficeModel" (170 : Nat) ({ cls := "ParkingOfficeModel", name := "activeOf", desc := "(I)I" } : Jvm.MethodName)) ∈ lw_all := lw_g (lw_at lw_m14 84 rfl) rfl
theorem q3352 : (Jvm.Cond.privateMethod ({ cls := "ParkingOfficeModel", name := "activeOf", desc := "(I)I" } : Jvm.MethodName)) ∈ lw_tbl := lw_at lw_m14 85 rfl
theorem q3353 : (Jvm.Cond.instanceMethod ({ cls := "ParkingOfficeModel", name := "activeOf", desc := "(I)I" } : Jvm.MethodName)) ∈ lw_all := lw_g (lw_at lw_m14 86 rfl) rfl
theorem q3354 : (Jvm.Cond.code ({ cls := "ParkingOfficeModel", name := "activeOf", desc := "(I)I" } : Jvm.MethodName) prog_21_method_39_code (3 : Nat) (Option.some Jvm.ClassFile.FieldType.int)) ∈ lw_all := lw_g (lw_at lw_m14 87 rfl) rfl
theorem q3355 : (Jvm.Cond.methodLink "ParkingOfficeModel" (173 : Nat) ({ cls := "ParkingOfficeModel", name := "done", desc := "(I)I" } : Jvm.MethodName)) ∈ lw_all := lw_g (lw_at lw_m14 88 rfl) rfl
theorem q3356 : (Jvm.Cond.privateMethod ({ cls := "ParkingOfficeModel", name := "done", desc := "(I)I" } : Jvm.MethodName)) ∈ lw_tbl := lw_at lw_m14 89 rfl
theorem q3357 : (Jvm.Cond.instanceMethod ({ cls := "ParkingOfficeModel", name := "done", desc := "(I)I" } : Jvm.MethodName)) ∈ lw_all := lw_g (lw_at lw_m14 90 rfl) rfl
theorem q3358 : (Jvm.Cond.code ({ cls := "ParkingOfficeModel", name := "done", desc := "(I)I" } : Jvm.MethodName) prog_21_method_12_code (2 : Nat) (Option.some Jvm.ClassFile.FieldType.int)) ∈ lw_all := lw_g (lw_at lw_m14 91 rfl) rfl
theorem q3360 : (Jvm.Cond.instanceMethod ({ cls := "ParkingOfficeModel", name := "accept", desc := "(I)I" } : Jvm.MethodName)) ∈ lw_all := lw_g (lw_at lw_m14 93 rfl) rfl
theorem q3361 : (Jvm.Cond.selects "ParkingOfficeModel" ({ cls := "ParkingOfficeModel", name := "accept", desc := "(I)I" } : Jvm.MethodName) ({ cls := "ParkingOfficeModel", name := "accept", desc := "(I)I" } : Jvm.MethodName)) ∈ lw_all := lw_g (lw_at lw_m14 94 rfl) rfl
theorem q3362 : (Jvm.Cond.code ({ cls := "ParkingOfficeModel", name := "accept", desc := "(I)I" } : Jvm.MethodName) prog_21_method_41_code (2 : Nat) (Option.some Jvm.ClassFile.FieldType.int)) ∈ lw_all := lw_g (lw_at lw_m14 95 rfl) rfl
theorem q3363 : (Jvm.Cond.methodLink "ParkingOfficeModel" (176 : Nat) ({ cls := "ParkingOfficeModel", name := "isPermit", desc := "(I)Z" } : Jvm.MethodName)) ∈ lw_all := lw_g (lw_at lw_m14 96 rfl) rfl
theorem q3364 : (Jvm.Cond.privateMethod ({ cls := "ParkingOfficeModel", name := "isPermit", desc := "(I)Z" } : Jvm.MethodName)) ∈ lw_tbl := lw_at lw_m14 97 rfl
theorem q3365 : (Jvm.Cond.instanceMethod ({ cls := "ParkingOfficeModel", name := "isPermit", desc := "(I)Z" } : Jvm.MethodName)) ∈ lw_all := lw_g (lw_at lw_m14 98 rfl) rfl
theorem q3366 : (Jvm.Cond.code ({ cls := "ParkingOfficeModel", name := "isPermit", desc := "(I)Z" } : Jvm.MethodName) prog_21_method_34_code (2 : Nat) (Option.some Jvm.ClassFile.FieldType.boolean)) ∈ lw_all := lw_g (lw_at lw_m14 99 rfl) rfl
theorem q3368 : (Jvm.Cond.instanceMethod ({ cls := "ParkingOfficeModel", name := "renew", desc := "(I)I" } : Jvm.MethodName)) ∈ lw_all := lw_g (lw_at lw_m14 101 rfl) rfl
theorem q3369 : (Jvm.Cond.selects "ParkingOfficeModel" ({ cls := "ParkingOfficeModel", name := "renew", desc := "(I)I" } : Jvm.MethodName) ({ cls := "ParkingOfficeModel", name := "renew", desc := "(I)I" } : Jvm.MethodName)) ∈ lw_all := lw_g (lw_at lw_m14 102 rfl) rfl
theorem q3370 : (Jvm.Cond.code ({ cls := "ParkingOfficeModel", name := "renew", desc := "(I)I" } : Jvm.MethodName) prog_21_method_42_code (2 : Nat) (Option.some Jvm.ClassFile.FieldType.int)) ∈ lw_all := lw_g (lw_at lw_m14 103 rfl) rfl
theorem q3372 : (Jvm.Cond.instanceMethod ({ cls := "ParkingOfficeModel", name := "cancel", desc := "(I)I" } : Jvm.MethodName)) ∈ lw_all := lw_g (lw_at lw_m14 105 rfl) rfl
theorem q3373 : (Jvm.Cond.selects "ParkingOfficeModel" ({ cls := "ParkingOfficeModel", name := "cancel", desc := "(I)I" } : Jvm.MethodName) ({ cls := "ParkingOfficeModel", name := "cancel", desc := "(I)I" } : Jvm.MethodName)) ∈ lw_all := lw_g (lw_at lw_m14 106 rfl) rfl
theorem q3374 : (Jvm.Cond.code ({ cls := "ParkingOfficeModel", name := "cancel", desc := "(I)I" } : Jvm.MethodName) prog_21_method_43_code (3 : Nat) (Option.some Jvm.ClassFile.FieldType.int)) ∈ lw_all := lw_g (lw_at lw_m14 107 rfl) rfl
theorem q3376 : (Jvm.Cond.instanceMethod ({ cls := "ParkingOfficeModel", name := "permit", desc := "(II)I" } : Jvm.MethodName)) ∈ lw_all := lw_g (lw_at lw_m14 109 rfl) rfl
theorem q3377 : (Jvm.Cond.selects "ParkingOfficeModel" ({ cls := "ParkingOfficeModel", name := "permit", desc := "(II)I" } : Jvm.MethodName) ({ cls := "ParkingOfficeModel", name := "permit", desc := "(II)I" } : Jvm.MethodName)) ∈ lw_all := lw_g (lw_at lw_m14 110 rfl) rfl
theorem q3378 : (Jvm.Cond.code ({ cls := "ParkingOfficeModel", name := "permit", desc := "(II)I" } : Jvm.MethodName) prog_21_method_44_code (3 : Nat) (Option.some Jvm.ClassFile.FieldType.int)) ∈ lw_all := lw_g (lw_at lw_m14 111 rfl) rfl
theorem q3379 : (Jvm.Cond.constantLong "ParkingOfficeModel" (179 : Nat) (7 : Int64)) ∈ lw_all := lw_g (lw_at lw_m14 112 rfl) rfl
theorem q3381 : (Jvm.Cond.instanceMethod ({ cls := "ParkingOfficeModel", name := "waiting", desc := "(II)I" } : Jvm.MethodName)) ∈ lw_all := lw_g (lw_at lw_m14 114 rfl) rfl
theorem q3382 : (Jvm.Cond.selects "ParkingOfficeModel" ({ cls := "ParkingOfficeModel", name := "waiting", desc := "(II)I" } : Jvm.MethodName) ({ cls := "ParkingOfficeModel", name := "waiting", desc := "(II)I" } : Jvm.MethodName)) ∈ lw_all := lw_g (lw_at lw_m14 115 rfl) rfl
theorem q3383 : (Jvm.Cond.code ({ cls := "ParkingOfficeModel", name := "waiting", desc := "(II)I" } : Jvm.MethodName) prog_21_method_45_code (3 : Nat) (Option.some Jvm.ClassFile.FieldType.int)) ∈ lw_all := lw_g (lw_at lw_m14 116 rfl) rfl
theorem q3384 : (Jvm.Cond.methodLink "ParkingOfficeModel" (181 : Nat) ({ cls := "ParkingOfficeModel", name := "isZone", desc := "(I)Z" } : Jvm.MethodName)) ∈ lw_all := lw_g (lw_at lw_m14 117 rfl) rfl
theorem q3385 : (Jvm.Cond.privateMethod ({ cls := "ParkingOfficeModel", name := "isZone", desc := "(I)Z" } : Jvm.MethodName)) ∈ lw_tbl := lw_at lw_m14 118 rfl
theorem q3386 : (Jvm.Cond.instanceMethod ({ cls := "ParkingOfficeModel", name := "isZone", desc := "(I)Z" } : Jvm.MethodName)) ∈ lw_all := lw_g (lw_at lw_m14 119 rfl) rfl
theorem q3387 : (Jvm.Cond.code ({ cls := "ParkingOfficeModel", name := "isZone", desc := "(I)Z" } : Jvm.MethodName) prog_21_method_37_code (2 : Nat) (Option.some Jvm.ClassFile.FieldType.boolean)) ∈ lw_all := lw_g (lw_at lw_m14 120 rfl) rfl
theorem q3389 : (Jvm.Cond.instanceMethod ({ cls := "ParkingOfficeModel", name := "waitingPlace", desc := "(I)I" } : Jvm.MethodName)) ∈ lw_all := lw_g (lw_at lw_m14 122 rfl) rfl
theorem q3390 : (Jvm.Cond.selects "ParkingOfficeModel" ({ cls := "ParkingOfficeModel", name := "waitingPlace", desc := "(I)I" } : Jvm.MethodName) ({ cls := "ParkingOfficeModel", name := "waitingPlace", desc := "(I)I" } : Jvm.MethodName)) ∈ lw_all := lw_g (lw_at lw_m14 123 rfl) rfl
theorem q3391 : (Jvm.Cond.code ({ cls := "ParkingOfficeModel", name := "waitingPlace", desc := "(I)I" } : Jvm.MethodName) prog_21_method_46_code (2 : Nat) (Option.some Jvm.ClassFile.FieldType.int)) ∈ lw_all := lw_g (lw_at lw_m14 124 rfl) rfl
theorem q3393 : (Jvm.Cond.instanceMethod ({ cls := "ParkingOfficeModel", name := "permitOf", desc := "(I)I" } : Jvm.MethodName)) ∈ lw_all := lw_g (lw_at lw_m14 126 rfl) rfl
theorem q3394 : (Jvm.Cond.selects "ParkingOfficeModel" ({ cls := "ParkingOfficeModel", name := "permitOf", desc := "(I)I" } : Jvm.MethodName) ({ cls := "ParkingOfficeModel", name := "permitOf", desc := "(I)I" } : Jvm.MethodName)) ∈ lw_all := lw_g (lw_at lw_m14 127 rfl) rfl
theorem q3395 : (Jvm.Cond.code ({ cls := "ParkingOfficeModel", name := "permitOf", desc := "(I)I" } : Jvm.MethodName) prog_21_method_47_code (2 : Nat) (Option.some Jvm.ClassFile.FieldType.int)) ∈ lw_all := lw_g (lw_at lw_m14 128 rfl) rfl
theorem q3397 : (Jvm.Cond.instanceMethod ({ cls := "ParkingOfficeModel", name := "nextToExpire", desc := "(I)I" } : Jvm.MethodName)) ∈ lw_all := lw_g (lw_at lw_m14 130 rfl) rfl
theorem q3398 : (Jvm.Cond.selects "ParkingOfficeModel" ({ cls := "ParkingOfficeModel", name := "nextToExpire", desc := "(I)I" } : Jvm.MethodName) ({ cls := "ParkingOfficeModel", name := "nextToExpire", desc := "(I)I" } : Jvm.MethodName)) ∈ lw_all := lw_g (lw_at lw_m14 131 rfl) rfl
theorem q3399 : (Jvm.Cond.code ({ cls := "ParkingOfficeModel", name := "nextToExpire", desc := "(I)I" } : Jvm.MethodName) prog_21_method_48_code (4 : Nat) (Option.some Jvm.ClassFile.FieldType.int)) ∈ lw_all := lw_g (lw_at lw_m14 132 rfl) rfl
theorem q3401 : (Jvm.Cond.instanceMethod ({ cls := "ParkingOfficeModel", name := "admit", desc := "(III)I" } : Jvm.MethodName)) ∈ lw_all := lw_g (lw_at lw_m14 134 rfl) rfl
theorem q3402 : (Jvm.Cond.selects "ParkingOfficeModel" ({ cls := "ParkingOfficeModel", name := "admit", desc := "(III)I" } : Jvm.MethodName) ({ cls := "ParkingOfficeModel", name := "admit", desc := "(III)I" } : Jvm.MethodName)) ∈ lw_all := lw_g (lw_at lw_m14 135 rfl) rfl
theorem q3403 : (Jvm.Cond.code ({ cls := "ParkingOfficeModel", name := "admit", desc := "(III)I" } : Jvm.MethodName) prog_21_method_56_code (5 : Nat) (Option.some Jvm.ClassFile.FieldType.int)) ∈ lw_all := lw_g (lw_at lw_m14 136 rfl) rfl
theorem q3404 : (Jvm.Cond.methodLink "ParkingOfficeModel" (195 : Nat) ({ cls := "ParkingOfficeModel", name := "areHours", desc := "(I)Z" } : Jvm.MethodName)) ∈ lw_all := lw_g (lw_at lw_m14 137 rfl) rfl
theorem q3405 : (Jvm.Cond.static ({ cls := "ParkingOfficeModel", name := "areHours", desc := "(I)Z" } : Jvm.MethodName)) ∈ lw_all := lw_g (lw_at lw_m14 138 rfl) rfl
theorem q3406 : (Jvm.Cond.code ({ cls := "ParkingOfficeModel", name := "areHours", desc := "(I)Z" } : Jvm.MethodName) prog_21_method_55_code (1 : Nat) (Option.some Jvm.ClassFile.FieldType.boolean)) ∈ lw_all := lw_g (lw_at lw_m14 139 rfl) rfl
theorem q3407 : (Jvm.Cond.constantLong "ParkingOfficeModel" (193 : Nat) (24 : Int64)) ∈ lw_all := lw_g (lw_at lw_m14 140 rfl) rfl
theorem q3408 : (Jvm.Cond.methodLink "ParkingOfficeModel" (198 : Nat) ({ cls := "ParkingOfficeModel", name := "visitsOf", desc := "(I)I" } : Jvm.MethodName)) ∈ lw_all := lw_g (lw_at lw_m14 141 rfl) rfl
theorem q3409 : (Jvm.Cond.privateMethod ({ cls := "ParkingOfficeModel", name := "visitsOf", desc := "(I)I" } : Jvm.MethodName)) ∈ lw_tbl := lw_at lw_m14 142 rfl
theorem q3410 : (Jvm.Cond.instanceMethod ({ cls := "ParkingOfficeModel", name := "visitsOf", desc := "(I)I" } : Jvm.MethodName)) ∈ lw_all := lw_g (lw_at lw_m14 143 rfl) rfl
theorem q3411 : (Jvm.Cond.code ({ cls := "ParkingOfficeModel", name := "visitsOf", desc := "(I)I" } : Jvm.MethodName) prog_21_method_53_code (4 : Nat) (Option.some Jvm.ClassFile.FieldType.int)) ∈ lw_all := lw_g (lw_at lw_m14 144 rfl) rfl
theorem q3412 : (Jvm.Cond.methodLink "ParkingOfficeModel" (187 : Nat) ({ cls := "ParkingOfficeModel", name := "ofVisit", desc := "(II)I" } : Jvm.MethodName)) ∈ lw_all := lw_g (lw_at lw_m14 145 rfl) rfl
theorem q3413 : (Jvm.Cond.privateMethod ({ cls := "ParkingOfficeModel", name := "ofVisit", desc := "(II)I" } : Jvm.MethodName)) ∈ lw_tbl := lw_at lw_m14 146 rfl
theorem q3414 : (Jvm.Cond.instanceMethod ({ cls := "ParkingOfficeModel", name := "ofVisit", desc := "(II)I" } : Jvm.MethodName)) ∈ lw_all := lw_g (lw_at lw_m14 147 rfl) rfl
theorem q3415 : (Jvm.Cond.code ({ cls := "ParkingOfficeModel", name := "ofVisit", desc := "(II)I" } : Jvm.MethodName) prog_21_method_50_code (3 : Nat) (Option.some Jvm.ClassFile.FieldType.int)) ∈ lw_all := lw_g (lw_at lw_m14 148 rfl) rfl
theorem q3416 : (Jvm.Cond.methodLink "ParkingOfficeModel" (184 : Nat) ({ cls := "ParkingOfficeModel", name := "visitAt", desc := "(II)I" } : Jvm.MethodName)) ∈ lw_all := lw_g (lw_at lw_m14 149 rfl) rfl
theorem q3417 : (Jvm.Cond.privateMethod ({ cls := "ParkingOfficeModel", name := "visitAt", desc := "(II)I" } : Jvm.MethodName)) ∈ lw_tbl := lw_at lw_m14 150 rfl
theorem q3418 : (Jvm.Cond.instanceMethod ({ cls := "ParkingOfficeModel", name := "visitAt", desc := "(II)I" } : Jvm.MethodName)) ∈ lw_all := lw_g (lw_at lw_m14 151 rfl) rfl
theorem q3419 : (Jvm.Cond.code ({ cls := "ParkingOfficeModel", name := "visitAt", desc := "(II)I" } : Jvm.MethodName) prog_21_method_49_code (3 : Nat) (Option.some Jvm.ClassFile.FieldType.int)) ∈ lw_all := lw_g (lw_at lw_m14 152 rfl) rfl
theorem q3420 : (Jvm.Cond.methodLink "ParkingOfficeModel" (190 : Nat) ({ cls := "ParkingOfficeModel", name := "runs", desc := "(I)Z" } : Jvm.MethodName)) ∈ lw_all := lw_g (lw_at lw_m14 153 rfl) rfl
theorem q3421 : (Jvm.Cond.privateMethod ({ cls := "ParkingOfficeModel", name := "runs", desc := "(I)Z" } : Jvm.MethodName)) ∈ lw_tbl := lw_at lw_m14 154 rfl
theorem q3422 : (Jvm.Cond.instanceMethod ({ cls := "ParkingOfficeModel", name := "runs", desc := "(I)Z" } : Jvm.MethodName)) ∈ lw_all := lw_g (lw_at lw_m14 155 rfl) rfl
theorem q3423 : (Jvm.Cond.code ({ cls := "ParkingOfficeModel", name := "runs", desc := "(I)Z" } : Jvm.MethodName) prog_21_method_52_code (2 : Nat) (Option.some Jvm.ClassFile.FieldType.boolean)) ∈ lw_all := lw_g (lw_at lw_m14 156 rfl) rfl
theorem q3424 : (Jvm.Cond.methodLink "ParkingOfficeModel" (201 : Nat) ({ cls := "ParkingOfficeModel", name := "isVisiting", desc := "(I)Z" } : Jvm.MethodName)) ∈ lw_all := lw_g (lw_at lw_m14 157 rfl) rfl
theorem q3425 : (Jvm.Cond.privateMethod ({ cls := "ParkingOfficeModel", name := "isVisiting", desc := "(I)Z" } : Jvm.MethodName)) ∈ lw_tbl := lw_at lw_m14 158 rfl
theorem q3426 : (Jvm.Cond.instanceMethod ({ cls := "ParkingOfficeModel", name := "isVisiting", desc := "(I)Z" } : Jvm.MethodName)) ∈ lw_all := lw_g (lw_at lw_m14 159 rfl) rfl
theorem q3427 : (Jvm.Cond.code ({ cls := "ParkingOfficeModel", name := "isVisiting", desc := "(I)Z" } : Jvm.MethodName) prog_21_method_54_code (3 : Nat) (Option.some Jvm.ClassFile.FieldType.boolean)) ∈ lw_all := lw_g (lw_at lw_m14 160 rfl) rfl
theorem q3429 : (Jvm.Cond.instanceMethod ({ cls := "ParkingOfficeModel", name := "extend", desc := "(II)I" } : Jvm.MethodName)) ∈ lw_all := lw_g (lw_at lw_m14 162 rfl) rfl
theorem q3430 : (Jvm.Cond.selects "ParkingOfficeModel" ({ cls := "ParkingOfficeModel", name := "extend", desc := "(II)I" } : Jvm.MethodName) ({ cls := "ParkingOfficeModel", name := "extend", desc := "(II)I" } : Jvm.MethodName)) ∈ lw_all := lw_g (lw_at lw_m14 163 rfl) rfl
theorem q3431 : (Jvm.Cond.code ({ cls := "ParkingOfficeModel", name := "extend", desc := "(II)I" } : Jvm.MethodName) prog_21_method_57_code (4 : Nat) (Option.some Jvm.ClassFile.FieldType.int)) ∈ lw_all := lw_g (lw_at lw_m14 164 rfl) rfl
theorem q3432 : (Jvm.Cond.methodLink "ParkingOfficeModel" (204 : Nat) ({ cls := "ParkingOfficeModel", name := "isVisit", desc := "(I)Z" } : Jvm.MethodName)) ∈ lw_all := lw_g (lw_at lw_m14 165 rfl) rfl
theorem q3433 : (Jvm.Cond.privateMethod ({ cls := "ParkingOfficeModel", name := "isVisit", desc := "(I)Z" } : Jvm.MethodName)) ∈ lw_tbl := lw_at lw_m14 166 rfl
theorem q3434 : (Jvm.Cond.instanceMethod ({ cls := "ParkingOfficeModel", name := "isVisit", desc := "(I)Z" } : Jvm.MethodName)) ∈ lw_all := lw_g (lw_at lw_m14 167 rfl) rfl
theorem q3435 : (Jvm.Cond.code ({ cls := "ParkingOfficeModel", name := "isVisit", desc := "(I)Z" } : Jvm.MethodName) prog_21_method_51_code (2 : Nat) (Option.some Jvm.ClassFile.FieldType.boolean)) ∈ lw_all := lw_g (lw_at lw_m14 168 rfl) rfl
theorem q3437 : (Jvm.Cond.instanceMethod ({ cls := "ParkingOfficeModel", name := "endVisit", desc := "(I)I" } : Jvm.MethodName)) ∈ lw_all := lw_g (lw_at lw_m14 170 rfl) rfl
theorem q3438 : (Jvm.Cond.selects "ParkingOfficeModel" ({ cls := "ParkingOfficeModel", name := "endVisit", desc := "(I)I" } : Jvm.MethodName) ({ cls := "ParkingOfficeModel", name := "endVisit", desc := "(I)I" } : Jvm.MethodName)) ∈ lw_all := lw_g (lw_at lw_m14 171 rfl) rfl
theorem q3439 : (Jvm.Cond.code ({ cls := "ParkingOfficeModel", name := "endVisit", desc := "(I)I" } : Jvm.MethodName) prog_21_method_58_code (4 : Nat) (Option.some Jvm.ClassFile.FieldType.int)) ∈ lw_all := lw_g (lw_at lw_m14 172 rfl) rfl
theorem q3441 : (Jvm.Cond.instanceMethod ({ cls := "ParkingOfficeModel", name := "visit", desc := "(II)I" } : Jvm.MethodName)) ∈ lw_all := lw_g (lw_at lw_m14 174 rfl) rfl
theorem q3442 : (Jvm.Cond.selects "ParkingOfficeModel" ({ cls := "ParkingOfficeModel", name := "visit", desc := "(II)I" } : Jvm.MethodName) ({ cls := "ParkingOfficeModel", name := "visit", desc := "(II)I" } : Jvm.MethodName)) ∈ lw_all := lw_g (lw_at lw_m14 175 rfl) rfl
theorem q3443 : (Jvm.Cond.code ({ cls := "ParkingOfficeModel", name := "visit", desc := "(II)I" } : Jvm.MethodName) prog_21_method_59_code (3 : Nat) (Option.some Jvm.ClassFile.FieldType.int)) ∈ lw_all := lw_g (lw_at lw_m14 176 rfl) rfl
theorem q3444 : (Jvm.Cond.constantLong "ParkingOfficeModel" (207 : Nat) (4 : Int64)) ∈ lw_all := lw_g (lw_at lw_m14 177 rfl) rfl
theorem q3446 : (Jvm.Cond.instanceMethod ({ cls := "ParkingOfficeModel", name := "park", desc := "(II)I" } : Jvm.MethodName)) ∈ lw_all := lw_g (lw_at lw_m14 179 rfl) rfl
theorem q3447 : (Jvm.Cond.selects "ParkingOfficeModel" ({ cls := "ParkingOfficeModel", name := "park", desc := "(II)I" } : Jvm.MethodName) ({ cls := "ParkingOfficeModel", name := "park", desc := "(II)I" } : Jvm.MethodName)) ∈ lw_all := lw_g (lw_at lw_m14 180 rfl) rfl
theorem q3448 : (Jvm.Cond.code ({ cls := "ParkingOfficeModel", name := "park", desc := "(II)I" } : Jvm.MethodName) prog_21_method_65_code (4 : Nat) (Option.some Jvm.ClassFile.FieldType.int)) ∈ lw_all := lw_g (lw_at lw_m14 181 rfl) rfl
theorem q3449 : (Jvm.Cond.methodLink "ParkingOfficeModel" (218 : Nat) ({ cls := "ParkingOfficeModel", name := "isStreet", desc := "(I)Z" } : Jvm.MethodName)) ∈ lw_all := lw_g (lw_at lw_m14 182 rfl) rfl
theorem q3450 : (Jvm.Cond.privateMethod ({ cls := "ParkingOfficeModel", name := "isStreet", desc := "(I)Z" } : Jvm.MethodName)) ∈ lw_tbl := lw_at lw_m14 183 rfl
theorem q3451 : (Jvm.Cond.instanceMethod ({ cls := "ParkingOfficeModel", name := "isStreet", desc := "(I)Z" } : Jvm.MethodName)) ∈ lw_all := lw_g (lw_at lw_m14 184 rfl) rfl
theorem q3452 : (Jvm.Cond.code ({ cls := "ParkingOfficeModel", name := "isStreet", desc := "(I)Z" } : Jvm.MethodName) prog_21_method_36_code (2 : Nat) (Option.some Jvm.ClassFile.FieldType.boolean)) ∈ lw_all := lw_g (lw_at lw_m14 185 rfl) rfl
theorem q3453 : (Jvm.Cond.methodLink "ParkingOfficeModel" (221 : Nat) ({ cls := "ParkingOfficeModel", name := "carOf", desc := "(I)I" } : Jvm.MethodName)) ∈ lw_all := lw_g (lw_at lw_m14 186 rfl) rfl
theorem q3454 : (Jvm.Cond.privateMethod ({ cls := "ParkingOfficeModel", name := "carOf", desc := "(I)I" } : Jvm.MethodName)) ∈ lw_tbl := lw_at lw_m14 187 rfl
theorem q3455 : (Jvm.Cond.instanceMethod ({ cls := "ParkingOfficeModel", name := "carOf", desc := "(I)I" } : Jvm.MethodName)) ∈ lw_all := lw_g (lw_at lw_m14 188 rfl) rfl
theorem q3456 : (Jvm.Cond.code ({ cls := "ParkingOfficeModel", name := "carOf", desc := "(I)I" } : Jvm.MethodName) prog_21_method_62_code (3 : Nat) (Option.some Jvm.ClassFile.FieldType.int)) ∈ lw_all := lw_g (lw_at lw_m14 189 rfl) rfl
theorem q3457 : (Jvm.Cond.methodLink "ParkingOfficeModel" (212 : Nat) ({ cls := "ParkingOfficeModel", name := "ofCar", desc := "(II)I" } : Jvm.MethodName)) ∈ lw_all := lw_g (lw_at lw_m14 190 rfl) rfl
theorem q3458 : (Jvm.Cond.privateMethod ({ cls := "ParkingOfficeModel", name := "ofCar", desc := "(II)I" } : Jvm.MethodName)) ∈ lw_tbl := lw_at lw_m14 191 rfl
theorem q3459 : (Jvm.Cond.instanceMethod ({ cls := "ParkingOfficeModel", name := "ofCar", desc := "(II)I" } : Jvm.MethodName)) ∈ lw_all := lw_g (lw_at lw_m14 192 rfl) rfl
theorem q3460 : (Jvm.Cond.code ({ cls := "ParkingOfficeModel", name := "ofCar", desc := "(II)I" } : Jvm.MethodName) prog_21_method_61_code (3 : Nat) (Option.some Jvm.ClassFile.FieldType.int)) ∈ lw_all := lw_g (lw_at lw_m14 193 rfl) rfl
theorem q3461 : (Jvm.Cond.methodLink "ParkingOfficeModel" (209 : Nat) ({ cls := "ParkingOfficeModel", name := "carAt", desc := "(II)I" } : Jvm.MethodName)) ∈ lw_all := lw_g (lw_at lw_m14 194 rfl) rfl
theorem q3462 : (Jvm.Cond.privateMethod ({ cls := "ParkingOfficeModel", name := "carAt", desc := "(II)I" } : Jvm.MethodName)) ∈ lw_tbl := lw_at lw_m14 195 rfl
theorem q3463 : (Jvm.Cond.instanceMethod ({ cls := "ParkingOfficeModel", name := "carAt", desc := "(II)I" } : Jvm.MethodName)) ∈ lw_all := lw_g (lw_at lw_m14 196 rfl) rfl
theorem q3464 : (Jvm.Cond.code ({ cls := "ParkingOfficeModel", name := "carAt", desc := "(II)I" } : Jvm.MethodName) prog_21_method_60_code (3 : Nat) (Option.some Jvm.ClassFile.FieldType.int)) ∈ lw_all := lw_g (lw_at lw_m14 197 rfl) rfl
theorem q3465 : (Jvm.Cond.methodLink "ParkingOfficeModel" (224 : Nat) ({ cls := "ParkingOfficeModel", name := "freeIn", desc := "(I)I" } : Jvm.MethodName)) ∈ lw_all := lw_g (lw_at lw_m14 198 rfl) rfl
theorem q3466 : (Jvm.Cond.privateMethod ({ cls := "ParkingOfficeModel", name := "freeIn", desc := "(I)I" } : Jvm.MethodName)) ∈ lw_tbl := lw_at lw_m14 199 rfl
theorem q3467 : (Jvm.Cond.instanceMethod ({ cls := "ParkingOfficeModel", name := "freeIn", desc := "(I)I" } : Jvm.MethodName)) ∈ lw_all := lw_g (lw_at lw_m14 200 rfl) rfl
theorem q3468 : (Jvm.Cond.code ({ cls := "ParkingOfficeModel", name := "freeIn", desc := "(I)I" } : Jvm.MethodName) prog_21_method_64_code (2 : Nat) (Option.some Jvm.ClassFile.FieldType.int)) ∈ lw_all := lw_g (lw_at lw_m14 201 rfl) rfl
theorem q3469 : (Jvm.Cond.methodLink "ParkingOfficeModel" (215 : Nat) ({ cls := "ParkingOfficeModel", name := "carsIn", desc := "(I)I" } : Jvm.MethodName)) ∈ lw_all := lw_g (lw_at lw_m14 202 rfl) rfl
theorem q3470 : (Jvm.Cond.privateMethod ({ cls := "ParkingOfficeModel", name := "carsIn", desc := "(I)I" } : Jvm.MethodName)) ∈ lw_tbl := lw_at lw_m14 203 rfl
theorem q3471 : (Jvm.Cond.instanceMethod ({ cls := "ParkingOfficeModel", name := "carsIn", desc := "(I)I" } : Jvm.MethodName)) ∈ lw_all := lw_g (lw_at lw_m14 204 rfl) rfl
theorem q3472 : (Jvm.Cond.code ({ cls := "ParkingOfficeModel", name := "carsIn", desc := "(I)I" } : Jvm.MethodName) prog_21_method_63_code (4 : Nat) (Option.some Jvm.ClassFile.FieldType.int)) ∈ lw_all := lw_g (lw_at lw_m14 205 rfl) rfl
theorem q3474 : (Jvm.Cond.instanceMethod ({ cls := "ParkingOfficeModel", name := "leave", desc := "(I)I" } : Jvm.MethodName)) ∈ lw_all := lw_g (lw_at lw_m14 207 rfl) rfl
theorem q3475 : (Jvm.Cond.selects "ParkingOfficeModel" ({ cls := "ParkingOfficeModel", name := "leave", desc := "(I)I" } : Jvm.MethodName) ({ cls := "ParkingOfficeModel", name := "leave", desc := "(I)I" } : Jvm.MethodName)) ∈ lw_all := lw_g (lw_at lw_m14 208 rfl) rfl
theorem q3476 : (Jvm.Cond.code ({ cls := "ParkingOfficeModel", name := "leave", desc := "(I)I" } : Jvm.MethodName) prog_21_method_66_code (5 : Nat) (Option.some Jvm.ClassFile.FieldType.int)) ∈ lw_all := lw_g (lw_at lw_m14 209 rfl) rfl
theorem q3478 : (Jvm.Cond.instanceMethod ({ cls := "ParkingOfficeModel", name := "car", desc := "(II)I" } : Jvm.MethodName)) ∈ lw_all := lw_g (lw_at lw_m14 211 rfl) rfl
theorem q3479 : (Jvm.Cond.selects "ParkingOfficeModel" ({ cls := "ParkingOfficeModel", name := "car", desc := "(II)I" } : Jvm.MethodName) ({ cls := "ParkingOfficeModel", name := "car", desc := "(II)I" } : Jvm.MethodName)) ∈ lw_all := lw_g (lw_at lw_m14 212 rfl) rfl
theorem q3480 : (Jvm.Cond.code ({ cls := "ParkingOfficeModel", name := "car", desc := "(II)I" } : Jvm.MethodName) prog_21_method_67_code (5 : Nat) (Option.some Jvm.ClassFile.FieldType.int)) ∈ lw_all := lw_g (lw_at lw_m14 213 rfl) rfl
theorem q3482 : (Jvm.Cond.instanceMethod ({ cls := "ParkingOfficeModel", name := "streetOf", desc := "(I)I" } : Jvm.MethodName)) ∈ lw_all := lw_g (lw_at lw_m14 215 rfl) rfl
theorem q3483 : (Jvm.Cond.selects "ParkingOfficeModel" ({ cls := "ParkingOfficeModel", name := "streetOf", desc := "(I)I" } : Jvm.MethodName) ({ cls := "ParkingOfficeModel", name := "streetOf", desc := "(I)I" } : Jvm.MethodName)) ∈ lw_all := lw_g (lw_at lw_m14 216 rfl) rfl
theorem q3484 : (Jvm.Cond.code ({ cls := "ParkingOfficeModel", name := "streetOf", desc := "(I)I" } : Jvm.MethodName) prog_21_method_68_code (3 : Nat) (Option.some Jvm.ClassFile.FieldType.int)) ∈ lw_all := lw_g (lw_at lw_m14 217 rfl) rfl
theorem q3486 : (Jvm.Cond.instanceMethod ({ cls := "ParkingOfficeModel", name := "rule", desc := "(II)I" } : Jvm.MethodName)) ∈ lw_all := lw_g (lw_at lw_m14 219 rfl) rfl
theorem q3487 : (Jvm.Cond.selects "ParkingOfficeModel" ({ cls := "ParkingOfficeModel", name := "rule", desc := "(II)I" } : Jvm.MethodName) ({ cls := "ParkingOfficeModel", name := "rule", desc := "(II)I" } : Jvm.MethodName)) ∈ lw_all := lw_g (lw_at lw_m14 220 rfl) rfl
theorem q3488 : (Jvm.Cond.code ({ cls := "ParkingOfficeModel", name := "rule", desc := "(II)I" } : Jvm.MethodName) prog_21_method_76_code (3 : Nat) (Option.some Jvm.ClassFile.FieldType.int)) ∈ lw_all := lw_g (lw_at lw_m14 221 rfl) rfl
theorem q3489 : (Jvm.Cond.methodLink "ParkingOfficeModel" (247 : Nat) ({ cls := "ParkingOfficeModel", name := "ruleOf", desc := "(II)I" } : Jvm.MethodName)) ∈ lw_all := lw_g (lw_at lw_m14 222 rfl) rfl
theorem q3490 : (Jvm.Cond.privateMethod ({ cls := "ParkingOfficeModel", name := "ruleOf", desc := "(II)I" } : Jvm.MethodName)) ∈ lw_tbl := lw_at lw_m14 223 rfl
theorem q3491 : (Jvm.Cond.instanceMethod ({ cls := "ParkingOfficeModel", name := "ruleOf", desc := "(II)I" } : Jvm.MethodName)) ∈ lw_all := lw_g (lw_at lw_m14 224 rfl) rfl
theorem q3492 : (Jvm.Cond.code ({ cls := "ParkingOfficeModel", name := "ruleOf", desc := "(II)I" } : Jvm.MethodName) prog_21_method_75_code (3 : Nat) (Option.some Jvm.ClassFile.FieldType.int)) ∈ lw_all := lw_g (lw_at lw_m14 225 rfl) rfl
theorem q3493 : (Jvm.Cond.methodLink "ParkingOfficeModel" (244 : Nat) ({ cls := "ParkingOfficeModel", name := "isAllowed", desc := "(II)Z" } : Jvm.MethodName)) ∈ lw_all := lw_g (lw_at lw_m14 226 rfl) rfl
theorem q3494 : (Jvm.Cond.privateMethod ({ cls := "ParkingOfficeModel", name := "isAllowed", desc := "(II)Z" } : Jvm.MethodName)) ∈ lw_tbl := lw_at lw_m14 227 rfl
theorem q3495 : (Jvm.Cond.instanceMethod ({ cls := "ParkingOfficeModel", name := "isAllowed", desc := "(II)Z" } : Jvm.MethodName)) ∈ lw_all := lw_g (lw_at lw_m14 228 rfl) rfl
theorem q3496 : (Jvm.Cond.code ({ cls := "ParkingOfficeModel", name := "isAllowed", desc := "(II)Z" } : Jvm.MethodName) prog_21_method_74_code (3 : Nat) (Option.some Jvm.ClassFile.FieldType.boolean)) ∈ lw_all := lw_g (lw_at lw_m14 229 rfl) rfl
theorem q3497 : (Jvm.Cond.methodLink "ParkingOfficeModel" (234 : Nat) ({ cls := "ParkingOfficeModel", name := "isInHours", desc := "(I)Z" } : Jvm.MethodName)) ∈ lw_all := lw_g (lw_at lw_m14 230 rfl) rfl
theorem q3498 : (Jvm.Cond.privateMethod ({ cls := "ParkingOfficeModel", name := "isInHours", desc := "(I)Z" } : Jvm.MethodName)) ∈ lw_tbl := lw_at lw_m14 231 rfl
theorem q3499 : (Jvm.Cond.instanceMethod ({ cls := "ParkingOfficeModel", name := "isInHours", desc := "(I)Z" } : Jvm.MethodName)) ∈ lw_all := lw_g (lw_at lw_m14 232 rfl) rfl
theorem q3500 : (Jvm.Cond.code ({ cls := "ParkingOfficeModel", name := "isInHours", desc := "(I)Z" } : Jvm.MethodName) prog_21_method_73_code (4 : Nat) (Option.some Jvm.ClassFile.FieldType.boolean)) ∈ lw_all := lw_g (lw_at lw_m14 233 rfl) rfl
theorem q3501 : (Jvm.Cond.methodLink "ParkingOfficeModel" (237 : Nat) ({ cls := "ParkingOfficeModel", name := "hasThere", desc := "(III)Z" } : Jvm.MethodName)) ∈ lw_all := lw_g (lw_at lw_m14 234 rfl) rfl
theorem q3502 : (Jvm.Cond.privateMethod ({ cls := "ParkingOfficeModel", name := "hasThere", desc := "(III)Z" } : Jvm.MethodName)) ∈ lw_tbl := lw_at lw_m14 235 rfl
theorem q3503 : (Jvm.Cond.instanceMethod ({ cls := "ParkingOfficeModel", name := "hasThere", desc := "(III)Z" } : Jvm.MethodName)) ∈ lw_all := lw_g (lw_at lw_m14 236 rfl) rfl
theorem q3504 : (Jvm.Cond.code ({ cls := "ParkingOfficeModel", name := "hasThere", desc := "(III)Z" } : Jvm.MethodName) prog_21_method_71_code (5 : Nat) (Option.some Jvm.ClassFile.FieldType.boolean)) ∈ lw_all := lw_g (lw_at lw_m14 237 rfl) rfl
theorem q3505 : (Jvm.Cond.methodLink "ParkingOfficeModel" (227 : Nat) ({ cls := "ParkingOfficeModel", name := "secondOf", desc := "(I)I" } : Jvm.MethodName)) ∈ lw_all := lw_g (lw_at lw_m14 238 rfl) rfl
theorem q3506 : (Jvm.Cond.privateMethod ({ cls := "ParkingOfficeModel", name := "secondOf", desc := "(I)I" } : Jvm.MethodName)) ∈ lw_tbl := lw_at lw_m14 239 rfl
theorem q3507 : (Jvm.Cond.instanceMethod ({ cls := "ParkingOfficeModel", name := "secondOf", desc := "(I)I" } : Jvm.MethodName)) ∈ lw_all := lw_g (lw_at lw_m15 0 rfl) rfl
theorem q3508 : (Jvm.Cond.code ({ cls := "ParkingOfficeModel", name := "secondOf", desc := "(I)I" } : Jvm.MethodName) prog_21_method_69_code (2 : Nat) (Option.some Jvm.ClassFile.FieldType.int)) ∈ lw_all := lw_g (lw_at lw_m15 1 rfl) rfl
theorem q3509 : (Jvm.Cond.methodLink "ParkingOfficeModel" (230 : Nat) ({ cls := "ParkingOfficeModel", name := "hasPermit", desc := "(III)Z" } : Jvm.MethodName)) ∈ lw_all := lw_g (lw_at lw_m15 2 rfl) rfl
theorem q3510 : (Jvm.Cond.privateMethod ({ cls := "ParkingOfficeModel", name := "hasPermit", desc := "(III)Z" } : Jvm.MethodName)) ∈ lw_tbl := lw_at lw_m15 3 rfl
theorem q3511 : (Jvm.Cond.instanceMethod ({ cls := "ParkingOfficeModel", name := "hasPermit", desc := "(III)Z" } : Jvm.MethodName)) ∈ lw_all := lw_g (lw_at lw_m15 4 rfl) rfl
theorem q3512 : (Jvm.Cond.code ({ cls := "ParkingOfficeModel", name := "hasPermit", desc := "(III)Z" } : Jvm.MethodName) prog_21_method_70_code (5 : Nat) (Option.some Jvm.ClassFile.FieldType.boolean)) ∈ lw_all := lw_g (lw_at lw_m15 5 rfl) rfl
theorem q3513 : (Jvm.Cond.methodLink "ParkingOfficeModel" (240 : Nat) ({ cls := "ParkingOfficeModel", name := "hasVisit", desc := "(IIZ)Z" } : Jvm.MethodName)) ∈ lw_all := lw_g (lw_at lw_m15 6 rfl) rfl
theorem q3514 : (Jvm.Cond.privateMethod ({ cls := "ParkingOfficeModel", name := "hasVisit", desc := "(IIZ)Z" } : Jvm.MethodName)) ∈ lw_tbl := lw_at lw_m15 7 rfl
theorem q3515 : (Jvm.Cond.instanceMethod ({ cls := "ParkingOfficeModel", name := "hasVisit", desc := "(IIZ)Z" } : Jvm.MethodName)) ∈ lw_all := lw_g (lw_at lw_m15 8 rfl) rfl
theorem q3516 : (Jvm.Cond.code ({ cls := "ParkingOfficeModel", name := "hasVisit", desc := "(IIZ)Z" } : Jvm.MethodName) prog_21_method_72_code (5 : Nat) (Option.some Jvm.ClassFile.FieldType.boolean)) ∈ lw_all := lw_g (lw_at lw_m15 9 rfl) rfl
theorem q3518 : (Jvm.Cond.instanceMethod ({ cls := "ParkingOfficeModel", name := "bestStreet", desc := "(I)I" } : Jvm.MethodName)) ∈ lw_all := lw_g (lw_at lw_m15 11 rfl) rfl
theorem q3519 : (Jvm.Cond.selects "ParkingOfficeModel" ({ cls := "ParkingOfficeModel", name := "bestStreet", desc := "(I)I" } : Jvm.MethodName) ({ cls := "ParkingOfficeModel", name := "bestStreet", desc := "(I)I" } : Jvm.MethodName)) ∈ lw_all := lw_g (lw_at lw_m15 12 rfl) rfl
theorem q3520 : (Jvm.Cond.code ({ cls := "ParkingOfficeModel", name := "bestStreet", desc := "(I)I" } : Jvm.MethodName) prog_21_method_77_code (4 : Nat) (Option.some Jvm.ClassFile.FieldType.int)) ∈ lw_all := lw_g (lw_at lw_m15 13 rfl) rfl
theorem q3522 : (Jvm.Cond.instanceMethod ({ cls := "ParkingOfficeModel", name := "inspect", desc := "(I)I" } : Jvm.MethodName)) ∈ lw_all := lw_g (lw_at lw_m15 15 rfl) rfl
theorem q3523 : (Jvm.Cond.selects "ParkingOfficeModel" ({ cls := "ParkingOfficeModel", name := "inspect", desc := "(I)I" } : Jvm.MethodName) ({ cls := "ParkingOfficeModel", name := "inspect", desc := "(I)I" } : Jvm.MethodName)) ∈ lw_all := lw_g (lw_at lw_m15 16 rfl) rfl
theorem q3524 : (Jvm.Cond.code ({ cls := "ParkingOfficeModel", name := "inspect", desc := "(I)I" } : Jvm.MethodName) prog_21_method_84_code (6 : Nat) (Option.some Jvm.ClassFile.FieldType.int)) ∈ lw_all := lw_g (lw_at lw_m15 17 rfl) rfl
theorem q3525 : (Jvm.Cond.methodLink "ParkingOfficeModel" (259 : Nat) ({ cls := "ParkingOfficeModel", name := "finedBy", desc := "(I)I" } : Jvm.MethodName)) ∈ lw_all := lw_g (lw_at lw_m15 18 rfl) rfl
theorem q3526 : (Jvm.Cond.privateMethod ({ cls := "ParkingOfficeModel", name := "finedBy", desc := "(I)I" } : Jvm.MethodName)) ∈ lw_tbl := lw_at lw_m15 19 rfl
theorem q3527 : (Jvm.Cond.instanceMethod ({ cls := "ParkingOfficeModel", name := "finedBy", desc := "(I)I" } : Jvm.MethodName)) ∈ lw_all := lw_g (lw_at lw_m15 20 rfl) rfl
theorem q3528 : (Jvm.Cond.code ({ cls := "ParkingOfficeModel", name := "finedBy", desc := "(I)I" } : Jvm.MethodName) prog_21_method_82_code (4 : Nat) (Option.some Jvm.ClassFile.FieldType.int)) ∈ lw_all := lw_g (lw_at lw_m15 21 rfl) rfl
theorem q3529 : (Jvm.Cond.methodLink "ParkingOfficeModel" (256 : Nat) ({ cls := "ParkingOfficeModel", name := "wasJustFined", desc := "(I)Z" } : Jvm.MethodName)) ∈ lw_all := lw_g (lw_at lw_m15 22 rfl) rfl
theorem q3530 : (Jvm.Cond.privateMethod ({ cls := "ParkingOfficeModel", name := "wasJustFined", desc := "(I)Z" } : Jvm.MethodName)) ∈ lw_tbl := lw_at lw_m15 23 rfl
theorem q3531 : (Jvm.Cond.instanceMethod ({ cls := "ParkingOfficeModel", name := "wasJustFined", desc := "(I)Z" } : Jvm.MethodName)) ∈ lw_all := lw_g (lw_at lw_m15 24 rfl) rfl
theorem q3532 : (Jvm.Cond.code ({ cls := "ParkingOfficeModel", name := "wasJustFined", desc := "(I)Z" } : Jvm.MethodName) prog_21_method_81_code (3 : Nat) (Option.some Jvm.ClassFile.FieldType.boolean)) ∈ lw_all := lw_g (lw_at lw_m15 25 rfl) rfl
theorem q3533 : (Jvm.Cond.methodLink "ParkingOfficeModel" (253 : Nat) ({ cls := "ParkingOfficeModel", name := "ofFine", desc := "(II)I" } : Jvm.MethodName)) ∈ lw_all := lw_g (lw_at lw_m15 26 rfl) rfl
theorem q3534 : (Jvm.Cond.privateMethod ({ cls := "ParkingOfficeModel", name := "ofFine", desc := "(II)I" } : Jvm.MethodName)) ∈ lw_tbl := lw_at lw_m15 27 rfl
theorem q3535 : (Jvm.Cond.instanceMethod ({ cls := "ParkingOfficeModel", name := "ofFine", desc := "(II)I" } : Jvm.MethodName)) ∈ lw_all := lw_g (lw_at lw_m15 28 rfl) rfl
theorem q3536 : (Jvm.Cond.code ({ cls := "ParkingOfficeModel", name := "ofFine", desc := "(II)I" } : Jvm.MethodName) prog_21_method_79_code (3 : Nat) (Option.some Jvm.ClassFile.FieldType.int)) ∈ lw_all := lw_g (lw_at lw_m15 29 rfl) rfl
theorem q3537 : (Jvm.Cond.methodLink "ParkingOfficeModel" (250 : Nat) ({ cls := "ParkingOfficeModel", name := "fineAt", desc := "(II)I" } : Jvm.MethodName)) ∈ lw_all := lw_g (lw_at lw_m15 30 rfl) rfl
theorem q3538 : (Jvm.Cond.privateMethod ({ cls := "ParkingOfficeModel", name := "fineAt", desc := "(II)I" } : Jvm.MethodName)) ∈ lw_tbl := lw_at lw_m15 31 rfl
theorem q3539 : (Jvm.Cond.instanceMethod ({ cls := "ParkingOfficeModel", name := "fineAt", desc := "(II)I" } : Jvm.MethodName)) ∈ lw_all := lw_g (lw_at lw_m15 32 rfl) rfl
theorem q3540 : (Jvm.Cond.code ({ cls := "ParkingOfficeModel", name := "fineAt", desc := "(II)I" } : Jvm.MethodName) prog_21_method_78_code (3 : Nat) (Option.some Jvm.ClassFile.FieldType.int)) ∈ lw_all := lw_g (lw_at lw_m15 33 rfl) rfl
theorem q3542 : (Jvm.Cond.instanceMethod ({ cls := "ParkingOfficeModel", name := "appeal", desc := "(I)Z" } : Jvm.MethodName)) ∈ lw_all := lw_g (lw_at lw_m15 35 rfl) rfl
theorem q3543 : (Jvm.Cond.selects "ParkingOfficeModel" ({ cls := "ParkingOfficeModel", name := "appeal", desc := "(I)Z" } : Jvm.MethodName) ({ cls := "ParkingOfficeModel", name := "appeal", desc := "(I)Z" } : Jvm.MethodName)) ∈ lw_all := lw_g (lw_at lw_m15 36 rfl) rfl
theorem q3544 : (Jvm.Cond.code ({ cls := "ParkingOfficeModel", name := "appeal", desc := "(I)Z" } : Jvm.MethodName) prog_21_method_85_code (4 : Nat) (Option.some Jvm.ClassFile.FieldType.boolean)) ∈ lw_all := lw_g (lw_at lw_m15 37 rfl) rfl
theorem q3545 : (Jvm.Cond.methodLink "ParkingOfficeModel" (262 : Nat) ({ cls := "ParkingOfficeModel", name := "isFine", desc := "(I)Z" } : Jvm.MethodName)) ∈ lw_all := lw_g (lw_at lw_m15 38 rfl) rfl
theorem q3546 : (Jvm.Cond.privateMethod ({ cls := "ParkingOfficeModel", name := "isFine", desc := "(I)Z" } : Jvm.MethodName)) ∈ lw_tbl := lw_at lw_m15 39 rfl
theorem q3547 : (Jvm.Cond.instanceMethod ({ cls := "ParkingOfficeModel", name := "isFine", desc := "(I)Z" } : Jvm.MethodName)) ∈ lw_all := lw_g (lw_at lw_m15 40 rfl) rfl
theorem q3548 : (Jvm.Cond.code ({ cls := "ParkingOfficeModel", name := "isFine", desc := "(I)Z" } : Jvm.MethodName) prog_21_method_80_code (2 : Nat) (Option.some Jvm.ClassFile.FieldType.boolean)) ∈ lw_all := lw_g (lw_at lw_m15 41 rfl) rfl
theorem q3550 : (Jvm.Cond.instanceMethod ({ cls := "ParkingOfficeModel", name := "fine", desc := "(II)I" } : Jvm.MethodName)) ∈ lw_all := lw_g (lw_at lw_m15 43 rfl) rfl
theorem q3551 : (Jvm.Cond.selects "ParkingOfficeModel" ({ cls := "ParkingOfficeModel", name := "fine", desc := "(II)I" } : Jvm.MethodName) ({ cls := "ParkingOfficeModel", name := "fine", desc := "(II)I" } : Jvm.MethodName)) ∈ lw_all := lw_g (lw_at lw_m15 44 rfl) rfl
theorem q3552 : (Jvm.Cond.code ({ cls := "ParkingOfficeModel", name := "fine", desc := "(II)I" } : Jvm.MethodName) prog_21_method_87_code (3 : Nat) (Option.some Jvm.ClassFile.FieldType.int)) ∈ lw_all := lw_g (lw_at lw_m15 45 rfl) rfl
theorem q3553 : (Jvm.Cond.constantLong "ParkingOfficeModel" (265 : Nat) (5 : Int64)) ∈ lw_all := lw_g (lw_at lw_m15 46 rfl) rfl
theorem q3554 : (Jvm.Cond.methodLink "ParkingOfficeModel" (267 : Nat) ({ cls := "ParkingOfficeModel", name := "amountOf", desc := "(I)I" } : Jvm.MethodName)) ∈ lw_all := lw_g (lw_at lw_m15 47 rfl) rfl
theorem q3555 : (Jvm.Cond.privateMethod ({ cls := "ParkingOfficeModel", name := "amountOf", desc := "(I)I" } : Jvm.MethodName)) ∈ lw_tbl := lw_at lw_m15 48 rfl
theorem q3556 : (Jvm.Cond.instanceMethod ({ cls := "ParkingOfficeModel", name := "amountOf", desc := "(I)I" } : Jvm.MethodName)) ∈ lw_all := lw_g (lw_at lw_m15 49 rfl) rfl
theorem q3557 : (Jvm.Cond.code ({ cls := "ParkingOfficeModel", name := "amountOf", desc := "(I)I" } : Jvm.MethodName) prog_21_method_86_code (2 : Nat) (Option.some Jvm.ClassFile.FieldType.int)) ∈ lw_all := lw_g (lw_at lw_m15 50 rfl) rfl
theorem q3559 : (Jvm.Cond.instanceMethod ({ cls := "ParkingOfficeModel", name := "total", desc := "(I)I" } : Jvm.MethodName)) ∈ lw_all := lw_g (lw_at lw_m15 52 rfl) rfl
theorem q3560 : (Jvm.Cond.selects "ParkingOfficeModel" ({ cls := "ParkingOfficeModel", name := "total", desc := "(I)I" } : Jvm.MethodName) ({ cls := "ParkingOfficeModel", name := "total", desc := "(I)I" } : Jvm.MethodName)) ∈ lw_all := lw_g (lw_at lw_m15 53 rfl) rfl
theorem q3561 : (Jvm.Cond.code ({ cls := "ParkingOfficeModel", name := "total", desc := "(I)I" } : Jvm.MethodName) prog_21_method_88_code (4 : Nat) (Option.some Jvm.ClassFile.FieldType.int)) ∈ lw_all := lw_g (lw_at lw_m15 54 rfl) rfl
theorem q3562 : (Jvm.Cond.constantLong "ParkingOfficeModel" (270 : Nat) (2 : Int64)) ∈ lw_all := lw_g (lw_at lw_m15 55 rfl) rfl
theorem q3564 : (Jvm.Cond.instanceMethod ({ cls := "ParkingOfficeModel", name := "finesBy", desc := "(I)I" } : Jvm.MethodName)) ∈ lw_all := lw_g (lw_at lw_m15 57 rfl) rfl
theorem q3565 : (Jvm.Cond.selects "ParkingOfficeModel" ({ cls := "ParkingOfficeModel", name := "finesBy", desc := "(I)I" } : Jvm.MethodName) ({ cls := "ParkingOfficeModel", name := "finesBy", desc := "(I)I" } : Jvm.MethodName)) ∈ lw_all := lw_g (lw_at lw_m15 58 rfl) rfl
theorem q3566 : (Jvm.Cond.code ({ cls := "ParkingOfficeModel", name := "finesBy", desc := "(I)I" } : Jvm.MethodName) prog_21_method_90_code (4 : Nat) (Option.some Jvm.ClassFile.FieldType.int)) ∈ lw_all := lw_g (lw_at lw_m15 59 rfl) rfl
theorem q3567 : (Jvm.Cond.methodLink "ParkingOfficeModel" (274 : Nat) ({ cls := "ParkingOfficeModel", name := "isRule", desc := "(I)Z" } : Jvm.MethodName)) ∈ lw_all := lw_g (lw_at lw_m15 60 rfl) rfl
theorem q3568 : (Jvm.Cond.static ({ cls := "ParkingOfficeModel", name := "isRule", desc := "(I)Z" } : Jvm.MethodName)) ∈ lw_all := lw_g (lw_at lw_m15 61 rfl) rfl
theorem q3569 : (Jvm.Cond.code ({ cls := "ParkingOfficeModel", name := "isRule", desc := "(I)Z" } : Jvm.MethodName) prog_21_method_89_code (1 : Nat) (Option.some Jvm.ClassFile.FieldType.boolean)) ∈ lw_all := lw_g (lw_at lw_m15 62 rfl) rfl
theorem q3570 : (Jvm.Cond.constantLong "ParkingOfficeModel" (272 : Nat) (6 : Int64)) ∈ lw_all := lw_g (lw_at lw_m15 63 rfl) rfl
theorem q3572 : (Jvm.Cond.instanceMethod ({ cls := "ParkingOfficeModel", name := "amount", desc := "(I)I" } : Jvm.MethodName)) ∈ lw_all := lw_g (lw_at lw_m15 65 rfl) rfl
theorem q3573 : (Jvm.Cond.selects "ParkingOfficeModel" ({ cls := "ParkingOfficeModel", name := "amount", desc := "(I)I" } : Jvm.MethodName) ({ cls := "ParkingOfficeModel", name := "amount", desc := "(I)I" } : Jvm.MethodName)) ∈ lw_all := lw_g (lw_at lw_m15 66 rfl) rfl
theorem q3574 : (Jvm.Cond.code ({ cls := "ParkingOfficeModel", name := "amount", desc := "(I)I" } : Jvm.MethodName) prog_21_method_91_code (2 : Nat) (Option.some Jvm.ClassFile.FieldType.int)) ∈ lw_all := lw_g (lw_at lw_m15 67 rfl) rfl
theorem q3576 : (Jvm.Cond.instanceMethod ({ cls := "ParkingOfficeModel", name := "withdrawnShare", desc := "()F" } : Jvm.MethodName)) ∈ lw_all := lw_g (lw_at lw_m15 69 rfl) rfl
theorem q3577 : (Jvm.Cond.selects "ParkingOfficeModel" ({ cls := "ParkingOfficeModel", name := "withdrawnShare", desc := "()F" } : Jvm.MethodName) ({ cls := "ParkingOfficeModel", name := "withdrawnShare", desc := "()F" } : Jvm.MethodName)) ∈ lw_all := lw_g (lw_at lw_m15 70 rfl) rfl
theorem q3578 : (Jvm.Cond.code ({ cls := "ParkingOfficeModel", name := "withdrawnShare", desc := "()F" } : Jvm.MethodName) prog_21_method_92_code (3 : Nat) (Option.some Jvm.ClassFile.FieldType.float)) ∈ lw_all := lw_g (lw_at lw_m15 71 rfl) rfl
theorem q3580 : (Jvm.Cond.instanceMethod ({ cls := "ParkingOfficeModel", name := "setLimit", desc := "(II)I" } : Jvm.MethodName)) ∈ lw_all := lw_g (lw_at lw_m15 73 rfl) rfl
theorem q3581 : (Jvm.Cond.selects "ParkingOfficeModel" ({ cls := "ParkingOfficeModel", name := "setLimit", desc := "(II)I" } : Jvm.MethodName) ({ cls := "ParkingOfficeModel", name := "setLimit", desc := "(II)I" } : Jvm.MethodName)) ∈ lw_all := lw_g (lw_at lw_m15 74 rfl) rfl
theorem q3582 : (Jvm.Cond.code ({ cls := "ParkingOfficeModel", name := "setLimit", desc := "(II)I" } : Jvm.MethodName) prog_21_method_93_code (4 : Nat) (Option.some Jvm.ClassFile.FieldType.int)) ∈ lw_all := lw_g (lw_at lw_m15 75 rfl) rfl
theorem q3583 : (Jvm.Cond.constantLong "ParkingOfficeModel" (277 : Nat) (40 : Int64)) ∈ lw_all := lw_g (lw_at lw_m15 76 rfl) rfl
theorem q3585 : (Jvm.Cond.instanceMethod ({ cls := "ParkingOfficeModel", name := "suspend", desc := "(IZ)Z" } : Jvm.MethodName)) ∈ lw_all := lw_g (lw_at lw_m15 78 rfl) rfl
theorem q3586 : (Jvm.Cond.selects "ParkingOfficeModel" ({ cls := "ParkingOfficeModel", name := "suspend", desc := "(IZ)Z" } : Jvm.MethodName) ({ cls := "ParkingOfficeModel", name := "suspend", desc := "(IZ)Z" } : Jvm.MethodName)) ∈ lw_all := lw_g (lw_at lw_m15 79 rfl) rfl
theorem q3587 : (Jvm.Cond.code ({ cls := "ParkingOfficeModel", name := "suspend", desc := "(IZ)Z" } : Jvm.MethodName) prog_21_method_94_code (4 : Nat) (Option.some Jvm.ClassFile.FieldType.boolean)) ∈ lw_all := lw_g (lw_at lw_m15 80 rfl) rfl
theorem q3589 : (Jvm.Cond.instanceMethod ({ cls := "ParkingOfficeModel", name := "count", desc := "(I)I" } : Jvm.MethodName)) ∈ lw_all := lw_g (lw_at lw_m15 82 rfl) rfl
theorem q3590 : (Jvm.Cond.selects "ParkingOfficeModel" ({ cls := "ParkingOfficeModel", name := "count", desc := "(I)I" } : Jvm.MethodName) ({ cls := "ParkingOfficeModel", name := "count", desc := "(I)I" } : Jvm.MethodName)) ∈ lw_all := lw_g (lw_at lw_m15 83 rfl) rfl
theorem q3591 : (Jvm.Cond.code ({ cls := "ParkingOfficeModel", name := "count", desc := "(I)I" } : Jvm.MethodName) prog_21_method_95_code (2 : Nat) (Option.some Jvm.ClassFile.FieldType.int)) ∈ lw_all := lw_g (lw_at lw_m15 84 rfl) rfl
theorem q3593 : (Jvm.Cond.instanceMethod ({ cls := "ParkingOfficeModel", name := "zone", desc := "(II)I" } : Jvm.MethodName)) ∈ lw_all := lw_g (lw_at lw_m15 86 rfl) rfl
theorem q3594 : (Jvm.Cond.selects "ParkingOfficeModel" ({ cls := "ParkingOfficeModel", name := "zone", desc := "(II)I" } : Jvm.MethodName) ({ cls := "ParkingOfficeModel", name := "zone", desc := "(II)I" } : Jvm.MethodName)) ∈ lw_all := lw_g (lw_at lw_m15 87 rfl) rfl
theorem q3595 : (Jvm.Cond.code ({ cls := "ParkingOfficeModel", name := "zone", desc := "(II)I" } : Jvm.MethodName) prog_21_method_96_code (3 : Nat) (Option.some Jvm.ClassFile.FieldType.int)) ∈ lw_all := lw_g (lw_at lw_m15 88 rfl) rfl
theorem q3596 : (Jvm.Cond.methodLink "ParkingOfficeModel" (279 : Nat) ({ cls := "ParkingOfficeModel", name := "counts", desc := "(III)I" } : Jvm.MethodName)) ∈ lw_all := lw_g (lw_at lw_m15 89 rfl) rfl
theorem q3597 : (Jvm.Cond.privateMethod ({ cls := "ParkingOfficeModel", name := "counts", desc := "(III)I" } : Jvm.MethodName)) ∈ lw_tbl := lw_at lw_m15 90 rfl
theorem q3598 : (Jvm.Cond.instanceMethod ({ cls := "ParkingOfficeModel", name := "counts", desc := "(III)I" } : Jvm.MethodName)) ∈ lw_all := lw_g (lw_at lw_m15 91 rfl) rfl
theorem q3599 : (Jvm.Cond.code ({ cls := "ParkingOfficeModel", name := "counts", desc := "(III)I" } : Jvm.MethodName) prog_21_method_97_code (6 : Nat) (Option.some Jvm.ClassFile.FieldType.int)) ∈ lw_all := lw_g (lw_at lw_m15 92 rfl) rfl
theorem q3601 : (Jvm.Cond.instanceMethod ({ cls := "ParkingOfficeModel", name := "street", desc := "(II)I" } : Jvm.MethodName)) ∈ lw_all := lw_g (lw_at lw_m15 94 rfl) rfl
theorem q3602 : (Jvm.Cond.selects "ParkingOfficeModel" ({ cls := "ParkingOfficeModel", name := "street", desc := "(II)I" } : Jvm.MethodName) ({ cls := "ParkingOfficeModel", name := "street", desc := "(II)I" } : Jvm.MethodName)) ∈ lw_all := lw_g (lw_at lw_m15 95 rfl) rfl
theorem q3603 : (Jvm.Cond.code ({ cls := "ParkingOfficeModel", name := "street", desc := "(II)I" } : Jvm.MethodName) prog_21_method_98_code (3 : Nat) (Option.some Jvm.ClassFile.FieldType.int)) ∈ lw_all := lw_g (lw_at lw_m15 96 rfl) rfl
theorem q3605 : (Jvm.Cond.instanceMethod ({ cls := "ParkingOfficeModel", name := "house", desc := "(II)I" } : Jvm.MethodName)) ∈ lw_all := lw_g (lw_at lw_m15 98 rfl) rfl
theorem q3606 : (Jvm.Cond.selects "ParkingOfficeModel" ({ cls := "ParkingOfficeModel", name := "house", desc := "(II)I" } : Jvm.MethodName) ({ cls := "ParkingOfficeModel", name := "house", desc := "(II)I" } : Jvm.MethodName)) ∈ lw_all := lw_g (lw_at lw_m15 99 rfl) rfl
theorem q3607 : (Jvm.Cond.code ({ cls := "ParkingOfficeModel", name := "house", desc := "(II)I" } : Jvm.MethodName) prog_21_method_99_code (3 : Nat) (Option.some Jvm.ClassFile.FieldType.int)) ∈ lw_all := lw_g (lw_at lw_m15 100 rfl) rfl
theorem q3609 : (Jvm.Cond.instanceMethod ({ cls := "ParkingOfficeModel", name := "offerIn", desc := "(II)I" } : Jvm.MethodName)) ∈ lw_all := lw_g (lw_at lw_m15 102 rfl) rfl
theorem q3610 : (Jvm.Cond.selects "ParkingOfficeModel" ({ cls := "ParkingOfficeModel", name := "offerIn", desc := "(II)I" } : Jvm.MethodName) ({ cls := "ParkingOfficeModel", name := "offerIn", desc := "(II)I" } : Jvm.MethodName)) ∈ lw_all := lw_g (lw_at lw_m15 103 rfl) rfl
theorem q3611 : (Jvm.Cond.code ({ cls := "ParkingOfficeModel", name := "offerIn", desc := "(II)I" } : Jvm.MethodName) prog_21_method_102_code (6 : Nat) (Option.some Jvm.ClassFile.FieldType.int)) ∈ lw_all := lw_g (lw_at lw_m15 104 rfl) rfl
theorem q3612 : (Jvm.Cond.constantLong "ParkingOfficeModel" (283 : Nat) (60 : Int64)) ∈ lw_all := lw_g (lw_at lw_m15 105 rfl) rfl
theorem q3613 : (Jvm.Cond.methodLink "ParkingOfficeModel" (285 : Nat) ({ cls := "ParkingOfficeModel", name := "tries", desc := "()V" } : Jvm.MethodName)) ∈ lw_all := lw_g (lw_at lw_m15 106 rfl) rfl
theorem q3614 : (Jvm.Cond.privateMethod ({ cls := "ParkingOfficeModel", name := "tries", desc := "()V" } : Jvm.MethodName)) ∈ lw_tbl := lw_at lw_m15 107 rfl
theorem q3615 : (Jvm.Cond.instanceMethod ({ cls := "ParkingOfficeModel", name := "tries", desc := "()V" } : Jvm.MethodName)) ∈ lw_all := lw_g (lw_at lw_m15 108 rfl) rfl
theorem q3616 : (Jvm.Cond.code ({ cls := "ParkingOfficeModel", name := "tries", desc := "()V" } : Jvm.MethodName) prog_21_method_100_code (1 : Nat) (Option.none : Option Jvm.ClassFile.FieldType)) ∈ lw_all := lw_g (lw_at lw_m15 109 rfl) rfl
theorem q3617 : (Jvm.Cond.methodLink "ParkingOfficeModel" (288 : Nat) ({ cls := "ParkingOfficeModel", name := "laysBack", desc := "(I)I" } : Jvm.MethodName)) ∈ lw_all := lw_g (lw_at lw_m15 110 rfl) rfl
theorem q3618 : (Jvm.Cond.privateMethod ({ cls := "ParkingOfficeModel", name := "laysBack", desc := "(I)I" } : Jvm.MethodName)) ∈ lw_tbl := lw_at lw_m15 111 rfl
theorem q3619 : (Jvm.Cond.instanceMethod ({ cls := "ParkingOfficeModel", name := "laysBack", desc := "(I)I" } : Jvm.MethodName)) ∈ lw_all := lw_g (lw_at lw_m15 112 rfl) rfl
theorem q3620 : (Jvm.Cond.code ({ cls := "ParkingOfficeModel", name := "laysBack", desc := "(I)I" } : Jvm.MethodName) prog_21_method_101_code (2 : Nat) (Option.some Jvm.ClassFile.FieldType.int)) ∈ lw_all := lw_g (lw_at lw_m15 113 rfl) rfl
theorem q3622 : (Jvm.Cond.instanceMethod ({ cls := "ParkingOfficeModel", name := "finesIn", desc := "(II)I" } : Jvm.MethodName)) ∈ lw_all := lw_g (lw_at lw_m15 115 rfl) rfl
theorem q3623 : (Jvm.Cond.selects "ParkingOfficeModel" ({ cls := "ParkingOfficeModel", name := "finesIn", desc := "(II)I" } : Jvm.MethodName) ({ cls := "ParkingOfficeModel", name := "finesIn", desc := "(II)I" } : Jvm.MethodName)) ∈ lw_all := lw_g (lw_at lw_m15 116 rfl) rfl
theorem q3624 : (Jvm.Cond.code ({ cls := "ParkingOfficeModel", name := "finesIn", desc := "(II)I" } : Jvm.MethodName) prog_21_method_103_code (3 : Nat) (Option.some Jvm.ClassFile.FieldType.int)) ∈ lw_all := lw_g (lw_at lw_m15 117 rfl) rfl
theorem q3625 : (Jvm.Cond.methodLink "ParkingOfficeModel" (291 : Nat) ({ cls := "ParkingOfficeModel", name := "wouldFine", desc := "(I)I" } : Jvm.MethodName)) ∈ lw_all := lw_g (lw_at lw_m15 118 rfl) rfl
theorem q3626 : (Jvm.Cond.privateMethod ({ cls := "ParkingOfficeModel", name := "wouldFine", desc := "(I)I" } : Jvm.MethodName)) ∈ lw_tbl := lw_at lw_m15 119 rfl
theorem q3627 : (Jvm.Cond.instanceMethod ({ cls := "ParkingOfficeModel", name := "wouldFine", desc := "(I)I" } : Jvm.MethodName)) ∈ lw_all := lw_g (lw_at lw_m15 120 rfl) rfl
theorem q3628 : (Jvm.Cond.code ({ cls := "ParkingOfficeModel", name := "wouldFine", desc := "(I)I" } : Jvm.MethodName) prog_21_method_83_code (4 : Nat) (Option.some Jvm.ClassFile.FieldType.int)) ∈ lw_all := lw_g (lw_at lw_m15 121 rfl) rfl
theorem q3630 : (Jvm.Cond.instanceMethod ({ cls := "ParkingOfficeModel", name := "bestInspection", desc := "(II)I" } : Jvm.MethodName)) ∈ lw_all := lw_g (lw_at lw_m15 123 rfl) rfl
theorem q3631 : (Jvm.Cond.selects "ParkingOfficeModel" ({ cls := "ParkingOfficeModel", name := "bestInspection", desc := "(II)I" } : Jvm.MethodName) ({ cls := "ParkingOfficeModel", name := "bestInspection", desc := "(II)I" } : Jvm.MethodName)) ∈ lw_all := lw_g (lw_at lw_m15 124 rfl) rfl
theorem q3632 : (Jvm.Cond.code ({ cls := "ParkingOfficeModel", name := "bestInspection", desc := "(II)I" } : Jvm.MethodName) prog_21_method_104_code (8 : Nat) (Option.some Jvm.ClassFile.FieldType.int)) ∈ lw_all := lw_g (lw_at lw_m15 125 rfl) rfl
theorem q3633 : (Jvm.Cond.constantLong "ParkingOfficeModel" (294 : Nat) (72 : Int64)) ∈ lw_all := lw_g (lw_at lw_m15 126 rfl) rfl
theorem q3635 : (Jvm.Cond.instanceMethod ({ cls := "ParkingOfficeModel", name := "enoughLimit", desc := "(I)I" } : Jvm.MethodName)) ∈ lw_all := lw_g (lw_at lw_m15 128 rfl) rfl
theorem q3636 : (Jvm.Cond.selects "ParkingOfficeModel" ({ cls := "ParkingOfficeModel", name := "enoughLimit", desc := "(I)I" } : Jvm.MethodName) ({ cls := "ParkingOfficeModel", name := "enoughLimit", desc := "(I)I" } : Jvm.MethodName)) ∈ lw_all := lw_g (lw_at lw_m15 129 rfl) rfl
theorem q3637 : (Jvm.Cond.code ({ cls := "ParkingOfficeModel", name := "enoughLimit", desc := "(I)I" } : Jvm.MethodName) prog_21_method_105_code (2 : Nat) (Option.some Jvm.ClassFile.FieldType.int)) ∈ lw_all := lw_g (lw_at lw_m15 130 rfl) rfl
theorem q3639 : (Jvm.Cond.instanceMethod ({ cls := "ParkingOfficeModel", name := "feed", desc := "(IIIII)I" } : Jvm.MethodName)) ∈ lw_all := lw_g (lw_at lw_m15 132 rfl) rfl
theorem q3640 : (Jvm.Cond.selects "ParkingOfficeModel" ({ cls := "ParkingOfficeModel", name := "feed", desc := "(IIIII)I" } : Jvm.MethodName) ({ cls := "ParkingOfficeModel", name := "feed", desc := "(IIIII)I" } : Jvm.MethodName)) ∈ lw_all := lw_g (lw_at lw_m15 133 rfl) rfl
theorem q3641 : (Jvm.Cond.code ({ cls := "ParkingOfficeModel", name := "feed", desc := "(IIIII)I" } : Jvm.MethodName) prog_21_method_106_code (8 : Nat) (Option.some Jvm.ClassFile.FieldType.int)) ∈ lw_all := lw_g (lw_at lw_m15 134 rfl) rfl
theorem q3643 : (Jvm.Cond.instanceMethod ({ cls := "ParkingOfficeModel", name := "truncate", desc := "(I)Z" } : Jvm.MethodName)) ∈ lw_all := lw_g (lw_at lw_m15 136 rfl) rfl
theorem q3644 : (Jvm.Cond.selects "ParkingOfficeModel" ({ cls := "ParkingOfficeModel", name := "truncate", desc := "(I)Z" } : Jvm.MethodName) ({ cls := "ParkingOfficeModel", name := "truncate", desc := "(I)Z" } : Jvm.MethodName)) ∈ lw_all := lw_g (lw_at lw_m15 137 rfl) rfl
theorem q3645 : (Jvm.Cond.code ({ cls := "ParkingOfficeModel", name := "truncate", desc := "(I)Z" } : Jvm.MethodName) prog_21_method_107_code (2 : Nat) (Option.some Jvm.ClassFile.FieldType.boolean)) ∈ lw_all := lw_g (lw_at lw_m15 138 rfl) rfl
theorem q3647 : (Jvm.Cond.instanceMethod ({ cls := "ParkingOfficeModel", name := "parse", desc := "()I" } : Jvm.MethodName)) ∈ lw_all := lw_g (lw_at lw_m15 140 rfl) rfl
theorem q3648 : (Jvm.Cond.selects "ParkingOfficeModel" ({ cls := "ParkingOfficeModel", name := "parse", desc := "()I" } : Jvm.MethodName) ({ cls := "ParkingOfficeModel", name := "parse", desc := "()I" } : Jvm.MethodName)) ∈ lw_all := lw_g (lw_at lw_m15 141 rfl) rfl
theorem q3649 : (Jvm.Cond.code ({ cls := "ParkingOfficeModel", name := "parse", desc := "()I" } : Jvm.MethodName) prog_21_method_133_code (1 : Nat) (Option.some Jvm.ClassFile.FieldType.int)) ∈ lw_all := lw_g (lw_at lw_m15 142 rfl) rfl
theorem q3650 : (Jvm.Cond.methodLink "ParkingOfficeModel" (419 : Nat) ({ cls := "ParkingOfficeModel", name := "startsReading", desc := "()V" } : Jvm.MethodName)) ∈ lw_all := lw_g (lw_at lw_m15 143 rfl) rfl
theorem q3651 : (Jvm.Cond.privateMethod ({ cls := "ParkingOfficeModel", name := "startsReading", desc := "()V" } : Jvm.MethodName)) ∈ lw_tbl := lw_at lw_m15 144 rfl
theorem q3652 : (Jvm.Cond.instanceMethod ({ cls := "ParkingOfficeModel", name := "startsReading", desc := "()V" } : Jvm.MethodName)) ∈ lw_all := lw_g (lw_at lw_m15 145 rfl) rfl
theorem q3653 : (Jvm.Cond.code ({ cls := "ParkingOfficeModel", name := "startsReading", desc := "()V" } : Jvm.MethodName) prog_21_method_132_code (1 : Nat) (Option.none : Option Jvm.ClassFile.FieldType)) ∈ lw_all := lw_g (lw_at lw_m15 146 rfl) rfl
theorem q3654 : (Jvm.Cond.methodLink "ParkingOfficeModel" (348 : Nat) ({ cls := "ParkingOfficeModel", name := "next", desc := "()V" } : Jvm.MethodName)) ∈ lw_all := lw_g (lw_at lw_m15 147 rfl) rfl
theorem q3655 : (Jvm.Cond.privateMethod ({ cls := "ParkingOfficeModel", name := "next", desc := "()V" } : Jvm.MethodName)) ∈ lw_tbl := lw_at lw_m15 148 rfl
theorem q3656 : (Jvm.Cond.instanceMethod ({ cls := "ParkingOfficeModel", name := "next", desc := "()V" } : Jvm.MethodName)) ∈ lw_all := lw_g (lw_at lw_m15 149 rfl) rfl
theorem q3657 : (Jvm.Cond.code ({ cls := "ParkingOfficeModel", name := "next", desc := "()V" } : Jvm.MethodName) prog_21_method_109_code (2 : Nat) (Option.none : Option Jvm.ClassFile.FieldType)) ∈ lw_all := lw_g (lw_at lw_m15 150 rfl) rfl
theorem q3658 : (Jvm.Cond.methodLink "ParkingOfficeModel" (305 : Nat) ({ cls := "ParkingOfficeModel", name := "here", desc := "(I)I" } : Jvm.MethodName)) ∈ lw_all := lw_g (lw_at lw_m15 151 rfl) rfl
theorem q3659 : (Jvm.Cond.privateMethod ({ cls := "ParkingOfficeModel", name := "here", desc := "(I)I" } : Jvm.MethodName)) ∈ lw_tbl := lw_at lw_m15 152 rfl
theorem q3660 : (Jvm.Cond.instanceMethod ({ cls := "ParkingOfficeModel", name := "here", desc := "(I)I" } : Jvm.MethodName)) ∈ lw_all := lw_g (lw_at lw_m15 153 rfl) rfl
theorem q3661 : (Jvm.Cond.code ({ cls := "ParkingOfficeModel", name := "here", desc := "(I)I" } : Jvm.MethodName) prog_21_method_108_code (2 : Nat) (Option.some Jvm.ClassFile.FieldType.int)) ∈ lw_all := lw_g (lw_at lw_m15 154 rfl) rfl
theorem q3662 : (Jvm.Cond.constantLong "ParkingOfficeModel" (314 : Nat) (97 : Int64)) ∈ lw_all := lw_g (lw_at lw_m15 155 rfl) rfl
theorem q3663 : (Jvm.Cond.constantLong "ParkingOfficeModel" (316 : Nat) (122 : Int64)) ∈ lw_all := lw_g (lw_at lw_m15 156 rfl) rfl
theorem q3664 : (Jvm.Cond.methodLink "ParkingOfficeModel" (318 : Nat) ({ cls := "ParkingOfficeModel", name := "wordHere", desc := "()I" } : Jvm.MethodName)) ∈ lw_all := lw_g (lw_at lw_m15 157 rfl) rfl
theorem q3665 : (Jvm.Cond.privateMethod ({ cls := "ParkingOfficeModel", name := "wordHere", desc := "()I" } : Jvm.MethodName)) ∈ lw_tbl := lw_at lw_m15 158 rfl
theorem q3666 : (Jvm.Cond.instanceMethod ({ cls := "ParkingOfficeModel", name := "wordHere", desc := "()I" } : Jvm.MethodName)) ∈ lw_all := lw_g (lw_at lw_m15 159 rfl) rfl
theorem q3667 : (Jvm.Cond.code ({ cls := "ParkingOfficeModel", name := "wordHere", desc := "()I" } : Jvm.MethodName) prog_21_method_110_code (4 : Nat) (Option.some Jvm.ClassFile.FieldType.int)) ∈ lw_all := lw_g (lw_at lw_m15 160 rfl) rfl
theorem q3668 : (Jvm.Cond.stringRef "ParkingOfficeModel" (331 : Nat) "zone limit hours grace street in spaces with house at cars book term offer renew fine ") ∈ lw_tbl := lw_at lw_m15 161 rfl
theorem q3669 : (Jvm.Cond.methodLink "ParkingOfficeModel" (333 : Nat) ({ cls := "java/lang/String", name := "length", desc := "()I" } : Jvm.MethodName)) ∈ lw_all := lw_g (lw_at lw_m15 162 rfl) rfl
theorem q3670 : (Jvm.Cond.methodLink "ParkingOfficeModel" (337 : Nat) ({ cls := "java/lang/String", name := "charAt", desc := "(I)C" } : Jvm.MethodName)) ∈ lw_all := lw_g (lw_at lw_m15 163 rfl) rfl
theorem q3681 : (Jvm.Cond.constantLong "ParkingOfficeModel" (324 : Nat) (48 : Int64)) ∈ lw_all := lw_g (lw_at lw_m15 174 rfl) rfl
theorem q3682 : (Jvm.Cond.constantLong "ParkingOfficeModel" (326 : Nat) (57 : Int64)) ∈ lw_all := lw_g (lw_at lw_m15 175 rfl) rfl
theorem q3683 : (Jvm.Cond.methodLink "ParkingOfficeModel" (344 : Nat) ({ cls := "ParkingOfficeModel", name := "fine", desc := "()Z" } : Jvm.MethodName)) ∈ lw_all := lw_g (lw_at lw_m15 176 rfl) rfl
theorem q3684 : (Jvm.Cond.privateMethod ({ cls := "ParkingOfficeModel", name := "fine", desc := "()Z" } : Jvm.MethodName)) ∈ lw_tbl := lw_at lw_m15 177 rfl
theorem q3685 : (Jvm.Cond.instanceMethod ({ cls := "ParkingOfficeModel", name := "fine", desc := "()Z" } : Jvm.MethodName)) ∈ lw_all := lw_g (lw_at lw_m15 178 rfl) rfl
theorem q3686 : (Jvm.Cond.code ({ cls := "ParkingOfficeModel", name := "fine", desc := "()Z" } : Jvm.MethodName) prog_21_method_111_code (1 : Nat) (Option.some Jvm.ClassFile.FieldType.boolean)) ∈ lw_all := lw_g (lw_at lw_m15 179 rfl) rfl
theorem q3687 : (Jvm.Cond.methodLink "ParkingOfficeModel" (422 : Nat) ({ cls := "ParkingOfficeModel", name := "statement", desc := "()V" } : Jvm.MethodName)) ∈ lw_all := lw_g (lw_at lw_m15 180 rfl) rfl
theorem q3688 : (Jvm.Cond.privateMethod ({ cls := "ParkingOfficeModel", name := "statement", desc := "()V" } : Jvm.MethodName)) ∈ lw_tbl := lw_at lw_m15 181 rfl
theorem q3689 : (Jvm.Cond.instanceMethod ({ cls := "ParkingOfficeModel", name := "statement", desc := "()V" } : Jvm.MethodName)) ∈ lw_all := lw_g (lw_at lw_m15 182 rfl) rfl
theorem q3690 : (Jvm.Cond.code ({ cls := "ParkingOfficeModel", name := "statement", desc := "()V" } : Jvm.MethodName) prog_21_method_131_code (1 : Nat) (Option.none : Option Jvm.ClassFile.FieldType)) ∈ lw_all := lw_g (lw_at lw_m15 183 rfl) rfl
theorem q3691 : (Jvm.Cond.methodLink "ParkingOfficeModel" (351 : Nat) ({ cls := "ParkingOfficeModel", name := "isWord", desc := "(I)Z" } : Jvm.MethodName)) ∈ lw_all := lw_g (lw_at lw_m15 184 rfl) rfl
theorem q3692 : (Jvm.Cond.privateMethod ({ cls := "ParkingOfficeModel", name := "isWord", desc := "(I)Z" } : Jvm.MethodName)) ∈ lw_tbl := lw_at lw_m15 185 rfl
theorem q3693 : (Jvm.Cond.instanceMethod ({ cls := "ParkingOfficeModel", name := "isWord", desc := "(I)Z" } : Jvm.MethodName)) ∈ lw_all := lw_g (lw_at lw_m15 186 rfl) rfl
theorem q3694 : (Jvm.Cond.code ({ cls := "ParkingOfficeModel", name := "isWord", desc := "(I)Z" } : Jvm.MethodName) prog_21_method_114_code (2 : Nat) (Option.some Jvm.ClassFile.FieldType.boolean)) ∈ lw_all := lw_g (lw_at lw_m15 187 rfl) rfl
theorem q3695 : (Jvm.Cond.methodLink "ParkingOfficeModel" (403 : Nat) ({ cls := "ParkingOfficeModel", name := "readsZone", desc := "()V" } : Jvm.MethodName)) ∈ lw_all := lw_g (lw_at lw_m15 188 rfl) rfl
theorem q3696 : (Jvm.Cond.privateMethod ({ cls := "ParkingOfficeModel", name := "readsZone", desc := "()V" } : Jvm.MethodName)) ∈ lw_tbl := lw_at lw_m15 189 rfl
theorem q3697 : (Jvm.Cond.instanceMethod ({ cls := "ParkingOfficeModel", name := "readsZone", desc := "()V" } : Jvm.MethodName)) ∈ lw_all := lw_g (lw_at lw_m15 190 rfl) rfl
theorem q3698 : (Jvm.Cond.code ({ cls := "ParkingOfficeModel", name := "readsZone", desc := "()V" } : Jvm.MethodName) prog_21_method_126_code (3 : Nat) (Option.none : Option Jvm.ClassFile.FieldType)) ∈ lw_all := lw_g (lw_at lw_m15 191 rfl) rfl
theorem q3699 : (Jvm.Cond.methodLink "ParkingOfficeModel" (385 : Nat) ({ cls := "ParkingOfficeModel", name := "begins", desc := "(II)V" } : Jvm.MethodName)) ∈ lw_all := lw_g (lw_at lw_m15 192 rfl) rfl
theorem q3700 : (Jvm.Cond.privateMethod ({ cls := "ParkingOfficeModel", name := "begins", desc := "(II)V" } : Jvm.MethodName)) ∈ lw_tbl := lw_at lw_m15 193 rfl
theorem q3701 : (Jvm.Cond.instanceMethod ({ cls := "ParkingOfficeModel", name := "begins", desc := "(II)V" } : Jvm.MethodName)) ∈ lw_all := lw_g (lw_at lw_m15 194 rfl) rfl
theorem q3702 : (Jvm.Cond.code ({ cls := "ParkingOfficeModel", name := "begins", desc := "(II)V" } : Jvm.MethodName) prog_21_method_125_code (3 : Nat) (Option.none : Option Jvm.ClassFile.FieldType)) ∈ lw_all := lw_g (lw_at lw_m15 195 rfl) rfl
theorem q3703 : (Jvm.Cond.methodLink "ParkingOfficeModel" (354 : Nat) ({ cls := "ParkingOfficeModel", name := "needs", desc := "(ZI)V" } : Jvm.MethodName)) ∈ lw_all := lw_g (lw_at lw_m15 196 rfl) rfl
theorem q3704 : (Jvm.Cond.privateMethod ({ cls := "ParkingOfficeModel", name := "needs", desc := "(ZI)V" } : Jvm.MethodName)) ∈ lw_tbl := lw_at lw_m15 197 rfl
theorem q3705 : (Jvm.Cond.instanceMethod ({ cls := "ParkingOfficeModel", name := "needs", desc := "(ZI)V" } : Jvm.MethodName)) ∈ lw_all := lw_g (lw_at lw_m15 198 rfl) rfl
theorem q3706 : (Jvm.Cond.code ({ cls := "ParkingOfficeModel", name := "needs", desc := "(ZI)V" } : Jvm.MethodName) prog_21_method_112_code (3 : Nat) (Option.none : Option Jvm.ClassFile.FieldType)) ∈ lw_all := lw_g (lw_at lw_m15 199 rfl) rfl
theorem q3707 : (Jvm.Cond.methodLink "ParkingOfficeModel" (358 : Nat) ({ cls := "ParkingOfficeModel", name := "goOn", desc := "()V" } : Jvm.MethodName)) ∈ lw_all := lw_g (lw_at lw_m15 200 rfl) rfl
theorem q3708 : (Jvm.Cond.privateMethod ({ cls := "ParkingOfficeModel", name := "goOn", desc := "()V" } : Jvm.MethodName)) ∈ lw_tbl := lw_at lw_m15 201 rfl
theorem q3709 : (Jvm.Cond.instanceMethod ({ cls := "ParkingOfficeModel", name := "goOn", desc := "()V" } : Jvm.MethodName)) ∈ lw_all := lw_g (lw_at lw_m15 202 rfl) rfl
theorem q3710 : (Jvm.Cond.code ({ cls := "ParkingOfficeModel", name := "goOn", desc := "()V" } : Jvm.MethodName) prog_21_method_113_code (1 : Nat) (Option.none : Option Jvm.ClassFile.FieldType)) ∈ lw_all := lw_g (lw_at lw_m15 203 rfl) rfl
theorem q3711 : (Jvm.Cond.methodLink "ParkingOfficeModel" (389 : Nat) ({ cls := "ParkingOfficeModel", name := "newName", desc := "([JI)V" } : Jvm.MethodName)) ∈ lw_all := lw_g (lw_at lw_m15 204 rfl) rfl
theorem q3712 : (Jvm.Cond.privateMethod ({ cls := "ParkingOfficeModel", name := "newName", desc := "([JI)V" } : Jvm.MethodName)) ∈ lw_tbl := lw_at lw_m15 205 rfl
theorem q3713 : (Jvm.Cond.instanceMethod ({ cls := "ParkingOfficeModel", name := "newName", desc := "([JI)V" } : Jvm.MethodName)) ∈ lw_all := lw_g (lw_at lw_m15 206 rfl) rfl
theorem q3714 : (Jvm.Cond.code ({ cls := "ParkingOfficeModel", name := "newName", desc := "([JI)V" } : Jvm.MethodName) prog_21_method_123_code (3 : Nat) (Option.none : Option Jvm.ClassFile.FieldType)) ∈ lw_all := lw_g (lw_at lw_m15 207 rfl) rfl
theorem q3715 : (Jvm.Cond.methodLink "ParkingOfficeModel" (374 : Nat) ({ cls := "ParkingOfficeModel", name := "needsName", desc := "()V" } : Jvm.MethodName)) ∈ lw_all := lw_g (lw_at lw_m15 208 rfl) rfl
theorem q3716 : (Jvm.Cond.privateMethod ({ cls := "ParkingOfficeModel", name := "needsName", desc := "()V" } : Jvm.MethodName)) ∈ lw_tbl := lw_at lw_m15 209 rfl
theorem q3717 : (Jvm.Cond.instanceMethod ({ cls := "ParkingOfficeModel", name := "needsName", desc := "()V" } : Jvm.MethodName)) ∈ lw_all := lw_g (lw_at lw_m15 210 rfl) rfl
theorem q3718 : (Jvm.Cond.code ({ cls := "ParkingOfficeModel", name := "needsName", desc := "()V" } : Jvm.MethodName) prog_21_method_122_code (1 : Nat) (Option.none : Option Jvm.ClassFile.FieldType)) ∈ lw_all := lw_g (lw_at lw_m15 211 rfl) rfl
theorem q3719 : (Jvm.Cond.methodLink "ParkingOfficeModel" (377 : Nat) ({ cls := "ParkingOfficeModel", name := "nameTo", desc := "(I)J" } : Jvm.MethodName)) ∈ lw_all := lw_g (lw_at lw_m15 212 rfl) rfl
theorem q3720 : (Jvm.Cond.privateMethod ({ cls := "ParkingOfficeModel", name := "nameTo", desc := "(I)J" } : Jvm.MethodName)) ∈ lw_tbl := lw_at lw_m15 213 rfl
theorem q3721 : (Jvm.Cond.instanceMethod ({ cls := "ParkingOfficeModel", name := "nameTo", desc := "(I)J" } : Jvm.MethodName)) ∈ lw_all := lw_g (lw_at lw_m15 214 rfl) rfl
theorem q3722 : (Jvm.Cond.code ({ cls := "ParkingOfficeModel", name := "nameTo", desc := "(I)J" } : Jvm.MethodName) prog_21_method_120_code (5 : Nat) (Option.some Jvm.ClassFile.FieldType.long)) ∈ lw_all := lw_g (lw_at lw_m15 215 rfl) rfl
theorem q3723 : (Jvm.Cond.constantLong "ParkingOfficeModel" (370 : Nat) (27 : Int64)) ∈ lw_all := lw_g (lw_at lw_m15 216 rfl) rfl
theorem q3724 : (Jvm.Cond.constantLong "ParkingOfficeModel" (372 : Nat) (96 : Int64)) ∈ lw_all := lw_g (lw_at lw_m15 217 rfl) rfl
theorem q3725 : (Jvm.Cond.methodLink "ParkingOfficeModel" (381 : Nat) ({ cls := "ParkingOfficeModel", name := "placeOf", desc := "(J[JI)I" } : Jvm.MethodName)) ∈ lw_all := lw_g (lw_at lw_m15 218 rfl) rfl
theorem q3726 : (Jvm.Cond.static ({ cls := "ParkingOfficeModel", name := "placeOf", desc := "(J[JI)I" } : Jvm.MethodName)) ∈ lw_all := lw_g (lw_at lw_m15 219 rfl) rfl
theorem q3727 : (Jvm.Cond.code ({ cls := "ParkingOfficeModel", name := "placeOf", desc := "(J[JI)I" } : Jvm.MethodName) prog_21_method_121_code (5 : Nat) (Option.some Jvm.ClassFile.FieldType.int)) ∈ lw_all := lw_g (lw_at lw_m15 220 rfl) rfl
theorem q3728 : (Jvm.Cond.methodLink "ParkingOfficeModel" (393 : Nat) ({ cls := "ParkingOfficeModel", name := "numberBehind", desc := "(III)I" } : Jvm.MethodName)) ∈ lw_all := lw_g (lw_at lw_m15 221 rfl) rfl
theorem q3729 : (Jvm.Cond.privateMethod ({ cls := "ParkingOfficeModel", name := "numberBehind", desc := "(III)I" } : Jvm.MethodName)) ∈ lw_tbl := lw_at lw_m15 222 rfl
theorem q3730 : (Jvm.Cond.instanceMethod ({ cls := "ParkingOfficeModel", name := "numberBehind", desc := "(III)I" } : Jvm.MethodName)) ∈ lw_all := lw_g (lw_at lw_m15 223 rfl) rfl
theorem q3731 : (Jvm.Cond.code ({ cls := "ParkingOfficeModel", name := "numberBehind", desc := "(III)I" } : Jvm.MethodName) prog_21_method_118_code (4 : Nat) (Option.some Jvm.ClassFile.FieldType.int)) ∈ lw_all := lw_g (lw_at lw_m15 224 rfl) rfl
theorem q3732 : (Jvm.Cond.methodLink "ParkingOfficeModel" (364 : Nat) ({ cls := "ParkingOfficeModel", name := "passes", desc := "(I)V" } : Jvm.MethodName)) ∈ lw_all := lw_g (lw_at lw_m15 225 rfl) rfl
theorem q3733 : (Jvm.Cond.privateMethod ({ cls := "ParkingOfficeModel", name := "passes", desc := "(I)V" } : Jvm.MethodName)) ∈ lw_tbl := lw_at lw_m15 226 rfl
theorem q3734 : (Jvm.Cond.instanceMethod ({ cls := "ParkingOfficeModel", name := "passes", desc := "(I)V" } : Jvm.MethodName)) ∈ lw_all := lw_g (lw_at lw_m15 227 rfl) rfl
theorem q3735 : (Jvm.Cond.code ({ cls := "ParkingOfficeModel", name := "passes", desc := "(I)V" } : Jvm.MethodName) prog_21_method_115_code (2 : Nat) (Option.none : Option Jvm.ClassFile.FieldType)) ∈ lw_all := lw_g (lw_at lw_m15 228 rfl) rfl
theorem q3736 : (Jvm.Cond.methodLink "ParkingOfficeModel" (367 : Nat) ({ cls := "ParkingOfficeModel", name := "number", desc := "(II)I" } : Jvm.MethodName)) ∈ lw_all := lw_g (lw_at lw_m15 229 rfl) rfl
theorem q3737 : (Jvm.Cond.privateMethod ({ cls := "ParkingOfficeModel", name := "number", desc := "(II)I" } : Jvm.MethodName)) ∈ lw_tbl := lw_at lw_m15 230 rfl
theorem q3738 : (Jvm.Cond.instanceMethod ({ cls := "ParkingOfficeModel", name := "number", desc := "(II)I" } : Jvm.MethodName)) ∈ lw_all := lw_g (lw_at lw_m15 231 rfl) rfl
theorem q3739 : (Jvm.Cond.code ({ cls := "ParkingOfficeModel", name := "number", desc := "(II)I" } : Jvm.MethodName) prog_21_method_117_code (4 : Nat) (Option.some Jvm.ClassFile.FieldType.int)) ∈ lw_all := lw_g (lw_at lw_m15 232 rfl) rfl
theorem q3740 : (Jvm.Cond.methodLink "ParkingOfficeModel" (361 : Nat) ({ cls := "ParkingOfficeModel", name := "look", desc := "(II)I" } : Jvm.MethodName)) ∈ lw_all := lw_g (lw_at lw_m15 233 rfl) rfl
theorem q3741 : (Jvm.Cond.privateMethod ({ cls := "ParkingOfficeModel", name := "look", desc := "(II)I" } : Jvm.MethodName)) ∈ lw_tbl := lw_at lw_m15 234 rfl
theorem q3742 : (Jvm.Cond.instanceMethod ({ cls := "ParkingOfficeModel", name := "look", desc := "(II)I" } : Jvm.MethodName)) ∈ lw_all := lw_g (lw_at lw_m15 235 rfl) rfl
theorem q3743 : (Jvm.Cond.code ({ cls := "ParkingOfficeModel", name := "look", desc := "(II)I" } : Jvm.MethodName) prog_21_method_116_code (3 : Nat) (Option.some Jvm.ClassFile.FieldType.int)) ∈ lw_all := lw_g (lw_at lw_m15 236 rfl) rfl
theorem q3744 : (Jvm.Cond.methodLink "ParkingOfficeModel" (396 : Nat) ({ cls := "ParkingOfficeModel", name := "lays", desc := "(II)V" } : Jvm.MethodName)) ∈ lw_all := lw_g (lw_at lw_m15 237 rfl) rfl
theorem q3745 : (Jvm.Cond.privateMethod ({ cls := "ParkingOfficeModel", name := "lays", desc := "(II)V" } : Jvm.MethodName)) ∈ lw_tbl := lw_at lw_m15 238 rfl
theorem q3746 : (Jvm.Cond.instanceMethod ({ cls := "ParkingOfficeModel", name := "lays", desc := "(II)V" } : Jvm.MethodName)) ∈ lw_all := lw_g (lw_at lw_m15 239 rfl) rfl
theorem q3747 : (Jvm.Cond.code ({ cls := "ParkingOfficeModel", name := "lays", desc := "(II)V" } : Jvm.MethodName) prog_21_method_119_code (3 : Nat) (Option.none : Option Jvm.ClassFile.FieldType)) ∈ lw_all := lw_g (lw_at lw_m16 0 rfl) rfl
theorem q3748 : (Jvm.Cond.methodLink "ParkingOfficeModel" (406 : Nat) ({ cls := "ParkingOfficeModel", name := "readsStreet", desc := "()V" } : Jvm.MethodName)) ∈ lw_all := lw_g (lw_at lw_m16 1 rfl) rfl
theorem q3749 : (Jvm.Cond.privateMethod ({ cls := "ParkingOfficeModel", name := "readsStreet", desc := "()V" } : Jvm.MethodName)) ∈ lw_tbl := lw_at lw_m16 2 rfl
theorem q3750 : (Jvm.Cond.instanceMethod ({ cls := "ParkingOfficeModel", name := "readsStreet", desc := "()V" } : Jvm.MethodName)) ∈ lw_all := lw_g (lw_at lw_m16 3 rfl) rfl
theorem q3751 : (Jvm.Cond.code ({ cls := "ParkingOfficeModel", name := "readsStreet", desc := "()V" } : Jvm.MethodName) prog_21_method_127_code (3 : Nat) (Option.none : Option Jvm.ClassFile.FieldType)) ∈ lw_all := lw_g (lw_at lw_m16 4 rfl) rfl
theorem q3752 : (Jvm.Cond.methodLink "ParkingOfficeModel" (399 : Nat) ({ cls := "ParkingOfficeModel", name := "oldName", desc := "([JII)I" } : Jvm.MethodName)) ∈ lw_all := lw_g (lw_at lw_m16 5 rfl) rfl
theorem q3753 : (Jvm.Cond.privateMethod ({ cls := "ParkingOfficeModel", name := "oldName", desc := "([JII)I" } : Jvm.MethodName)) ∈ lw_tbl := lw_at lw_m16 6 rfl
theorem q3754 : (Jvm.Cond.instanceMethod ({ cls := "ParkingOfficeModel", name := "oldName", desc := "([JII)I" } : Jvm.MethodName)) ∈ lw_all := lw_g (lw_at lw_m16 7 rfl) rfl
theorem q3755 : (Jvm.Cond.code ({ cls := "ParkingOfficeModel", name := "oldName", desc := "([JII)I" } : Jvm.MethodName) prog_21_method_124_code (5 : Nat) (Option.some Jvm.ClassFile.FieldType.int)) ∈ lw_all := lw_g (lw_at lw_m16 8 rfl) rfl
theorem q3756 : (Jvm.Cond.methodLink "ParkingOfficeModel" (409 : Nat) ({ cls := "ParkingOfficeModel", name := "readsHouse", desc := "()V" } : Jvm.MethodName)) ∈ lw_all := lw_g (lw_at lw_m16 9 rfl) rfl
theorem q3757 : (Jvm.Cond.privateMethod ({ cls := "ParkingOfficeModel", name := "readsHouse", desc := "()V" } : Jvm.MethodName)) ∈ lw_tbl := lw_at lw_m16 10 rfl
theorem q3758 : (Jvm.Cond.instanceMethod ({ cls := "ParkingOfficeModel", name := "readsHouse", desc := "()V" } : Jvm.MethodName)) ∈ lw_all := lw_g (lw_at lw_m16 11 rfl) rfl
theorem q3759 : (Jvm.Cond.code ({ cls := "ParkingOfficeModel", name := "readsHouse", desc := "()V" } : Jvm.MethodName) prog_21_method_128_code (2 : Nat) (Option.none : Option Jvm.ClassFile.FieldType)) ∈ lw_all := lw_g (lw_at lw_m16 12 rfl) rfl
theorem q3760 : (Jvm.Cond.methodLink "ParkingOfficeModel" (412 : Nat) ({ cls := "ParkingOfficeModel", name := "readsOnce", desc := "(IIII)V" } : Jvm.MethodName)) ∈ lw_all := lw_g (lw_at lw_m16 13 rfl) rfl
theorem q3761 : (Jvm.Cond.privateMethod ({ cls := "ParkingOfficeModel", name := "readsOnce", desc := "(IIII)V" } : Jvm.MethodName)) ∈ lw_tbl := lw_at lw_m16 14 rfl
theorem q3762 : (Jvm.Cond.instanceMethod ({ cls := "ParkingOfficeModel", name := "readsOnce", desc := "(IIII)V" } : Jvm.MethodName)) ∈ lw_all := lw_g (lw_at lw_m16 15 rfl) rfl
theorem q3763 : (Jvm.Cond.code ({ cls := "ParkingOfficeModel", name := "readsOnce", desc := "(IIII)V" } : Jvm.MethodName) prog_21_method_129_code (5 : Nat) (Option.none : Option Jvm.ClassFile.FieldType)) ∈ lw_all := lw_g (lw_at lw_m16 16 rfl) rfl
theorem q3764 : (Jvm.Cond.methodLink "ParkingOfficeModel" (416 : Nat) ({ cls := "ParkingOfficeModel", name := "readsFine", desc := "()V" } : Jvm.MethodName)) ∈ lw_all := lw_g (lw_at lw_m16 17 rfl) rfl
theorem q3765 : (Jvm.Cond.privateMethod ({ cls := "ParkingOfficeModel", name := "readsFine", desc := "()V" } : Jvm.MethodName)) ∈ lw_tbl := lw_at lw_m16 18 rfl
theorem q3766 : (Jvm.Cond.instanceMethod ({ cls := "ParkingOfficeModel", name := "readsFine", desc := "()V" } : Jvm.MethodName)) ∈ lw_all := lw_g (lw_at lw_m16 19 rfl) rfl
theorem q3767 : (Jvm.Cond.code ({ cls := "ParkingOfficeModel", name := "readsFine", desc := "()V" } : Jvm.MethodName) prog_21_method_130_code (3 : Nat) (Option.none : Option Jvm.ClassFile.FieldType)) ∈ lw_all := lw_g (lw_at lw_m16 20 rfl) rfl
theorem q3769 : (Jvm.Cond.instanceMethod ({ cls := "ParkingOfficeModel", name := "errorCode", desc := "()I" } : Jvm.MethodName)) ∈ lw_all := lw_g (lw_at lw_m16 22 rfl) rfl
theorem q3770 : (Jvm.Cond.selects "ParkingOfficeModel" ({ cls := "ParkingOfficeModel", name := "errorCode", desc := "()I" } : Jvm.MethodName) ({ cls := "ParkingOfficeModel", name := "errorCode", desc := "()I" } : Jvm.MethodName)) ∈ lw_all := lw_g (lw_at lw_m16 23 rfl) rfl
theorem q3771 : (Jvm.Cond.code ({ cls := "ParkingOfficeModel", name := "errorCode", desc := "()I" } : Jvm.MethodName) prog_21_method_134_code (1 : Nat) (Option.some Jvm.ClassFile.FieldType.int)) ∈ lw_all := lw_g (lw_at lw_m16 24 rfl) rfl
theorem q3773 : (Jvm.Cond.instanceMethod ({ cls := "ParkingOfficeModel", name := "errorOffset", desc := "()I" } : Jvm.MethodName)) ∈ lw_all := lw_g (lw_at lw_m16 26 rfl) rfl
theorem q3774 : (Jvm.Cond.selects "ParkingOfficeModel" ({ cls := "ParkingOfficeModel", name := "errorOffset", desc := "()I" } : Jvm.MethodName) ({ cls := "ParkingOfficeModel", name := "errorOffset", desc := "()I" } : Jvm.MethodName)) ∈ lw_all := lw_g (lw_at lw_m16 27 rfl) rfl
theorem q3775 : (Jvm.Cond.code ({ cls := "ParkingOfficeModel", name := "errorOffset", desc := "()I" } : Jvm.MethodName) prog_21_method_135_code (1 : Nat) (Option.some Jvm.ClassFile.FieldType.int)) ∈ lw_all := lw_g (lw_at lw_m16 28 rfl) rfl
theorem q3777 : (Jvm.Cond.instanceMethod ({ cls := "ParkingOfficeModel", name := "find", desc := "(I)I" } : Jvm.MethodName)) ∈ lw_all := lw_g (lw_at lw_m16 30 rfl) rfl
theorem q3778 : (Jvm.Cond.selects "ParkingOfficeModel" ({ cls := "ParkingOfficeModel", name := "find", desc := "(I)I" } : Jvm.MethodName) ({ cls := "ParkingOfficeModel", name := "find", desc := "(I)I" } : Jvm.MethodName)) ∈ lw_all := lw_g (lw_at lw_m16 31 rfl) rfl
theorem q3779 : (Jvm.Cond.code ({ cls := "ParkingOfficeModel", name := "find", desc := "(I)I" } : Jvm.MethodName) prog_21_method_136_code (3 : Nat) (Option.some Jvm.ClassFile.FieldType.int)) ∈ lw_all := lw_g (lw_at lw_m16 32 rfl) rfl
theorem q3781 : (Jvm.Cond.instanceMethod ({ cls := "ParkingOfficeModel", name := "printZone", desc := "(I)I" } : Jvm.MethodName)) ∈ lw_all := lw_g (lw_at lw_m16 34 rfl) rfl
theorem q3782 : (Jvm.Cond.selects "ParkingOfficeModel" ({ cls := "ParkingOfficeModel", name := "printZone", desc := "(I)I" } : Jvm.MethodName) ({ cls := "ParkingOfficeModel", name := "printZone", desc := "(I)I" } : Jvm.MethodName)) ∈ lw_all := lw_g (lw_at lw_m16 35 rfl) rfl
theorem q3783 : (Jvm.Cond.code ({ cls := "ParkingOfficeModel", name := "printZone", desc := "(I)I" } : Jvm.MethodName) prog_21_method_140_code (3 : Nat) (Option.some Jvm.ClassFile.FieldType.int)) ∈ lw_all := lw_g (lw_at lw_m16 36 rfl) rfl
theorem q3784 : (Jvm.Cond.methodLink "ParkingOfficeModel" (431 : Nat) ({ cls := "ParkingOfficeModel", name := "saysPermit", desc := "(II)V" } : Jvm.MethodName)) ∈ lw_all := lw_g (lw_at lw_m16 37 rfl) rfl
theorem q3785 : (Jvm.Cond.privateMethod ({ cls := "ParkingOfficeModel", name := "saysPermit", desc := "(II)V" } : Jvm.MethodName)) ∈ lw_tbl := lw_at lw_m16 38 rfl
theorem q3786 : (Jvm.Cond.instanceMethod ({ cls := "ParkingOfficeModel", name := "saysPermit", desc := "(II)V" } : Jvm.MethodName)) ∈ lw_all := lw_g (lw_at lw_m16 39 rfl) rfl
theorem q3787 : (Jvm.Cond.code ({ cls := "ParkingOfficeModel", name := "saysPermit", desc := "(II)V" } : Jvm.MethodName) prog_21_method_138_code (3 : Nat) (Option.none : Option Jvm.ClassFile.FieldType)) ∈ lw_all := lw_g (lw_at lw_m16 40 rfl) rfl
theorem q3788 : (Jvm.Cond.methodLink "ParkingOfficeModel" (428 : Nat) ({ cls := "ParkingOfficeModel", name := "says", desc := "(I)V" } : Jvm.MethodName)) ∈ lw_all := lw_g (lw_at lw_m16 41 rfl) rfl
theorem q3789 : (Jvm.Cond.privateMethod ({ cls := "ParkingOfficeModel", name := "says", desc := "(I)V" } : Jvm.MethodName)) ∈ lw_tbl := lw_at lw_m16 42 rfl
theorem q3790 : (Jvm.Cond.instanceMethod ({ cls := "ParkingOfficeModel", name := "says", desc := "(I)V" } : Jvm.MethodName)) ∈ lw_all := lw_g (lw_at lw_m16 43 rfl) rfl
theorem q3791 : (Jvm.Cond.code ({ cls := "ParkingOfficeModel", name := "says", desc := "(I)V" } : Jvm.MethodName) prog_21_method_137_code (2 : Nat) (Option.none : Option Jvm.ClassFile.FieldType)) ∈ lw_all := lw_g (lw_at lw_m16 44 rfl) rfl
theorem q3792 : (Jvm.Cond.methodLink "ParkingOfficeModel" (434 : Nat) ({ cls := "ParkingOfficeModel", name := "saysAll", desc := "(III)V" } : Jvm.MethodName)) ∈ lw_all := lw_g (lw_at lw_m16 45 rfl) rfl
theorem q3793 : (Jvm.Cond.privateMethod ({ cls := "ParkingOfficeModel", name := "saysAll", desc := "(III)V" } : Jvm.MethodName)) ∈ lw_tbl := lw_at lw_m16 46 rfl
theorem q3794 : (Jvm.Cond.instanceMethod ({ cls := "ParkingOfficeModel", name := "saysAll", desc := "(III)V" } : Jvm.MethodName)) ∈ lw_all := lw_g (lw_at lw_m16 47 rfl) rfl
theorem q3795 : (Jvm.Cond.code ({ cls := "ParkingOfficeModel", name := "saysAll", desc := "(III)V" } : Jvm.MethodName) prog_21_method_139_code (5 : Nat) (Option.none : Option Jvm.ClassFile.FieldType)) ∈ lw_all := lw_g (lw_at lw_m16 48 rfl) rfl
theorem q3797 : (Jvm.Cond.instanceMethod ({ cls := "ParkingOfficeModel", name := "outputByte", desc := "(I)I" } : Jvm.MethodName)) ∈ lw_all := lw_g (lw_at lw_m16 50 rfl) rfl
theorem q3798 : (Jvm.Cond.selects "ParkingOfficeModel" ({ cls := "ParkingOfficeModel", name := "outputByte", desc := "(I)I" } : Jvm.MethodName) ({ cls := "ParkingOfficeModel", name := "outputByte", desc := "(I)I" } : Jvm.MethodName)) ∈ lw_all := lw_g (lw_at lw_m16 51 rfl) rfl
theorem q3799 : (Jvm.Cond.code ({ cls := "ParkingOfficeModel", name := "outputByte", desc := "(I)I" } : Jvm.MethodName) prog_21_method_141_code (2 : Nat) (Option.some Jvm.ClassFile.FieldType.int)) ∈ lw_all := lw_g (lw_at lw_m16 52 rfl) rfl
theorem q3840 : (Jvm.Cond.castable "ParkingOfficeModel" "java/lang/Object") ∈ lw_tbl := lw_at lw_m16 93 rfl
theorem in_X4 : ∀ w ∈ wsX40, w ∈ lw_all := lw_in wsX40 [3170, 3172, 3174, 3176, 3178, 3180, 3182, 3184, 3186, 3188, 3190, 3192, 3194, 3196, 3198, 3200, 3202, 3204, 3206, 3208, 3210, 3212, 3214, 3216, 3218, 3220, 3222, 3224] (by decide +kernel) (by decide +kernel)
