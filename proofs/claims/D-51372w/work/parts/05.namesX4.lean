/-! LandFolioModel -/
set_option maxRecDepth 100000
def RX4 : String := "LandFolioModel"
def TX4 : u_T := fun k => match k with
  | 0 => ("LandFolioModel", "now", "[I", true)
  | 1 => ("LandFolioModel", "draft", "[I", true)
  | 2 => ("LandFolioModel", "spare", "[I", true)
  | 3 => ("LandFolioModel", "earlier", "[I", true)
  | 4 => ("LandFolioModel", "slots", "[I", true)
  | 5 => ("LandFolioModel", "isKept", "[Z", true)
  | 6 => ("LandFolioModel", "undos", "I", false)
  | 7 => ("LandFolioModel", "tape", "[I", true)
  | 8 => ("LandFolioModel", "length", "I", false)
  | 9 => ("LandFolioModel", "error", "I", false)
  | 10 => ("LandFolioModel", "thrown", "I", false)
  | 11 => ("LandFolioModel", "place", "I", false)
  | 12 => ("LandFolioModel", "begin", "I", false)
  | 13 => ("LandFolioModel", "kind", "I", false)
  | 14 => ("LandFolioModel", "value", "I", false)
  | 15 => ("LandFolioModel", "fails", "Z", false)
  | 16 => ("LandFolioModel", "far", "[I", true)
  | 17 => ("LandFolioModel", "out", "[I", true)
  | _ => ("LandFolioModel", "written", "I", false)
def tyX4 : Nat → FieldType := fun k => match k with
  | 0 => .array .int
  | 1 => .array .int
  | 2 => .array .int
  | 3 => .array .int
  | 4 => .array .int
  | 5 => .array .boolean
  | 6 => .int
  | 7 => .array .int
  | 8 => .int
  | 9 => .int
  | 10 => .int
  | 11 => .int
  | 12 => .int
  | 13 => .int
  | 14 => .int
  | 15 => .boolean
  | 16 => .array .int
  | 17 => .array .int
  | _ => .int
abbrev wsX40 : List Cond := u_ws RX4 TX4 19
set_option maxRecDepth 100000 in
theorem nmX4 : ∀ a, a < 19 → ∀ b, b < 19 → a ≠ b → (TX4 a).2.1 ≠ (TX4 b).2.1 := by decide +kernel
set_option maxRecDepth 100000 in
theorem tyX4_ok : ∀ k, k < 19 → parseFieldDescriptor (TX4 k).2.2.1 = some (tyX4 k) := by decide +kernel
abbrev cX4_init : ByteArray := prog_20_method_1_code
def yX4_init : MethodName := ⟨RX4, "<init>", "()V"⟩
def dkwX4_init_5 : List UInt8 := [79, 177]
abbrev dktX4_init_5 : List UInt8 := dkwX4_init_5 ++ []
def dkwX4_init_4 : List UInt8 := [16, 8, 16, 6, 16, 10, 184, 0, 42, 42, 180, 0, 7, 7, 4, 79, 42, 180, 0, 7, 16, 8, 18, 46]
abbrev dktX4_init_4 : List UInt8 := dkwX4_init_4 ++ dktX4_init_5
def dkwX4_init_3 : List UInt8 := [181, 0, 32, 42, 16, 40, 188, 10, 181, 0, 36, 42, 17, 2, 188, 188, 10, 181, 0, 39, 42, 180, 0, 7]
abbrev dktX4_init_3 : List UInt8 := dkwX4_init_3 ++ dktX4_init_4
def dkwX4_init_2 : List UInt8 := [181, 0, 22, 42, 5, 188, 4, 181, 0, 25, 42, 17, 3, 32, 188, 10, 181, 0, 29, 42, 16, 254]
abbrev dktX4_init_2 : List UInt8 := dkwX4_init_2 ++ dktX4_init_3
def dkwX4_init_1 : List UInt8 := [17, 4, 151, 188, 10, 181, 0, 16, 42, 17, 36, 184, 188, 10, 181, 0, 19, 42, 17, 9, 46, 188, 10]
abbrev dktX4_init_1 : List UInt8 := dkwX4_init_1 ++ dktX4_init_2
def dkwX4_init_0 : List UInt8 := [42, 183, 0, 1, 42, 17, 4, 151, 188, 10, 181, 0, 7, 42, 17, 4, 151, 188, 10, 181, 0, 13, 42]
abbrev dktX4_init_0 : List UInt8 := dkwX4_init_0 ++ dktX4_init_1
theorem dksX4_init_0 : cX4_init.data.toList.drop 0 = dktX4_init_0 := by decide +kernel
theorem dksX4_init_1 : cX4_init.data.toList.drop 23 = dktX4_init_1 := dk_seg dksX4_init_0 23 rfl rfl
theorem dksX4_init_2 : cX4_init.data.toList.drop 46 = dktX4_init_2 := dk_seg dksX4_init_1 23 rfl rfl
theorem dksX4_init_3 : cX4_init.data.toList.drop 68 = dktX4_init_3 := dk_seg dksX4_init_2 22 rfl rfl
theorem dksX4_init_4 : cX4_init.data.toList.drop 92 = dktX4_init_4 := dk_seg dksX4_init_3 24 rfl rfl
theorem dksX4_init_5 : cX4_init.data.toList.drop 116 = dktX4_init_5 := dk_seg dksX4_init_4 24 rfl rfl
theorem dX4_init_0 : decode cX4_init 0 = .ok (.aload_n 0, 1) := dk_42 (dk_at dksX4_init_0 0 rfl rfl)
theorem dX4_init_1 : decode cX4_init 1 = .ok (.invokespecial 1, 3) := dk_183 0 1 (dk_at dksX4_init_0 1 rfl rfl)
theorem dX4_init_4 : decode cX4_init 4 = .ok (.aload_n 0, 1) := dk_42 (dk_at dksX4_init_0 4 rfl rfl)
theorem dX4_init_5 : decode cX4_init 5 = .ok (.sipush 1175, 3) := dk_17 4 151 (dk_at dksX4_init_0 5 rfl rfl)
theorem dX4_init_8 : decode cX4_init 8 = .ok (.newarray .int, 2) := dk_188_10 (dk_at dksX4_init_0 8 rfl rfl)
theorem dX4_init_10 : decode cX4_init 10 = .ok (.putfield 7, 3) := dk_181 0 7 (dk_at dksX4_init_0 10 rfl rfl)
theorem dX4_init_13 : decode cX4_init 13 = .ok (.aload_n 0, 1) := dk_42 (dk_at dksX4_init_0 13 rfl rfl)
theorem dX4_init_14 : decode cX4_init 14 = .ok (.sipush 1175, 3) := dk_17 4 151 (dk_at dksX4_init_0 14 rfl rfl)
theorem dX4_init_17 : decode cX4_init 17 = .ok (.newarray .int, 2) := dk_188_10 (dk_at dksX4_init_0 17 rfl rfl)
theorem dX4_init_19 : decode cX4_init 19 = .ok (.putfield 13, 3) := dk_181 0 13 (dk_at dksX4_init_0 19 rfl rfl)
theorem dX4_init_22 : decode cX4_init 22 = .ok (.aload_n 0, 1) := dk_42 (dk_at dksX4_init_0 22 rfl rfl)
theorem dX4_init_23 : decode cX4_init 23 = .ok (.sipush 1175, 3) := dk_17 4 151 (dk_at dksX4_init_1 0 rfl rfl)
theorem dX4_init_26 : decode cX4_init 26 = .ok (.newarray .int, 2) := dk_188_10 (dk_at dksX4_init_1 3 rfl rfl)
theorem dX4_init_28 : decode cX4_init 28 = .ok (.putfield 16, 3) := dk_181 0 16 (dk_at dksX4_init_1 5 rfl rfl)
theorem dX4_init_31 : decode cX4_init 31 = .ok (.aload_n 0, 1) := dk_42 (dk_at dksX4_init_1 8 rfl rfl)
theorem dX4_init_32 : decode cX4_init 32 = .ok (.sipush 9400, 3) := dk_17 36 184 (dk_at dksX4_init_1 9 rfl rfl)
theorem dX4_init_35 : decode cX4_init 35 = .ok (.newarray .int, 2) := dk_188_10 (dk_at dksX4_init_1 12 rfl rfl)
theorem dX4_init_37 : decode cX4_init 37 = .ok (.putfield 19, 3) := dk_181 0 19 (dk_at dksX4_init_1 14 rfl rfl)
theorem dX4_init_40 : decode cX4_init 40 = .ok (.aload_n 0, 1) := dk_42 (dk_at dksX4_init_1 17 rfl rfl)
theorem dX4_init_41 : decode cX4_init 41 = .ok (.sipush 2350, 3) := dk_17 9 46 (dk_at dksX4_init_1 18 rfl rfl)
theorem dX4_init_44 : decode cX4_init 44 = .ok (.newarray .int, 2) := dk_188_10 (dk_at dksX4_init_1 21 rfl rfl)
theorem dX4_init_46 : decode cX4_init 46 = .ok (.putfield 22, 3) := dk_181 0 22 (dk_at dksX4_init_2 0 rfl rfl)
theorem dX4_init_49 : decode cX4_init 49 = .ok (.aload_n 0, 1) := dk_42 (dk_at dksX4_init_2 3 rfl rfl)
theorem dX4_init_50 : decode cX4_init 50 = .ok (.iconst 2, 1) := dk_5 (dk_at dksX4_init_2 4 rfl rfl)
theorem dX4_init_51 : decode cX4_init 51 = .ok (.newarray .boolean, 2) := dk_188_4 (dk_at dksX4_init_2 5 rfl rfl)
theorem dX4_init_53 : decode cX4_init 53 = .ok (.putfield 25, 3) := dk_181 0 25 (dk_at dksX4_init_2 7 rfl rfl)
theorem dX4_init_56 : decode cX4_init 56 = .ok (.aload_n 0, 1) := dk_42 (dk_at dksX4_init_2 10 rfl rfl)
theorem dX4_init_57 : decode cX4_init 57 = .ok (.sipush 800, 3) := dk_17 3 32 (dk_at dksX4_init_2 11 rfl rfl)
theorem dX4_init_60 : decode cX4_init 60 = .ok (.newarray .int, 2) := dk_188_10 (dk_at dksX4_init_2 14 rfl rfl)
theorem dX4_init_62 : decode cX4_init 62 = .ok (.putfield 29, 3) := dk_181 0 29 (dk_at dksX4_init_2 16 rfl rfl)
theorem dX4_init_65 : decode cX4_init 65 = .ok (.aload_n 0, 1) := dk_42 (dk_at dksX4_init_2 19 rfl rfl)
theorem dX4_init_66 : decode cX4_init 66 = .ok (.bipush (-2), 2) := dk_16 254 (dk_at dksX4_init_2 20 rfl rfl)
theorem dX4_init_68 : decode cX4_init 68 = .ok (.putfield 32, 3) := dk_181 0 32 (dk_at dksX4_init_3 0 rfl rfl)
theorem dX4_init_71 : decode cX4_init 71 = .ok (.aload_n 0, 1) := dk_42 (dk_at dksX4_init_3 3 rfl rfl)
theorem dX4_init_72 : decode cX4_init 72 = .ok (.bipush 40, 2) := dk_16 40 (dk_at dksX4_init_3 4 rfl rfl)
theorem dX4_init_74 : decode cX4_init 74 = .ok (.newarray .int, 2) := dk_188_10 (dk_at dksX4_init_3 6 rfl rfl)
theorem dX4_init_76 : decode cX4_init 76 = .ok (.putfield 36, 3) := dk_181 0 36 (dk_at dksX4_init_3 8 rfl rfl)
theorem dX4_init_79 : decode cX4_init 79 = .ok (.aload_n 0, 1) := dk_42 (dk_at dksX4_init_3 11 rfl rfl)
theorem dX4_init_80 : decode cX4_init 80 = .ok (.sipush 700, 3) := dk_17 2 188 (dk_at dksX4_init_3 12 rfl rfl)
theorem dX4_init_83 : decode cX4_init 83 = .ok (.newarray .int, 2) := dk_188_10 (dk_at dksX4_init_3 15 rfl rfl)
theorem dX4_init_85 : decode cX4_init 85 = .ok (.putfield 39, 3) := dk_181 0 39 (dk_at dksX4_init_3 17 rfl rfl)
theorem dX4_init_88 : decode cX4_init 88 = .ok (.aload_n 0, 1) := dk_42 (dk_at dksX4_init_3 20 rfl rfl)
theorem dX4_init_89 : decode cX4_init 89 = .ok (.getfield 7, 3) := dk_180 0 7 (dk_at dksX4_init_3 21 rfl rfl)
theorem dX4_init_92 : decode cX4_init 92 = .ok (.bipush 8, 2) := dk_16 8 (dk_at dksX4_init_4 0 rfl rfl)
theorem dX4_init_94 : decode cX4_init 94 = .ok (.bipush 6, 2) := dk_16 6 (dk_at dksX4_init_4 2 rfl rfl)
theorem dX4_init_96 : decode cX4_init 96 = .ok (.bipush 10, 2) := dk_16 10 (dk_at dksX4_init_4 4 rfl rfl)
theorem dX4_init_98 : decode cX4_init 98 = .ok (.invokestatic 42, 3) := dk_184 0 42 (dk_at dksX4_init_4 6 rfl rfl)
theorem dX4_init_101 : decode cX4_init 101 = .ok (.aload_n 0, 1) := dk_42 (dk_at dksX4_init_4 9 rfl rfl)
theorem dX4_init_102 : decode cX4_init 102 = .ok (.getfield 7, 3) := dk_180 0 7 (dk_at dksX4_init_4 10 rfl rfl)
theorem dX4_init_105 : decode cX4_init 105 = .ok (.iconst 4, 1) := dk_7 (dk_at dksX4_init_4 13 rfl rfl)
theorem dX4_init_106 : decode cX4_init 106 = .ok (.iconst 1, 1) := dk_4 (dk_at dksX4_init_4 14 rfl rfl)
theorem dX4_init_107 : decode cX4_init 107 = .ok (.iastore, 1) := dk_79 (dk_at dksX4_init_4 15 rfl rfl)
theorem dX4_init_108 : decode cX4_init 108 = .ok (.aload_n 0, 1) := dk_42 (dk_at dksX4_init_4 16 rfl rfl)
theorem dX4_init_109 : decode cX4_init 109 = .ok (.getfield 7, 3) := dk_180 0 7 (dk_at dksX4_init_4 17 rfl rfl)
theorem dX4_init_112 : decode cX4_init 112 = .ok (.bipush 8, 2) := dk_16 8 (dk_at dksX4_init_4 20 rfl rfl)
theorem dX4_init_114 : decode cX4_init 114 = .ok (.ldc 46, 2) := dk_18 46 (dk_at dksX4_init_4 22 rfl rfl)
theorem dX4_init_116 : decode cX4_init 116 = .ok (.iastore, 1) := dk_79 (dk_at dksX4_init_5 0 rfl rfl)
theorem dX4_init_117 : decode cX4_init 117 = .ok (.return_, 1) := dk_177 (dk_at dksX4_init_5 1 rfl rfl)
abbrev cX4_begins : ByteArray := prog_20_method_13_code
def yX4_begins : MethodName := ⟨RX4, "begins", "([IIII)V"⟩
def dkwX4_begins_2 : List UInt8 := [3, 5, 184, 0, 62, 16, 12, 79, 42, 16, 6, 4, 79, 177]
abbrev dktX4_begins_2 : List UInt8 := dkwX4_begins_2 ++ []
def dkwX4_begins_1 : List UInt8 := [27, 79, 42, 4, 28, 79, 42, 5, 29, 79, 42, 3, 3, 27, 28, 16, 254, 16, 254, 184, 0, 58, 87, 42]
abbrev dktX4_begins_1 : List UInt8 := dkwX4_begins_1 ++ dktX4_begins_2
def dkwX4_begins_0 : List UInt8 := [3, 54, 4, 21, 4, 17, 4, 151, 162, 0, 14, 42, 21, 4, 3, 79, 132, 4, 1, 167, 255, 240, 42, 3]
abbrev dktX4_begins_0 : List UInt8 := dkwX4_begins_0 ++ dktX4_begins_1
theorem dksX4_begins_0 : cX4_begins.data.toList.drop 0 = dktX4_begins_0 := by decide +kernel
theorem dksX4_begins_1 : cX4_begins.data.toList.drop 24 = dktX4_begins_1 := dk_seg dksX4_begins_0 24 rfl rfl
theorem dksX4_begins_2 : cX4_begins.data.toList.drop 48 = dktX4_begins_2 := dk_seg dksX4_begins_1 24 rfl rfl
theorem dX4_begins_0 : decode cX4_begins 0 = .ok (.iconst 0, 1) := dk_3 (dk_at dksX4_begins_0 0 rfl rfl)
theorem dX4_begins_1 : decode cX4_begins 1 = .ok (.istore 4, 2) := dk_54 4 (dk_at dksX4_begins_0 1 rfl rfl)
theorem dX4_begins_3 : decode cX4_begins 3 = .ok (.iload 4, 2) := dk_21 4 (dk_at dksX4_begins_0 3 rfl rfl)
theorem dX4_begins_5 : decode cX4_begins 5 = .ok (.sipush 1175, 3) := dk_17 4 151 (dk_at dksX4_begins_0 5 rfl rfl)
theorem dX4_begins_8 : decode cX4_begins 8 = .ok (.if_icmp .ge 14, 3) := dk_162 0 14 (dk_at dksX4_begins_0 8 rfl rfl)
theorem dX4_begins_11 : decode cX4_begins 11 = .ok (.aload_n 0, 1) := dk_42 (dk_at dksX4_begins_0 11 rfl rfl)
theorem dX4_begins_12 : decode cX4_begins 12 = .ok (.iload 4, 2) := dk_21 4 (dk_at dksX4_begins_0 12 rfl rfl)
theorem dX4_begins_14 : decode cX4_begins 14 = .ok (.iconst 0, 1) := dk_3 (dk_at dksX4_begins_0 14 rfl rfl)
theorem dX4_begins_15 : decode cX4_begins 15 = .ok (.iastore, 1) := dk_79 (dk_at dksX4_begins_0 15 rfl rfl)
theorem dX4_begins_16 : decode cX4_begins 16 = .ok (.iinc 4 1, 3) := dk_132 4 1 (dk_at dksX4_begins_0 16 rfl rfl)
theorem dX4_begins_19 : decode cX4_begins 19 = .ok (.goto (-16), 3) := dk_167 255 240 (dk_at dksX4_begins_0 19 rfl rfl)
theorem dX4_begins_22 : decode cX4_begins 22 = .ok (.aload_n 0, 1) := dk_42 (dk_at dksX4_begins_0 22 rfl rfl)
theorem dX4_begins_23 : decode cX4_begins 23 = .ok (.iconst 0, 1) := dk_3 (dk_at dksX4_begins_0 23 rfl rfl)
theorem dX4_begins_24 : decode cX4_begins 24 = .ok (.iload_n 1, 1) := dk_27 (dk_at dksX4_begins_1 0 rfl rfl)
theorem dX4_begins_25 : decode cX4_begins 25 = .ok (.iastore, 1) := dk_79 (dk_at dksX4_begins_1 1 rfl rfl)
theorem dX4_begins_26 : decode cX4_begins 26 = .ok (.aload_n 0, 1) := dk_42 (dk_at dksX4_begins_1 2 rfl rfl)
theorem dX4_begins_27 : decode cX4_begins 27 = .ok (.iconst 1, 1) := dk_4 (dk_at dksX4_begins_1 3 rfl rfl)
theorem dX4_begins_28 : decode cX4_begins 28 = .ok (.iload_n 2, 1) := dk_28 (dk_at dksX4_begins_1 4 rfl rfl)
theorem dX4_begins_29 : decode cX4_begins 29 = .ok (.iastore, 1) := dk_79 (dk_at dksX4_begins_1 5 rfl rfl)
theorem dX4_begins_30 : decode cX4_begins 30 = .ok (.aload_n 0, 1) := dk_42 (dk_at dksX4_begins_1 6 rfl rfl)
theorem dX4_begins_31 : decode cX4_begins 31 = .ok (.iconst 2, 1) := dk_5 (dk_at dksX4_begins_1 7 rfl rfl)
theorem dX4_begins_32 : decode cX4_begins 32 = .ok (.iload_n 3, 1) := dk_29 (dk_at dksX4_begins_1 8 rfl rfl)
theorem dX4_begins_33 : decode cX4_begins 33 = .ok (.iastore, 1) := dk_79 (dk_at dksX4_begins_1 9 rfl rfl)
theorem dX4_begins_34 : decode cX4_begins 34 = .ok (.aload_n 0, 1) := dk_42 (dk_at dksX4_begins_1 10 rfl rfl)
theorem dX4_begins_35 : decode cX4_begins 35 = .ok (.iconst 0, 1) := dk_3 (dk_at dksX4_begins_1 11 rfl rfl)
theorem dX4_begins_36 : decode cX4_begins 36 = .ok (.iconst 0, 1) := dk_3 (dk_at dksX4_begins_1 12 rfl rfl)
theorem dX4_begins_37 : decode cX4_begins 37 = .ok (.iload_n 1, 1) := dk_27 (dk_at dksX4_begins_1 13 rfl rfl)
theorem dX4_begins_38 : decode cX4_begins 38 = .ok (.iload_n 2, 1) := dk_28 (dk_at dksX4_begins_1 14 rfl rfl)
theorem dX4_begins_39 : decode cX4_begins 39 = .ok (.bipush (-2), 2) := dk_16 254 (dk_at dksX4_begins_1 15 rfl rfl)
theorem dX4_begins_41 : decode cX4_begins 41 = .ok (.bipush (-2), 2) := dk_16 254 (dk_at dksX4_begins_1 17 rfl rfl)
theorem dX4_begins_43 : decode cX4_begins 43 = .ok (.invokestatic 58, 3) := dk_184 0 58 (dk_at dksX4_begins_1 19 rfl rfl)
theorem dX4_begins_46 : decode cX4_begins 46 = .ok (.pop, 1) := dk_87 (dk_at dksX4_begins_1 22 rfl rfl)
theorem dX4_begins_47 : decode cX4_begins 47 = .ok (.aload_n 0, 1) := dk_42 (dk_at dksX4_begins_1 23 rfl rfl)
theorem dX4_begins_48 : decode cX4_begins 48 = .ok (.iconst 0, 1) := dk_3 (dk_at dksX4_begins_2 0 rfl rfl)
theorem dX4_begins_49 : decode cX4_begins 49 = .ok (.iconst 2, 1) := dk_5 (dk_at dksX4_begins_2 1 rfl rfl)
theorem dX4_begins_50 : decode cX4_begins 50 = .ok (.invokestatic 62, 3) := dk_184 0 62 (dk_at dksX4_begins_2 2 rfl rfl)
theorem dX4_begins_53 : decode cX4_begins 53 = .ok (.bipush 12, 2) := dk_16 12 (dk_at dksX4_begins_2 5 rfl rfl)
theorem dX4_begins_55 : decode cX4_begins 55 = .ok (.iastore, 1) := dk_79 (dk_at dksX4_begins_2 7 rfl rfl)
theorem dX4_begins_56 : decode cX4_begins 56 = .ok (.aload_n 0, 1) := dk_42 (dk_at dksX4_begins_2 8 rfl rfl)
theorem dX4_begins_57 : decode cX4_begins 57 = .ok (.bipush 6, 2) := dk_16 6 (dk_at dksX4_begins_2 9 rfl rfl)
theorem dX4_begins_59 : decode cX4_begins 59 = .ok (.iconst 1, 1) := dk_4 (dk_at dksX4_begins_2 11 rfl rfl)
theorem dX4_begins_60 : decode cX4_begins 60 = .ok (.iastore, 1) := dk_79 (dk_at dksX4_begins_2 12 rfl rfl)
theorem dX4_begins_61 : decode cX4_begins 61 = .ok (.return_, 1) := dk_177 (dk_at dksX4_begins_2 13 rfl rfl)
abbrev cX4_comes : ByteArray := prog_20_method_14_code
def yX4_comes : MethodName := ⟨RX4, "comes", "([IIIIIII)I"⟩
def dkwX4_comes_4 : List UInt8 := [42, 21, 7, 16, 9, 184, 0, 66, 21, 6, 79, 42, 8, 92, 46, 4, 96, 79, 21, 7, 172]
abbrev dktX4_comes_4 : List UInt8 := dkwX4_comes_4 ++ []
def dkwX4_comes_3 : List UInt8 := [16, 254, 79, 42, 21, 7, 16, 7, 184, 0, 66, 3, 79, 42, 21, 7, 16, 8, 184, 0, 66, 21, 5, 79]
abbrev dktX4_comes_3 : List UInt8 := dkwX4_comes_3 ++ dktX4_comes_4
def dkwX4_comes_2 : List UInt8 := [184, 0, 66, 4, 79, 42, 21, 7, 8, 184, 0, 66, 42, 6, 46, 79, 42, 21, 7, 16, 6, 184, 0, 66]
abbrev dktX4_comes_2 : List UInt8 := dkwX4_comes_2 ++ dktX4_comes_3
def dkwX4_comes_1 : List UInt8 := [21, 7, 5, 184, 0, 66, 29, 79, 42, 21, 7, 6, 184, 0, 66, 21, 4, 79, 42, 21, 7, 7]
abbrev dktX4_comes_1 : List UInt8 := dkwX4_comes_1 ++ dktX4_comes_2
def dkwX4_comes_0 : List UInt8 := [42, 8, 46, 54, 7, 42, 21, 7, 3, 184, 0, 66, 27, 79, 42, 21, 7, 4, 184, 0, 66, 28, 79, 42]
abbrev dktX4_comes_0 : List UInt8 := dkwX4_comes_0 ++ dktX4_comes_1
theorem dksX4_comes_0 : cX4_comes.data.toList.drop 0 = dktX4_comes_0 := by decide +kernel
theorem dksX4_comes_1 : cX4_comes.data.toList.drop 24 = dktX4_comes_1 := dk_seg dksX4_comes_0 24 rfl rfl
theorem dksX4_comes_2 : cX4_comes.data.toList.drop 46 = dktX4_comes_2 := dk_seg dksX4_comes_1 22 rfl rfl
theorem dksX4_comes_3 : cX4_comes.data.toList.drop 70 = dktX4_comes_3 := dk_seg dksX4_comes_2 24 rfl rfl
theorem dksX4_comes_4 : cX4_comes.data.toList.drop 94 = dktX4_comes_4 := dk_seg dksX4_comes_3 24 rfl rfl
theorem dX4_comes_0 : decode cX4_comes 0 = .ok (.aload_n 0, 1) := dk_42 (dk_at dksX4_comes_0 0 rfl rfl)
theorem dX4_comes_1 : decode cX4_comes 1 = .ok (.iconst 5, 1) := dk_8 (dk_at dksX4_comes_0 1 rfl rfl)
theorem dX4_comes_2 : decode cX4_comes 2 = .ok (.iaload, 1) := dk_46 (dk_at dksX4_comes_0 2 rfl rfl)
theorem dX4_comes_3 : decode cX4_comes 3 = .ok (.istore 7, 2) := dk_54 7 (dk_at dksX4_comes_0 3 rfl rfl)
theorem dX4_comes_5 : decode cX4_comes 5 = .ok (.aload_n 0, 1) := dk_42 (dk_at dksX4_comes_0 5 rfl rfl)
theorem dX4_comes_6 : decode cX4_comes 6 = .ok (.iload 7, 2) := dk_21 7 (dk_at dksX4_comes_0 6 rfl rfl)
theorem dX4_comes_8 : decode cX4_comes 8 = .ok (.iconst 0, 1) := dk_3 (dk_at dksX4_comes_0 8 rfl rfl)
theorem dX4_comes_9 : decode cX4_comes 9 = .ok (.invokestatic 66, 3) := dk_184 0 66 (dk_at dksX4_comes_0 9 rfl rfl)
theorem dX4_comes_12 : decode cX4_comes 12 = .ok (.iload_n 1, 1) := dk_27 (dk_at dksX4_comes_0 12 rfl rfl)
theorem dX4_comes_13 : decode cX4_comes 13 = .ok (.iastore, 1) := dk_79 (dk_at dksX4_comes_0 13 rfl rfl)
theorem dX4_comes_14 : decode cX4_comes 14 = .ok (.aload_n 0, 1) := dk_42 (dk_at dksX4_comes_0 14 rfl rfl)
theorem dX4_comes_15 : decode cX4_comes 15 = .ok (.iload 7, 2) := dk_21 7 (dk_at dksX4_comes_0 15 rfl rfl)
theorem dX4_comes_17 : decode cX4_comes 17 = .ok (.iconst 1, 1) := dk_4 (dk_at dksX4_comes_0 17 rfl rfl)
theorem dX4_comes_18 : decode cX4_comes 18 = .ok (.invokestatic 66, 3) := dk_184 0 66 (dk_at dksX4_comes_0 18 rfl rfl)
theorem dX4_comes_21 : decode cX4_comes 21 = .ok (.iload_n 2, 1) := dk_28 (dk_at dksX4_comes_0 21 rfl rfl)
theorem dX4_comes_22 : decode cX4_comes 22 = .ok (.iastore, 1) := dk_79 (dk_at dksX4_comes_0 22 rfl rfl)
theorem dX4_comes_23 : decode cX4_comes 23 = .ok (.aload_n 0, 1) := dk_42 (dk_at dksX4_comes_0 23 rfl rfl)
theorem dX4_comes_24 : decode cX4_comes 24 = .ok (.iload 7, 2) := dk_21 7 (dk_at dksX4_comes_1 0 rfl rfl)
theorem dX4_comes_26 : decode cX4_comes 26 = .ok (.iconst 2, 1) := dk_5 (dk_at dksX4_comes_1 2 rfl rfl)
theorem dX4_comes_27 : decode cX4_comes 27 = .ok (.invokestatic 66, 3) := dk_184 0 66 (dk_at dksX4_comes_1 3 rfl rfl)
theorem dX4_comes_30 : decode cX4_comes 30 = .ok (.iload_n 3, 1) := dk_29 (dk_at dksX4_comes_1 6 rfl rfl)
theorem dX4_comes_31 : decode cX4_comes 31 = .ok (.iastore, 1) := dk_79 (dk_at dksX4_comes_1 7 rfl rfl)
theorem dX4_comes_32 : decode cX4_comes 32 = .ok (.aload_n 0, 1) := dk_42 (dk_at dksX4_comes_1 8 rfl rfl)
theorem dX4_comes_33 : decode cX4_comes 33 = .ok (.iload 7, 2) := dk_21 7 (dk_at dksX4_comes_1 9 rfl rfl)
theorem dX4_comes_35 : decode cX4_comes 35 = .ok (.iconst 3, 1) := dk_6 (dk_at dksX4_comes_1 11 rfl rfl)
theorem dX4_comes_36 : decode cX4_comes 36 = .ok (.invokestatic 66, 3) := dk_184 0 66 (dk_at dksX4_comes_1 12 rfl rfl)
theorem dX4_comes_39 : decode cX4_comes 39 = .ok (.iload 4, 2) := dk_21 4 (dk_at dksX4_comes_1 15 rfl rfl)
theorem dX4_comes_41 : decode cX4_comes 41 = .ok (.iastore, 1) := dk_79 (dk_at dksX4_comes_1 17 rfl rfl)
theorem dX4_comes_42 : decode cX4_comes 42 = .ok (.aload_n 0, 1) := dk_42 (dk_at dksX4_comes_1 18 rfl rfl)
theorem dX4_comes_43 : decode cX4_comes 43 = .ok (.iload 7, 2) := dk_21 7 (dk_at dksX4_comes_1 19 rfl rfl)
theorem dX4_comes_45 : decode cX4_comes 45 = .ok (.iconst 4, 1) := dk_7 (dk_at dksX4_comes_1 21 rfl rfl)
theorem dX4_comes_46 : decode cX4_comes 46 = .ok (.invokestatic 66, 3) := dk_184 0 66 (dk_at dksX4_comes_2 0 rfl rfl)
theorem dX4_comes_49 : decode cX4_comes 49 = .ok (.iconst 1, 1) := dk_4 (dk_at dksX4_comes_2 3 rfl rfl)
theorem dX4_comes_50 : decode cX4_comes 50 = .ok (.iastore, 1) := dk_79 (dk_at dksX4_comes_2 4 rfl rfl)
theorem dX4_comes_51 : decode cX4_comes 51 = .ok (.aload_n 0, 1) := dk_42 (dk_at dksX4_comes_2 5 rfl rfl)
theorem dX4_comes_52 : decode cX4_comes 52 = .ok (.iload 7, 2) := dk_21 7 (dk_at dksX4_comes_2 6 rfl rfl)
theorem dX4_comes_54 : decode cX4_comes 54 = .ok (.iconst 5, 1) := dk_8 (dk_at dksX4_comes_2 8 rfl rfl)
theorem dX4_comes_55 : decode cX4_comes 55 = .ok (.invokestatic 66, 3) := dk_184 0 66 (dk_at dksX4_comes_2 9 rfl rfl)
theorem dX4_comes_58 : decode cX4_comes 58 = .ok (.aload_n 0, 1) := dk_42 (dk_at dksX4_comes_2 12 rfl rfl)
theorem dX4_comes_59 : decode cX4_comes 59 = .ok (.iconst 3, 1) := dk_6 (dk_at dksX4_comes_2 13 rfl rfl)
theorem dX4_comes_60 : decode cX4_comes 60 = .ok (.iaload, 1) := dk_46 (dk_at dksX4_comes_2 14 rfl rfl)
theorem dX4_comes_61 : decode cX4_comes 61 = .ok (.iastore, 1) := dk_79 (dk_at dksX4_comes_2 15 rfl rfl)
theorem dX4_comes_62 : decode cX4_comes 62 = .ok (.aload_n 0, 1) := dk_42 (dk_at dksX4_comes_2 16 rfl rfl)
theorem dX4_comes_63 : decode cX4_comes 63 = .ok (.iload 7, 2) := dk_21 7 (dk_at dksX4_comes_2 17 rfl rfl)
theorem dX4_comes_65 : decode cX4_comes 65 = .ok (.bipush 6, 2) := dk_16 6 (dk_at dksX4_comes_2 19 rfl rfl)
theorem dX4_comes_67 : decode cX4_comes 67 = .ok (.invokestatic 66, 3) := dk_184 0 66 (dk_at dksX4_comes_2 21 rfl rfl)
theorem dX4_comes_70 : decode cX4_comes 70 = .ok (.bipush (-2), 2) := dk_16 254 (dk_at dksX4_comes_3 0 rfl rfl)
theorem dX4_comes_72 : decode cX4_comes 72 = .ok (.iastore, 1) := dk_79 (dk_at dksX4_comes_3 2 rfl rfl)
theorem dX4_comes_73 : decode cX4_comes 73 = .ok (.aload_n 0, 1) := dk_42 (dk_at dksX4_comes_3 3 rfl rfl)
theorem dX4_comes_74 : decode cX4_comes 74 = .ok (.iload 7, 2) := dk_21 7 (dk_at dksX4_comes_3 4 rfl rfl)
theorem dX4_comes_76 : decode cX4_comes 76 = .ok (.bipush 7, 2) := dk_16 7 (dk_at dksX4_comes_3 6 rfl rfl)
theorem dX4_comes_78 : decode cX4_comes 78 = .ok (.invokestatic 66, 3) := dk_184 0 66 (dk_at dksX4_comes_3 8 rfl rfl)
theorem dX4_comes_81 : decode cX4_comes 81 = .ok (.iconst 0, 1) := dk_3 (dk_at dksX4_comes_3 11 rfl rfl)
theorem dX4_comes_82 : decode cX4_comes 82 = .ok (.iastore, 1) := dk_79 (dk_at dksX4_comes_3 12 rfl rfl)
theorem dX4_comes_83 : decode cX4_comes 83 = .ok (.aload_n 0, 1) := dk_42 (dk_at dksX4_comes_3 13 rfl rfl)
theorem dX4_comes_84 : decode cX4_comes 84 = .ok (.iload 7, 2) := dk_21 7 (dk_at dksX4_comes_3 14 rfl rfl)
theorem dX4_comes_86 : decode cX4_comes 86 = .ok (.bipush 8, 2) := dk_16 8 (dk_at dksX4_comes_3 16 rfl rfl)
theorem dX4_comes_88 : decode cX4_comes 88 = .ok (.invokestatic 66, 3) := dk_184 0 66 (dk_at dksX4_comes_3 18 rfl rfl)
theorem dX4_comes_91 : decode cX4_comes 91 = .ok (.iload 5, 2) := dk_21 5 (dk_at dksX4_comes_3 21 rfl rfl)
theorem dX4_comes_93 : decode cX4_comes 93 = .ok (.iastore, 1) := dk_79 (dk_at dksX4_comes_3 23 rfl rfl)
theorem dX4_comes_94 : decode cX4_comes 94 = .ok (.aload_n 0, 1) := dk_42 (dk_at dksX4_comes_4 0 rfl rfl)
theorem dX4_comes_95 : decode cX4_comes 95 = .ok (.iload 7, 2) := dk_21 7 (dk_at dksX4_comes_4 1 rfl rfl)
theorem dX4_comes_97 : decode cX4_comes 97 = .ok (.bipush 9, 2) := dk_16 9 (dk_at dksX4_comes_4 3 rfl rfl)
theorem dX4_comes_99 : decode cX4_comes 99 = .ok (.invokestatic 66, 3) := dk_184 0 66 (dk_at dksX4_comes_4 5 rfl rfl)
theorem dX4_comes_102 : decode cX4_comes 102 = .ok (.iload 6, 2) := dk_21 6 (dk_at dksX4_comes_4 8 rfl rfl)
theorem dX4_comes_104 : decode cX4_comes 104 = .ok (.iastore, 1) := dk_79 (dk_at dksX4_comes_4 10 rfl rfl)
theorem dX4_comes_105 : decode cX4_comes 105 = .ok (.aload_n 0, 1) := dk_42 (dk_at dksX4_comes_4 11 rfl rfl)
theorem dX4_comes_106 : decode cX4_comes 106 = .ok (.iconst 5, 1) := dk_8 (dk_at dksX4_comes_4 12 rfl rfl)
theorem dX4_comes_107 : decode cX4_comes 107 = .ok (.dup2, 1) := dk_92 (dk_at dksX4_comes_4 13 rfl rfl)
theorem dX4_comes_108 : decode cX4_comes 108 = .ok (.iaload, 1) := dk_46 (dk_at dksX4_comes_4 14 rfl rfl)
theorem dX4_comes_109 : decode cX4_comes 109 = .ok (.iconst 1, 1) := dk_4 (dk_at dksX4_comes_4 15 rfl rfl)
theorem dX4_comes_110 : decode cX4_comes 110 = .ok (.iadd, 1) := dk_96 (dk_at dksX4_comes_4 16 rfl rfl)
theorem dX4_comes_111 : decode cX4_comes 111 = .ok (.iastore, 1) := dk_79 (dk_at dksX4_comes_4 17 rfl rfl)
theorem dX4_comes_112 : decode cX4_comes 112 = .ok (.iload 7, 2) := dk_21 7 (dk_at dksX4_comes_4 18 rfl rfl)
theorem dX4_comes_114 : decode cX4_comes 114 = .ok (.ireturn, 1) := dk_172 (dk_at dksX4_comes_4 20 rfl rfl)
abbrev cX4_partAt : ByteArray := prog_20_method_6_code
def yX4_partAt : MethodName := ⟨RX4, "partAt", "(II)I"⟩
def dkwX4_partAt_0 : List UInt8 := [16, 14, 16, 10, 26, 104, 96, 27, 96, 172]
abbrev dktX4_partAt_0 : List UInt8 := dkwX4_partAt_0 ++ []
theorem dksX4_partAt_0 : cX4_partAt.data.toList.drop 0 = dktX4_partAt_0 := by decide +kernel
theorem dX4_partAt_0 : decode cX4_partAt 0 = .ok (.bipush 14, 2) := dk_16 14 (dk_at dksX4_partAt_0 0 rfl rfl)
theorem dX4_partAt_2 : decode cX4_partAt 2 = .ok (.bipush 10, 2) := dk_16 10 (dk_at dksX4_partAt_0 2 rfl rfl)
theorem dX4_partAt_4 : decode cX4_partAt 4 = .ok (.iload_n 0, 1) := dk_26 (dk_at dksX4_partAt_0 4 rfl rfl)
theorem dX4_partAt_5 : decode cX4_partAt 5 = .ok (.imul, 1) := dk_104 (dk_at dksX4_partAt_0 5 rfl rfl)
theorem dX4_partAt_6 : decode cX4_partAt 6 = .ok (.iadd, 1) := dk_96 (dk_at dksX4_partAt_0 6 rfl rfl)
theorem dX4_partAt_7 : decode cX4_partAt 7 = .ok (.iload_n 1, 1) := dk_27 (dk_at dksX4_partAt_0 7 rfl rfl)
theorem dX4_partAt_8 : decode cX4_partAt 8 = .ok (.iadd, 1) := dk_96 (dk_at dksX4_partAt_0 8 rfl rfl)
theorem dX4_partAt_9 : decode cX4_partAt 9 = .ok (.ireturn, 1) := dk_172 (dk_at dksX4_partAt_0 9 rfl rfl)
abbrev cX4_deedAt : ByteArray := prog_20_method_7_code
def yX4_deedAt : MethodName := ⟨RX4, "deedAt", "(II)I"⟩
def dkwX4_deedAt_0 : List UInt8 := [17, 1, 158, 16, 8, 26, 104, 96, 27, 96, 172]
abbrev dktX4_deedAt_0 : List UInt8 := dkwX4_deedAt_0 ++ []
theorem dksX4_deedAt_0 : cX4_deedAt.data.toList.drop 0 = dktX4_deedAt_0 := by decide +kernel
theorem dX4_deedAt_0 : decode cX4_deedAt 0 = .ok (.sipush 414, 3) := dk_17 1 158 (dk_at dksX4_deedAt_0 0 rfl rfl)
theorem dX4_deedAt_3 : decode cX4_deedAt 3 = .ok (.bipush 8, 2) := dk_16 8 (dk_at dksX4_deedAt_0 3 rfl rfl)
theorem dX4_deedAt_5 : decode cX4_deedAt 5 = .ok (.iload_n 0, 1) := dk_26 (dk_at dksX4_deedAt_0 5 rfl rfl)
theorem dX4_deedAt_6 : decode cX4_deedAt 6 = .ok (.imul, 1) := dk_104 (dk_at dksX4_deedAt_0 6 rfl rfl)
theorem dX4_deedAt_7 : decode cX4_deedAt 7 = .ok (.iadd, 1) := dk_96 (dk_at dksX4_deedAt_0 7 rfl rfl)
theorem dX4_deedAt_8 : decode cX4_deedAt 8 = .ok (.iload_n 1, 1) := dk_27 (dk_at dksX4_deedAt_0 8 rfl rfl)
theorem dX4_deedAt_9 : decode cX4_deedAt 9 = .ok (.iadd, 1) := dk_96 (dk_at dksX4_deedAt_0 9 rfl rfl)
theorem dX4_deedAt_10 : decode cX4_deedAt 10 = .ok (.ireturn, 1) := dk_172 (dk_at dksX4_deedAt_0 10 rfl rfl)
abbrev cX4_append : ByteArray := prog_20_method_48_code
def yX4_append : MethodName := ⟨RX4, "append", "(IIIII)I"⟩
def dkwX4_append_5 : List UInt8 := [180, 0, 134, 172]
abbrev dktX4_append_5 : List UInt8 := dkwX4_append_5 ++ []
def dkwX4_append_4 : List UInt8 := [122, 17, 0, 255, 126, 79, 42, 89, 180, 0, 134, 4, 96, 181, 0, 134, 132, 6, 1, 167, 255, 162, 42]
abbrev dktX4_append_4 : List UInt8 := dkwX4_append_4 ++ dktX4_append_5
def dkwX4_append_3 : List UInt8 := [21, 5, 54, 7, 42, 180, 0, 29, 42, 180, 0, 134, 21, 7, 16, 24, 16, 8, 21, 6, 7, 112, 104, 100]
abbrev dktX4_append_3 : List UInt8 := dkwX4_append_3 ++ dktX4_append_4
def dkwX4_append_2 : List UInt8 := [21, 6, 16, 12, 162, 0, 7, 29, 167, 0, 17, 21, 6, 16, 16, 162, 0, 8, 21, 4, 167, 0, 5]
abbrev dktX4_append_2 : List UInt8 := dkwX4_append_2 ++ dktX4_append_3
def dkwX4_append_1 : List UInt8 := [162, 0, 93, 21, 6, 7, 162, 0, 7, 27, 167, 0, 39, 21, 6, 16, 8, 162, 0, 7, 28, 167, 0, 28]
abbrev dktX4_append_1 : List UInt8 := dkwX4_append_1 ++ dktX4_append_2
def dkwX4_append_0 : List UInt8 := [42, 180, 0, 134, 16, 20, 96, 17, 3, 32, 164, 0, 5, 2, 172, 3, 54, 6, 21, 6, 16, 20]
abbrev dktX4_append_0 : List UInt8 := dkwX4_append_0 ++ dktX4_append_1
theorem dksX4_append_0 : cX4_append.data.toList.drop 0 = dktX4_append_0 := by decide +kernel
theorem dksX4_append_1 : cX4_append.data.toList.drop 22 = dktX4_append_1 := dk_seg dksX4_append_0 22 rfl rfl
theorem dksX4_append_2 : cX4_append.data.toList.drop 46 = dktX4_append_2 := dk_seg dksX4_append_1 24 rfl rfl
theorem dksX4_append_3 : cX4_append.data.toList.drop 69 = dktX4_append_3 := dk_seg dksX4_append_2 23 rfl rfl
theorem dksX4_append_4 : cX4_append.data.toList.drop 93 = dktX4_append_4 := dk_seg dksX4_append_3 24 rfl rfl
theorem dksX4_append_5 : cX4_append.data.toList.drop 116 = dktX4_append_5 := dk_seg dksX4_append_4 23 rfl rfl
theorem dX4_append_0 : decode cX4_append 0 = .ok (.aload_n 0, 1) := dk_42 (dk_at dksX4_append_0 0 rfl rfl)
theorem dX4_append_1 : decode cX4_append 1 = .ok (.getfield 134, 3) := dk_180 0 134 (dk_at dksX4_append_0 1 rfl rfl)
theorem dX4_append_4 : decode cX4_append 4 = .ok (.bipush 20, 2) := dk_16 20 (dk_at dksX4_append_0 4 rfl rfl)
theorem dX4_append_6 : decode cX4_append 6 = .ok (.iadd, 1) := dk_96 (dk_at dksX4_append_0 6 rfl rfl)
theorem dX4_append_7 : decode cX4_append 7 = .ok (.sipush 800, 3) := dk_17 3 32 (dk_at dksX4_append_0 7 rfl rfl)
theorem dX4_append_10 : decode cX4_append 10 = .ok (.if_icmp .le 5, 3) := dk_164 0 5 (dk_at dksX4_append_0 10 rfl rfl)
theorem dX4_append_13 : decode cX4_append 13 = .ok (.iconst (-1), 1) := dk_2 (dk_at dksX4_append_0 13 rfl rfl)
theorem dX4_append_14 : decode cX4_append 14 = .ok (.ireturn, 1) := dk_172 (dk_at dksX4_append_0 14 rfl rfl)
theorem dX4_append_15 : decode cX4_append 15 = .ok (.iconst 0, 1) := dk_3 (dk_at dksX4_append_0 15 rfl rfl)
theorem dX4_append_16 : decode cX4_append 16 = .ok (.istore 6, 2) := dk_54 6 (dk_at dksX4_append_0 16 rfl rfl)
theorem dX4_append_18 : decode cX4_append 18 = .ok (.iload 6, 2) := dk_21 6 (dk_at dksX4_append_0 18 rfl rfl)
theorem dX4_append_20 : decode cX4_append 20 = .ok (.bipush 20, 2) := dk_16 20 (dk_at dksX4_append_0 20 rfl rfl)
theorem dX4_append_22 : decode cX4_append 22 = .ok (.if_icmp .ge 93, 3) := dk_162 0 93 (dk_at dksX4_append_1 0 rfl rfl)
theorem dX4_append_25 : decode cX4_append 25 = .ok (.iload 6, 2) := dk_21 6 (dk_at dksX4_append_1 3 rfl rfl)
theorem dX4_append_27 : decode cX4_append 27 = .ok (.iconst 4, 1) := dk_7 (dk_at dksX4_append_1 5 rfl rfl)
theorem dX4_append_28 : decode cX4_append 28 = .ok (.if_icmp .ge 7, 3) := dk_162 0 7 (dk_at dksX4_append_1 6 rfl rfl)
theorem dX4_append_31 : decode cX4_append 31 = .ok (.iload_n 1, 1) := dk_27 (dk_at dksX4_append_1 9 rfl rfl)
theorem dX4_append_32 : decode cX4_append 32 = .ok (.goto 39, 3) := dk_167 0 39 (dk_at dksX4_append_1 10 rfl rfl)
theorem dX4_append_35 : decode cX4_append 35 = .ok (.iload 6, 2) := dk_21 6 (dk_at dksX4_append_1 13 rfl rfl)
theorem dX4_append_37 : decode cX4_append 37 = .ok (.bipush 8, 2) := dk_16 8 (dk_at dksX4_append_1 15 rfl rfl)
theorem dX4_append_39 : decode cX4_append 39 = .ok (.if_icmp .ge 7, 3) := dk_162 0 7 (dk_at dksX4_append_1 17 rfl rfl)
theorem dX4_append_42 : decode cX4_append 42 = .ok (.iload_n 2, 1) := dk_28 (dk_at dksX4_append_1 20 rfl rfl)
theorem dX4_append_43 : decode cX4_append 43 = .ok (.goto 28, 3) := dk_167 0 28 (dk_at dksX4_append_1 21 rfl rfl)
theorem dX4_append_46 : decode cX4_append 46 = .ok (.iload 6, 2) := dk_21 6 (dk_at dksX4_append_2 0 rfl rfl)
theorem dX4_append_48 : decode cX4_append 48 = .ok (.bipush 12, 2) := dk_16 12 (dk_at dksX4_append_2 2 rfl rfl)
theorem dX4_append_50 : decode cX4_append 50 = .ok (.if_icmp .ge 7, 3) := dk_162 0 7 (dk_at dksX4_append_2 4 rfl rfl)
theorem dX4_append_53 : decode cX4_append 53 = .ok (.iload_n 3, 1) := dk_29 (dk_at dksX4_append_2 7 rfl rfl)
theorem dX4_append_54 : decode cX4_append 54 = .ok (.goto 17, 3) := dk_167 0 17 (dk_at dksX4_append_2 8 rfl rfl)
theorem dX4_append_57 : decode cX4_append 57 = .ok (.iload 6, 2) := dk_21 6 (dk_at dksX4_append_2 11 rfl rfl)
theorem dX4_append_59 : decode cX4_append 59 = .ok (.bipush 16, 2) := dk_16 16 (dk_at dksX4_append_2 13 rfl rfl)
theorem dX4_append_61 : decode cX4_append 61 = .ok (.if_icmp .ge 8, 3) := dk_162 0 8 (dk_at dksX4_append_2 15 rfl rfl)
theorem dX4_append_64 : decode cX4_append 64 = .ok (.iload 4, 2) := dk_21 4 (dk_at dksX4_append_2 18 rfl rfl)
theorem dX4_append_66 : decode cX4_append 66 = .ok (.goto 5, 3) := dk_167 0 5 (dk_at dksX4_append_2 20 rfl rfl)
theorem dX4_append_69 : decode cX4_append 69 = .ok (.iload 5, 2) := dk_21 5 (dk_at dksX4_append_3 0 rfl rfl)
theorem dX4_append_71 : decode cX4_append 71 = .ok (.istore 7, 2) := dk_54 7 (dk_at dksX4_append_3 2 rfl rfl)
theorem dX4_append_73 : decode cX4_append 73 = .ok (.aload_n 0, 1) := dk_42 (dk_at dksX4_append_3 4 rfl rfl)
theorem dX4_append_74 : decode cX4_append 74 = .ok (.getfield 29, 3) := dk_180 0 29 (dk_at dksX4_append_3 5 rfl rfl)
theorem dX4_append_77 : decode cX4_append 77 = .ok (.aload_n 0, 1) := dk_42 (dk_at dksX4_append_3 8 rfl rfl)
theorem dX4_append_78 : decode cX4_append 78 = .ok (.getfield 134, 3) := dk_180 0 134 (dk_at dksX4_append_3 9 rfl rfl)
theorem dX4_append_81 : decode cX4_append 81 = .ok (.iload 7, 2) := dk_21 7 (dk_at dksX4_append_3 12 rfl rfl)
theorem dX4_append_83 : decode cX4_append 83 = .ok (.bipush 24, 2) := dk_16 24 (dk_at dksX4_append_3 14 rfl rfl)
theorem dX4_append_85 : decode cX4_append 85 = .ok (.bipush 8, 2) := dk_16 8 (dk_at dksX4_append_3 16 rfl rfl)
theorem dX4_append_87 : decode cX4_append 87 = .ok (.iload 6, 2) := dk_21 6 (dk_at dksX4_append_3 18 rfl rfl)
theorem dX4_append_89 : decode cX4_append 89 = .ok (.iconst 4, 1) := dk_7 (dk_at dksX4_append_3 20 rfl rfl)
theorem dX4_append_90 : decode cX4_append 90 = .ok (.irem, 1) := dk_112 (dk_at dksX4_append_3 21 rfl rfl)
theorem dX4_append_91 : decode cX4_append 91 = .ok (.imul, 1) := dk_104 (dk_at dksX4_append_3 22 rfl rfl)
theorem dX4_append_92 : decode cX4_append 92 = .ok (.isub, 1) := dk_100 (dk_at dksX4_append_3 23 rfl rfl)
theorem dX4_append_93 : decode cX4_append 93 = .ok (.ishr, 1) := dk_122 (dk_at dksX4_append_4 0 rfl rfl)
theorem dX4_append_94 : decode cX4_append 94 = .ok (.sipush 255, 3) := dk_17 0 255 (dk_at dksX4_append_4 1 rfl rfl)
theorem dX4_append_97 : decode cX4_append 97 = .ok (.iand, 1) := dk_126 (dk_at dksX4_append_4 4 rfl rfl)
theorem dX4_append_98 : decode cX4_append 98 = .ok (.iastore, 1) := dk_79 (dk_at dksX4_append_4 5 rfl rfl)
theorem dX4_append_99 : decode cX4_append 99 = .ok (.aload_n 0, 1) := dk_42 (dk_at dksX4_append_4 6 rfl rfl)
theorem dX4_append_100 : decode cX4_append 100 = .ok (.dup, 1) := dk_89 (dk_at dksX4_append_4 7 rfl rfl)
theorem dX4_append_101 : decode cX4_append 101 = .ok (.getfield 134, 3) := dk_180 0 134 (dk_at dksX4_append_4 8 rfl rfl)
theorem dX4_append_104 : decode cX4_append 104 = .ok (.iconst 1, 1) := dk_4 (dk_at dksX4_append_4 11 rfl rfl)
theorem dX4_append_105 : decode cX4_append 105 = .ok (.iadd, 1) := dk_96 (dk_at dksX4_append_4 12 rfl rfl)
theorem dX4_append_106 : decode cX4_append 106 = .ok (.putfield 134, 3) := dk_181 0 134 (dk_at dksX4_append_4 13 rfl rfl)
theorem dX4_append_109 : decode cX4_append 109 = .ok (.iinc 6 1, 3) := dk_132 6 1 (dk_at dksX4_append_4 16 rfl rfl)
theorem dX4_append_112 : decode cX4_append 112 = .ok (.goto (-94), 3) := dk_167 255 162 (dk_at dksX4_append_4 19 rfl rfl)
theorem dX4_append_115 : decode cX4_append 115 = .ok (.aload_n 0, 1) := dk_42 (dk_at dksX4_append_4 22 rfl rfl)
theorem dX4_append_116 : decode cX4_append 116 = .ok (.getfield 134, 3) := dk_180 0 134 (dk_at dksX4_append_5 0 rfl rfl)
theorem dX4_append_119 : decode cX4_append 119 = .ok (.ireturn, 1) := dk_172 (dk_at dksX4_append_5 3 rfl rfl)
abbrev cX4_truncate : ByteArray := prog_20_method_49_code
def yX4_truncate : MethodName := ⟨RX4, "truncate", "(I)I"⟩
def dkwX4_truncate_1 : List UInt8 := [42, 180, 0, 134, 172]
abbrev dktX4_truncate_1 : List UInt8 := dkwX4_truncate_1 ++ []
def dkwX4_truncate_0 : List UInt8 := [27, 155, 0, 11, 27, 42, 180, 0, 134, 164, 0, 5, 2, 172, 42, 89, 180, 0, 134, 27, 100, 181, 0, 134]
abbrev dktX4_truncate_0 : List UInt8 := dkwX4_truncate_0 ++ dktX4_truncate_1
theorem dksX4_truncate_0 : cX4_truncate.data.toList.drop 0 = dktX4_truncate_0 := by decide +kernel
theorem dksX4_truncate_1 : cX4_truncate.data.toList.drop 24 = dktX4_truncate_1 := dk_seg dksX4_truncate_0 24 rfl rfl
theorem dX4_truncate_0 : decode cX4_truncate 0 = .ok (.iload_n 1, 1) := dk_27 (dk_at dksX4_truncate_0 0 rfl rfl)
theorem dX4_truncate_1 : decode cX4_truncate 1 = .ok (.ifCond .lt 11, 3) := dk_155 0 11 (dk_at dksX4_truncate_0 1 rfl rfl)
theorem dX4_truncate_4 : decode cX4_truncate 4 = .ok (.iload_n 1, 1) := dk_27 (dk_at dksX4_truncate_0 4 rfl rfl)
theorem dX4_truncate_5 : decode cX4_truncate 5 = .ok (.aload_n 0, 1) := dk_42 (dk_at dksX4_truncate_0 5 rfl rfl)
theorem dX4_truncate_6 : decode cX4_truncate 6 = .ok (.getfield 134, 3) := dk_180 0 134 (dk_at dksX4_truncate_0 6 rfl rfl)
theorem dX4_truncate_9 : decode cX4_truncate 9 = .ok (.if_icmp .le 5, 3) := dk_164 0 5 (dk_at dksX4_truncate_0 9 rfl rfl)
theorem dX4_truncate_12 : decode cX4_truncate 12 = .ok (.iconst (-1), 1) := dk_2 (dk_at dksX4_truncate_0 12 rfl rfl)
theorem dX4_truncate_13 : decode cX4_truncate 13 = .ok (.ireturn, 1) := dk_172 (dk_at dksX4_truncate_0 13 rfl rfl)
theorem dX4_truncate_14 : decode cX4_truncate 14 = .ok (.aload_n 0, 1) := dk_42 (dk_at dksX4_truncate_0 14 rfl rfl)
theorem dX4_truncate_15 : decode cX4_truncate 15 = .ok (.dup, 1) := dk_89 (dk_at dksX4_truncate_0 15 rfl rfl)
theorem dX4_truncate_16 : decode cX4_truncate 16 = .ok (.getfield 134, 3) := dk_180 0 134 (dk_at dksX4_truncate_0 16 rfl rfl)
theorem dX4_truncate_19 : decode cX4_truncate 19 = .ok (.iload_n 1, 1) := dk_27 (dk_at dksX4_truncate_0 19 rfl rfl)
theorem dX4_truncate_20 : decode cX4_truncate 20 = .ok (.isub, 1) := dk_100 (dk_at dksX4_truncate_0 20 rfl rfl)
theorem dX4_truncate_21 : decode cX4_truncate 21 = .ok (.putfield 134, 3) := dk_181 0 134 (dk_at dksX4_truncate_0 21 rfl rfl)
theorem dX4_truncate_24 : decode cX4_truncate 24 = .ok (.aload_n 0, 1) := dk_42 (dk_at dksX4_truncate_1 0 rfl rfl)
theorem dX4_truncate_25 : decode cX4_truncate 25 = .ok (.getfield 134, 3) := dk_180 0 134 (dk_at dksX4_truncate_1 1 rfl rfl)
theorem dX4_truncate_28 : decode cX4_truncate 28 = .ok (.ireturn, 1) := dk_172 (dk_at dksX4_truncate_1 4 rfl rfl)
abbrev cX4_errorPosition : ByteArray := prog_20_method_50_code
def yX4_errorPosition : MethodName := ⟨RX4, "errorPosition", "()I"⟩
theorem dX4_errorPosition_0 : decode cX4_errorPosition 0 = .ok (.aload_n 0, 1) := by decide +kernel
theorem dX4_errorPosition_1 : decode cX4_errorPosition 1 = .ok (.getfield 32, 3) := by decide +kernel
theorem dX4_errorPosition_4 : decode cX4_errorPosition 4 = .ok (.ireturn, 1) := by decide +kernel
abbrev cX4_load : ByteArray := prog_20_method_66_code
def yX4_load : MethodName := ⟨RX4, "load", "()I"⟩
def dkwX4_load_12 : List UInt8 := [180, 0, 25, 21, 4, 3, 84, 132, 4, 1, 167, 255, 239, 42, 180, 0, 7, 8, 46, 172]
abbrev dktX4_load_12 : List UInt8 := dkwX4_load_12 ++ []
def dkwX4_load_11 : List UInt8 := [3, 42, 180, 0, 7, 3, 184, 0, 50, 42, 3, 181, 0, 224, 3, 54, 4, 21, 4, 5, 162, 0, 17, 42]
abbrev dktX4_load_11 : List UInt8 := dkwX4_load_11 ++ dktX4_load_12
def dkwX4_load_10 : List UInt8 := [42, 3, 182, 0, 170, 87, 42, 3, 181, 0, 134, 42, 180, 0, 163, 153, 0, 5, 2, 172, 42, 180, 0, 13]
abbrev dktX4_load_10 : List UInt8 := dkwX4_load_10 ++ dktX4_load_11
def dkwX4_load_9 : List UInt8 := [153, 0, 10, 42, 182, 0, 221, 167, 255, 236, 42, 180, 0, 163, 154, 0, 16, 42, 180, 0, 146, 153, 0, 9]
abbrev dktX4_load_9 : List UInt8 := dkwX4_load_9 ++ dktX4_load_10
def dkwX4_load_8 : List UInt8 := [153, 0, 10, 42, 182, 0, 218, 167, 255, 236, 42, 180, 0, 163, 154, 0, 19, 42, 18, 162, 182, 0, 180]
abbrev dktX4_load_8 : List UInt8 := dkwX4_load_8 ++ dktX4_load_9
def dkwX4_load_7 : List UInt8 := [153, 0, 10, 42, 182, 0, 215, 167, 255, 236, 42, 180, 0, 163, 154, 0, 19, 42, 18, 161, 182, 0, 180]
abbrev dktX4_load_7 : List UInt8 := dkwX4_load_7 ++ dktX4_load_8
def dkwX4_load_6 : List UInt8 := [153, 0, 10, 42, 182, 0, 212, 167, 255, 236, 42, 180, 0, 163, 154, 0, 19, 42, 18, 160, 182, 0, 180]
abbrev dktX4_load_6 : List UInt8 := dkwX4_load_6 ++ dktX4_load_7
def dkwX4_load_5 : List UInt8 := [153, 0, 10, 42, 182, 0, 209, 167, 255, 236, 42, 180, 0, 163, 154, 0, 19, 42, 18, 159, 182, 0, 180]
abbrev dktX4_load_5 : List UInt8 := dkwX4_load_5 ++ dktX4_load_6
def dkwX4_load_4 : List UInt8 := [180, 0, 163, 154, 0, 7, 42, 182, 0, 209, 42, 180, 0, 163, 154, 0, 19, 42, 18, 158, 182, 0, 180]
abbrev dktX4_load_4 : List UInt8 := dkwX4_load_4 ++ dktX4_load_5
def dkwX4_load_3 : List UInt8 := [160, 0, 7, 4, 167, 0, 4, 3, 182, 0, 170, 87, 42, 180, 0, 13, 27, 28, 29, 184, 0, 42, 42]
abbrev dktX4_load_3 : List UInt8 := dkwX4_load_3 ++ dktX4_load_4
def dkwX4_load_2 : List UInt8 := [42, 18, 157, 182, 0, 180, 182, 0, 170, 87, 42, 4, 16, 99, 182, 0, 187, 62, 42, 42, 180, 0, 146, 6]
abbrev dktX4_load_2 : List UInt8 := dkwX4_load_2 ++ dktX4_load_3
def dkwX4_load_1 : List UInt8 := [182, 0, 180, 182, 0, 170, 87, 42, 4, 16, 20, 182, 0, 187, 60, 42, 4, 16, 20, 182, 0, 187, 61, 42]
abbrev dktX4_load_1 : List UInt8 := dkwX4_load_1 ++ dktX4_load_2
def dkwX4_load_0 : List UInt8 := [42, 3, 181, 0, 137, 42, 3, 181, 0, 163, 42, 16, 254, 181, 0, 32, 42, 182, 0, 167, 42, 42, 18, 156]
abbrev dktX4_load_0 : List UInt8 := dkwX4_load_0 ++ dktX4_load_1
theorem dksX4_load_0 : cX4_load.data.toList.drop 0 = dktX4_load_0 := by decide +kernel
theorem dksX4_load_1 : cX4_load.data.toList.drop 24 = dktX4_load_1 := dk_seg dksX4_load_0 24 rfl rfl
theorem dksX4_load_2 : cX4_load.data.toList.drop 48 = dktX4_load_2 := dk_seg dksX4_load_1 24 rfl rfl
theorem dksX4_load_3 : cX4_load.data.toList.drop 72 = dktX4_load_3 := dk_seg dksX4_load_2 24 rfl rfl
theorem dksX4_load_4 : cX4_load.data.toList.drop 95 = dktX4_load_4 := dk_seg dksX4_load_3 23 rfl rfl
theorem dksX4_load_5 : cX4_load.data.toList.drop 118 = dktX4_load_5 := dk_seg dksX4_load_4 23 rfl rfl
theorem dksX4_load_6 : cX4_load.data.toList.drop 141 = dktX4_load_6 := dk_seg dksX4_load_5 23 rfl rfl
theorem dksX4_load_7 : cX4_load.data.toList.drop 164 = dktX4_load_7 := dk_seg dksX4_load_6 23 rfl rfl
theorem dksX4_load_8 : cX4_load.data.toList.drop 187 = dktX4_load_8 := dk_seg dksX4_load_7 23 rfl rfl
theorem dksX4_load_9 : cX4_load.data.toList.drop 210 = dktX4_load_9 := dk_seg dksX4_load_8 23 rfl rfl
theorem dksX4_load_10 : cX4_load.data.toList.drop 234 = dktX4_load_10 := dk_seg dksX4_load_9 24 rfl rfl
theorem dksX4_load_11 : cX4_load.data.toList.drop 258 = dktX4_load_11 := dk_seg dksX4_load_10 24 rfl rfl
theorem dksX4_load_12 : cX4_load.data.toList.drop 282 = dktX4_load_12 := dk_seg dksX4_load_11 24 rfl rfl
theorem dX4_load_0 : decode cX4_load 0 = .ok (.aload_n 0, 1) := dk_42 (dk_at dksX4_load_0 0 rfl rfl)
theorem dX4_load_1 : decode cX4_load 1 = .ok (.iconst 0, 1) := dk_3 (dk_at dksX4_load_0 1 rfl rfl)
theorem dX4_load_2 : decode cX4_load 2 = .ok (.putfield 137, 3) := dk_181 0 137 (dk_at dksX4_load_0 2 rfl rfl)
theorem dX4_load_5 : decode cX4_load 5 = .ok (.aload_n 0, 1) := dk_42 (dk_at dksX4_load_0 5 rfl rfl)
theorem dX4_load_6 : decode cX4_load 6 = .ok (.iconst 0, 1) := dk_3 (dk_at dksX4_load_0 6 rfl rfl)
theorem dX4_load_7 : decode cX4_load 7 = .ok (.putfield 163, 3) := dk_181 0 163 (dk_at dksX4_load_0 7 rfl rfl)
theorem dX4_load_10 : decode cX4_load 10 = .ok (.aload_n 0, 1) := dk_42 (dk_at dksX4_load_0 10 rfl rfl)
theorem dX4_load_11 : decode cX4_load 11 = .ok (.bipush (-2), 2) := dk_16 254 (dk_at dksX4_load_0 11 rfl rfl)
theorem dX4_load_13 : decode cX4_load 13 = .ok (.putfield 32, 3) := dk_181 0 32 (dk_at dksX4_load_0 13 rfl rfl)
theorem dX4_load_16 : decode cX4_load 16 = .ok (.aload_n 0, 1) := dk_42 (dk_at dksX4_load_0 16 rfl rfl)
theorem dX4_load_17 : decode cX4_load 17 = .ok (.invokevirtual 167, 3) := dk_182 0 167 (dk_at dksX4_load_0 17 rfl rfl)
theorem dX4_load_20 : decode cX4_load 20 = .ok (.aload_n 0, 1) := dk_42 (dk_at dksX4_load_0 20 rfl rfl)
theorem dX4_load_21 : decode cX4_load 21 = .ok (.aload_n 0, 1) := dk_42 (dk_at dksX4_load_0 21 rfl rfl)
theorem dX4_load_22 : decode cX4_load 22 = .ok (.ldc 156, 2) := dk_18 156 (dk_at dksX4_load_0 22 rfl rfl)
theorem dX4_load_24 : decode cX4_load 24 = .ok (.invokevirtual 180, 3) := dk_182 0 180 (dk_at dksX4_load_1 0 rfl rfl)
theorem dX4_load_27 : decode cX4_load 27 = .ok (.invokevirtual 170, 3) := dk_182 0 170 (dk_at dksX4_load_1 3 rfl rfl)
theorem dX4_load_30 : decode cX4_load 30 = .ok (.pop, 1) := dk_87 (dk_at dksX4_load_1 6 rfl rfl)
theorem dX4_load_31 : decode cX4_load 31 = .ok (.aload_n 0, 1) := dk_42 (dk_at dksX4_load_1 7 rfl rfl)
theorem dX4_load_32 : decode cX4_load 32 = .ok (.iconst 1, 1) := dk_4 (dk_at dksX4_load_1 8 rfl rfl)
theorem dX4_load_33 : decode cX4_load 33 = .ok (.bipush 20, 2) := dk_16 20 (dk_at dksX4_load_1 9 rfl rfl)
theorem dX4_load_35 : decode cX4_load 35 = .ok (.invokevirtual 187, 3) := dk_182 0 187 (dk_at dksX4_load_1 11 rfl rfl)
theorem dX4_load_38 : decode cX4_load 38 = .ok (.istore_n 1, 1) := dk_60 (dk_at dksX4_load_1 14 rfl rfl)
theorem dX4_load_39 : decode cX4_load 39 = .ok (.aload_n 0, 1) := dk_42 (dk_at dksX4_load_1 15 rfl rfl)
theorem dX4_load_40 : decode cX4_load 40 = .ok (.iconst 1, 1) := dk_4 (dk_at dksX4_load_1 16 rfl rfl)
theorem dX4_load_41 : decode cX4_load 41 = .ok (.bipush 20, 2) := dk_16 20 (dk_at dksX4_load_1 17 rfl rfl)
theorem dX4_load_43 : decode cX4_load 43 = .ok (.invokevirtual 187, 3) := dk_182 0 187 (dk_at dksX4_load_1 19 rfl rfl)
theorem dX4_load_46 : decode cX4_load 46 = .ok (.istore_n 2, 1) := dk_61 (dk_at dksX4_load_1 22 rfl rfl)
theorem dX4_load_47 : decode cX4_load 47 = .ok (.aload_n 0, 1) := dk_42 (dk_at dksX4_load_1 23 rfl rfl)
theorem dX4_load_48 : decode cX4_load 48 = .ok (.aload_n 0, 1) := dk_42 (dk_at dksX4_load_2 0 rfl rfl)
theorem dX4_load_49 : decode cX4_load 49 = .ok (.ldc 157, 2) := dk_18 157 (dk_at dksX4_load_2 1 rfl rfl)
theorem dX4_load_51 : decode cX4_load 51 = .ok (.invokevirtual 180, 3) := dk_182 0 180 (dk_at dksX4_load_2 3 rfl rfl)
theorem dX4_load_54 : decode cX4_load 54 = .ok (.invokevirtual 170, 3) := dk_182 0 170 (dk_at dksX4_load_2 6 rfl rfl)
theorem dX4_load_57 : decode cX4_load 57 = .ok (.pop, 1) := dk_87 (dk_at dksX4_load_2 9 rfl rfl)
theorem dX4_load_58 : decode cX4_load 58 = .ok (.aload_n 0, 1) := dk_42 (dk_at dksX4_load_2 10 rfl rfl)
theorem dX4_load_59 : decode cX4_load 59 = .ok (.iconst 1, 1) := dk_4 (dk_at dksX4_load_2 11 rfl rfl)
theorem dX4_load_60 : decode cX4_load 60 = .ok (.bipush 99, 2) := dk_16 99 (dk_at dksX4_load_2 12 rfl rfl)
theorem dX4_load_62 : decode cX4_load 62 = .ok (.invokevirtual 187, 3) := dk_182 0 187 (dk_at dksX4_load_2 14 rfl rfl)
theorem dX4_load_65 : decode cX4_load 65 = .ok (.istore_n 3, 1) := dk_62 (dk_at dksX4_load_2 17 rfl rfl)
theorem dX4_load_66 : decode cX4_load 66 = .ok (.aload_n 0, 1) := dk_42 (dk_at dksX4_load_2 18 rfl rfl)
theorem dX4_load_67 : decode cX4_load 67 = .ok (.aload_n 0, 1) := dk_42 (dk_at dksX4_load_2 19 rfl rfl)
theorem dX4_load_68 : decode cX4_load 68 = .ok (.getfield 146, 3) := dk_180 0 146 (dk_at dksX4_load_2 20 rfl rfl)
theorem dX4_load_71 : decode cX4_load 71 = .ok (.iconst 3, 1) := dk_6 (dk_at dksX4_load_2 23 rfl rfl)
theorem dX4_load_72 : decode cX4_load 72 = .ok (.if_icmp .ne 7, 3) := dk_160 0 7 (dk_at dksX4_load_3 0 rfl rfl)
theorem dX4_load_75 : decode cX4_load 75 = .ok (.iconst 1, 1) := dk_4 (dk_at dksX4_load_3 3 rfl rfl)
theorem dX4_load_76 : decode cX4_load 76 = .ok (.goto 4, 3) := dk_167 0 4 (dk_at dksX4_load_3 4 rfl rfl)
theorem dX4_load_79 : decode cX4_load 79 = .ok (.iconst 0, 1) := dk_3 (dk_at dksX4_load_3 7 rfl rfl)
theorem dX4_load_80 : decode cX4_load 80 = .ok (.invokevirtual 170, 3) := dk_182 0 170 (dk_at dksX4_load_3 8 rfl rfl)
theorem dX4_load_83 : decode cX4_load 83 = .ok (.pop, 1) := dk_87 (dk_at dksX4_load_3 11 rfl rfl)
theorem dX4_load_84 : decode cX4_load 84 = .ok (.aload_n 0, 1) := dk_42 (dk_at dksX4_load_3 12 rfl rfl)
theorem dX4_load_85 : decode cX4_load 85 = .ok (.getfield 13, 3) := dk_180 0 13 (dk_at dksX4_load_3 13 rfl rfl)
theorem dX4_load_88 : decode cX4_load 88 = .ok (.iload_n 1, 1) := dk_27 (dk_at dksX4_load_3 16 rfl rfl)
theorem dX4_load_89 : decode cX4_load 89 = .ok (.iload_n 2, 1) := dk_28 (dk_at dksX4_load_3 17 rfl rfl)
theorem dX4_load_90 : decode cX4_load 90 = .ok (.iload_n 3, 1) := dk_29 (dk_at dksX4_load_3 18 rfl rfl)
theorem dX4_load_91 : decode cX4_load 91 = .ok (.invokestatic 42, 3) := dk_184 0 42 (dk_at dksX4_load_3 19 rfl rfl)
theorem dX4_load_94 : decode cX4_load 94 = .ok (.aload_n 0, 1) := dk_42 (dk_at dksX4_load_3 22 rfl rfl)
theorem dX4_load_95 : decode cX4_load 95 = .ok (.getfield 163, 3) := dk_180 0 163 (dk_at dksX4_load_4 0 rfl rfl)
theorem dX4_load_98 : decode cX4_load 98 = .ok (.ifCond .ne 7, 3) := dk_154 0 7 (dk_at dksX4_load_4 3 rfl rfl)
theorem dX4_load_101 : decode cX4_load 101 = .ok (.aload_n 0, 1) := dk_42 (dk_at dksX4_load_4 6 rfl rfl)
theorem dX4_load_102 : decode cX4_load 102 = .ok (.invokevirtual 209, 3) := dk_182 0 209 (dk_at dksX4_load_4 7 rfl rfl)
theorem dX4_load_105 : decode cX4_load 105 = .ok (.aload_n 0, 1) := dk_42 (dk_at dksX4_load_4 10 rfl rfl)
theorem dX4_load_106 : decode cX4_load 106 = .ok (.getfield 163, 3) := dk_180 0 163 (dk_at dksX4_load_4 11 rfl rfl)
theorem dX4_load_109 : decode cX4_load 109 = .ok (.ifCond .ne 19, 3) := dk_154 0 19 (dk_at dksX4_load_4 14 rfl rfl)
theorem dX4_load_112 : decode cX4_load 112 = .ok (.aload_n 0, 1) := dk_42 (dk_at dksX4_load_4 17 rfl rfl)
theorem dX4_load_113 : decode cX4_load 113 = .ok (.ldc 158, 2) := dk_18 158 (dk_at dksX4_load_4 18 rfl rfl)
theorem dX4_load_115 : decode cX4_load 115 = .ok (.invokevirtual 180, 3) := dk_182 0 180 (dk_at dksX4_load_4 20 rfl rfl)
theorem dX4_load_118 : decode cX4_load 118 = .ok (.ifCond .eq 10, 3) := dk_153 0 10 (dk_at dksX4_load_5 0 rfl rfl)
theorem dX4_load_121 : decode cX4_load 121 = .ok (.aload_n 0, 1) := dk_42 (dk_at dksX4_load_5 3 rfl rfl)
theorem dX4_load_122 : decode cX4_load 122 = .ok (.invokevirtual 209, 3) := dk_182 0 209 (dk_at dksX4_load_5 4 rfl rfl)
theorem dX4_load_125 : decode cX4_load 125 = .ok (.goto (-20), 3) := dk_167 255 236 (dk_at dksX4_load_5 7 rfl rfl)
theorem dX4_load_128 : decode cX4_load 128 = .ok (.aload_n 0, 1) := dk_42 (dk_at dksX4_load_5 10 rfl rfl)
theorem dX4_load_129 : decode cX4_load 129 = .ok (.getfield 163, 3) := dk_180 0 163 (dk_at dksX4_load_5 11 rfl rfl)
theorem dX4_load_132 : decode cX4_load 132 = .ok (.ifCond .ne 19, 3) := dk_154 0 19 (dk_at dksX4_load_5 14 rfl rfl)
theorem dX4_load_135 : decode cX4_load 135 = .ok (.aload_n 0, 1) := dk_42 (dk_at dksX4_load_5 17 rfl rfl)
theorem dX4_load_136 : decode cX4_load 136 = .ok (.ldc 159, 2) := dk_18 159 (dk_at dksX4_load_5 18 rfl rfl)
theorem dX4_load_138 : decode cX4_load 138 = .ok (.invokevirtual 180, 3) := dk_182 0 180 (dk_at dksX4_load_5 20 rfl rfl)
theorem dX4_load_141 : decode cX4_load 141 = .ok (.ifCond .eq 10, 3) := dk_153 0 10 (dk_at dksX4_load_6 0 rfl rfl)
theorem dX4_load_144 : decode cX4_load 144 = .ok (.aload_n 0, 1) := dk_42 (dk_at dksX4_load_6 3 rfl rfl)
theorem dX4_load_145 : decode cX4_load 145 = .ok (.invokevirtual 212, 3) := dk_182 0 212 (dk_at dksX4_load_6 4 rfl rfl)
theorem dX4_load_148 : decode cX4_load 148 = .ok (.goto (-20), 3) := dk_167 255 236 (dk_at dksX4_load_6 7 rfl rfl)
theorem dX4_load_151 : decode cX4_load 151 = .ok (.aload_n 0, 1) := dk_42 (dk_at dksX4_load_6 10 rfl rfl)
theorem dX4_load_152 : decode cX4_load 152 = .ok (.getfield 163, 3) := dk_180 0 163 (dk_at dksX4_load_6 11 rfl rfl)
theorem dX4_load_155 : decode cX4_load 155 = .ok (.ifCond .ne 19, 3) := dk_154 0 19 (dk_at dksX4_load_6 14 rfl rfl)
theorem dX4_load_158 : decode cX4_load 158 = .ok (.aload_n 0, 1) := dk_42 (dk_at dksX4_load_6 17 rfl rfl)
theorem dX4_load_159 : decode cX4_load 159 = .ok (.ldc 160, 2) := dk_18 160 (dk_at dksX4_load_6 18 rfl rfl)
theorem dX4_load_161 : decode cX4_load 161 = .ok (.invokevirtual 180, 3) := dk_182 0 180 (dk_at dksX4_load_6 20 rfl rfl)
theorem dX4_load_164 : decode cX4_load 164 = .ok (.ifCond .eq 10, 3) := dk_153 0 10 (dk_at dksX4_load_7 0 rfl rfl)
theorem dX4_load_167 : decode cX4_load 167 = .ok (.aload_n 0, 1) := dk_42 (dk_at dksX4_load_7 3 rfl rfl)
theorem dX4_load_168 : decode cX4_load 168 = .ok (.invokevirtual 215, 3) := dk_182 0 215 (dk_at dksX4_load_7 4 rfl rfl)
theorem dX4_load_171 : decode cX4_load 171 = .ok (.goto (-20), 3) := dk_167 255 236 (dk_at dksX4_load_7 7 rfl rfl)
theorem dX4_load_174 : decode cX4_load 174 = .ok (.aload_n 0, 1) := dk_42 (dk_at dksX4_load_7 10 rfl rfl)
theorem dX4_load_175 : decode cX4_load 175 = .ok (.getfield 163, 3) := dk_180 0 163 (dk_at dksX4_load_7 11 rfl rfl)
theorem dX4_load_178 : decode cX4_load 178 = .ok (.ifCond .ne 19, 3) := dk_154 0 19 (dk_at dksX4_load_7 14 rfl rfl)
theorem dX4_load_181 : decode cX4_load 181 = .ok (.aload_n 0, 1) := dk_42 (dk_at dksX4_load_7 17 rfl rfl)
theorem dX4_load_182 : decode cX4_load 182 = .ok (.ldc 161, 2) := dk_18 161 (dk_at dksX4_load_7 18 rfl rfl)
theorem dX4_load_184 : decode cX4_load 184 = .ok (.invokevirtual 180, 3) := dk_182 0 180 (dk_at dksX4_load_7 20 rfl rfl)
theorem dX4_load_187 : decode cX4_load 187 = .ok (.ifCond .eq 10, 3) := dk_153 0 10 (dk_at dksX4_load_8 0 rfl rfl)
theorem dX4_load_190 : decode cX4_load 190 = .ok (.aload_n 0, 1) := dk_42 (dk_at dksX4_load_8 3 rfl rfl)
theorem dX4_load_191 : decode cX4_load 191 = .ok (.invokevirtual 218, 3) := dk_182 0 218 (dk_at dksX4_load_8 4 rfl rfl)
theorem dX4_load_194 : decode cX4_load 194 = .ok (.goto (-20), 3) := dk_167 255 236 (dk_at dksX4_load_8 7 rfl rfl)
theorem dX4_load_197 : decode cX4_load 197 = .ok (.aload_n 0, 1) := dk_42 (dk_at dksX4_load_8 10 rfl rfl)
theorem dX4_load_198 : decode cX4_load 198 = .ok (.getfield 163, 3) := dk_180 0 163 (dk_at dksX4_load_8 11 rfl rfl)
theorem dX4_load_201 : decode cX4_load 201 = .ok (.ifCond .ne 19, 3) := dk_154 0 19 (dk_at dksX4_load_8 14 rfl rfl)
theorem dX4_load_204 : decode cX4_load 204 = .ok (.aload_n 0, 1) := dk_42 (dk_at dksX4_load_8 17 rfl rfl)
theorem dX4_load_205 : decode cX4_load 205 = .ok (.ldc 162, 2) := dk_18 162 (dk_at dksX4_load_8 18 rfl rfl)
theorem dX4_load_207 : decode cX4_load 207 = .ok (.invokevirtual 180, 3) := dk_182 0 180 (dk_at dksX4_load_8 20 rfl rfl)
theorem dX4_load_210 : decode cX4_load 210 = .ok (.ifCond .eq 10, 3) := dk_153 0 10 (dk_at dksX4_load_9 0 rfl rfl)
theorem dX4_load_213 : decode cX4_load 213 = .ok (.aload_n 0, 1) := dk_42 (dk_at dksX4_load_9 3 rfl rfl)
theorem dX4_load_214 : decode cX4_load 214 = .ok (.invokevirtual 221, 3) := dk_182 0 221 (dk_at dksX4_load_9 4 rfl rfl)
theorem dX4_load_217 : decode cX4_load 217 = .ok (.goto (-20), 3) := dk_167 255 236 (dk_at dksX4_load_9 7 rfl rfl)
theorem dX4_load_220 : decode cX4_load 220 = .ok (.aload_n 0, 1) := dk_42 (dk_at dksX4_load_9 10 rfl rfl)
theorem dX4_load_221 : decode cX4_load 221 = .ok (.getfield 163, 3) := dk_180 0 163 (dk_at dksX4_load_9 11 rfl rfl)
theorem dX4_load_224 : decode cX4_load 224 = .ok (.ifCond .ne 16, 3) := dk_154 0 16 (dk_at dksX4_load_9 14 rfl rfl)
theorem dX4_load_227 : decode cX4_load 227 = .ok (.aload_n 0, 1) := dk_42 (dk_at dksX4_load_9 17 rfl rfl)
theorem dX4_load_228 : decode cX4_load 228 = .ok (.getfield 146, 3) := dk_180 0 146 (dk_at dksX4_load_9 18 rfl rfl)
theorem dX4_load_231 : decode cX4_load 231 = .ok (.ifCond .eq 9, 3) := dk_153 0 9 (dk_at dksX4_load_9 21 rfl rfl)
theorem dX4_load_234 : decode cX4_load 234 = .ok (.aload_n 0, 1) := dk_42 (dk_at dksX4_load_10 0 rfl rfl)
theorem dX4_load_235 : decode cX4_load 235 = .ok (.iconst 0, 1) := dk_3 (dk_at dksX4_load_10 1 rfl rfl)
theorem dX4_load_236 : decode cX4_load 236 = .ok (.invokevirtual 170, 3) := dk_182 0 170 (dk_at dksX4_load_10 2 rfl rfl)
theorem dX4_load_239 : decode cX4_load 239 = .ok (.pop, 1) := dk_87 (dk_at dksX4_load_10 5 rfl rfl)
theorem dX4_load_240 : decode cX4_load 240 = .ok (.aload_n 0, 1) := dk_42 (dk_at dksX4_load_10 6 rfl rfl)
theorem dX4_load_241 : decode cX4_load 241 = .ok (.iconst 0, 1) := dk_3 (dk_at dksX4_load_10 7 rfl rfl)
theorem dX4_load_242 : decode cX4_load 242 = .ok (.putfield 134, 3) := dk_181 0 134 (dk_at dksX4_load_10 8 rfl rfl)
theorem dX4_load_245 : decode cX4_load 245 = .ok (.aload_n 0, 1) := dk_42 (dk_at dksX4_load_10 11 rfl rfl)
theorem dX4_load_246 : decode cX4_load 246 = .ok (.getfield 163, 3) := dk_180 0 163 (dk_at dksX4_load_10 12 rfl rfl)
theorem dX4_load_249 : decode cX4_load 249 = .ok (.ifCond .eq 5, 3) := dk_153 0 5 (dk_at dksX4_load_10 15 rfl rfl)
theorem dX4_load_252 : decode cX4_load 252 = .ok (.iconst (-1), 1) := dk_2 (dk_at dksX4_load_10 18 rfl rfl)
theorem dX4_load_253 : decode cX4_load 253 = .ok (.ireturn, 1) := dk_172 (dk_at dksX4_load_10 19 rfl rfl)
theorem dX4_load_254 : decode cX4_load 254 = .ok (.aload_n 0, 1) := dk_42 (dk_at dksX4_load_10 20 rfl rfl)
theorem dX4_load_255 : decode cX4_load 255 = .ok (.getfield 13, 3) := dk_180 0 13 (dk_at dksX4_load_10 21 rfl rfl)
theorem dX4_load_258 : decode cX4_load 258 = .ok (.iconst 0, 1) := dk_3 (dk_at dksX4_load_11 0 rfl rfl)
theorem dX4_load_259 : decode cX4_load 259 = .ok (.aload_n 0, 1) := dk_42 (dk_at dksX4_load_11 1 rfl rfl)
theorem dX4_load_260 : decode cX4_load 260 = .ok (.getfield 7, 3) := dk_180 0 7 (dk_at dksX4_load_11 2 rfl rfl)
theorem dX4_load_263 : decode cX4_load 263 = .ok (.iconst 0, 1) := dk_3 (dk_at dksX4_load_11 5 rfl rfl)
theorem dX4_load_264 : decode cX4_load 264 = .ok (.invokestatic 50, 3) := dk_184 0 50 (dk_at dksX4_load_11 6 rfl rfl)
theorem dX4_load_267 : decode cX4_load 267 = .ok (.aload_n 0, 1) := dk_42 (dk_at dksX4_load_11 9 rfl rfl)
theorem dX4_load_268 : decode cX4_load 268 = .ok (.iconst 0, 1) := dk_3 (dk_at dksX4_load_11 10 rfl rfl)
theorem dX4_load_269 : decode cX4_load 269 = .ok (.putfield 224, 3) := dk_181 0 224 (dk_at dksX4_load_11 11 rfl rfl)
theorem dX4_load_272 : decode cX4_load 272 = .ok (.iconst 0, 1) := dk_3 (dk_at dksX4_load_11 14 rfl rfl)
theorem dX4_load_273 : decode cX4_load 273 = .ok (.istore 4, 2) := dk_54 4 (dk_at dksX4_load_11 15 rfl rfl)
theorem dX4_load_275 : decode cX4_load 275 = .ok (.iload 4, 2) := dk_21 4 (dk_at dksX4_load_11 17 rfl rfl)
theorem dX4_load_277 : decode cX4_load 277 = .ok (.iconst 2, 1) := dk_5 (dk_at dksX4_load_11 19 rfl rfl)
theorem dX4_load_278 : decode cX4_load 278 = .ok (.if_icmp .ge 17, 3) := dk_162 0 17 (dk_at dksX4_load_11 20 rfl rfl)
theorem dX4_load_281 : decode cX4_load 281 = .ok (.aload_n 0, 1) := dk_42 (dk_at dksX4_load_11 23 rfl rfl)
theorem dX4_load_282 : decode cX4_load 282 = .ok (.getfield 25, 3) := dk_180 0 25 (dk_at dksX4_load_12 0 rfl rfl)
theorem dX4_load_285 : decode cX4_load 285 = .ok (.iload 4, 2) := dk_21 4 (dk_at dksX4_load_12 3 rfl rfl)
theorem dX4_load_287 : decode cX4_load 287 = .ok (.iconst 0, 1) := dk_3 (dk_at dksX4_load_12 5 rfl rfl)
theorem dX4_load_288 : decode cX4_load 288 = .ok (.bastore, 1) := dk_84 (dk_at dksX4_load_12 6 rfl rfl)
theorem dX4_load_289 : decode cX4_load 289 = .ok (.iinc 4 1, 3) := dk_132 4 1 (dk_at dksX4_load_12 7 rfl rfl)
theorem dX4_load_292 : decode cX4_load 292 = .ok (.goto (-17), 3) := dk_167 255 239 (dk_at dksX4_load_12 10 rfl rfl)
theorem dX4_load_295 : decode cX4_load 295 = .ok (.aload_n 0, 1) := dk_42 (dk_at dksX4_load_12 13 rfl rfl)
theorem dX4_load_296 : decode cX4_load 296 = .ok (.getfield 7, 3) := dk_180 0 7 (dk_at dksX4_load_12 14 rfl rfl)
theorem dX4_load_299 : decode cX4_load 299 = .ok (.iconst 5, 1) := dk_8 (dk_at dksX4_load_12 17 rfl rfl)
theorem dX4_load_300 : decode cX4_load 300 = .ok (.iaload, 1) := dk_46 (dk_at dksX4_load_12 18 rfl rfl)
theorem dX4_load_301 : decode cX4_load 301 = .ok (.ireturn, 1) := dk_172 (dk_at dksX4_load_12 19 rfl rfl)
abbrev cX4_next : ByteArray := prog_20_method_53_code
def yX4_next : MethodName := ⟨RX4, "next", "()V"⟩
def dkwX4_next_13 : List UInt8 := [180, 0, 137, 4, 96, 181, 0, 137, 177]
abbrev dktX4_next_13 : List UInt8 := dkwX4_next_13 ++ []
def dkwX4_next_12 : List UInt8 := [42, 180, 0, 29, 42, 180, 0, 137, 46, 16, 59, 160, 0, 7, 6, 167, 0, 4, 7, 181, 0, 146, 42, 89]
abbrev dktX4_next_12 : List UInt8 := dkwX4_next_12 ++ dktX4_next_13
def dkwX4_next_11 : List UInt8 := [180, 0, 137, 42, 180, 0, 140, 100, 7, 164, 0, 7, 7, 167, 0, 4, 5, 181, 0, 146, 167, 0, 36, 42]
abbrev dktX4_next_11 : List UInt8 := dkwX4_next_11 ++ dktX4_next_12
def dkwX4_next_10 : List UInt8 := [46, 96, 16, 48, 100, 181, 0, 143, 42, 89, 180, 0, 137, 4, 96, 181, 0, 137, 167, 255, 198, 42, 42]
abbrev dktX4_next_10 : List UInt8 := dkwX4_next_10 ++ dktX4_next_11
def dkwX4_next_9 : List UInt8 := [180, 0, 140, 100, 7, 162, 0, 27, 42, 16, 10, 42, 180, 0, 143, 104, 42, 180, 0, 29, 42, 180, 0, 137]
abbrev dktX4_next_9 : List UInt8 := dkwX4_next_9 ++ dktX4_next_10
def dkwX4_next_8 : List UInt8 := [182, 0, 153, 153, 0, 89, 42, 42, 180, 0, 137, 182, 0, 153, 153, 0, 53, 42, 180, 0, 137, 42]
abbrev dktX4_next_8 : List UInt8 := dkwX4_next_8 ++ dktX4_next_9
def dkwX4_next_7 : List UInt8 := [180, 0, 140, 100, 8, 164, 0, 7, 7, 167, 0, 4, 4, 181, 0, 146, 167, 0, 133, 42, 42, 180, 0, 137]
abbrev dktX4_next_7 : List UInt8 := dkwX4_next_7 ++ dktX4_next_8
def dkwX4_next_6 : List UInt8 := [181, 0, 143, 42, 89, 180, 0, 137, 4, 96, 181, 0, 137, 167, 255, 198, 42, 42, 180, 0, 137, 42]
abbrev dktX4_next_6 : List UInt8 := dkwX4_next_6 ++ dktX4_next_7
def dkwX4_next_5 : List UInt8 := [162, 0, 27, 42, 16, 27, 42, 180, 0, 143, 104, 42, 180, 0, 29, 42, 180, 0, 137, 46, 96, 16, 96, 100]
abbrev dktX4_next_5 : List UInt8 := dkwX4_next_5 ++ dktX4_next_6
def dkwX4_next_4 : List UInt8 := [153, 0, 89, 42, 42, 180, 0, 137, 182, 0, 149, 153, 0, 53, 42, 180, 0, 137, 42, 180, 0, 140, 100, 8]
abbrev dktX4_next_4 : List UInt8 := dkwX4_next_4 ++ dktX4_next_5
def dkwX4_next_3 : List UInt8 := [180, 0, 134, 160, 0, 11, 42, 3, 181, 0, 146, 167, 0, 230, 42, 42, 180, 0, 137, 182, 0, 149]
abbrev dktX4_next_3 : List UInt8 := dkwX4_next_3 ++ dktX4_next_4
def dkwX4_next_2 : List UInt8 := [181, 0, 137, 167, 255, 207, 42, 42, 180, 0, 137, 181, 0, 140, 42, 3, 181, 0, 143, 42, 180, 0, 137, 42]
abbrev dktX4_next_2 : List UInt8 := dkwX4_next_2 ++ dktX4_next_3
def dkwX4_next_1 : List UInt8 := [159, 0, 17, 42, 180, 0, 29, 42, 180, 0, 137, 46, 16, 10, 160, 0, 16, 42, 89, 180, 0, 137, 4, 96]
abbrev dktX4_next_1 : List UInt8 := dkwX4_next_1 ++ dktX4_next_2
def dkwX4_next_0 : List UInt8 := [42, 180, 0, 137, 42, 180, 0, 134, 162, 0, 44, 42, 180, 0, 29, 42, 180, 0, 137, 46, 16, 32]
abbrev dktX4_next_0 : List UInt8 := dkwX4_next_0 ++ dktX4_next_1
theorem dksX4_next_0 : cX4_next.data.toList.drop 0 = dktX4_next_0 := by decide +kernel
theorem dksX4_next_1 : cX4_next.data.toList.drop 22 = dktX4_next_1 := dk_seg dksX4_next_0 22 rfl rfl
theorem dksX4_next_2 : cX4_next.data.toList.drop 46 = dktX4_next_2 := dk_seg dksX4_next_1 24 rfl rfl
theorem dksX4_next_3 : cX4_next.data.toList.drop 70 = dktX4_next_3 := dk_seg dksX4_next_2 24 rfl rfl
theorem dksX4_next_4 : cX4_next.data.toList.drop 92 = dktX4_next_4 := dk_seg dksX4_next_3 22 rfl rfl
theorem dksX4_next_5 : cX4_next.data.toList.drop 116 = dktX4_next_5 := dk_seg dksX4_next_4 24 rfl rfl
theorem dksX4_next_6 : cX4_next.data.toList.drop 140 = dktX4_next_6 := dk_seg dksX4_next_5 24 rfl rfl
theorem dksX4_next_7 : cX4_next.data.toList.drop 162 = dktX4_next_7 := dk_seg dksX4_next_6 22 rfl rfl
theorem dksX4_next_8 : cX4_next.data.toList.drop 186 = dktX4_next_8 := dk_seg dksX4_next_7 24 rfl rfl
theorem dksX4_next_9 : cX4_next.data.toList.drop 208 = dktX4_next_9 := dk_seg dksX4_next_8 22 rfl rfl
theorem dksX4_next_10 : cX4_next.data.toList.drop 232 = dktX4_next_10 := dk_seg dksX4_next_9 24 rfl rfl
theorem dksX4_next_11 : cX4_next.data.toList.drop 255 = dktX4_next_11 := dk_seg dksX4_next_10 23 rfl rfl
theorem dksX4_next_12 : cX4_next.data.toList.drop 279 = dktX4_next_12 := dk_seg dksX4_next_11 24 rfl rfl
theorem dksX4_next_13 : cX4_next.data.toList.drop 303 = dktX4_next_13 := dk_seg dksX4_next_12 24 rfl rfl
theorem dX4_next_0 : decode cX4_next 0 = .ok (.aload_n 0, 1) := dk_42 (dk_at dksX4_next_0 0 rfl rfl)
theorem dX4_next_1 : decode cX4_next 1 = .ok (.getfield 137, 3) := dk_180 0 137 (dk_at dksX4_next_0 1 rfl rfl)
theorem dX4_next_4 : decode cX4_next 4 = .ok (.aload_n 0, 1) := dk_42 (dk_at dksX4_next_0 4 rfl rfl)
theorem dX4_next_5 : decode cX4_next 5 = .ok (.getfield 134, 3) := dk_180 0 134 (dk_at dksX4_next_0 5 rfl rfl)
theorem dX4_next_8 : decode cX4_next 8 = .ok (.if_icmp .ge 44, 3) := dk_162 0 44 (dk_at dksX4_next_0 8 rfl rfl)
theorem dX4_next_11 : decode cX4_next 11 = .ok (.aload_n 0, 1) := dk_42 (dk_at dksX4_next_0 11 rfl rfl)
theorem dX4_next_12 : decode cX4_next 12 = .ok (.getfield 29, 3) := dk_180 0 29 (dk_at dksX4_next_0 12 rfl rfl)
theorem dX4_next_15 : decode cX4_next 15 = .ok (.aload_n 0, 1) := dk_42 (dk_at dksX4_next_0 15 rfl rfl)
theorem dX4_next_16 : decode cX4_next 16 = .ok (.getfield 137, 3) := dk_180 0 137 (dk_at dksX4_next_0 16 rfl rfl)
theorem dX4_next_19 : decode cX4_next 19 = .ok (.iaload, 1) := dk_46 (dk_at dksX4_next_0 19 rfl rfl)
theorem dX4_next_20 : decode cX4_next 20 = .ok (.bipush 32, 2) := dk_16 32 (dk_at dksX4_next_0 20 rfl rfl)
theorem dX4_next_22 : decode cX4_next 22 = .ok (.if_icmp .eq 17, 3) := dk_159 0 17 (dk_at dksX4_next_1 0 rfl rfl)
theorem dX4_next_25 : decode cX4_next 25 = .ok (.aload_n 0, 1) := dk_42 (dk_at dksX4_next_1 3 rfl rfl)
theorem dX4_next_26 : decode cX4_next 26 = .ok (.getfield 29, 3) := dk_180 0 29 (dk_at dksX4_next_1 4 rfl rfl)
theorem dX4_next_29 : decode cX4_next 29 = .ok (.aload_n 0, 1) := dk_42 (dk_at dksX4_next_1 7 rfl rfl)
theorem dX4_next_30 : decode cX4_next 30 = .ok (.getfield 137, 3) := dk_180 0 137 (dk_at dksX4_next_1 8 rfl rfl)
theorem dX4_next_33 : decode cX4_next 33 = .ok (.iaload, 1) := dk_46 (dk_at dksX4_next_1 11 rfl rfl)
theorem dX4_next_34 : decode cX4_next 34 = .ok (.bipush 10, 2) := dk_16 10 (dk_at dksX4_next_1 12 rfl rfl)
theorem dX4_next_36 : decode cX4_next 36 = .ok (.if_icmp .ne 16, 3) := dk_160 0 16 (dk_at dksX4_next_1 14 rfl rfl)
theorem dX4_next_39 : decode cX4_next 39 = .ok (.aload_n 0, 1) := dk_42 (dk_at dksX4_next_1 17 rfl rfl)
theorem dX4_next_40 : decode cX4_next 40 = .ok (.dup, 1) := dk_89 (dk_at dksX4_next_1 18 rfl rfl)
theorem dX4_next_41 : decode cX4_next 41 = .ok (.getfield 137, 3) := dk_180 0 137 (dk_at dksX4_next_1 19 rfl rfl)
theorem dX4_next_44 : decode cX4_next 44 = .ok (.iconst 1, 1) := dk_4 (dk_at dksX4_next_1 22 rfl rfl)
theorem dX4_next_45 : decode cX4_next 45 = .ok (.iadd, 1) := dk_96 (dk_at dksX4_next_1 23 rfl rfl)
theorem dX4_next_46 : decode cX4_next 46 = .ok (.putfield 137, 3) := dk_181 0 137 (dk_at dksX4_next_2 0 rfl rfl)
theorem dX4_next_49 : decode cX4_next 49 = .ok (.goto (-49), 3) := dk_167 255 207 (dk_at dksX4_next_2 3 rfl rfl)
theorem dX4_next_52 : decode cX4_next 52 = .ok (.aload_n 0, 1) := dk_42 (dk_at dksX4_next_2 6 rfl rfl)
theorem dX4_next_53 : decode cX4_next 53 = .ok (.aload_n 0, 1) := dk_42 (dk_at dksX4_next_2 7 rfl rfl)
theorem dX4_next_54 : decode cX4_next 54 = .ok (.getfield 137, 3) := dk_180 0 137 (dk_at dksX4_next_2 8 rfl rfl)
theorem dX4_next_57 : decode cX4_next 57 = .ok (.putfield 140, 3) := dk_181 0 140 (dk_at dksX4_next_2 11 rfl rfl)
theorem dX4_next_60 : decode cX4_next 60 = .ok (.aload_n 0, 1) := dk_42 (dk_at dksX4_next_2 14 rfl rfl)
theorem dX4_next_61 : decode cX4_next 61 = .ok (.iconst 0, 1) := dk_3 (dk_at dksX4_next_2 15 rfl rfl)
theorem dX4_next_62 : decode cX4_next 62 = .ok (.putfield 143, 3) := dk_181 0 143 (dk_at dksX4_next_2 16 rfl rfl)
theorem dX4_next_65 : decode cX4_next 65 = .ok (.aload_n 0, 1) := dk_42 (dk_at dksX4_next_2 19 rfl rfl)
theorem dX4_next_66 : decode cX4_next 66 = .ok (.getfield 137, 3) := dk_180 0 137 (dk_at dksX4_next_2 20 rfl rfl)
theorem dX4_next_69 : decode cX4_next 69 = .ok (.aload_n 0, 1) := dk_42 (dk_at dksX4_next_2 23 rfl rfl)
theorem dX4_next_70 : decode cX4_next 70 = .ok (.getfield 134, 3) := dk_180 0 134 (dk_at dksX4_next_3 0 rfl rfl)
theorem dX4_next_73 : decode cX4_next 73 = .ok (.if_icmp .ne 11, 3) := dk_160 0 11 (dk_at dksX4_next_3 3 rfl rfl)
theorem dX4_next_76 : decode cX4_next 76 = .ok (.aload_n 0, 1) := dk_42 (dk_at dksX4_next_3 6 rfl rfl)
theorem dX4_next_77 : decode cX4_next 77 = .ok (.iconst 0, 1) := dk_3 (dk_at dksX4_next_3 7 rfl rfl)
theorem dX4_next_78 : decode cX4_next 78 = .ok (.putfield 146, 3) := dk_181 0 146 (dk_at dksX4_next_3 8 rfl rfl)
theorem dX4_next_81 : decode cX4_next 81 = .ok (.goto 230, 3) := dk_167 0 230 (dk_at dksX4_next_3 11 rfl rfl)
theorem dX4_next_84 : decode cX4_next 84 = .ok (.aload_n 0, 1) := dk_42 (dk_at dksX4_next_3 14 rfl rfl)
theorem dX4_next_85 : decode cX4_next 85 = .ok (.aload_n 0, 1) := dk_42 (dk_at dksX4_next_3 15 rfl rfl)
theorem dX4_next_86 : decode cX4_next 86 = .ok (.getfield 137, 3) := dk_180 0 137 (dk_at dksX4_next_3 16 rfl rfl)
theorem dX4_next_89 : decode cX4_next 89 = .ok (.invokevirtual 149, 3) := dk_182 0 149 (dk_at dksX4_next_3 19 rfl rfl)
theorem dX4_next_92 : decode cX4_next 92 = .ok (.ifCond .eq 89, 3) := dk_153 0 89 (dk_at dksX4_next_4 0 rfl rfl)
theorem dX4_next_95 : decode cX4_next 95 = .ok (.aload_n 0, 1) := dk_42 (dk_at dksX4_next_4 3 rfl rfl)
theorem dX4_next_96 : decode cX4_next 96 = .ok (.aload_n 0, 1) := dk_42 (dk_at dksX4_next_4 4 rfl rfl)
theorem dX4_next_97 : decode cX4_next 97 = .ok (.getfield 137, 3) := dk_180 0 137 (dk_at dksX4_next_4 5 rfl rfl)
theorem dX4_next_100 : decode cX4_next 100 = .ok (.invokevirtual 149, 3) := dk_182 0 149 (dk_at dksX4_next_4 8 rfl rfl)
theorem dX4_next_103 : decode cX4_next 103 = .ok (.ifCond .eq 53, 3) := dk_153 0 53 (dk_at dksX4_next_4 11 rfl rfl)
theorem dX4_next_106 : decode cX4_next 106 = .ok (.aload_n 0, 1) := dk_42 (dk_at dksX4_next_4 14 rfl rfl)
theorem dX4_next_107 : decode cX4_next 107 = .ok (.getfield 137, 3) := dk_180 0 137 (dk_at dksX4_next_4 15 rfl rfl)
theorem dX4_next_110 : decode cX4_next 110 = .ok (.aload_n 0, 1) := dk_42 (dk_at dksX4_next_4 18 rfl rfl)
theorem dX4_next_111 : decode cX4_next 111 = .ok (.getfield 140, 3) := dk_180 0 140 (dk_at dksX4_next_4 19 rfl rfl)
theorem dX4_next_114 : decode cX4_next 114 = .ok (.isub, 1) := dk_100 (dk_at dksX4_next_4 22 rfl rfl)
theorem dX4_next_115 : decode cX4_next 115 = .ok (.iconst 5, 1) := dk_8 (dk_at dksX4_next_4 23 rfl rfl)
theorem dX4_next_116 : decode cX4_next 116 = .ok (.if_icmp .ge 27, 3) := dk_162 0 27 (dk_at dksX4_next_5 0 rfl rfl)
theorem dX4_next_119 : decode cX4_next 119 = .ok (.aload_n 0, 1) := dk_42 (dk_at dksX4_next_5 3 rfl rfl)
theorem dX4_next_120 : decode cX4_next 120 = .ok (.bipush 27, 2) := dk_16 27 (dk_at dksX4_next_5 4 rfl rfl)
theorem dX4_next_122 : decode cX4_next 122 = .ok (.aload_n 0, 1) := dk_42 (dk_at dksX4_next_5 6 rfl rfl)
theorem dX4_next_123 : decode cX4_next 123 = .ok (.getfield 143, 3) := dk_180 0 143 (dk_at dksX4_next_5 7 rfl rfl)
theorem dX4_next_126 : decode cX4_next 126 = .ok (.imul, 1) := dk_104 (dk_at dksX4_next_5 10 rfl rfl)
theorem dX4_next_127 : decode cX4_next 127 = .ok (.aload_n 0, 1) := dk_42 (dk_at dksX4_next_5 11 rfl rfl)
theorem dX4_next_128 : decode cX4_next 128 = .ok (.getfield 29, 3) := dk_180 0 29 (dk_at dksX4_next_5 12 rfl rfl)
theorem dX4_next_131 : decode cX4_next 131 = .ok (.aload_n 0, 1) := dk_42 (dk_at dksX4_next_5 15 rfl rfl)
theorem dX4_next_132 : decode cX4_next 132 = .ok (.getfield 137, 3) := dk_180 0 137 (dk_at dksX4_next_5 16 rfl rfl)
theorem dX4_next_135 : decode cX4_next 135 = .ok (.iaload, 1) := dk_46 (dk_at dksX4_next_5 19 rfl rfl)
theorem dX4_next_136 : decode cX4_next 136 = .ok (.iadd, 1) := dk_96 (dk_at dksX4_next_5 20 rfl rfl)
theorem dX4_next_137 : decode cX4_next 137 = .ok (.bipush 96, 2) := dk_16 96 (dk_at dksX4_next_5 21 rfl rfl)
theorem dX4_next_139 : decode cX4_next 139 = .ok (.isub, 1) := dk_100 (dk_at dksX4_next_5 23 rfl rfl)
theorem dX4_next_140 : decode cX4_next 140 = .ok (.putfield 143, 3) := dk_181 0 143 (dk_at dksX4_next_6 0 rfl rfl)
theorem dX4_next_143 : decode cX4_next 143 = .ok (.aload_n 0, 1) := dk_42 (dk_at dksX4_next_6 3 rfl rfl)
theorem dX4_next_144 : decode cX4_next 144 = .ok (.dup, 1) := dk_89 (dk_at dksX4_next_6 4 rfl rfl)
theorem dX4_next_145 : decode cX4_next 145 = .ok (.getfield 137, 3) := dk_180 0 137 (dk_at dksX4_next_6 5 rfl rfl)
theorem dX4_next_148 : decode cX4_next 148 = .ok (.iconst 1, 1) := dk_4 (dk_at dksX4_next_6 8 rfl rfl)
theorem dX4_next_149 : decode cX4_next 149 = .ok (.iadd, 1) := dk_96 (dk_at dksX4_next_6 9 rfl rfl)
theorem dX4_next_150 : decode cX4_next 150 = .ok (.putfield 137, 3) := dk_181 0 137 (dk_at dksX4_next_6 10 rfl rfl)
theorem dX4_next_153 : decode cX4_next 153 = .ok (.goto (-58), 3) := dk_167 255 198 (dk_at dksX4_next_6 13 rfl rfl)
theorem dX4_next_156 : decode cX4_next 156 = .ok (.aload_n 0, 1) := dk_42 (dk_at dksX4_next_6 16 rfl rfl)
theorem dX4_next_157 : decode cX4_next 157 = .ok (.aload_n 0, 1) := dk_42 (dk_at dksX4_next_6 17 rfl rfl)
theorem dX4_next_158 : decode cX4_next 158 = .ok (.getfield 137, 3) := dk_180 0 137 (dk_at dksX4_next_6 18 rfl rfl)
theorem dX4_next_161 : decode cX4_next 161 = .ok (.aload_n 0, 1) := dk_42 (dk_at dksX4_next_6 21 rfl rfl)
theorem dX4_next_162 : decode cX4_next 162 = .ok (.getfield 140, 3) := dk_180 0 140 (dk_at dksX4_next_7 0 rfl rfl)
theorem dX4_next_165 : decode cX4_next 165 = .ok (.isub, 1) := dk_100 (dk_at dksX4_next_7 3 rfl rfl)
theorem dX4_next_166 : decode cX4_next 166 = .ok (.iconst 5, 1) := dk_8 (dk_at dksX4_next_7 4 rfl rfl)
theorem dX4_next_167 : decode cX4_next 167 = .ok (.if_icmp .le 7, 3) := dk_164 0 7 (dk_at dksX4_next_7 5 rfl rfl)
theorem dX4_next_170 : decode cX4_next 170 = .ok (.iconst 4, 1) := dk_7 (dk_at dksX4_next_7 8 rfl rfl)
theorem dX4_next_171 : decode cX4_next 171 = .ok (.goto 4, 3) := dk_167 0 4 (dk_at dksX4_next_7 9 rfl rfl)
theorem dX4_next_174 : decode cX4_next 174 = .ok (.iconst 1, 1) := dk_4 (dk_at dksX4_next_7 12 rfl rfl)
theorem dX4_next_175 : decode cX4_next 175 = .ok (.putfield 146, 3) := dk_181 0 146 (dk_at dksX4_next_7 13 rfl rfl)
theorem dX4_next_178 : decode cX4_next 178 = .ok (.goto 133, 3) := dk_167 0 133 (dk_at dksX4_next_7 16 rfl rfl)
theorem dX4_next_181 : decode cX4_next 181 = .ok (.aload_n 0, 1) := dk_42 (dk_at dksX4_next_7 19 rfl rfl)
theorem dX4_next_182 : decode cX4_next 182 = .ok (.aload_n 0, 1) := dk_42 (dk_at dksX4_next_7 20 rfl rfl)
theorem dX4_next_183 : decode cX4_next 183 = .ok (.getfield 137, 3) := dk_180 0 137 (dk_at dksX4_next_7 21 rfl rfl)
theorem dX4_next_186 : decode cX4_next 186 = .ok (.invokevirtual 153, 3) := dk_182 0 153 (dk_at dksX4_next_8 0 rfl rfl)
theorem dX4_next_189 : decode cX4_next 189 = .ok (.ifCond .eq 89, 3) := dk_153 0 89 (dk_at dksX4_next_8 3 rfl rfl)
theorem dX4_next_192 : decode cX4_next 192 = .ok (.aload_n 0, 1) := dk_42 (dk_at dksX4_next_8 6 rfl rfl)
theorem dX4_next_193 : decode cX4_next 193 = .ok (.aload_n 0, 1) := dk_42 (dk_at dksX4_next_8 7 rfl rfl)
theorem dX4_next_194 : decode cX4_next 194 = .ok (.getfield 137, 3) := dk_180 0 137 (dk_at dksX4_next_8 8 rfl rfl)
theorem dX4_next_197 : decode cX4_next 197 = .ok (.invokevirtual 153, 3) := dk_182 0 153 (dk_at dksX4_next_8 11 rfl rfl)
theorem dX4_next_200 : decode cX4_next 200 = .ok (.ifCond .eq 53, 3) := dk_153 0 53 (dk_at dksX4_next_8 14 rfl rfl)
theorem dX4_next_203 : decode cX4_next 203 = .ok (.aload_n 0, 1) := dk_42 (dk_at dksX4_next_8 17 rfl rfl)
theorem dX4_next_204 : decode cX4_next 204 = .ok (.getfield 137, 3) := dk_180 0 137 (dk_at dksX4_next_8 18 rfl rfl)
theorem dX4_next_207 : decode cX4_next 207 = .ok (.aload_n 0, 1) := dk_42 (dk_at dksX4_next_8 21 rfl rfl)
theorem dX4_next_208 : decode cX4_next 208 = .ok (.getfield 140, 3) := dk_180 0 140 (dk_at dksX4_next_9 0 rfl rfl)
theorem dX4_next_211 : decode cX4_next 211 = .ok (.isub, 1) := dk_100 (dk_at dksX4_next_9 3 rfl rfl)
theorem dX4_next_212 : decode cX4_next 212 = .ok (.iconst 4, 1) := dk_7 (dk_at dksX4_next_9 4 rfl rfl)
theorem dX4_next_213 : decode cX4_next 213 = .ok (.if_icmp .ge 27, 3) := dk_162 0 27 (dk_at dksX4_next_9 5 rfl rfl)
theorem dX4_next_216 : decode cX4_next 216 = .ok (.aload_n 0, 1) := dk_42 (dk_at dksX4_next_9 8 rfl rfl)
theorem dX4_next_217 : decode cX4_next 217 = .ok (.bipush 10, 2) := dk_16 10 (dk_at dksX4_next_9 9 rfl rfl)
theorem dX4_next_219 : decode cX4_next 219 = .ok (.aload_n 0, 1) := dk_42 (dk_at dksX4_next_9 11 rfl rfl)
theorem dX4_next_220 : decode cX4_next 220 = .ok (.getfield 143, 3) := dk_180 0 143 (dk_at dksX4_next_9 12 rfl rfl)
theorem dX4_next_223 : decode cX4_next 223 = .ok (.imul, 1) := dk_104 (dk_at dksX4_next_9 15 rfl rfl)
theorem dX4_next_224 : decode cX4_next 224 = .ok (.aload_n 0, 1) := dk_42 (dk_at dksX4_next_9 16 rfl rfl)
theorem dX4_next_225 : decode cX4_next 225 = .ok (.getfield 29, 3) := dk_180 0 29 (dk_at dksX4_next_9 17 rfl rfl)
theorem dX4_next_228 : decode cX4_next 228 = .ok (.aload_n 0, 1) := dk_42 (dk_at dksX4_next_9 20 rfl rfl)
theorem dX4_next_229 : decode cX4_next 229 = .ok (.getfield 137, 3) := dk_180 0 137 (dk_at dksX4_next_9 21 rfl rfl)
theorem dX4_next_232 : decode cX4_next 232 = .ok (.iaload, 1) := dk_46 (dk_at dksX4_next_10 0 rfl rfl)
theorem dX4_next_233 : decode cX4_next 233 = .ok (.iadd, 1) := dk_96 (dk_at dksX4_next_10 1 rfl rfl)
theorem dX4_next_234 : decode cX4_next 234 = .ok (.bipush 48, 2) := dk_16 48 (dk_at dksX4_next_10 2 rfl rfl)
theorem dX4_next_236 : decode cX4_next 236 = .ok (.isub, 1) := dk_100 (dk_at dksX4_next_10 4 rfl rfl)
theorem dX4_next_237 : decode cX4_next 237 = .ok (.putfield 143, 3) := dk_181 0 143 (dk_at dksX4_next_10 5 rfl rfl)
theorem dX4_next_240 : decode cX4_next 240 = .ok (.aload_n 0, 1) := dk_42 (dk_at dksX4_next_10 8 rfl rfl)
theorem dX4_next_241 : decode cX4_next 241 = .ok (.dup, 1) := dk_89 (dk_at dksX4_next_10 9 rfl rfl)
theorem dX4_next_242 : decode cX4_next 242 = .ok (.getfield 137, 3) := dk_180 0 137 (dk_at dksX4_next_10 10 rfl rfl)
theorem dX4_next_245 : decode cX4_next 245 = .ok (.iconst 1, 1) := dk_4 (dk_at dksX4_next_10 13 rfl rfl)
theorem dX4_next_246 : decode cX4_next 246 = .ok (.iadd, 1) := dk_96 (dk_at dksX4_next_10 14 rfl rfl)
theorem dX4_next_247 : decode cX4_next 247 = .ok (.putfield 137, 3) := dk_181 0 137 (dk_at dksX4_next_10 15 rfl rfl)
theorem dX4_next_250 : decode cX4_next 250 = .ok (.goto (-58), 3) := dk_167 255 198 (dk_at dksX4_next_10 18 rfl rfl)
theorem dX4_next_253 : decode cX4_next 253 = .ok (.aload_n 0, 1) := dk_42 (dk_at dksX4_next_10 21 rfl rfl)
theorem dX4_next_254 : decode cX4_next 254 = .ok (.aload_n 0, 1) := dk_42 (dk_at dksX4_next_10 22 rfl rfl)
theorem dX4_next_255 : decode cX4_next 255 = .ok (.getfield 137, 3) := dk_180 0 137 (dk_at dksX4_next_11 0 rfl rfl)
theorem dX4_next_258 : decode cX4_next 258 = .ok (.aload_n 0, 1) := dk_42 (dk_at dksX4_next_11 3 rfl rfl)
theorem dX4_next_259 : decode cX4_next 259 = .ok (.getfield 140, 3) := dk_180 0 140 (dk_at dksX4_next_11 4 rfl rfl)
theorem dX4_next_262 : decode cX4_next 262 = .ok (.isub, 1) := dk_100 (dk_at dksX4_next_11 7 rfl rfl)
theorem dX4_next_263 : decode cX4_next 263 = .ok (.iconst 4, 1) := dk_7 (dk_at dksX4_next_11 8 rfl rfl)
theorem dX4_next_264 : decode cX4_next 264 = .ok (.if_icmp .le 7, 3) := dk_164 0 7 (dk_at dksX4_next_11 9 rfl rfl)
theorem dX4_next_267 : decode cX4_next 267 = .ok (.iconst 4, 1) := dk_7 (dk_at dksX4_next_11 12 rfl rfl)
theorem dX4_next_268 : decode cX4_next 268 = .ok (.goto 4, 3) := dk_167 0 4 (dk_at dksX4_next_11 13 rfl rfl)
theorem dX4_next_271 : decode cX4_next 271 = .ok (.iconst 2, 1) := dk_5 (dk_at dksX4_next_11 16 rfl rfl)
theorem dX4_next_272 : decode cX4_next 272 = .ok (.putfield 146, 3) := dk_181 0 146 (dk_at dksX4_next_11 17 rfl rfl)
theorem dX4_next_275 : decode cX4_next 275 = .ok (.goto 36, 3) := dk_167 0 36 (dk_at dksX4_next_11 20 rfl rfl)
theorem dX4_next_278 : decode cX4_next 278 = .ok (.aload_n 0, 1) := dk_42 (dk_at dksX4_next_11 23 rfl rfl)
theorem dX4_next_279 : decode cX4_next 279 = .ok (.aload_n 0, 1) := dk_42 (dk_at dksX4_next_12 0 rfl rfl)
theorem dX4_next_280 : decode cX4_next 280 = .ok (.getfield 29, 3) := dk_180 0 29 (dk_at dksX4_next_12 1 rfl rfl)
theorem dX4_next_283 : decode cX4_next 283 = .ok (.aload_n 0, 1) := dk_42 (dk_at dksX4_next_12 4 rfl rfl)
theorem dX4_next_284 : decode cX4_next 284 = .ok (.getfield 137, 3) := dk_180 0 137 (dk_at dksX4_next_12 5 rfl rfl)
theorem dX4_next_287 : decode cX4_next 287 = .ok (.iaload, 1) := dk_46 (dk_at dksX4_next_12 8 rfl rfl)
theorem dX4_next_288 : decode cX4_next 288 = .ok (.bipush 59, 2) := dk_16 59 (dk_at dksX4_next_12 9 rfl rfl)
theorem dX4_next_290 : decode cX4_next 290 = .ok (.if_icmp .ne 7, 3) := dk_160 0 7 (dk_at dksX4_next_12 11 rfl rfl)
theorem dX4_next_293 : decode cX4_next 293 = .ok (.iconst 3, 1) := dk_6 (dk_at dksX4_next_12 14 rfl rfl)
theorem dX4_next_294 : decode cX4_next 294 = .ok (.goto 4, 3) := dk_167 0 4 (dk_at dksX4_next_12 15 rfl rfl)
theorem dX4_next_297 : decode cX4_next 297 = .ok (.iconst 4, 1) := dk_7 (dk_at dksX4_next_12 18 rfl rfl)
theorem dX4_next_298 : decode cX4_next 298 = .ok (.putfield 146, 3) := dk_181 0 146 (dk_at dksX4_next_12 19 rfl rfl)
theorem dX4_next_301 : decode cX4_next 301 = .ok (.aload_n 0, 1) := dk_42 (dk_at dksX4_next_12 22 rfl rfl)
theorem dX4_next_302 : decode cX4_next 302 = .ok (.dup, 1) := dk_89 (dk_at dksX4_next_12 23 rfl rfl)
theorem dX4_next_303 : decode cX4_next 303 = .ok (.getfield 137, 3) := dk_180 0 137 (dk_at dksX4_next_13 0 rfl rfl)
theorem dX4_next_306 : decode cX4_next 306 = .ok (.iconst 1, 1) := dk_4 (dk_at dksX4_next_13 3 rfl rfl)
theorem dX4_next_307 : decode cX4_next 307 = .ok (.iadd, 1) := dk_96 (dk_at dksX4_next_13 4 rfl rfl)
theorem dX4_next_308 : decode cX4_next 308 = .ok (.putfield 137, 3) := dk_181 0 137 (dk_at dksX4_next_13 5 rfl rfl)
theorem dX4_next_311 : decode cX4_next 311 = .ok (.return_, 1) := dk_177 (dk_at dksX4_next_13 8 rfl rfl)
abbrev cX4_isSmall : ByteArray := prog_20_method_51_code
def yX4_isSmall : MethodName := ⟨RX4, "isSmall", "(I)Z"⟩
def dkwX4_isSmall_1 : List UInt8 := [46, 16, 122, 163, 0, 7, 4, 167, 0, 4, 3, 172]
abbrev dktX4_isSmall_1 : List UInt8 := dkwX4_isSmall_1 ++ []
def dkwX4_isSmall_0 : List UInt8 := [27, 42, 180, 0, 134, 162, 0, 29, 42, 180, 0, 29, 27, 46, 16, 97, 161, 0, 18, 42, 180, 0, 29, 27]
abbrev dktX4_isSmall_0 : List UInt8 := dkwX4_isSmall_0 ++ dktX4_isSmall_1
theorem dksX4_isSmall_0 : cX4_isSmall.data.toList.drop 0 = dktX4_isSmall_0 := by decide +kernel
theorem dksX4_isSmall_1 : cX4_isSmall.data.toList.drop 24 = dktX4_isSmall_1 := dk_seg dksX4_isSmall_0 24 rfl rfl
theorem dX4_isSmall_0 : decode cX4_isSmall 0 = .ok (.iload_n 1, 1) := dk_27 (dk_at dksX4_isSmall_0 0 rfl rfl)
theorem dX4_isSmall_1 : decode cX4_isSmall 1 = .ok (.aload_n 0, 1) := dk_42 (dk_at dksX4_isSmall_0 1 rfl rfl)
theorem dX4_isSmall_2 : decode cX4_isSmall 2 = .ok (.getfield 134, 3) := dk_180 0 134 (dk_at dksX4_isSmall_0 2 rfl rfl)
theorem dX4_isSmall_5 : decode cX4_isSmall 5 = .ok (.if_icmp .ge 29, 3) := dk_162 0 29 (dk_at dksX4_isSmall_0 5 rfl rfl)
theorem dX4_isSmall_8 : decode cX4_isSmall 8 = .ok (.aload_n 0, 1) := dk_42 (dk_at dksX4_isSmall_0 8 rfl rfl)
theorem dX4_isSmall_9 : decode cX4_isSmall 9 = .ok (.getfield 29, 3) := dk_180 0 29 (dk_at dksX4_isSmall_0 9 rfl rfl)
theorem dX4_isSmall_12 : decode cX4_isSmall 12 = .ok (.iload_n 1, 1) := dk_27 (dk_at dksX4_isSmall_0 12 rfl rfl)
theorem dX4_isSmall_13 : decode cX4_isSmall 13 = .ok (.iaload, 1) := dk_46 (dk_at dksX4_isSmall_0 13 rfl rfl)
theorem dX4_isSmall_14 : decode cX4_isSmall 14 = .ok (.bipush 97, 2) := dk_16 97 (dk_at dksX4_isSmall_0 14 rfl rfl)
theorem dX4_isSmall_16 : decode cX4_isSmall 16 = .ok (.if_icmp .lt 18, 3) := dk_161 0 18 (dk_at dksX4_isSmall_0 16 rfl rfl)
theorem dX4_isSmall_19 : decode cX4_isSmall 19 = .ok (.aload_n 0, 1) := dk_42 (dk_at dksX4_isSmall_0 19 rfl rfl)
theorem dX4_isSmall_20 : decode cX4_isSmall 20 = .ok (.getfield 29, 3) := dk_180 0 29 (dk_at dksX4_isSmall_0 20 rfl rfl)
theorem dX4_isSmall_23 : decode cX4_isSmall 23 = .ok (.iload_n 1, 1) := dk_27 (dk_at dksX4_isSmall_0 23 rfl rfl)
theorem dX4_isSmall_24 : decode cX4_isSmall 24 = .ok (.iaload, 1) := dk_46 (dk_at dksX4_isSmall_1 0 rfl rfl)
theorem dX4_isSmall_25 : decode cX4_isSmall 25 = .ok (.bipush 122, 2) := dk_16 122 (dk_at dksX4_isSmall_1 1 rfl rfl)
theorem dX4_isSmall_27 : decode cX4_isSmall 27 = .ok (.if_icmp .gt 7, 3) := dk_163 0 7 (dk_at dksX4_isSmall_1 3 rfl rfl)
theorem dX4_isSmall_30 : decode cX4_isSmall 30 = .ok (.iconst 1, 1) := dk_4 (dk_at dksX4_isSmall_1 6 rfl rfl)
theorem dX4_isSmall_31 : decode cX4_isSmall 31 = .ok (.goto 4, 3) := dk_167 0 4 (dk_at dksX4_isSmall_1 7 rfl rfl)
theorem dX4_isSmall_34 : decode cX4_isSmall 34 = .ok (.iconst 0, 1) := dk_3 (dk_at dksX4_isSmall_1 10 rfl rfl)
theorem dX4_isSmall_35 : decode cX4_isSmall 35 = .ok (.ireturn, 1) := dk_172 (dk_at dksX4_isSmall_1 11 rfl rfl)
abbrev cX4_isDigit : ByteArray := prog_20_method_52_code
def yX4_isDigit : MethodName := ⟨RX4, "isDigit", "(I)Z"⟩
def dkwX4_isDigit_1 : List UInt8 := [46, 16, 57, 163, 0, 7, 4, 167, 0, 4, 3, 172]
abbrev dktX4_isDigit_1 : List UInt8 := dkwX4_isDigit_1 ++ []
def dkwX4_isDigit_0 : List UInt8 := [27, 42, 180, 0, 134, 162, 0, 29, 42, 180, 0, 29, 27, 46, 16, 48, 161, 0, 18, 42, 180, 0, 29, 27]
abbrev dktX4_isDigit_0 : List UInt8 := dkwX4_isDigit_0 ++ dktX4_isDigit_1
theorem dksX4_isDigit_0 : cX4_isDigit.data.toList.drop 0 = dktX4_isDigit_0 := by decide +kernel
theorem dksX4_isDigit_1 : cX4_isDigit.data.toList.drop 24 = dktX4_isDigit_1 := dk_seg dksX4_isDigit_0 24 rfl rfl
theorem dX4_isDigit_0 : decode cX4_isDigit 0 = .ok (.iload_n 1, 1) := dk_27 (dk_at dksX4_isDigit_0 0 rfl rfl)
theorem dX4_isDigit_1 : decode cX4_isDigit 1 = .ok (.aload_n 0, 1) := dk_42 (dk_at dksX4_isDigit_0 1 rfl rfl)
theorem dX4_isDigit_2 : decode cX4_isDigit 2 = .ok (.getfield 134, 3) := dk_180 0 134 (dk_at dksX4_isDigit_0 2 rfl rfl)
theorem dX4_isDigit_5 : decode cX4_isDigit 5 = .ok (.if_icmp .ge 29, 3) := dk_162 0 29 (dk_at dksX4_isDigit_0 5 rfl rfl)
theorem dX4_isDigit_8 : decode cX4_isDigit 8 = .ok (.aload_n 0, 1) := dk_42 (dk_at dksX4_isDigit_0 8 rfl rfl)
theorem dX4_isDigit_9 : decode cX4_isDigit 9 = .ok (.getfield 29, 3) := dk_180 0 29 (dk_at dksX4_isDigit_0 9 rfl rfl)
theorem dX4_isDigit_12 : decode cX4_isDigit 12 = .ok (.iload_n 1, 1) := dk_27 (dk_at dksX4_isDigit_0 12 rfl rfl)
theorem dX4_isDigit_13 : decode cX4_isDigit 13 = .ok (.iaload, 1) := dk_46 (dk_at dksX4_isDigit_0 13 rfl rfl)
theorem dX4_isDigit_14 : decode cX4_isDigit 14 = .ok (.bipush 48, 2) := dk_16 48 (dk_at dksX4_isDigit_0 14 rfl rfl)
theorem dX4_isDigit_16 : decode cX4_isDigit 16 = .ok (.if_icmp .lt 18, 3) := dk_161 0 18 (dk_at dksX4_isDigit_0 16 rfl rfl)
theorem dX4_isDigit_19 : decode cX4_isDigit 19 = .ok (.aload_n 0, 1) := dk_42 (dk_at dksX4_isDigit_0 19 rfl rfl)
theorem dX4_isDigit_20 : decode cX4_isDigit 20 = .ok (.getfield 29, 3) := dk_180 0 29 (dk_at dksX4_isDigit_0 20 rfl rfl)
theorem dX4_isDigit_23 : decode cX4_isDigit 23 = .ok (.iload_n 1, 1) := dk_27 (dk_at dksX4_isDigit_0 23 rfl rfl)
theorem dX4_isDigit_24 : decode cX4_isDigit 24 = .ok (.iaload, 1) := dk_46 (dk_at dksX4_isDigit_1 0 rfl rfl)
theorem dX4_isDigit_25 : decode cX4_isDigit 25 = .ok (.bipush 57, 2) := dk_16 57 (dk_at dksX4_isDigit_1 1 rfl rfl)
theorem dX4_isDigit_27 : decode cX4_isDigit 27 = .ok (.if_icmp .gt 7, 3) := dk_163 0 7 (dk_at dksX4_isDigit_1 3 rfl rfl)
theorem dX4_isDigit_30 : decode cX4_isDigit 30 = .ok (.iconst 1, 1) := dk_4 (dk_at dksX4_isDigit_1 6 rfl rfl)
theorem dX4_isDigit_31 : decode cX4_isDigit 31 = .ok (.goto 4, 3) := dk_167 0 4 (dk_at dksX4_isDigit_1 7 rfl rfl)
theorem dX4_isDigit_34 : decode cX4_isDigit 34 = .ok (.iconst 0, 1) := dk_3 (dk_at dksX4_isDigit_1 10 rfl rfl)
theorem dX4_isDigit_35 : decode cX4_isDigit 35 = .ok (.ireturn, 1) := dk_172 (dk_at dksX4_isDigit_1 11 rfl rfl)
abbrev cX4_is : ByteArray := prog_20_method_54_code
def yX4_is : MethodName := ⟨RX4, "is", "(I)Z"⟩
def dkwX4_is_0 : List UInt8 := [42, 180, 0, 146, 4, 160, 0, 15, 42, 180, 0, 143, 27, 160, 0, 7, 4, 167, 0, 4, 3, 172]
abbrev dktX4_is_0 : List UInt8 := dkwX4_is_0 ++ []
theorem dksX4_is_0 : cX4_is.data.toList.drop 0 = dktX4_is_0 := by decide +kernel
theorem dX4_is_0 : decode cX4_is 0 = .ok (.aload_n 0, 1) := dk_42 (dk_at dksX4_is_0 0 rfl rfl)
theorem dX4_is_1 : decode cX4_is 1 = .ok (.getfield 146, 3) := dk_180 0 146 (dk_at dksX4_is_0 1 rfl rfl)
theorem dX4_is_4 : decode cX4_is 4 = .ok (.iconst 1, 1) := dk_4 (dk_at dksX4_is_0 4 rfl rfl)
theorem dX4_is_5 : decode cX4_is 5 = .ok (.if_icmp .ne 15, 3) := dk_160 0 15 (dk_at dksX4_is_0 5 rfl rfl)
theorem dX4_is_8 : decode cX4_is 8 = .ok (.aload_n 0, 1) := dk_42 (dk_at dksX4_is_0 8 rfl rfl)
theorem dX4_is_9 : decode cX4_is 9 = .ok (.getfield 143, 3) := dk_180 0 143 (dk_at dksX4_is_0 9 rfl rfl)
theorem dX4_is_12 : decode cX4_is 12 = .ok (.iload_n 1, 1) := dk_27 (dk_at dksX4_is_0 12 rfl rfl)
theorem dX4_is_13 : decode cX4_is 13 = .ok (.if_icmp .ne 7, 3) := dk_160 0 7 (dk_at dksX4_is_0 13 rfl rfl)
theorem dX4_is_16 : decode cX4_is 16 = .ok (.iconst 1, 1) := dk_4 (dk_at dksX4_is_0 16 rfl rfl)
theorem dX4_is_17 : decode cX4_is 17 = .ok (.goto 4, 3) := dk_167 0 4 (dk_at dksX4_is_0 17 rfl rfl)
theorem dX4_is_20 : decode cX4_is 20 = .ok (.iconst 0, 1) := dk_3 (dk_at dksX4_is_0 20 rfl rfl)
theorem dX4_is_21 : decode cX4_is 21 = .ok (.ireturn, 1) := dk_172 (dk_at dksX4_is_0 21 rfl rfl)
abbrev cX4_takes : ByteArray := prog_20_method_56_code
def yX4_takes : MethodName := ⟨RX4, "takes", "(Z)Z"⟩
def dkwX4_takes_1 : List UInt8 := [181, 0, 32, 3, 172, 42, 182, 0, 167, 4, 172]
abbrev dktX4_takes_1 : List UInt8 := dkwX4_takes_1 ++ []
def dkwX4_takes_0 : List UInt8 := [42, 180, 0, 163, 153, 0, 5, 3, 172, 27, 154, 0, 18, 42, 4, 181, 0, 163, 42, 42, 180, 0, 140]
abbrev dktX4_takes_0 : List UInt8 := dkwX4_takes_0 ++ dktX4_takes_1
theorem dksX4_takes_0 : cX4_takes.data.toList.drop 0 = dktX4_takes_0 := by decide +kernel
theorem dksX4_takes_1 : cX4_takes.data.toList.drop 23 = dktX4_takes_1 := dk_seg dksX4_takes_0 23 rfl rfl
theorem dX4_takes_0 : decode cX4_takes 0 = .ok (.aload_n 0, 1) := dk_42 (dk_at dksX4_takes_0 0 rfl rfl)
theorem dX4_takes_1 : decode cX4_takes 1 = .ok (.getfield 163, 3) := dk_180 0 163 (dk_at dksX4_takes_0 1 rfl rfl)
theorem dX4_takes_4 : decode cX4_takes 4 = .ok (.ifCond .eq 5, 3) := dk_153 0 5 (dk_at dksX4_takes_0 4 rfl rfl)
theorem dX4_takes_7 : decode cX4_takes 7 = .ok (.iconst 0, 1) := dk_3 (dk_at dksX4_takes_0 7 rfl rfl)
theorem dX4_takes_8 : decode cX4_takes 8 = .ok (.ireturn, 1) := dk_172 (dk_at dksX4_takes_0 8 rfl rfl)
theorem dX4_takes_9 : decode cX4_takes 9 = .ok (.iload_n 1, 1) := dk_27 (dk_at dksX4_takes_0 9 rfl rfl)
theorem dX4_takes_10 : decode cX4_takes 10 = .ok (.ifCond .ne 18, 3) := dk_154 0 18 (dk_at dksX4_takes_0 10 rfl rfl)
theorem dX4_takes_13 : decode cX4_takes 13 = .ok (.aload_n 0, 1) := dk_42 (dk_at dksX4_takes_0 13 rfl rfl)
theorem dX4_takes_14 : decode cX4_takes 14 = .ok (.iconst 1, 1) := dk_4 (dk_at dksX4_takes_0 14 rfl rfl)
theorem dX4_takes_15 : decode cX4_takes 15 = .ok (.putfield 163, 3) := dk_181 0 163 (dk_at dksX4_takes_0 15 rfl rfl)
theorem dX4_takes_18 : decode cX4_takes 18 = .ok (.aload_n 0, 1) := dk_42 (dk_at dksX4_takes_0 18 rfl rfl)
theorem dX4_takes_19 : decode cX4_takes 19 = .ok (.aload_n 0, 1) := dk_42 (dk_at dksX4_takes_0 19 rfl rfl)
theorem dX4_takes_20 : decode cX4_takes 20 = .ok (.getfield 140, 3) := dk_180 0 140 (dk_at dksX4_takes_0 20 rfl rfl)
theorem dX4_takes_23 : decode cX4_takes 23 = .ok (.putfield 32, 3) := dk_181 0 32 (dk_at dksX4_takes_1 0 rfl rfl)
theorem dX4_takes_26 : decode cX4_takes 26 = .ok (.iconst 0, 1) := dk_3 (dk_at dksX4_takes_1 3 rfl rfl)
theorem dX4_takes_27 : decode cX4_takes 27 = .ok (.ireturn, 1) := dk_172 (dk_at dksX4_takes_1 4 rfl rfl)
theorem dX4_takes_28 : decode cX4_takes 28 = .ok (.aload_n 0, 1) := dk_42 (dk_at dksX4_takes_1 5 rfl rfl)
theorem dX4_takes_29 : decode cX4_takes 29 = .ok (.invokevirtual 167, 3) := dk_182 0 167 (dk_at dksX4_takes_1 6 rfl rfl)
theorem dX4_takes_32 : decode cX4_takes 32 = .ok (.iconst 1, 1) := dk_4 (dk_at dksX4_takes_1 9 rfl rfl)
theorem dX4_takes_33 : decode cX4_takes 33 = .ok (.ireturn, 1) := dk_172 (dk_at dksX4_takes_1 10 rfl rfl)
abbrev cX4_takesNumber : ByteArray := prog_20_method_57_code
def yX4_takesNumber : MethodName := ⟨RX4, "takesNumber", "(II)I"⟩
def dkwX4_takesNumber_1 : List UInt8 := [167, 0, 4, 3, 182, 0, 170, 153, 0, 7, 29, 167, 0, 4, 3, 172]
abbrev dktX4_takesNumber_1 : List UInt8 := dkwX4_takesNumber_1 ++ []
def dkwX4_takesNumber_0 : List UInt8 := [42, 180, 0, 143, 62, 42, 42, 180, 0, 146, 5, 160, 0, 16, 29, 27, 28, 184, 0, 54, 153, 0, 7, 4]
abbrev dktX4_takesNumber_0 : List UInt8 := dkwX4_takesNumber_0 ++ dktX4_takesNumber_1
theorem dksX4_takesNumber_0 : cX4_takesNumber.data.toList.drop 0 = dktX4_takesNumber_0 := by decide +kernel
theorem dksX4_takesNumber_1 : cX4_takesNumber.data.toList.drop 24 = dktX4_takesNumber_1 := dk_seg dksX4_takesNumber_0 24 rfl rfl
theorem dX4_takesNumber_0 : decode cX4_takesNumber 0 = .ok (.aload_n 0, 1) := dk_42 (dk_at dksX4_takesNumber_0 0 rfl rfl)
theorem dX4_takesNumber_1 : decode cX4_takesNumber 1 = .ok (.getfield 143, 3) := dk_180 0 143 (dk_at dksX4_takesNumber_0 1 rfl rfl)
theorem dX4_takesNumber_4 : decode cX4_takesNumber 4 = .ok (.istore_n 3, 1) := dk_62 (dk_at dksX4_takesNumber_0 4 rfl rfl)
theorem dX4_takesNumber_5 : decode cX4_takesNumber 5 = .ok (.aload_n 0, 1) := dk_42 (dk_at dksX4_takesNumber_0 5 rfl rfl)
theorem dX4_takesNumber_6 : decode cX4_takesNumber 6 = .ok (.aload_n 0, 1) := dk_42 (dk_at dksX4_takesNumber_0 6 rfl rfl)
theorem dX4_takesNumber_7 : decode cX4_takesNumber 7 = .ok (.getfield 146, 3) := dk_180 0 146 (dk_at dksX4_takesNumber_0 7 rfl rfl)
theorem dX4_takesNumber_10 : decode cX4_takesNumber 10 = .ok (.iconst 2, 1) := dk_5 (dk_at dksX4_takesNumber_0 10 rfl rfl)
theorem dX4_takesNumber_11 : decode cX4_takesNumber 11 = .ok (.if_icmp .ne 16, 3) := dk_160 0 16 (dk_at dksX4_takesNumber_0 11 rfl rfl)
theorem dX4_takesNumber_14 : decode cX4_takesNumber 14 = .ok (.iload_n 3, 1) := dk_29 (dk_at dksX4_takesNumber_0 14 rfl rfl)
theorem dX4_takesNumber_15 : decode cX4_takesNumber 15 = .ok (.iload_n 1, 1) := dk_27 (dk_at dksX4_takesNumber_0 15 rfl rfl)
theorem dX4_takesNumber_16 : decode cX4_takesNumber 16 = .ok (.iload_n 2, 1) := dk_28 (dk_at dksX4_takesNumber_0 16 rfl rfl)
theorem dX4_takesNumber_17 : decode cX4_takesNumber 17 = .ok (.invokestatic 54, 3) := dk_184 0 54 (dk_at dksX4_takesNumber_0 17 rfl rfl)
theorem dX4_takesNumber_20 : decode cX4_takesNumber 20 = .ok (.ifCond .eq 7, 3) := dk_153 0 7 (dk_at dksX4_takesNumber_0 20 rfl rfl)
theorem dX4_takesNumber_23 : decode cX4_takesNumber 23 = .ok (.iconst 1, 1) := dk_4 (dk_at dksX4_takesNumber_0 23 rfl rfl)
theorem dX4_takesNumber_24 : decode cX4_takesNumber 24 = .ok (.goto 4, 3) := dk_167 0 4 (dk_at dksX4_takesNumber_1 0 rfl rfl)
theorem dX4_takesNumber_27 : decode cX4_takesNumber 27 = .ok (.iconst 0, 1) := dk_3 (dk_at dksX4_takesNumber_1 3 rfl rfl)
theorem dX4_takesNumber_28 : decode cX4_takesNumber 28 = .ok (.invokevirtual 170, 3) := dk_182 0 170 (dk_at dksX4_takesNumber_1 4 rfl rfl)
theorem dX4_takesNumber_31 : decode cX4_takesNumber 31 = .ok (.ifCond .eq 7, 3) := dk_153 0 7 (dk_at dksX4_takesNumber_1 7 rfl rfl)
theorem dX4_takesNumber_34 : decode cX4_takesNumber 34 = .ok (.iload_n 3, 1) := dk_29 (dk_at dksX4_takesNumber_1 10 rfl rfl)
theorem dX4_takesNumber_35 : decode cX4_takesNumber 35 = .ok (.goto 4, 3) := dk_167 0 4 (dk_at dksX4_takesNumber_1 11 rfl rfl)
theorem dX4_takesNumber_38 : decode cX4_takesNumber 38 = .ok (.iconst 0, 1) := dk_3 (dk_at dksX4_takesNumber_1 14 rfl rfl)
theorem dX4_takesNumber_39 : decode cX4_takesNumber 39 = .ok (.ireturn, 1) := dk_172 (dk_at dksX4_takesNumber_1 15 rfl rfl)
abbrev cX4_in : ByteArray := prog_20_method_3_code
def yX4_in : MethodName := ⟨RX4, "in", "(III)Z"⟩
def dkwX4_in_0 : List UInt8 := [27, 26, 163, 0, 12, 26, 28, 163, 0, 7, 4, 167, 0, 4, 3, 172]
abbrev dktX4_in_0 : List UInt8 := dkwX4_in_0 ++ []
theorem dksX4_in_0 : cX4_in.data.toList.drop 0 = dktX4_in_0 := by decide +kernel
theorem dX4_in_0 : decode cX4_in 0 = .ok (.iload_n 1, 1) := dk_27 (dk_at dksX4_in_0 0 rfl rfl)
theorem dX4_in_1 : decode cX4_in 1 = .ok (.iload_n 0, 1) := dk_26 (dk_at dksX4_in_0 1 rfl rfl)
theorem dX4_in_2 : decode cX4_in 2 = .ok (.if_icmp .gt 12, 3) := dk_163 0 12 (dk_at dksX4_in_0 2 rfl rfl)
theorem dX4_in_5 : decode cX4_in 5 = .ok (.iload_n 0, 1) := dk_26 (dk_at dksX4_in_0 5 rfl rfl)
theorem dX4_in_6 : decode cX4_in 6 = .ok (.iload_n 2, 1) := dk_28 (dk_at dksX4_in_0 6 rfl rfl)
theorem dX4_in_7 : decode cX4_in 7 = .ok (.if_icmp .gt 7, 3) := dk_163 0 7 (dk_at dksX4_in_0 7 rfl rfl)
theorem dX4_in_10 : decode cX4_in 10 = .ok (.iconst 1, 1) := dk_4 (dk_at dksX4_in_0 10 rfl rfl)
theorem dX4_in_11 : decode cX4_in 11 = .ok (.goto 4, 3) := dk_167 0 4 (dk_at dksX4_in_0 11 rfl rfl)
theorem dX4_in_14 : decode cX4_in 14 = .ok (.iconst 0, 1) := dk_3 (dk_at dksX4_in_0 14 rfl rfl)
theorem dX4_in_15 : decode cX4_in 15 = .ok (.ireturn, 1) := dk_172 (dk_at dksX4_in_0 15 rfl rfl)
abbrev cX4_readOwner : ByteArray := prog_20_method_61_code
def yX4_readOwner : MethodName := ⟨RX4, "readOwner", "()V"⟩
def dkwX4_readOwner_5 : List UInt8 := [96, 79, 177]
abbrev dktX4_readOwner_5 : List UInt8 := dkwX4_readOwner_5 ++ []
def dkwX4_readOwner_4 : List UInt8 := [177, 42, 180, 0, 13, 16, 8, 42, 180, 0, 13, 7, 46, 96, 27, 79, 42, 180, 0, 13, 7, 92, 46, 4]
abbrev dktX4_readOwner_4 : List UInt8 := dkwX4_readOwner_4 ++ dktX4_readOwner_5
def dkwX4_readOwner_3 : List UInt8 := [182, 0, 170, 87, 42, 42, 180, 0, 146, 6, 160, 0, 7, 4, 167, 0, 4, 3, 182, 0, 170, 154, 0, 4]
abbrev dktX4_readOwner_3 : List UInt8 := dkwX4_readOwner_3 ++ dktX4_readOwner_4
def dkwX4_readOwner_2 : List UInt8 := [184, 0, 174, 154, 0, 18, 42, 180, 0, 13, 27, 184, 0, 177, 156, 0, 7, 4, 167, 0, 4, 3]
abbrev dktX4_readOwner_2 : List UInt8 := dkwX4_readOwner_2 ++ dktX4_readOwner_3
def dkwX4_readOwner_1 : List UInt8 := [167, 0, 4, 3, 182, 0, 170, 87, 42, 180, 0, 143, 60, 42, 42, 180, 0, 146, 4, 160, 0, 25, 27]
abbrev dktX4_readOwner_1 : List UInt8 := dkwX4_readOwner_1 ++ dktX4_readOwner_2
def dkwX4_readOwner_0 : List UInt8 := [42, 42, 18, 158, 182, 0, 180, 153, 0, 18, 42, 180, 0, 13, 7, 46, 16, 6, 162, 0, 7, 4]
abbrev dktX4_readOwner_0 : List UInt8 := dkwX4_readOwner_0 ++ dktX4_readOwner_1
theorem dksX4_readOwner_0 : cX4_readOwner.data.toList.drop 0 = dktX4_readOwner_0 := by decide +kernel
theorem dksX4_readOwner_1 : cX4_readOwner.data.toList.drop 22 = dktX4_readOwner_1 := dk_seg dksX4_readOwner_0 22 rfl rfl
theorem dksX4_readOwner_2 : cX4_readOwner.data.toList.drop 45 = dktX4_readOwner_2 := dk_seg dksX4_readOwner_1 23 rfl rfl
theorem dksX4_readOwner_3 : cX4_readOwner.data.toList.drop 67 = dktX4_readOwner_3 := dk_seg dksX4_readOwner_2 22 rfl rfl
theorem dksX4_readOwner_4 : cX4_readOwner.data.toList.drop 91 = dktX4_readOwner_4 := dk_seg dksX4_readOwner_3 24 rfl rfl
theorem dksX4_readOwner_5 : cX4_readOwner.data.toList.drop 115 = dktX4_readOwner_5 := dk_seg dksX4_readOwner_4 24 rfl rfl
theorem dX4_readOwner_0 : decode cX4_readOwner 0 = .ok (.aload_n 0, 1) := dk_42 (dk_at dksX4_readOwner_0 0 rfl rfl)
theorem dX4_readOwner_1 : decode cX4_readOwner 1 = .ok (.aload_n 0, 1) := dk_42 (dk_at dksX4_readOwner_0 1 rfl rfl)
theorem dX4_readOwner_2 : decode cX4_readOwner 2 = .ok (.ldc 158, 2) := dk_18 158 (dk_at dksX4_readOwner_0 2 rfl rfl)
theorem dX4_readOwner_4 : decode cX4_readOwner 4 = .ok (.invokevirtual 180, 3) := dk_182 0 180 (dk_at dksX4_readOwner_0 4 rfl rfl)
theorem dX4_readOwner_7 : decode cX4_readOwner 7 = .ok (.ifCond .eq 18, 3) := dk_153 0 18 (dk_at dksX4_readOwner_0 7 rfl rfl)
theorem dX4_readOwner_10 : decode cX4_readOwner 10 = .ok (.aload_n 0, 1) := dk_42 (dk_at dksX4_readOwner_0 10 rfl rfl)
theorem dX4_readOwner_11 : decode cX4_readOwner 11 = .ok (.getfield 13, 3) := dk_180 0 13 (dk_at dksX4_readOwner_0 11 rfl rfl)
theorem dX4_readOwner_14 : decode cX4_readOwner 14 = .ok (.iconst 4, 1) := dk_7 (dk_at dksX4_readOwner_0 14 rfl rfl)
theorem dX4_readOwner_15 : decode cX4_readOwner 15 = .ok (.iaload, 1) := dk_46 (dk_at dksX4_readOwner_0 15 rfl rfl)
theorem dX4_readOwner_16 : decode cX4_readOwner 16 = .ok (.bipush 6, 2) := dk_16 6 (dk_at dksX4_readOwner_0 16 rfl rfl)
theorem dX4_readOwner_18 : decode cX4_readOwner 18 = .ok (.if_icmp .ge 7, 3) := dk_162 0 7 (dk_at dksX4_readOwner_0 18 rfl rfl)
theorem dX4_readOwner_21 : decode cX4_readOwner 21 = .ok (.iconst 1, 1) := dk_4 (dk_at dksX4_readOwner_0 21 rfl rfl)
theorem dX4_readOwner_22 : decode cX4_readOwner 22 = .ok (.goto 4, 3) := dk_167 0 4 (dk_at dksX4_readOwner_1 0 rfl rfl)
theorem dX4_readOwner_25 : decode cX4_readOwner 25 = .ok (.iconst 0, 1) := dk_3 (dk_at dksX4_readOwner_1 3 rfl rfl)
theorem dX4_readOwner_26 : decode cX4_readOwner 26 = .ok (.invokevirtual 170, 3) := dk_182 0 170 (dk_at dksX4_readOwner_1 4 rfl rfl)
theorem dX4_readOwner_29 : decode cX4_readOwner 29 = .ok (.pop, 1) := dk_87 (dk_at dksX4_readOwner_1 7 rfl rfl)
theorem dX4_readOwner_30 : decode cX4_readOwner 30 = .ok (.aload_n 0, 1) := dk_42 (dk_at dksX4_readOwner_1 8 rfl rfl)
theorem dX4_readOwner_31 : decode cX4_readOwner 31 = .ok (.getfield 143, 3) := dk_180 0 143 (dk_at dksX4_readOwner_1 9 rfl rfl)
theorem dX4_readOwner_34 : decode cX4_readOwner 34 = .ok (.istore_n 1, 1) := dk_60 (dk_at dksX4_readOwner_1 12 rfl rfl)
theorem dX4_readOwner_35 : decode cX4_readOwner 35 = .ok (.aload_n 0, 1) := dk_42 (dk_at dksX4_readOwner_1 13 rfl rfl)
theorem dX4_readOwner_36 : decode cX4_readOwner 36 = .ok (.aload_n 0, 1) := dk_42 (dk_at dksX4_readOwner_1 14 rfl rfl)
theorem dX4_readOwner_37 : decode cX4_readOwner 37 = .ok (.getfield 146, 3) := dk_180 0 146 (dk_at dksX4_readOwner_1 15 rfl rfl)
theorem dX4_readOwner_40 : decode cX4_readOwner 40 = .ok (.iconst 1, 1) := dk_4 (dk_at dksX4_readOwner_1 18 rfl rfl)
theorem dX4_readOwner_41 : decode cX4_readOwner 41 = .ok (.if_icmp .ne 25, 3) := dk_160 0 25 (dk_at dksX4_readOwner_1 19 rfl rfl)
theorem dX4_readOwner_44 : decode cX4_readOwner 44 = .ok (.iload_n 1, 1) := dk_27 (dk_at dksX4_readOwner_1 22 rfl rfl)
theorem dX4_readOwner_45 : decode cX4_readOwner 45 = .ok (.invokestatic 174, 3) := dk_184 0 174 (dk_at dksX4_readOwner_2 0 rfl rfl)
theorem dX4_readOwner_48 : decode cX4_readOwner 48 = .ok (.ifCond .ne 18, 3) := dk_154 0 18 (dk_at dksX4_readOwner_2 3 rfl rfl)
theorem dX4_readOwner_51 : decode cX4_readOwner 51 = .ok (.aload_n 0, 1) := dk_42 (dk_at dksX4_readOwner_2 6 rfl rfl)
theorem dX4_readOwner_52 : decode cX4_readOwner 52 = .ok (.getfield 13, 3) := dk_180 0 13 (dk_at dksX4_readOwner_2 7 rfl rfl)
theorem dX4_readOwner_55 : decode cX4_readOwner 55 = .ok (.iload_n 1, 1) := dk_27 (dk_at dksX4_readOwner_2 10 rfl rfl)
theorem dX4_readOwner_56 : decode cX4_readOwner 56 = .ok (.invokestatic 177, 3) := dk_184 0 177 (dk_at dksX4_readOwner_2 11 rfl rfl)
theorem dX4_readOwner_59 : decode cX4_readOwner 59 = .ok (.ifCond .ge 7, 3) := dk_156 0 7 (dk_at dksX4_readOwner_2 14 rfl rfl)
theorem dX4_readOwner_62 : decode cX4_readOwner 62 = .ok (.iconst 1, 1) := dk_4 (dk_at dksX4_readOwner_2 17 rfl rfl)
theorem dX4_readOwner_63 : decode cX4_readOwner 63 = .ok (.goto 4, 3) := dk_167 0 4 (dk_at dksX4_readOwner_2 18 rfl rfl)
theorem dX4_readOwner_66 : decode cX4_readOwner 66 = .ok (.iconst 0, 1) := dk_3 (dk_at dksX4_readOwner_2 21 rfl rfl)
theorem dX4_readOwner_67 : decode cX4_readOwner 67 = .ok (.invokevirtual 170, 3) := dk_182 0 170 (dk_at dksX4_readOwner_3 0 rfl rfl)
theorem dX4_readOwner_70 : decode cX4_readOwner 70 = .ok (.pop, 1) := dk_87 (dk_at dksX4_readOwner_3 3 rfl rfl)
theorem dX4_readOwner_71 : decode cX4_readOwner 71 = .ok (.aload_n 0, 1) := dk_42 (dk_at dksX4_readOwner_3 4 rfl rfl)
theorem dX4_readOwner_72 : decode cX4_readOwner 72 = .ok (.aload_n 0, 1) := dk_42 (dk_at dksX4_readOwner_3 5 rfl rfl)
theorem dX4_readOwner_73 : decode cX4_readOwner 73 = .ok (.getfield 146, 3) := dk_180 0 146 (dk_at dksX4_readOwner_3 6 rfl rfl)
theorem dX4_readOwner_76 : decode cX4_readOwner 76 = .ok (.iconst 3, 1) := dk_6 (dk_at dksX4_readOwner_3 9 rfl rfl)
theorem dX4_readOwner_77 : decode cX4_readOwner 77 = .ok (.if_icmp .ne 7, 3) := dk_160 0 7 (dk_at dksX4_readOwner_3 10 rfl rfl)
theorem dX4_readOwner_80 : decode cX4_readOwner 80 = .ok (.iconst 1, 1) := dk_4 (dk_at dksX4_readOwner_3 13 rfl rfl)
theorem dX4_readOwner_81 : decode cX4_readOwner 81 = .ok (.goto 4, 3) := dk_167 0 4 (dk_at dksX4_readOwner_3 14 rfl rfl)
theorem dX4_readOwner_84 : decode cX4_readOwner 84 = .ok (.iconst 0, 1) := dk_3 (dk_at dksX4_readOwner_3 17 rfl rfl)
theorem dX4_readOwner_85 : decode cX4_readOwner 85 = .ok (.invokevirtual 170, 3) := dk_182 0 170 (dk_at dksX4_readOwner_3 18 rfl rfl)
theorem dX4_readOwner_88 : decode cX4_readOwner 88 = .ok (.ifCond .ne 4, 3) := dk_154 0 4 (dk_at dksX4_readOwner_3 21 rfl rfl)
theorem dX4_readOwner_91 : decode cX4_readOwner 91 = .ok (.return_, 1) := dk_177 (dk_at dksX4_readOwner_4 0 rfl rfl)
theorem dX4_readOwner_92 : decode cX4_readOwner 92 = .ok (.aload_n 0, 1) := dk_42 (dk_at dksX4_readOwner_4 1 rfl rfl)
theorem dX4_readOwner_93 : decode cX4_readOwner 93 = .ok (.getfield 13, 3) := dk_180 0 13 (dk_at dksX4_readOwner_4 2 rfl rfl)
theorem dX4_readOwner_96 : decode cX4_readOwner 96 = .ok (.bipush 8, 2) := dk_16 8 (dk_at dksX4_readOwner_4 5 rfl rfl)
theorem dX4_readOwner_98 : decode cX4_readOwner 98 = .ok (.aload_n 0, 1) := dk_42 (dk_at dksX4_readOwner_4 7 rfl rfl)
theorem dX4_readOwner_99 : decode cX4_readOwner 99 = .ok (.getfield 13, 3) := dk_180 0 13 (dk_at dksX4_readOwner_4 8 rfl rfl)
theorem dX4_readOwner_102 : decode cX4_readOwner 102 = .ok (.iconst 4, 1) := dk_7 (dk_at dksX4_readOwner_4 11 rfl rfl)
theorem dX4_readOwner_103 : decode cX4_readOwner 103 = .ok (.iaload, 1) := dk_46 (dk_at dksX4_readOwner_4 12 rfl rfl)
theorem dX4_readOwner_104 : decode cX4_readOwner 104 = .ok (.iadd, 1) := dk_96 (dk_at dksX4_readOwner_4 13 rfl rfl)
theorem dX4_readOwner_105 : decode cX4_readOwner 105 = .ok (.iload_n 1, 1) := dk_27 (dk_at dksX4_readOwner_4 14 rfl rfl)
theorem dX4_readOwner_106 : decode cX4_readOwner 106 = .ok (.iastore, 1) := dk_79 (dk_at dksX4_readOwner_4 15 rfl rfl)
theorem dX4_readOwner_107 : decode cX4_readOwner 107 = .ok (.aload_n 0, 1) := dk_42 (dk_at dksX4_readOwner_4 16 rfl rfl)
theorem dX4_readOwner_108 : decode cX4_readOwner 108 = .ok (.getfield 13, 3) := dk_180 0 13 (dk_at dksX4_readOwner_4 17 rfl rfl)
theorem dX4_readOwner_111 : decode cX4_readOwner 111 = .ok (.iconst 4, 1) := dk_7 (dk_at dksX4_readOwner_4 20 rfl rfl)
theorem dX4_readOwner_112 : decode cX4_readOwner 112 = .ok (.dup2, 1) := dk_92 (dk_at dksX4_readOwner_4 21 rfl rfl)
theorem dX4_readOwner_113 : decode cX4_readOwner 113 = .ok (.iaload, 1) := dk_46 (dk_at dksX4_readOwner_4 22 rfl rfl)
theorem dX4_readOwner_114 : decode cX4_readOwner 114 = .ok (.iconst 1, 1) := dk_4 (dk_at dksX4_readOwner_4 23 rfl rfl)
theorem dX4_readOwner_115 : decode cX4_readOwner 115 = .ok (.iadd, 1) := dk_96 (dk_at dksX4_readOwner_5 0 rfl rfl)
theorem dX4_readOwner_116 : decode cX4_readOwner 116 = .ok (.iastore, 1) := dk_79 (dk_at dksX4_readOwner_5 1 rfl rfl)
theorem dX4_readOwner_117 : decode cX4_readOwner 117 = .ok (.return_, 1) := dk_177 (dk_at dksX4_readOwner_5 2 rfl rfl)
abbrev cX4_isKeyword : ByteArray := prog_20_method_55_code
def yX4_isKeyword : MethodName := ⟨RX4, "isKeyword", "(I)Z"⟩
def dkwX4_isKeyword_2 : List UInt8 := [159, 0, 9, 26, 18, 162, 160, 0, 7, 4, 167, 0, 4, 3, 172]
abbrev dktX4_isKeyword_2 : List UInt8 := dkwX4_isKeyword_2 ++ []
def dkwX4_isKeyword_1 : List UInt8 := [26, 17, 52, 238, 159, 0, 28, 26, 17, 10, 44, 159, 0, 21, 26, 18, 160, 159, 0, 15, 26, 18, 161]
abbrev dktX4_isKeyword_1 : List UInt8 := dkwX4_isKeyword_1 ++ dktX4_isKeyword_2
def dkwX4_isKeyword_0 : List UInt8 := [26, 18, 156, 159, 0, 53, 26, 18, 157, 159, 0, 47, 26, 18, 158, 159, 0, 41, 26, 18, 159, 159, 0, 35]
abbrev dktX4_isKeyword_0 : List UInt8 := dkwX4_isKeyword_0 ++ dktX4_isKeyword_1
theorem dksX4_isKeyword_0 : cX4_isKeyword.data.toList.drop 0 = dktX4_isKeyword_0 := by decide +kernel
theorem dksX4_isKeyword_1 : cX4_isKeyword.data.toList.drop 24 = dktX4_isKeyword_1 := dk_seg dksX4_isKeyword_0 24 rfl rfl
theorem dksX4_isKeyword_2 : cX4_isKeyword.data.toList.drop 47 = dktX4_isKeyword_2 := dk_seg dksX4_isKeyword_1 23 rfl rfl
theorem dX4_isKeyword_0 : decode cX4_isKeyword 0 = .ok (.iload_n 0, 1) := dk_26 (dk_at dksX4_isKeyword_0 0 rfl rfl)
theorem dX4_isKeyword_1 : decode cX4_isKeyword 1 = .ok (.ldc 156, 2) := dk_18 156 (dk_at dksX4_isKeyword_0 1 rfl rfl)
theorem dX4_isKeyword_3 : decode cX4_isKeyword 3 = .ok (.if_icmp .eq 53, 3) := dk_159 0 53 (dk_at dksX4_isKeyword_0 3 rfl rfl)
theorem dX4_isKeyword_6 : decode cX4_isKeyword 6 = .ok (.iload_n 0, 1) := dk_26 (dk_at dksX4_isKeyword_0 6 rfl rfl)
theorem dX4_isKeyword_7 : decode cX4_isKeyword 7 = .ok (.ldc 157, 2) := dk_18 157 (dk_at dksX4_isKeyword_0 7 rfl rfl)
theorem dX4_isKeyword_9 : decode cX4_isKeyword 9 = .ok (.if_icmp .eq 47, 3) := dk_159 0 47 (dk_at dksX4_isKeyword_0 9 rfl rfl)
theorem dX4_isKeyword_12 : decode cX4_isKeyword 12 = .ok (.iload_n 0, 1) := dk_26 (dk_at dksX4_isKeyword_0 12 rfl rfl)
theorem dX4_isKeyword_13 : decode cX4_isKeyword 13 = .ok (.ldc 158, 2) := dk_18 158 (dk_at dksX4_isKeyword_0 13 rfl rfl)
theorem dX4_isKeyword_15 : decode cX4_isKeyword 15 = .ok (.if_icmp .eq 41, 3) := dk_159 0 41 (dk_at dksX4_isKeyword_0 15 rfl rfl)
theorem dX4_isKeyword_18 : decode cX4_isKeyword 18 = .ok (.iload_n 0, 1) := dk_26 (dk_at dksX4_isKeyword_0 18 rfl rfl)
theorem dX4_isKeyword_19 : decode cX4_isKeyword 19 = .ok (.ldc 159, 2) := dk_18 159 (dk_at dksX4_isKeyword_0 19 rfl rfl)
theorem dX4_isKeyword_21 : decode cX4_isKeyword 21 = .ok (.if_icmp .eq 35, 3) := dk_159 0 35 (dk_at dksX4_isKeyword_0 21 rfl rfl)
theorem dX4_isKeyword_24 : decode cX4_isKeyword 24 = .ok (.iload_n 0, 1) := dk_26 (dk_at dksX4_isKeyword_1 0 rfl rfl)
theorem dX4_isKeyword_25 : decode cX4_isKeyword 25 = .ok (.sipush 13550, 3) := dk_17 52 238 (dk_at dksX4_isKeyword_1 1 rfl rfl)
theorem dX4_isKeyword_28 : decode cX4_isKeyword 28 = .ok (.if_icmp .eq 28, 3) := dk_159 0 28 (dk_at dksX4_isKeyword_1 4 rfl rfl)
theorem dX4_isKeyword_31 : decode cX4_isKeyword 31 = .ok (.iload_n 0, 1) := dk_26 (dk_at dksX4_isKeyword_1 7 rfl rfl)
theorem dX4_isKeyword_32 : decode cX4_isKeyword 32 = .ok (.sipush 2604, 3) := dk_17 10 44 (dk_at dksX4_isKeyword_1 8 rfl rfl)
theorem dX4_isKeyword_35 : decode cX4_isKeyword 35 = .ok (.if_icmp .eq 21, 3) := dk_159 0 21 (dk_at dksX4_isKeyword_1 11 rfl rfl)
theorem dX4_isKeyword_38 : decode cX4_isKeyword 38 = .ok (.iload_n 0, 1) := dk_26 (dk_at dksX4_isKeyword_1 14 rfl rfl)
theorem dX4_isKeyword_39 : decode cX4_isKeyword 39 = .ok (.ldc 160, 2) := dk_18 160 (dk_at dksX4_isKeyword_1 15 rfl rfl)
theorem dX4_isKeyword_41 : decode cX4_isKeyword 41 = .ok (.if_icmp .eq 15, 3) := dk_159 0 15 (dk_at dksX4_isKeyword_1 17 rfl rfl)
theorem dX4_isKeyword_44 : decode cX4_isKeyword 44 = .ok (.iload_n 0, 1) := dk_26 (dk_at dksX4_isKeyword_1 20 rfl rfl)
theorem dX4_isKeyword_45 : decode cX4_isKeyword 45 = .ok (.ldc 161, 2) := dk_18 161 (dk_at dksX4_isKeyword_1 21 rfl rfl)
theorem dX4_isKeyword_47 : decode cX4_isKeyword 47 = .ok (.if_icmp .eq 9, 3) := dk_159 0 9 (dk_at dksX4_isKeyword_2 0 rfl rfl)
theorem dX4_isKeyword_50 : decode cX4_isKeyword 50 = .ok (.iload_n 0, 1) := dk_26 (dk_at dksX4_isKeyword_2 3 rfl rfl)
theorem dX4_isKeyword_51 : decode cX4_isKeyword 51 = .ok (.ldc 162, 2) := dk_18 162 (dk_at dksX4_isKeyword_2 4 rfl rfl)
theorem dX4_isKeyword_53 : decode cX4_isKeyword 53 = .ok (.if_icmp .ne 7, 3) := dk_160 0 7 (dk_at dksX4_isKeyword_2 6 rfl rfl)
theorem dX4_isKeyword_56 : decode cX4_isKeyword 56 = .ok (.iconst 1, 1) := dk_4 (dk_at dksX4_isKeyword_2 9 rfl rfl)
theorem dX4_isKeyword_57 : decode cX4_isKeyword 57 = .ok (.goto 4, 3) := dk_167 0 4 (dk_at dksX4_isKeyword_2 10 rfl rfl)
theorem dX4_isKeyword_60 : decode cX4_isKeyword 60 = .ok (.iconst 0, 1) := dk_3 (dk_at dksX4_isKeyword_2 13 rfl rfl)
theorem dX4_isKeyword_61 : decode cX4_isKeyword 61 = .ok (.ireturn, 1) := dk_172 (dk_at dksX4_isKeyword_2 14 rfl rfl)
abbrev cX4_named : ByteArray := prog_20_method_58_code
def yX4_named : MethodName := ⟨RX4, "named", "([II)I"⟩
def dkwX4_named_1 : List UInt8 := [167, 255, 234, 16, 254, 172]
abbrev dktX4_named_1 : List UInt8 := dkwX4_named_1 ++ []
def dkwX4_named_0 : List UInt8 := [3, 61, 28, 42, 7, 46, 162, 0, 21, 42, 16, 8, 28, 96, 46, 27, 160, 0, 5, 28, 172, 132, 2, 1]
abbrev dktX4_named_0 : List UInt8 := dkwX4_named_0 ++ dktX4_named_1
theorem dksX4_named_0 : cX4_named.data.toList.drop 0 = dktX4_named_0 := by decide +kernel
theorem dksX4_named_1 : cX4_named.data.toList.drop 24 = dktX4_named_1 := dk_seg dksX4_named_0 24 rfl rfl
theorem dX4_named_0 : decode cX4_named 0 = .ok (.iconst 0, 1) := dk_3 (dk_at dksX4_named_0 0 rfl rfl)
theorem dX4_named_1 : decode cX4_named 1 = .ok (.istore_n 2, 1) := dk_61 (dk_at dksX4_named_0 1 rfl rfl)
theorem dX4_named_2 : decode cX4_named 2 = .ok (.iload_n 2, 1) := dk_28 (dk_at dksX4_named_0 2 rfl rfl)
theorem dX4_named_3 : decode cX4_named 3 = .ok (.aload_n 0, 1) := dk_42 (dk_at dksX4_named_0 3 rfl rfl)
theorem dX4_named_4 : decode cX4_named 4 = .ok (.iconst 4, 1) := dk_7 (dk_at dksX4_named_0 4 rfl rfl)
theorem dX4_named_5 : decode cX4_named 5 = .ok (.iaload, 1) := dk_46 (dk_at dksX4_named_0 5 rfl rfl)
theorem dX4_named_6 : decode cX4_named 6 = .ok (.if_icmp .ge 21, 3) := dk_162 0 21 (dk_at dksX4_named_0 6 rfl rfl)
theorem dX4_named_9 : decode cX4_named 9 = .ok (.aload_n 0, 1) := dk_42 (dk_at dksX4_named_0 9 rfl rfl)
theorem dX4_named_10 : decode cX4_named 10 = .ok (.bipush 8, 2) := dk_16 8 (dk_at dksX4_named_0 10 rfl rfl)
theorem dX4_named_12 : decode cX4_named 12 = .ok (.iload_n 2, 1) := dk_28 (dk_at dksX4_named_0 12 rfl rfl)
theorem dX4_named_13 : decode cX4_named 13 = .ok (.iadd, 1) := dk_96 (dk_at dksX4_named_0 13 rfl rfl)
theorem dX4_named_14 : decode cX4_named 14 = .ok (.iaload, 1) := dk_46 (dk_at dksX4_named_0 14 rfl rfl)
theorem dX4_named_15 : decode cX4_named 15 = .ok (.iload_n 1, 1) := dk_27 (dk_at dksX4_named_0 15 rfl rfl)
theorem dX4_named_16 : decode cX4_named 16 = .ok (.if_icmp .ne 5, 3) := dk_160 0 5 (dk_at dksX4_named_0 16 rfl rfl)
theorem dX4_named_19 : decode cX4_named 19 = .ok (.iload_n 2, 1) := dk_28 (dk_at dksX4_named_0 19 rfl rfl)
theorem dX4_named_20 : decode cX4_named 20 = .ok (.ireturn, 1) := dk_172 (dk_at dksX4_named_0 20 rfl rfl)
theorem dX4_named_21 : decode cX4_named 21 = .ok (.iinc 2 1, 3) := dk_132 2 1 (dk_at dksX4_named_0 21 rfl rfl)
theorem dX4_named_24 : decode cX4_named 24 = .ok (.goto (-22), 3) := dk_167 255 234 (dk_at dksX4_named_1 0 rfl rfl)
theorem dX4_named_27 : decode cX4_named 27 = .ok (.bipush (-2), 2) := dk_16 254 (dk_at dksX4_named_1 3 rfl rfl)
theorem dX4_named_29 : decode cX4_named 29 = .ok (.ireturn, 1) := dk_172 (dk_at dksX4_named_1 5 rfl rfl)
abbrev cX4_readSplit : ByteArray := prog_20_method_62_code
def yX4_readSplit : MethodName := ⟨RX4, "readSplit", "()V"⟩
def dkwX4_readSplit_6 : List UInt8 := [29, 184, 0, 190, 87, 177]
abbrev dktX4_readSplit_6 : List UInt8 := dkwX4_readSplit_6 ++ []
def dkwX4_readSplit_5 : List UInt8 := [180, 0, 146, 6, 160, 0, 7, 4, 167, 0, 4, 3, 182, 0, 170, 153, 0, 14, 42, 180, 0, 13, 27, 28]
abbrev dktX4_readSplit_5 : List UInt8 := dkwX4_readSplit_5 ++ dktX4_readSplit_6
def dkwX4_readSplit_4 : List UInt8 := [27, 28, 4, 160, 0, 7, 6, 167, 0, 4, 5, 184, 0, 66, 46, 4, 100, 182, 0, 187, 62, 42, 42]
abbrev dktX4_readSplit_4 : List UInt8 := dkwX4_readSplit_4 ++ dktX4_readSplit_5
def dkwX4_readSplit_3 : List UInt8 := [17, 10, 44, 182, 0, 180, 153, 0, 7, 4, 167, 0, 4, 3, 182, 0, 170, 87, 42, 4, 42, 180, 0, 13]
abbrev dktX4_readSplit_3 : List UInt8 := dkwX4_readSplit_3 ++ dktX4_readSplit_4
def dkwX4_readSplit_2 : List UInt8 := [182, 0, 180, 153, 0, 7, 4, 167, 0, 4, 3, 61, 42, 42, 17, 52, 238, 182, 0, 180, 154, 0, 13, 42]
abbrev dktX4_readSplit_2 : List UInt8 := dkwX4_readSplit_2 ++ dktX4_readSplit_3
def dkwX4_readSplit_1 : List UInt8 := [16, 60, 163, 0, 7, 4, 167, 0, 4, 3, 182, 0, 170, 87, 42, 182, 0, 183, 60, 42, 17, 52, 238]
abbrev dktX4_readSplit_1 : List UInt8 := dkwX4_readSplit_1 ++ dktX4_readSplit_2
def dkwX4_readSplit_0 : List UInt8 := [42, 42, 180, 0, 13, 8, 46, 5, 96, 16, 40, 163, 0, 21, 42, 180, 0, 13, 16, 6, 46, 5, 96]
abbrev dktX4_readSplit_0 : List UInt8 := dkwX4_readSplit_0 ++ dktX4_readSplit_1
theorem dksX4_readSplit_0 : cX4_readSplit.data.toList.drop 0 = dktX4_readSplit_0 := by decide +kernel
theorem dksX4_readSplit_1 : cX4_readSplit.data.toList.drop 23 = dktX4_readSplit_1 := dk_seg dksX4_readSplit_0 23 rfl rfl
theorem dksX4_readSplit_2 : cX4_readSplit.data.toList.drop 46 = dktX4_readSplit_2 := dk_seg dksX4_readSplit_1 23 rfl rfl
theorem dksX4_readSplit_3 : cX4_readSplit.data.toList.drop 70 = dktX4_readSplit_3 := dk_seg dksX4_readSplit_2 24 rfl rfl
theorem dksX4_readSplit_4 : cX4_readSplit.data.toList.drop 94 = dktX4_readSplit_4 := dk_seg dksX4_readSplit_3 24 rfl rfl
theorem dksX4_readSplit_5 : cX4_readSplit.data.toList.drop 117 = dktX4_readSplit_5 := dk_seg dksX4_readSplit_4 23 rfl rfl
theorem dksX4_readSplit_6 : cX4_readSplit.data.toList.drop 141 = dktX4_readSplit_6 := dk_seg dksX4_readSplit_5 24 rfl rfl
theorem dX4_readSplit_0 : decode cX4_readSplit 0 = .ok (.aload_n 0, 1) := dk_42 (dk_at dksX4_readSplit_0 0 rfl rfl)
theorem dX4_readSplit_1 : decode cX4_readSplit 1 = .ok (.aload_n 0, 1) := dk_42 (dk_at dksX4_readSplit_0 1 rfl rfl)
theorem dX4_readSplit_2 : decode cX4_readSplit 2 = .ok (.getfield 13, 3) := dk_180 0 13 (dk_at dksX4_readSplit_0 2 rfl rfl)
theorem dX4_readSplit_5 : decode cX4_readSplit 5 = .ok (.iconst 5, 1) := dk_8 (dk_at dksX4_readSplit_0 5 rfl rfl)
theorem dX4_readSplit_6 : decode cX4_readSplit 6 = .ok (.iaload, 1) := dk_46 (dk_at dksX4_readSplit_0 6 rfl rfl)
theorem dX4_readSplit_7 : decode cX4_readSplit 7 = .ok (.iconst 2, 1) := dk_5 (dk_at dksX4_readSplit_0 7 rfl rfl)
theorem dX4_readSplit_8 : decode cX4_readSplit 8 = .ok (.iadd, 1) := dk_96 (dk_at dksX4_readSplit_0 8 rfl rfl)
theorem dX4_readSplit_9 : decode cX4_readSplit 9 = .ok (.bipush 40, 2) := dk_16 40 (dk_at dksX4_readSplit_0 9 rfl rfl)
theorem dX4_readSplit_11 : decode cX4_readSplit 11 = .ok (.if_icmp .gt 21, 3) := dk_163 0 21 (dk_at dksX4_readSplit_0 11 rfl rfl)
theorem dX4_readSplit_14 : decode cX4_readSplit 14 = .ok (.aload_n 0, 1) := dk_42 (dk_at dksX4_readSplit_0 14 rfl rfl)
theorem dX4_readSplit_15 : decode cX4_readSplit 15 = .ok (.getfield 13, 3) := dk_180 0 13 (dk_at dksX4_readSplit_0 15 rfl rfl)
theorem dX4_readSplit_18 : decode cX4_readSplit 18 = .ok (.bipush 6, 2) := dk_16 6 (dk_at dksX4_readSplit_0 18 rfl rfl)
theorem dX4_readSplit_20 : decode cX4_readSplit 20 = .ok (.iaload, 1) := dk_46 (dk_at dksX4_readSplit_0 20 rfl rfl)
theorem dX4_readSplit_21 : decode cX4_readSplit 21 = .ok (.iconst 2, 1) := dk_5 (dk_at dksX4_readSplit_0 21 rfl rfl)
theorem dX4_readSplit_22 : decode cX4_readSplit 22 = .ok (.iadd, 1) := dk_96 (dk_at dksX4_readSplit_0 22 rfl rfl)
theorem dX4_readSplit_23 : decode cX4_readSplit 23 = .ok (.bipush 60, 2) := dk_16 60 (dk_at dksX4_readSplit_1 0 rfl rfl)
theorem dX4_readSplit_25 : decode cX4_readSplit 25 = .ok (.if_icmp .gt 7, 3) := dk_163 0 7 (dk_at dksX4_readSplit_1 2 rfl rfl)
theorem dX4_readSplit_28 : decode cX4_readSplit 28 = .ok (.iconst 1, 1) := dk_4 (dk_at dksX4_readSplit_1 5 rfl rfl)
theorem dX4_readSplit_29 : decode cX4_readSplit 29 = .ok (.goto 4, 3) := dk_167 0 4 (dk_at dksX4_readSplit_1 6 rfl rfl)
theorem dX4_readSplit_32 : decode cX4_readSplit 32 = .ok (.iconst 0, 1) := dk_3 (dk_at dksX4_readSplit_1 9 rfl rfl)
theorem dX4_readSplit_33 : decode cX4_readSplit 33 = .ok (.invokevirtual 170, 3) := dk_182 0 170 (dk_at dksX4_readSplit_1 10 rfl rfl)
theorem dX4_readSplit_36 : decode cX4_readSplit 36 = .ok (.pop, 1) := dk_87 (dk_at dksX4_readSplit_1 13 rfl rfl)
theorem dX4_readSplit_37 : decode cX4_readSplit 37 = .ok (.aload_n 0, 1) := dk_42 (dk_at dksX4_readSplit_1 14 rfl rfl)
theorem dX4_readSplit_38 : decode cX4_readSplit 38 = .ok (.invokevirtual 183, 3) := dk_182 0 183 (dk_at dksX4_readSplit_1 15 rfl rfl)
theorem dX4_readSplit_41 : decode cX4_readSplit 41 = .ok (.istore_n 1, 1) := dk_60 (dk_at dksX4_readSplit_1 18 rfl rfl)
theorem dX4_readSplit_42 : decode cX4_readSplit 42 = .ok (.aload_n 0, 1) := dk_42 (dk_at dksX4_readSplit_1 19 rfl rfl)
theorem dX4_readSplit_43 : decode cX4_readSplit 43 = .ok (.sipush 13550, 3) := dk_17 52 238 (dk_at dksX4_readSplit_1 20 rfl rfl)
theorem dX4_readSplit_46 : decode cX4_readSplit 46 = .ok (.invokevirtual 180, 3) := dk_182 0 180 (dk_at dksX4_readSplit_2 0 rfl rfl)
theorem dX4_readSplit_49 : decode cX4_readSplit 49 = .ok (.ifCond .eq 7, 3) := dk_153 0 7 (dk_at dksX4_readSplit_2 3 rfl rfl)
theorem dX4_readSplit_52 : decode cX4_readSplit 52 = .ok (.iconst 1, 1) := dk_4 (dk_at dksX4_readSplit_2 6 rfl rfl)
theorem dX4_readSplit_53 : decode cX4_readSplit 53 = .ok (.goto 4, 3) := dk_167 0 4 (dk_at dksX4_readSplit_2 7 rfl rfl)
theorem dX4_readSplit_56 : decode cX4_readSplit 56 = .ok (.iconst 0, 1) := dk_3 (dk_at dksX4_readSplit_2 10 rfl rfl)
theorem dX4_readSplit_57 : decode cX4_readSplit 57 = .ok (.istore_n 2, 1) := dk_61 (dk_at dksX4_readSplit_2 11 rfl rfl)
theorem dX4_readSplit_58 : decode cX4_readSplit 58 = .ok (.aload_n 0, 1) := dk_42 (dk_at dksX4_readSplit_2 12 rfl rfl)
theorem dX4_readSplit_59 : decode cX4_readSplit 59 = .ok (.aload_n 0, 1) := dk_42 (dk_at dksX4_readSplit_2 13 rfl rfl)
theorem dX4_readSplit_60 : decode cX4_readSplit 60 = .ok (.sipush 13550, 3) := dk_17 52 238 (dk_at dksX4_readSplit_2 14 rfl rfl)
theorem dX4_readSplit_63 : decode cX4_readSplit 63 = .ok (.invokevirtual 180, 3) := dk_182 0 180 (dk_at dksX4_readSplit_2 17 rfl rfl)
theorem dX4_readSplit_66 : decode cX4_readSplit 66 = .ok (.ifCond .ne 13, 3) := dk_154 0 13 (dk_at dksX4_readSplit_2 20 rfl rfl)
theorem dX4_readSplit_69 : decode cX4_readSplit 69 = .ok (.aload_n 0, 1) := dk_42 (dk_at dksX4_readSplit_2 23 rfl rfl)
theorem dX4_readSplit_70 : decode cX4_readSplit 70 = .ok (.sipush 2604, 3) := dk_17 10 44 (dk_at dksX4_readSplit_3 0 rfl rfl)
theorem dX4_readSplit_73 : decode cX4_readSplit 73 = .ok (.invokevirtual 180, 3) := dk_182 0 180 (dk_at dksX4_readSplit_3 3 rfl rfl)
theorem dX4_readSplit_76 : decode cX4_readSplit 76 = .ok (.ifCond .eq 7, 3) := dk_153 0 7 (dk_at dksX4_readSplit_3 6 rfl rfl)
theorem dX4_readSplit_79 : decode cX4_readSplit 79 = .ok (.iconst 1, 1) := dk_4 (dk_at dksX4_readSplit_3 9 rfl rfl)
theorem dX4_readSplit_80 : decode cX4_readSplit 80 = .ok (.goto 4, 3) := dk_167 0 4 (dk_at dksX4_readSplit_3 10 rfl rfl)
theorem dX4_readSplit_83 : decode cX4_readSplit 83 = .ok (.iconst 0, 1) := dk_3 (dk_at dksX4_readSplit_3 13 rfl rfl)
theorem dX4_readSplit_84 : decode cX4_readSplit 84 = .ok (.invokevirtual 170, 3) := dk_182 0 170 (dk_at dksX4_readSplit_3 14 rfl rfl)
theorem dX4_readSplit_87 : decode cX4_readSplit 87 = .ok (.pop, 1) := dk_87 (dk_at dksX4_readSplit_3 17 rfl rfl)
theorem dX4_readSplit_88 : decode cX4_readSplit 88 = .ok (.aload_n 0, 1) := dk_42 (dk_at dksX4_readSplit_3 18 rfl rfl)
theorem dX4_readSplit_89 : decode cX4_readSplit 89 = .ok (.iconst 1, 1) := dk_4 (dk_at dksX4_readSplit_3 19 rfl rfl)
theorem dX4_readSplit_90 : decode cX4_readSplit 90 = .ok (.aload_n 0, 1) := dk_42 (dk_at dksX4_readSplit_3 20 rfl rfl)
theorem dX4_readSplit_91 : decode cX4_readSplit 91 = .ok (.getfield 13, 3) := dk_180 0 13 (dk_at dksX4_readSplit_3 21 rfl rfl)
theorem dX4_readSplit_94 : decode cX4_readSplit 94 = .ok (.iload_n 1, 1) := dk_27 (dk_at dksX4_readSplit_4 0 rfl rfl)
theorem dX4_readSplit_95 : decode cX4_readSplit 95 = .ok (.iload_n 2, 1) := dk_28 (dk_at dksX4_readSplit_4 1 rfl rfl)
theorem dX4_readSplit_96 : decode cX4_readSplit 96 = .ok (.iconst 1, 1) := dk_4 (dk_at dksX4_readSplit_4 2 rfl rfl)
theorem dX4_readSplit_97 : decode cX4_readSplit 97 = .ok (.if_icmp .ne 7, 3) := dk_160 0 7 (dk_at dksX4_readSplit_4 3 rfl rfl)
theorem dX4_readSplit_100 : decode cX4_readSplit 100 = .ok (.iconst 3, 1) := dk_6 (dk_at dksX4_readSplit_4 6 rfl rfl)
theorem dX4_readSplit_101 : decode cX4_readSplit 101 = .ok (.goto 4, 3) := dk_167 0 4 (dk_at dksX4_readSplit_4 7 rfl rfl)
theorem dX4_readSplit_104 : decode cX4_readSplit 104 = .ok (.iconst 2, 1) := dk_5 (dk_at dksX4_readSplit_4 10 rfl rfl)
theorem dX4_readSplit_105 : decode cX4_readSplit 105 = .ok (.invokestatic 66, 3) := dk_184 0 66 (dk_at dksX4_readSplit_4 11 rfl rfl)
theorem dX4_readSplit_108 : decode cX4_readSplit 108 = .ok (.iaload, 1) := dk_46 (dk_at dksX4_readSplit_4 14 rfl rfl)
theorem dX4_readSplit_109 : decode cX4_readSplit 109 = .ok (.iconst 1, 1) := dk_4 (dk_at dksX4_readSplit_4 15 rfl rfl)
theorem dX4_readSplit_110 : decode cX4_readSplit 110 = .ok (.isub, 1) := dk_100 (dk_at dksX4_readSplit_4 16 rfl rfl)
theorem dX4_readSplit_111 : decode cX4_readSplit 111 = .ok (.invokevirtual 187, 3) := dk_182 0 187 (dk_at dksX4_readSplit_4 17 rfl rfl)
theorem dX4_readSplit_114 : decode cX4_readSplit 114 = .ok (.istore_n 3, 1) := dk_62 (dk_at dksX4_readSplit_4 20 rfl rfl)
theorem dX4_readSplit_115 : decode cX4_readSplit 115 = .ok (.aload_n 0, 1) := dk_42 (dk_at dksX4_readSplit_4 21 rfl rfl)
theorem dX4_readSplit_116 : decode cX4_readSplit 116 = .ok (.aload_n 0, 1) := dk_42 (dk_at dksX4_readSplit_4 22 rfl rfl)
theorem dX4_readSplit_117 : decode cX4_readSplit 117 = .ok (.getfield 146, 3) := dk_180 0 146 (dk_at dksX4_readSplit_5 0 rfl rfl)
theorem dX4_readSplit_120 : decode cX4_readSplit 120 = .ok (.iconst 3, 1) := dk_6 (dk_at dksX4_readSplit_5 3 rfl rfl)
theorem dX4_readSplit_121 : decode cX4_readSplit 121 = .ok (.if_icmp .ne 7, 3) := dk_160 0 7 (dk_at dksX4_readSplit_5 4 rfl rfl)
theorem dX4_readSplit_124 : decode cX4_readSplit 124 = .ok (.iconst 1, 1) := dk_4 (dk_at dksX4_readSplit_5 7 rfl rfl)
theorem dX4_readSplit_125 : decode cX4_readSplit 125 = .ok (.goto 4, 3) := dk_167 0 4 (dk_at dksX4_readSplit_5 8 rfl rfl)
theorem dX4_readSplit_128 : decode cX4_readSplit 128 = .ok (.iconst 0, 1) := dk_3 (dk_at dksX4_readSplit_5 11 rfl rfl)
theorem dX4_readSplit_129 : decode cX4_readSplit 129 = .ok (.invokevirtual 170, 3) := dk_182 0 170 (dk_at dksX4_readSplit_5 12 rfl rfl)
theorem dX4_readSplit_132 : decode cX4_readSplit 132 = .ok (.ifCond .eq 14, 3) := dk_153 0 14 (dk_at dksX4_readSplit_5 15 rfl rfl)
theorem dX4_readSplit_135 : decode cX4_readSplit 135 = .ok (.aload_n 0, 1) := dk_42 (dk_at dksX4_readSplit_5 18 rfl rfl)
theorem dX4_readSplit_136 : decode cX4_readSplit 136 = .ok (.getfield 13, 3) := dk_180 0 13 (dk_at dksX4_readSplit_5 19 rfl rfl)
theorem dX4_readSplit_139 : decode cX4_readSplit 139 = .ok (.iload_n 1, 1) := dk_27 (dk_at dksX4_readSplit_5 22 rfl rfl)
theorem dX4_readSplit_140 : decode cX4_readSplit 140 = .ok (.iload_n 2, 1) := dk_28 (dk_at dksX4_readSplit_5 23 rfl rfl)
theorem dX4_readSplit_141 : decode cX4_readSplit 141 = .ok (.iload_n 3, 1) := dk_29 (dk_at dksX4_readSplit_6 0 rfl rfl)
theorem dX4_readSplit_142 : decode cX4_readSplit 142 = .ok (.invokestatic 190, 3) := dk_184 0 190 (dk_at dksX4_readSplit_6 1 rfl rfl)
theorem dX4_readSplit_145 : decode cX4_readSplit 145 = .ok (.pop, 1) := dk_87 (dk_at dksX4_readSplit_6 4 rfl rfl)
theorem dX4_readSplit_146 : decode cX4_readSplit 146 = .ok (.return_, 1) := dk_177 (dk_at dksX4_readSplit_6 5 rfl rfl)
abbrev cX4_takesParcel : ByteArray := prog_20_method_59_code
def yX4_takesParcel : MethodName := ⟨RX4, "takesParcel", "()I"⟩
def dkwX4_takesParcel_2 : List UInt8 := [167, 0, 4, 3, 172]
abbrev dktX4_takesParcel_2 : List UInt8 := dkwX4_takesParcel_2 ++ []
def dkwX4_takesParcel_1 : List UInt8 := [42, 180, 0, 13, 27, 184, 0, 73, 153, 0, 7, 4, 167, 0, 4, 3, 182, 0, 170, 153, 0, 7, 27]
abbrev dktX4_takesParcel_1 : List UInt8 := dkwX4_takesParcel_1 ++ dktX4_takesParcel_2
def dkwX4_takesParcel_0 : List UInt8 := [42, 180, 0, 143, 60, 42, 42, 180, 0, 146, 5, 160, 0, 28, 27, 42, 180, 0, 13, 8, 46, 162, 0, 18]
abbrev dktX4_takesParcel_0 : List UInt8 := dkwX4_takesParcel_0 ++ dktX4_takesParcel_1
theorem dksX4_takesParcel_0 : cX4_takesParcel.data.toList.drop 0 = dktX4_takesParcel_0 := by decide +kernel
theorem dksX4_takesParcel_1 : cX4_takesParcel.data.toList.drop 24 = dktX4_takesParcel_1 := dk_seg dksX4_takesParcel_0 24 rfl rfl
theorem dksX4_takesParcel_2 : cX4_takesParcel.data.toList.drop 47 = dktX4_takesParcel_2 := dk_seg dksX4_takesParcel_1 23 rfl rfl
theorem dX4_takesParcel_0 : decode cX4_takesParcel 0 = .ok (.aload_n 0, 1) := dk_42 (dk_at dksX4_takesParcel_0 0 rfl rfl)
theorem dX4_takesParcel_1 : decode cX4_takesParcel 1 = .ok (.getfield 143, 3) := dk_180 0 143 (dk_at dksX4_takesParcel_0 1 rfl rfl)
theorem dX4_takesParcel_4 : decode cX4_takesParcel 4 = .ok (.istore_n 1, 1) := dk_60 (dk_at dksX4_takesParcel_0 4 rfl rfl)
theorem dX4_takesParcel_5 : decode cX4_takesParcel 5 = .ok (.aload_n 0, 1) := dk_42 (dk_at dksX4_takesParcel_0 5 rfl rfl)
theorem dX4_takesParcel_6 : decode cX4_takesParcel 6 = .ok (.aload_n 0, 1) := dk_42 (dk_at dksX4_takesParcel_0 6 rfl rfl)
theorem dX4_takesParcel_7 : decode cX4_takesParcel 7 = .ok (.getfield 146, 3) := dk_180 0 146 (dk_at dksX4_takesParcel_0 7 rfl rfl)
theorem dX4_takesParcel_10 : decode cX4_takesParcel 10 = .ok (.iconst 2, 1) := dk_5 (dk_at dksX4_takesParcel_0 10 rfl rfl)
theorem dX4_takesParcel_11 : decode cX4_takesParcel 11 = .ok (.if_icmp .ne 28, 3) := dk_160 0 28 (dk_at dksX4_takesParcel_0 11 rfl rfl)
theorem dX4_takesParcel_14 : decode cX4_takesParcel 14 = .ok (.iload_n 1, 1) := dk_27 (dk_at dksX4_takesParcel_0 14 rfl rfl)
theorem dX4_takesParcel_15 : decode cX4_takesParcel 15 = .ok (.aload_n 0, 1) := dk_42 (dk_at dksX4_takesParcel_0 15 rfl rfl)
theorem dX4_takesParcel_16 : decode cX4_takesParcel 16 = .ok (.getfield 13, 3) := dk_180 0 13 (dk_at dksX4_takesParcel_0 16 rfl rfl)
theorem dX4_takesParcel_19 : decode cX4_takesParcel 19 = .ok (.iconst 5, 1) := dk_8 (dk_at dksX4_takesParcel_0 19 rfl rfl)
theorem dX4_takesParcel_20 : decode cX4_takesParcel 20 = .ok (.iaload, 1) := dk_46 (dk_at dksX4_takesParcel_0 20 rfl rfl)
theorem dX4_takesParcel_21 : decode cX4_takesParcel 21 = .ok (.if_icmp .ge 18, 3) := dk_162 0 18 (dk_at dksX4_takesParcel_0 21 rfl rfl)
theorem dX4_takesParcel_24 : decode cX4_takesParcel 24 = .ok (.aload_n 0, 1) := dk_42 (dk_at dksX4_takesParcel_1 0 rfl rfl)
theorem dX4_takesParcel_25 : decode cX4_takesParcel 25 = .ok (.getfield 13, 3) := dk_180 0 13 (dk_at dksX4_takesParcel_1 1 rfl rfl)
theorem dX4_takesParcel_28 : decode cX4_takesParcel 28 = .ok (.iload_n 1, 1) := dk_27 (dk_at dksX4_takesParcel_1 4 rfl rfl)
theorem dX4_takesParcel_29 : decode cX4_takesParcel 29 = .ok (.invokestatic 73, 3) := dk_184 0 73 (dk_at dksX4_takesParcel_1 5 rfl rfl)
theorem dX4_takesParcel_32 : decode cX4_takesParcel 32 = .ok (.ifCond .eq 7, 3) := dk_153 0 7 (dk_at dksX4_takesParcel_1 8 rfl rfl)
theorem dX4_takesParcel_35 : decode cX4_takesParcel 35 = .ok (.iconst 1, 1) := dk_4 (dk_at dksX4_takesParcel_1 11 rfl rfl)
theorem dX4_takesParcel_36 : decode cX4_takesParcel 36 = .ok (.goto 4, 3) := dk_167 0 4 (dk_at dksX4_takesParcel_1 12 rfl rfl)
theorem dX4_takesParcel_39 : decode cX4_takesParcel 39 = .ok (.iconst 0, 1) := dk_3 (dk_at dksX4_takesParcel_1 15 rfl rfl)
theorem dX4_takesParcel_40 : decode cX4_takesParcel 40 = .ok (.invokevirtual 170, 3) := dk_182 0 170 (dk_at dksX4_takesParcel_1 16 rfl rfl)
theorem dX4_takesParcel_43 : decode cX4_takesParcel 43 = .ok (.ifCond .eq 7, 3) := dk_153 0 7 (dk_at dksX4_takesParcel_1 19 rfl rfl)
theorem dX4_takesParcel_46 : decode cX4_takesParcel 46 = .ok (.iload_n 1, 1) := dk_27 (dk_at dksX4_takesParcel_1 22 rfl rfl)
theorem dX4_takesParcel_47 : decode cX4_takesParcel 47 = .ok (.goto 4, 3) := dk_167 0 4 (dk_at dksX4_takesParcel_2 0 rfl rfl)
theorem dX4_takesParcel_50 : decode cX4_takesParcel 50 = .ok (.iconst 0, 1) := dk_3 (dk_at dksX4_takesParcel_2 3 rfl rfl)
theorem dX4_takesParcel_51 : decode cX4_takesParcel 51 = .ok (.ireturn, 1) := dk_172 (dk_at dksX4_takesParcel_2 4 rfl rfl)
abbrev cX4_isLive : ByteArray := prog_20_method_16_code
def yX4_isLive : MethodName := ⟨RX4, "isLive", "([II)Z"⟩
def dkwX4_isLive_0 : List UInt8 := [42, 27, 7, 184, 0, 66, 46, 4, 160, 0, 7, 4, 167, 0, 4, 3, 172]
abbrev dktX4_isLive_0 : List UInt8 := dkwX4_isLive_0 ++ []
theorem dksX4_isLive_0 : cX4_isLive.data.toList.drop 0 = dktX4_isLive_0 := by decide +kernel
theorem dX4_isLive_0 : decode cX4_isLive 0 = .ok (.aload_n 0, 1) := dk_42 (dk_at dksX4_isLive_0 0 rfl rfl)
theorem dX4_isLive_1 : decode cX4_isLive 1 = .ok (.iload_n 1, 1) := dk_27 (dk_at dksX4_isLive_0 1 rfl rfl)
theorem dX4_isLive_2 : decode cX4_isLive 2 = .ok (.iconst 4, 1) := dk_7 (dk_at dksX4_isLive_0 2 rfl rfl)
theorem dX4_isLive_3 : decode cX4_isLive 3 = .ok (.invokestatic 66, 3) := dk_184 0 66 (dk_at dksX4_isLive_0 3 rfl rfl)
theorem dX4_isLive_6 : decode cX4_isLive 6 = .ok (.iaload, 1) := dk_46 (dk_at dksX4_isLive_0 6 rfl rfl)
theorem dX4_isLive_7 : decode cX4_isLive 7 = .ok (.iconst 1, 1) := dk_4 (dk_at dksX4_isLive_0 7 rfl rfl)
theorem dX4_isLive_8 : decode cX4_isLive 8 = .ok (.if_icmp .ne 7, 3) := dk_160 0 7 (dk_at dksX4_isLive_0 8 rfl rfl)
theorem dX4_isLive_11 : decode cX4_isLive 11 = .ok (.iconst 1, 1) := dk_4 (dk_at dksX4_isLive_0 11 rfl rfl)
theorem dX4_isLive_12 : decode cX4_isLive 12 = .ok (.goto 4, 3) := dk_167 0 4 (dk_at dksX4_isLive_0 12 rfl rfl)
theorem dX4_isLive_15 : decode cX4_isLive 15 = .ok (.iconst 0, 1) := dk_3 (dk_at dksX4_isLive_0 15 rfl rfl)
theorem dX4_isLive_16 : decode cX4_isLive 16 = .ok (.ireturn, 1) := dk_172 (dk_at dksX4_isLive_0 16 rfl rfl)
abbrev cX4_splits : ByteArray := prog_20_method_46_code
def yX4_splits : MethodName := ⟨RX4, "splits", "([IIII)I"⟩
def dkwX4_splits_11 : List UInt8 := [167, 255, 156, 21, 8, 172]
abbrev dktX4_splits_11 : List UInt8 := dkwX4_splits_11 ++ []
def dkwX4_splits_10 : List UInt8 := [184, 0, 108, 153, 0, 8, 21, 11, 154, 0, 11, 42, 21, 10, 21, 9, 184, 0, 123, 132, 10, 1]
abbrev dktX4_splits_10 : List UInt8 := dkwX4_splits_10 ++ dktX4_splits_11
def dkwX4_splits_9 : List UInt8 := [21, 10, 184, 0, 108, 153, 0, 8, 21, 11, 153, 0, 11, 42, 21, 10, 21, 8, 184, 0, 123, 42, 21, 10]
abbrev dktX4_splits_9 : List UInt8 := dkwX4_splits_9 ++ dktX4_splits_10
def dkwX4_splits_8 : List UInt8 := [21, 8, 42, 21, 10, 4, 184, 0, 101, 46, 42, 21, 10, 5, 184, 0, 101, 46, 184, 0, 77, 54, 11, 42]
abbrev dktX4_splits_8 : List UInt8 := dkwX4_splits_8 ++ dktX4_splits_9
def dkwX4_splits_7 : List UInt8 := [162, 0, 97, 42, 21, 10, 27, 184, 0, 104, 154, 0, 6, 167, 0, 78, 42, 21, 10, 27, 184, 0, 131, 42]
abbrev dktX4_splits_7 : List UInt8 := dkwX4_splits_7 ++ dktX4_splits_8
def dkwX4_splits_6 : List UInt8 := [16, 254, 184, 0, 58, 54, 9, 42, 21, 9, 27, 184, 0, 98, 87, 3, 54, 10, 21, 10, 42, 16, 7, 46]
abbrev dktX4_splits_6 : List UInt8 := dkwX4_splits_6 ++ dktX4_splits_7
def dkwX4_splits_5 : List UInt8 := [21, 6, 167, 0, 7, 21, 6, 29, 100, 28, 4, 160, 0, 10, 21, 7, 29, 100, 167, 0, 5, 21, 7, 27]
abbrev dktX4_splits_5 : List UInt8 := dkwX4_splits_5 ++ dktX4_splits_6
def dkwX4_splits_4 : List UInt8 := [21, 4, 29, 96, 28, 4, 160, 0, 10, 21, 5, 29, 96, 167, 0, 5, 21, 5, 28, 4, 160, 0, 8]
abbrev dktX4_splits_4 : List UInt8 := dkwX4_splits_4 ++ dktX4_splits_5
def dkwX4_splits_3 : List UInt8 := [184, 0, 58, 54, 8, 42, 21, 8, 27, 184, 0, 98, 87, 42, 28, 4, 160, 0, 8, 21, 4, 167, 0, 7]
abbrev dktX4_splits_3 : List UInt8 := dkwX4_splits_3 ++ dktX4_splits_4
def dkwX4_splits_2 : List UInt8 := [160, 0, 8, 21, 6, 167, 0, 4, 29, 28, 4, 160, 0, 7, 29, 167, 0, 5, 21, 7, 27, 16, 254]
abbrev dktX4_splits_2 : List UInt8 := dkwX4_splits_2 ++ dktX4_splits_3
def dkwX4_splits_1 : List UInt8 := [46, 54, 6, 42, 27, 6, 184, 0, 66, 46, 54, 7, 42, 27, 184, 0, 127, 42, 21, 4, 21, 5, 28, 4]
abbrev dktX4_splits_1 : List UInt8 := dkwX4_splits_1 ++ dktX4_splits_2
def dkwX4_splits_0 : List UInt8 := [42, 27, 3, 184, 0, 66, 46, 54, 4, 42, 27, 4, 184, 0, 66, 46, 54, 5, 42, 27, 5, 184, 0, 66]
abbrev dktX4_splits_0 : List UInt8 := dkwX4_splits_0 ++ dktX4_splits_1
theorem dksX4_splits_0 : cX4_splits.data.toList.drop 0 = dktX4_splits_0 := by decide +kernel
theorem dksX4_splits_1 : cX4_splits.data.toList.drop 24 = dktX4_splits_1 := dk_seg dksX4_splits_0 24 rfl rfl
theorem dksX4_splits_2 : cX4_splits.data.toList.drop 48 = dktX4_splits_2 := dk_seg dksX4_splits_1 24 rfl rfl
theorem dksX4_splits_3 : cX4_splits.data.toList.drop 71 = dktX4_splits_3 := dk_seg dksX4_splits_2 23 rfl rfl
theorem dksX4_splits_4 : cX4_splits.data.toList.drop 95 = dktX4_splits_4 := dk_seg dksX4_splits_3 24 rfl rfl
theorem dksX4_splits_5 : cX4_splits.data.toList.drop 118 = dktX4_splits_5 := dk_seg dksX4_splits_4 23 rfl rfl
theorem dksX4_splits_6 : cX4_splits.data.toList.drop 142 = dktX4_splits_6 := dk_seg dksX4_splits_5 24 rfl rfl
theorem dksX4_splits_7 : cX4_splits.data.toList.drop 166 = dktX4_splits_7 := dk_seg dksX4_splits_6 24 rfl rfl
theorem dksX4_splits_8 : cX4_splits.data.toList.drop 190 = dktX4_splits_8 := dk_seg dksX4_splits_7 24 rfl rfl
theorem dksX4_splits_9 : cX4_splits.data.toList.drop 214 = dktX4_splits_9 := dk_seg dksX4_splits_8 24 rfl rfl
theorem dksX4_splits_10 : cX4_splits.data.toList.drop 238 = dktX4_splits_10 := dk_seg dksX4_splits_9 24 rfl rfl
theorem dksX4_splits_11 : cX4_splits.data.toList.drop 260 = dktX4_splits_11 := dk_seg dksX4_splits_10 22 rfl rfl
theorem dX4_splits_0 : decode cX4_splits 0 = .ok (.aload_n 0, 1) := dk_42 (dk_at dksX4_splits_0 0 rfl rfl)
theorem dX4_splits_1 : decode cX4_splits 1 = .ok (.iload_n 1, 1) := dk_27 (dk_at dksX4_splits_0 1 rfl rfl)
theorem dX4_splits_2 : decode cX4_splits 2 = .ok (.iconst 0, 1) := dk_3 (dk_at dksX4_splits_0 2 rfl rfl)
theorem dX4_splits_3 : decode cX4_splits 3 = .ok (.invokestatic 66, 3) := dk_184 0 66 (dk_at dksX4_splits_0 3 rfl rfl)
theorem dX4_splits_6 : decode cX4_splits 6 = .ok (.iaload, 1) := dk_46 (dk_at dksX4_splits_0 6 rfl rfl)
theorem dX4_splits_7 : decode cX4_splits 7 = .ok (.istore 4, 2) := dk_54 4 (dk_at dksX4_splits_0 7 rfl rfl)
theorem dX4_splits_9 : decode cX4_splits 9 = .ok (.aload_n 0, 1) := dk_42 (dk_at dksX4_splits_0 9 rfl rfl)
theorem dX4_splits_10 : decode cX4_splits 10 = .ok (.iload_n 1, 1) := dk_27 (dk_at dksX4_splits_0 10 rfl rfl)
theorem dX4_splits_11 : decode cX4_splits 11 = .ok (.iconst 1, 1) := dk_4 (dk_at dksX4_splits_0 11 rfl rfl)
theorem dX4_splits_12 : decode cX4_splits 12 = .ok (.invokestatic 66, 3) := dk_184 0 66 (dk_at dksX4_splits_0 12 rfl rfl)
theorem dX4_splits_15 : decode cX4_splits 15 = .ok (.iaload, 1) := dk_46 (dk_at dksX4_splits_0 15 rfl rfl)
theorem dX4_splits_16 : decode cX4_splits 16 = .ok (.istore 5, 2) := dk_54 5 (dk_at dksX4_splits_0 16 rfl rfl)
theorem dX4_splits_18 : decode cX4_splits 18 = .ok (.aload_n 0, 1) := dk_42 (dk_at dksX4_splits_0 18 rfl rfl)
theorem dX4_splits_19 : decode cX4_splits 19 = .ok (.iload_n 1, 1) := dk_27 (dk_at dksX4_splits_0 19 rfl rfl)
theorem dX4_splits_20 : decode cX4_splits 20 = .ok (.iconst 2, 1) := dk_5 (dk_at dksX4_splits_0 20 rfl rfl)
theorem dX4_splits_21 : decode cX4_splits 21 = .ok (.invokestatic 66, 3) := dk_184 0 66 (dk_at dksX4_splits_0 21 rfl rfl)
theorem dX4_splits_24 : decode cX4_splits 24 = .ok (.iaload, 1) := dk_46 (dk_at dksX4_splits_1 0 rfl rfl)
theorem dX4_splits_25 : decode cX4_splits 25 = .ok (.istore 6, 2) := dk_54 6 (dk_at dksX4_splits_1 1 rfl rfl)
theorem dX4_splits_27 : decode cX4_splits 27 = .ok (.aload_n 0, 1) := dk_42 (dk_at dksX4_splits_1 3 rfl rfl)
theorem dX4_splits_28 : decode cX4_splits 28 = .ok (.iload_n 1, 1) := dk_27 (dk_at dksX4_splits_1 4 rfl rfl)
theorem dX4_splits_29 : decode cX4_splits 29 = .ok (.iconst 3, 1) := dk_6 (dk_at dksX4_splits_1 5 rfl rfl)
theorem dX4_splits_30 : decode cX4_splits 30 = .ok (.invokestatic 66, 3) := dk_184 0 66 (dk_at dksX4_splits_1 6 rfl rfl)
theorem dX4_splits_33 : decode cX4_splits 33 = .ok (.iaload, 1) := dk_46 (dk_at dksX4_splits_1 9 rfl rfl)
theorem dX4_splits_34 : decode cX4_splits 34 = .ok (.istore 7, 2) := dk_54 7 (dk_at dksX4_splits_1 10 rfl rfl)
theorem dX4_splits_36 : decode cX4_splits 36 = .ok (.aload_n 0, 1) := dk_42 (dk_at dksX4_splits_1 12 rfl rfl)
theorem dX4_splits_37 : decode cX4_splits 37 = .ok (.iload_n 1, 1) := dk_27 (dk_at dksX4_splits_1 13 rfl rfl)
theorem dX4_splits_38 : decode cX4_splits 38 = .ok (.invokestatic 127, 3) := dk_184 0 127 (dk_at dksX4_splits_1 14 rfl rfl)
theorem dX4_splits_41 : decode cX4_splits 41 = .ok (.aload_n 0, 1) := dk_42 (dk_at dksX4_splits_1 17 rfl rfl)
theorem dX4_splits_42 : decode cX4_splits 42 = .ok (.iload 4, 2) := dk_21 4 (dk_at dksX4_splits_1 18 rfl rfl)
theorem dX4_splits_44 : decode cX4_splits 44 = .ok (.iload 5, 2) := dk_21 5 (dk_at dksX4_splits_1 20 rfl rfl)
theorem dX4_splits_46 : decode cX4_splits 46 = .ok (.iload_n 2, 1) := dk_28 (dk_at dksX4_splits_1 22 rfl rfl)
theorem dX4_splits_47 : decode cX4_splits 47 = .ok (.iconst 1, 1) := dk_4 (dk_at dksX4_splits_1 23 rfl rfl)
theorem dX4_splits_48 : decode cX4_splits 48 = .ok (.if_icmp .ne 8, 3) := dk_160 0 8 (dk_at dksX4_splits_2 0 rfl rfl)
theorem dX4_splits_51 : decode cX4_splits 51 = .ok (.iload 6, 2) := dk_21 6 (dk_at dksX4_splits_2 3 rfl rfl)
theorem dX4_splits_53 : decode cX4_splits 53 = .ok (.goto 4, 3) := dk_167 0 4 (dk_at dksX4_splits_2 5 rfl rfl)
theorem dX4_splits_56 : decode cX4_splits 56 = .ok (.iload_n 3, 1) := dk_29 (dk_at dksX4_splits_2 8 rfl rfl)
theorem dX4_splits_57 : decode cX4_splits 57 = .ok (.iload_n 2, 1) := dk_28 (dk_at dksX4_splits_2 9 rfl rfl)
theorem dX4_splits_58 : decode cX4_splits 58 = .ok (.iconst 1, 1) := dk_4 (dk_at dksX4_splits_2 10 rfl rfl)
theorem dX4_splits_59 : decode cX4_splits 59 = .ok (.if_icmp .ne 7, 3) := dk_160 0 7 (dk_at dksX4_splits_2 11 rfl rfl)
theorem dX4_splits_62 : decode cX4_splits 62 = .ok (.iload_n 3, 1) := dk_29 (dk_at dksX4_splits_2 14 rfl rfl)
theorem dX4_splits_63 : decode cX4_splits 63 = .ok (.goto 5, 3) := dk_167 0 5 (dk_at dksX4_splits_2 15 rfl rfl)
theorem dX4_splits_66 : decode cX4_splits 66 = .ok (.iload 7, 2) := dk_21 7 (dk_at dksX4_splits_2 18 rfl rfl)
theorem dX4_splits_68 : decode cX4_splits 68 = .ok (.iload_n 1, 1) := dk_27 (dk_at dksX4_splits_2 20 rfl rfl)
theorem dX4_splits_69 : decode cX4_splits 69 = .ok (.bipush (-2), 2) := dk_16 254 (dk_at dksX4_splits_2 21 rfl rfl)
theorem dX4_splits_71 : decode cX4_splits 71 = .ok (.invokestatic 58, 3) := dk_184 0 58 (dk_at dksX4_splits_3 0 rfl rfl)
theorem dX4_splits_74 : decode cX4_splits 74 = .ok (.istore 8, 2) := dk_54 8 (dk_at dksX4_splits_3 3 rfl rfl)
theorem dX4_splits_76 : decode cX4_splits 76 = .ok (.aload_n 0, 1) := dk_42 (dk_at dksX4_splits_3 5 rfl rfl)
theorem dX4_splits_77 : decode cX4_splits 77 = .ok (.iload 8, 2) := dk_21 8 (dk_at dksX4_splits_3 6 rfl rfl)
theorem dX4_splits_79 : decode cX4_splits 79 = .ok (.iload_n 1, 1) := dk_27 (dk_at dksX4_splits_3 8 rfl rfl)
theorem dX4_splits_80 : decode cX4_splits 80 = .ok (.invokestatic 98, 3) := dk_184 0 98 (dk_at dksX4_splits_3 9 rfl rfl)
theorem dX4_splits_83 : decode cX4_splits 83 = .ok (.pop, 1) := dk_87 (dk_at dksX4_splits_3 12 rfl rfl)
theorem dX4_splits_84 : decode cX4_splits 84 = .ok (.aload_n 0, 1) := dk_42 (dk_at dksX4_splits_3 13 rfl rfl)
theorem dX4_splits_85 : decode cX4_splits 85 = .ok (.iload_n 2, 1) := dk_28 (dk_at dksX4_splits_3 14 rfl rfl)
theorem dX4_splits_86 : decode cX4_splits 86 = .ok (.iconst 1, 1) := dk_4 (dk_at dksX4_splits_3 15 rfl rfl)
theorem dX4_splits_87 : decode cX4_splits 87 = .ok (.if_icmp .ne 8, 3) := dk_160 0 8 (dk_at dksX4_splits_3 16 rfl rfl)
theorem dX4_splits_90 : decode cX4_splits 90 = .ok (.iload 4, 2) := dk_21 4 (dk_at dksX4_splits_3 19 rfl rfl)
theorem dX4_splits_92 : decode cX4_splits 92 = .ok (.goto 7, 3) := dk_167 0 7 (dk_at dksX4_splits_3 21 rfl rfl)
theorem dX4_splits_95 : decode cX4_splits 95 = .ok (.iload 4, 2) := dk_21 4 (dk_at dksX4_splits_4 0 rfl rfl)
theorem dX4_splits_97 : decode cX4_splits 97 = .ok (.iload_n 3, 1) := dk_29 (dk_at dksX4_splits_4 2 rfl rfl)
theorem dX4_splits_98 : decode cX4_splits 98 = .ok (.iadd, 1) := dk_96 (dk_at dksX4_splits_4 3 rfl rfl)
theorem dX4_splits_99 : decode cX4_splits 99 = .ok (.iload_n 2, 1) := dk_28 (dk_at dksX4_splits_4 4 rfl rfl)
theorem dX4_splits_100 : decode cX4_splits 100 = .ok (.iconst 1, 1) := dk_4 (dk_at dksX4_splits_4 5 rfl rfl)
theorem dX4_splits_101 : decode cX4_splits 101 = .ok (.if_icmp .ne 10, 3) := dk_160 0 10 (dk_at dksX4_splits_4 6 rfl rfl)
theorem dX4_splits_104 : decode cX4_splits 104 = .ok (.iload 5, 2) := dk_21 5 (dk_at dksX4_splits_4 9 rfl rfl)
theorem dX4_splits_106 : decode cX4_splits 106 = .ok (.iload_n 3, 1) := dk_29 (dk_at dksX4_splits_4 11 rfl rfl)
theorem dX4_splits_107 : decode cX4_splits 107 = .ok (.iadd, 1) := dk_96 (dk_at dksX4_splits_4 12 rfl rfl)
theorem dX4_splits_108 : decode cX4_splits 108 = .ok (.goto 5, 3) := dk_167 0 5 (dk_at dksX4_splits_4 13 rfl rfl)
theorem dX4_splits_111 : decode cX4_splits 111 = .ok (.iload 5, 2) := dk_21 5 (dk_at dksX4_splits_4 16 rfl rfl)
theorem dX4_splits_113 : decode cX4_splits 113 = .ok (.iload_n 2, 1) := dk_28 (dk_at dksX4_splits_4 18 rfl rfl)
theorem dX4_splits_114 : decode cX4_splits 114 = .ok (.iconst 1, 1) := dk_4 (dk_at dksX4_splits_4 19 rfl rfl)
theorem dX4_splits_115 : decode cX4_splits 115 = .ok (.if_icmp .ne 8, 3) := dk_160 0 8 (dk_at dksX4_splits_4 20 rfl rfl)
theorem dX4_splits_118 : decode cX4_splits 118 = .ok (.iload 6, 2) := dk_21 6 (dk_at dksX4_splits_5 0 rfl rfl)
theorem dX4_splits_120 : decode cX4_splits 120 = .ok (.goto 7, 3) := dk_167 0 7 (dk_at dksX4_splits_5 2 rfl rfl)
theorem dX4_splits_123 : decode cX4_splits 123 = .ok (.iload 6, 2) := dk_21 6 (dk_at dksX4_splits_5 5 rfl rfl)
theorem dX4_splits_125 : decode cX4_splits 125 = .ok (.iload_n 3, 1) := dk_29 (dk_at dksX4_splits_5 7 rfl rfl)
theorem dX4_splits_126 : decode cX4_splits 126 = .ok (.isub, 1) := dk_100 (dk_at dksX4_splits_5 8 rfl rfl)
theorem dX4_splits_127 : decode cX4_splits 127 = .ok (.iload_n 2, 1) := dk_28 (dk_at dksX4_splits_5 9 rfl rfl)
theorem dX4_splits_128 : decode cX4_splits 128 = .ok (.iconst 1, 1) := dk_4 (dk_at dksX4_splits_5 10 rfl rfl)
theorem dX4_splits_129 : decode cX4_splits 129 = .ok (.if_icmp .ne 10, 3) := dk_160 0 10 (dk_at dksX4_splits_5 11 rfl rfl)
theorem dX4_splits_132 : decode cX4_splits 132 = .ok (.iload 7, 2) := dk_21 7 (dk_at dksX4_splits_5 14 rfl rfl)
theorem dX4_splits_134 : decode cX4_splits 134 = .ok (.iload_n 3, 1) := dk_29 (dk_at dksX4_splits_5 16 rfl rfl)
theorem dX4_splits_135 : decode cX4_splits 135 = .ok (.isub, 1) := dk_100 (dk_at dksX4_splits_5 17 rfl rfl)
theorem dX4_splits_136 : decode cX4_splits 136 = .ok (.goto 5, 3) := dk_167 0 5 (dk_at dksX4_splits_5 18 rfl rfl)
theorem dX4_splits_139 : decode cX4_splits 139 = .ok (.iload 7, 2) := dk_21 7 (dk_at dksX4_splits_5 21 rfl rfl)
theorem dX4_splits_141 : decode cX4_splits 141 = .ok (.iload_n 1, 1) := dk_27 (dk_at dksX4_splits_5 23 rfl rfl)
theorem dX4_splits_142 : decode cX4_splits 142 = .ok (.bipush (-2), 2) := dk_16 254 (dk_at dksX4_splits_6 0 rfl rfl)
theorem dX4_splits_144 : decode cX4_splits 144 = .ok (.invokestatic 58, 3) := dk_184 0 58 (dk_at dksX4_splits_6 2 rfl rfl)
theorem dX4_splits_147 : decode cX4_splits 147 = .ok (.istore 9, 2) := dk_54 9 (dk_at dksX4_splits_6 5 rfl rfl)
theorem dX4_splits_149 : decode cX4_splits 149 = .ok (.aload_n 0, 1) := dk_42 (dk_at dksX4_splits_6 7 rfl rfl)
theorem dX4_splits_150 : decode cX4_splits 150 = .ok (.iload 9, 2) := dk_21 9 (dk_at dksX4_splits_6 8 rfl rfl)
theorem dX4_splits_152 : decode cX4_splits 152 = .ok (.iload_n 1, 1) := dk_27 (dk_at dksX4_splits_6 10 rfl rfl)
theorem dX4_splits_153 : decode cX4_splits 153 = .ok (.invokestatic 98, 3) := dk_184 0 98 (dk_at dksX4_splits_6 11 rfl rfl)
theorem dX4_splits_156 : decode cX4_splits 156 = .ok (.pop, 1) := dk_87 (dk_at dksX4_splits_6 14 rfl rfl)
theorem dX4_splits_157 : decode cX4_splits 157 = .ok (.iconst 0, 1) := dk_3 (dk_at dksX4_splits_6 15 rfl rfl)
theorem dX4_splits_158 : decode cX4_splits 158 = .ok (.istore 10, 2) := dk_54 10 (dk_at dksX4_splits_6 16 rfl rfl)
theorem dX4_splits_160 : decode cX4_splits 160 = .ok (.iload 10, 2) := dk_21 10 (dk_at dksX4_splits_6 18 rfl rfl)
theorem dX4_splits_162 : decode cX4_splits 162 = .ok (.aload_n 0, 1) := dk_42 (dk_at dksX4_splits_6 20 rfl rfl)
theorem dX4_splits_163 : decode cX4_splits 163 = .ok (.bipush 7, 2) := dk_16 7 (dk_at dksX4_splits_6 21 rfl rfl)
theorem dX4_splits_165 : decode cX4_splits 165 = .ok (.iaload, 1) := dk_46 (dk_at dksX4_splits_6 23 rfl rfl)
theorem dX4_splits_166 : decode cX4_splits 166 = .ok (.if_icmp .ge 97, 3) := dk_162 0 97 (dk_at dksX4_splits_7 0 rfl rfl)
theorem dX4_splits_169 : decode cX4_splits 169 = .ok (.aload_n 0, 1) := dk_42 (dk_at dksX4_splits_7 3 rfl rfl)
theorem dX4_splits_170 : decode cX4_splits 170 = .ok (.iload 10, 2) := dk_21 10 (dk_at dksX4_splits_7 4 rfl rfl)
theorem dX4_splits_172 : decode cX4_splits 172 = .ok (.iload_n 1, 1) := dk_27 (dk_at dksX4_splits_7 6 rfl rfl)
theorem dX4_splits_173 : decode cX4_splits 173 = .ok (.invokestatic 104, 3) := dk_184 0 104 (dk_at dksX4_splits_7 7 rfl rfl)
theorem dX4_splits_176 : decode cX4_splits 176 = .ok (.ifCond .ne 6, 3) := dk_154 0 6 (dk_at dksX4_splits_7 10 rfl rfl)
theorem dX4_splits_179 : decode cX4_splits 179 = .ok (.goto 78, 3) := dk_167 0 78 (dk_at dksX4_splits_7 13 rfl rfl)
theorem dX4_splits_182 : decode cX4_splits 182 = .ok (.aload_n 0, 1) := dk_42 (dk_at dksX4_splits_7 16 rfl rfl)
theorem dX4_splits_183 : decode cX4_splits 183 = .ok (.iload 10, 2) := dk_21 10 (dk_at dksX4_splits_7 17 rfl rfl)
theorem dX4_splits_185 : decode cX4_splits 185 = .ok (.iload_n 1, 1) := dk_27 (dk_at dksX4_splits_7 19 rfl rfl)
theorem dX4_splits_186 : decode cX4_splits 186 = .ok (.invokestatic 131, 3) := dk_184 0 131 (dk_at dksX4_splits_7 20 rfl rfl)
theorem dX4_splits_189 : decode cX4_splits 189 = .ok (.aload_n 0, 1) := dk_42 (dk_at dksX4_splits_7 23 rfl rfl)
theorem dX4_splits_190 : decode cX4_splits 190 = .ok (.iload 8, 2) := dk_21 8 (dk_at dksX4_splits_8 0 rfl rfl)
theorem dX4_splits_192 : decode cX4_splits 192 = .ok (.aload_n 0, 1) := dk_42 (dk_at dksX4_splits_8 2 rfl rfl)
theorem dX4_splits_193 : decode cX4_splits 193 = .ok (.iload 10, 2) := dk_21 10 (dk_at dksX4_splits_8 3 rfl rfl)
theorem dX4_splits_195 : decode cX4_splits 195 = .ok (.iconst 1, 1) := dk_4 (dk_at dksX4_splits_8 5 rfl rfl)
theorem dX4_splits_196 : decode cX4_splits 196 = .ok (.invokestatic 101, 3) := dk_184 0 101 (dk_at dksX4_splits_8 6 rfl rfl)
theorem dX4_splits_199 : decode cX4_splits 199 = .ok (.iaload, 1) := dk_46 (dk_at dksX4_splits_8 9 rfl rfl)
theorem dX4_splits_200 : decode cX4_splits 200 = .ok (.aload_n 0, 1) := dk_42 (dk_at dksX4_splits_8 10 rfl rfl)
theorem dX4_splits_201 : decode cX4_splits 201 = .ok (.iload 10, 2) := dk_21 10 (dk_at dksX4_splits_8 11 rfl rfl)
theorem dX4_splits_203 : decode cX4_splits 203 = .ok (.iconst 2, 1) := dk_5 (dk_at dksX4_splits_8 13 rfl rfl)
theorem dX4_splits_204 : decode cX4_splits 204 = .ok (.invokestatic 101, 3) := dk_184 0 101 (dk_at dksX4_splits_8 14 rfl rfl)
theorem dX4_splits_207 : decode cX4_splits 207 = .ok (.iaload, 1) := dk_46 (dk_at dksX4_splits_8 17 rfl rfl)
theorem dX4_splits_208 : decode cX4_splits 208 = .ok (.invokestatic 77, 3) := dk_184 0 77 (dk_at dksX4_splits_8 18 rfl rfl)
theorem dX4_splits_211 : decode cX4_splits 211 = .ok (.istore 11, 2) := dk_54 11 (dk_at dksX4_splits_8 21 rfl rfl)
theorem dX4_splits_213 : decode cX4_splits 213 = .ok (.aload_n 0, 1) := dk_42 (dk_at dksX4_splits_8 23 rfl rfl)
theorem dX4_splits_214 : decode cX4_splits 214 = .ok (.iload 10, 2) := dk_21 10 (dk_at dksX4_splits_9 0 rfl rfl)
theorem dX4_splits_216 : decode cX4_splits 216 = .ok (.invokestatic 108, 3) := dk_184 0 108 (dk_at dksX4_splits_9 2 rfl rfl)
theorem dX4_splits_219 : decode cX4_splits 219 = .ok (.ifCond .eq 8, 3) := dk_153 0 8 (dk_at dksX4_splits_9 5 rfl rfl)
theorem dX4_splits_222 : decode cX4_splits 222 = .ok (.iload 11, 2) := dk_21 11 (dk_at dksX4_splits_9 8 rfl rfl)
theorem dX4_splits_224 : decode cX4_splits 224 = .ok (.ifCond .eq 11, 3) := dk_153 0 11 (dk_at dksX4_splits_9 10 rfl rfl)
theorem dX4_splits_227 : decode cX4_splits 227 = .ok (.aload_n 0, 1) := dk_42 (dk_at dksX4_splits_9 13 rfl rfl)
theorem dX4_splits_228 : decode cX4_splits 228 = .ok (.iload 10, 2) := dk_21 10 (dk_at dksX4_splits_9 14 rfl rfl)
theorem dX4_splits_230 : decode cX4_splits 230 = .ok (.iload 8, 2) := dk_21 8 (dk_at dksX4_splits_9 16 rfl rfl)
theorem dX4_splits_232 : decode cX4_splits 232 = .ok (.invokestatic 123, 3) := dk_184 0 123 (dk_at dksX4_splits_9 18 rfl rfl)
theorem dX4_splits_235 : decode cX4_splits 235 = .ok (.aload_n 0, 1) := dk_42 (dk_at dksX4_splits_9 21 rfl rfl)
theorem dX4_splits_236 : decode cX4_splits 236 = .ok (.iload 10, 2) := dk_21 10 (dk_at dksX4_splits_9 22 rfl rfl)
theorem dX4_splits_238 : decode cX4_splits 238 = .ok (.invokestatic 108, 3) := dk_184 0 108 (dk_at dksX4_splits_10 0 rfl rfl)
theorem dX4_splits_241 : decode cX4_splits 241 = .ok (.ifCond .eq 8, 3) := dk_153 0 8 (dk_at dksX4_splits_10 3 rfl rfl)
theorem dX4_splits_244 : decode cX4_splits 244 = .ok (.iload 11, 2) := dk_21 11 (dk_at dksX4_splits_10 6 rfl rfl)
theorem dX4_splits_246 : decode cX4_splits 246 = .ok (.ifCond .ne 11, 3) := dk_154 0 11 (dk_at dksX4_splits_10 8 rfl rfl)
theorem dX4_splits_249 : decode cX4_splits 249 = .ok (.aload_n 0, 1) := dk_42 (dk_at dksX4_splits_10 11 rfl rfl)
theorem dX4_splits_250 : decode cX4_splits 250 = .ok (.iload 10, 2) := dk_21 10 (dk_at dksX4_splits_10 12 rfl rfl)
theorem dX4_splits_252 : decode cX4_splits 252 = .ok (.iload 9, 2) := dk_21 9 (dk_at dksX4_splits_10 14 rfl rfl)
theorem dX4_splits_254 : decode cX4_splits 254 = .ok (.invokestatic 123, 3) := dk_184 0 123 (dk_at dksX4_splits_10 16 rfl rfl)
theorem dX4_splits_257 : decode cX4_splits 257 = .ok (.iinc 10 1, 3) := dk_132 10 1 (dk_at dksX4_splits_10 19 rfl rfl)
theorem dX4_splits_260 : decode cX4_splits 260 = .ok (.goto (-100), 3) := dk_167 255 156 (dk_at dksX4_splits_11 0 rfl rfl)
theorem dX4_splits_263 : decode cX4_splits 263 = .ok (.iload 8, 2) := dk_21 8 (dk_at dksX4_splits_11 3 rfl rfl)
theorem dX4_splits_265 : decode cX4_splits 265 = .ok (.ireturn, 1) := dk_172 (dk_at dksX4_splits_11 5 rfl rfl)
abbrev cX4_goesOut : ByteArray := prog_20_method_15_code
def yX4_goesOut : MethodName := ⟨RX4, "goesOut", "([II)V"⟩
def dkwX4_goesOut_0 : List UInt8 := [42, 27, 7, 184, 0, 66, 3, 79, 42, 27, 16, 6, 184, 0, 66, 42, 6, 46, 79, 177]
abbrev dktX4_goesOut_0 : List UInt8 := dkwX4_goesOut_0 ++ []
theorem dksX4_goesOut_0 : cX4_goesOut.data.toList.drop 0 = dktX4_goesOut_0 := by decide +kernel
theorem dX4_goesOut_0 : decode cX4_goesOut 0 = .ok (.aload_n 0, 1) := dk_42 (dk_at dksX4_goesOut_0 0 rfl rfl)
theorem dX4_goesOut_1 : decode cX4_goesOut 1 = .ok (.iload_n 1, 1) := dk_27 (dk_at dksX4_goesOut_0 1 rfl rfl)
theorem dX4_goesOut_2 : decode cX4_goesOut 2 = .ok (.iconst 4, 1) := dk_7 (dk_at dksX4_goesOut_0 2 rfl rfl)
theorem dX4_goesOut_3 : decode cX4_goesOut 3 = .ok (.invokestatic 66, 3) := dk_184 0 66 (dk_at dksX4_goesOut_0 3 rfl rfl)
theorem dX4_goesOut_6 : decode cX4_goesOut 6 = .ok (.iconst 0, 1) := dk_3 (dk_at dksX4_goesOut_0 6 rfl rfl)
theorem dX4_goesOut_7 : decode cX4_goesOut 7 = .ok (.iastore, 1) := dk_79 (dk_at dksX4_goesOut_0 7 rfl rfl)
theorem dX4_goesOut_8 : decode cX4_goesOut 8 = .ok (.aload_n 0, 1) := dk_42 (dk_at dksX4_goesOut_0 8 rfl rfl)
theorem dX4_goesOut_9 : decode cX4_goesOut 9 = .ok (.iload_n 1, 1) := dk_27 (dk_at dksX4_goesOut_0 9 rfl rfl)
theorem dX4_goesOut_10 : decode cX4_goesOut 10 = .ok (.bipush 6, 2) := dk_16 6 (dk_at dksX4_goesOut_0 10 rfl rfl)
theorem dX4_goesOut_12 : decode cX4_goesOut 12 = .ok (.invokestatic 66, 3) := dk_184 0 66 (dk_at dksX4_goesOut_0 12 rfl rfl)
theorem dX4_goesOut_15 : decode cX4_goesOut 15 = .ok (.aload_n 0, 1) := dk_42 (dk_at dksX4_goesOut_0 15 rfl rfl)
theorem dX4_goesOut_16 : decode cX4_goesOut 16 = .ok (.iconst 3, 1) := dk_6 (dk_at dksX4_goesOut_0 16 rfl rfl)
theorem dX4_goesOut_17 : decode cX4_goesOut 17 = .ok (.iaload, 1) := dk_46 (dk_at dksX4_goesOut_0 17 rfl rfl)
theorem dX4_goesOut_18 : decode cX4_goesOut 18 = .ok (.iastore, 1) := dk_79 (dk_at dksX4_goesOut_0 18 rfl rfl)
theorem dX4_goesOut_19 : decode cX4_goesOut 19 = .ok (.return_, 1) := dk_177 (dk_at dksX4_goesOut_0 19 rfl rfl)
abbrev cX4_addDeed : ByteArray := prog_20_method_29_code
def yX4_addDeed : MethodName := ⟨RX4, "addDeed", "([III)I"⟩
def dkwX4_addDeed_3 : List UInt8 := [46, 79, 42, 16, 6, 92, 46, 4, 96, 79, 21, 4, 172]
abbrev dktX4_addDeed_3 : List UInt8 := dkwX4_addDeed_3 ++ []
def dkwX4_addDeed_2 : List UInt8 := [132, 5, 1, 167, 255, 225, 42, 21, 4, 3, 184, 0, 62, 27, 79, 42, 21, 4, 4, 184, 0, 62, 42, 6]
abbrev dktX4_addDeed_2 : List UInt8 := dkwX4_addDeed_2 ++ dktX4_addDeed_3
def dkwX4_addDeed_1 : List UInt8 := [162, 0, 30, 42, 21, 4, 5, 21, 5, 96, 184, 0, 62, 42, 29, 5, 21, 5, 96, 184, 0, 62, 46, 79]
abbrev dktX4_addDeed_1 : List UInt8 := dkwX4_addDeed_1 ++ dktX4_addDeed_2
def dkwX4_addDeed_0 : List UInt8 := [42, 28, 17, 39, 15, 184, 0, 89, 62, 42, 16, 6, 46, 54, 4, 3, 54, 5, 21, 5, 16, 6]
abbrev dktX4_addDeed_0 : List UInt8 := dkwX4_addDeed_0 ++ dktX4_addDeed_1
theorem dksX4_addDeed_0 : cX4_addDeed.data.toList.drop 0 = dktX4_addDeed_0 := by decide +kernel
theorem dksX4_addDeed_1 : cX4_addDeed.data.toList.drop 22 = dktX4_addDeed_1 := dk_seg dksX4_addDeed_0 22 rfl rfl
theorem dksX4_addDeed_2 : cX4_addDeed.data.toList.drop 46 = dktX4_addDeed_2 := dk_seg dksX4_addDeed_1 24 rfl rfl
theorem dksX4_addDeed_3 : cX4_addDeed.data.toList.drop 70 = dktX4_addDeed_3 := dk_seg dksX4_addDeed_2 24 rfl rfl
theorem dX4_addDeed_0 : decode cX4_addDeed 0 = .ok (.aload_n 0, 1) := dk_42 (dk_at dksX4_addDeed_0 0 rfl rfl)
theorem dX4_addDeed_1 : decode cX4_addDeed 1 = .ok (.iload_n 2, 1) := dk_28 (dk_at dksX4_addDeed_0 1 rfl rfl)
theorem dX4_addDeed_2 : decode cX4_addDeed 2 = .ok (.sipush 9999, 3) := dk_17 39 15 (dk_at dksX4_addDeed_0 2 rfl rfl)
theorem dX4_addDeed_5 : decode cX4_addDeed 5 = .ok (.invokestatic 89, 3) := dk_184 0 89 (dk_at dksX4_addDeed_0 5 rfl rfl)
theorem dX4_addDeed_8 : decode cX4_addDeed 8 = .ok (.istore_n 3, 1) := dk_62 (dk_at dksX4_addDeed_0 8 rfl rfl)
theorem dX4_addDeed_9 : decode cX4_addDeed 9 = .ok (.aload_n 0, 1) := dk_42 (dk_at dksX4_addDeed_0 9 rfl rfl)
theorem dX4_addDeed_10 : decode cX4_addDeed 10 = .ok (.bipush 6, 2) := dk_16 6 (dk_at dksX4_addDeed_0 10 rfl rfl)
theorem dX4_addDeed_12 : decode cX4_addDeed 12 = .ok (.iaload, 1) := dk_46 (dk_at dksX4_addDeed_0 12 rfl rfl)
theorem dX4_addDeed_13 : decode cX4_addDeed 13 = .ok (.istore 4, 2) := dk_54 4 (dk_at dksX4_addDeed_0 13 rfl rfl)
theorem dX4_addDeed_15 : decode cX4_addDeed 15 = .ok (.iconst 0, 1) := dk_3 (dk_at dksX4_addDeed_0 15 rfl rfl)
theorem dX4_addDeed_16 : decode cX4_addDeed 16 = .ok (.istore 5, 2) := dk_54 5 (dk_at dksX4_addDeed_0 16 rfl rfl)
theorem dX4_addDeed_18 : decode cX4_addDeed 18 = .ok (.iload 5, 2) := dk_21 5 (dk_at dksX4_addDeed_0 18 rfl rfl)
theorem dX4_addDeed_20 : decode cX4_addDeed 20 = .ok (.bipush 6, 2) := dk_16 6 (dk_at dksX4_addDeed_0 20 rfl rfl)
theorem dX4_addDeed_22 : decode cX4_addDeed 22 = .ok (.if_icmp .ge 30, 3) := dk_162 0 30 (dk_at dksX4_addDeed_1 0 rfl rfl)
theorem dX4_addDeed_25 : decode cX4_addDeed 25 = .ok (.aload_n 0, 1) := dk_42 (dk_at dksX4_addDeed_1 3 rfl rfl)
theorem dX4_addDeed_26 : decode cX4_addDeed 26 = .ok (.iload 4, 2) := dk_21 4 (dk_at dksX4_addDeed_1 4 rfl rfl)
theorem dX4_addDeed_28 : decode cX4_addDeed 28 = .ok (.iconst 2, 1) := dk_5 (dk_at dksX4_addDeed_1 6 rfl rfl)
theorem dX4_addDeed_29 : decode cX4_addDeed 29 = .ok (.iload 5, 2) := dk_21 5 (dk_at dksX4_addDeed_1 7 rfl rfl)
theorem dX4_addDeed_31 : decode cX4_addDeed 31 = .ok (.iadd, 1) := dk_96 (dk_at dksX4_addDeed_1 9 rfl rfl)
theorem dX4_addDeed_32 : decode cX4_addDeed 32 = .ok (.invokestatic 62, 3) := dk_184 0 62 (dk_at dksX4_addDeed_1 10 rfl rfl)
theorem dX4_addDeed_35 : decode cX4_addDeed 35 = .ok (.aload_n 0, 1) := dk_42 (dk_at dksX4_addDeed_1 13 rfl rfl)
theorem dX4_addDeed_36 : decode cX4_addDeed 36 = .ok (.iload_n 3, 1) := dk_29 (dk_at dksX4_addDeed_1 14 rfl rfl)
theorem dX4_addDeed_37 : decode cX4_addDeed 37 = .ok (.iconst 2, 1) := dk_5 (dk_at dksX4_addDeed_1 15 rfl rfl)
theorem dX4_addDeed_38 : decode cX4_addDeed 38 = .ok (.iload 5, 2) := dk_21 5 (dk_at dksX4_addDeed_1 16 rfl rfl)
theorem dX4_addDeed_40 : decode cX4_addDeed 40 = .ok (.iadd, 1) := dk_96 (dk_at dksX4_addDeed_1 18 rfl rfl)
theorem dX4_addDeed_41 : decode cX4_addDeed 41 = .ok (.invokestatic 62, 3) := dk_184 0 62 (dk_at dksX4_addDeed_1 19 rfl rfl)
theorem dX4_addDeed_44 : decode cX4_addDeed 44 = .ok (.iaload, 1) := dk_46 (dk_at dksX4_addDeed_1 22 rfl rfl)
theorem dX4_addDeed_45 : decode cX4_addDeed 45 = .ok (.iastore, 1) := dk_79 (dk_at dksX4_addDeed_1 23 rfl rfl)
theorem dX4_addDeed_46 : decode cX4_addDeed 46 = .ok (.iinc 5 1, 3) := dk_132 5 1 (dk_at dksX4_addDeed_2 0 rfl rfl)
theorem dX4_addDeed_49 : decode cX4_addDeed 49 = .ok (.goto (-31), 3) := dk_167 255 225 (dk_at dksX4_addDeed_2 3 rfl rfl)
theorem dX4_addDeed_52 : decode cX4_addDeed 52 = .ok (.aload_n 0, 1) := dk_42 (dk_at dksX4_addDeed_2 6 rfl rfl)
theorem dX4_addDeed_53 : decode cX4_addDeed 53 = .ok (.iload 4, 2) := dk_21 4 (dk_at dksX4_addDeed_2 7 rfl rfl)
theorem dX4_addDeed_55 : decode cX4_addDeed 55 = .ok (.iconst 0, 1) := dk_3 (dk_at dksX4_addDeed_2 9 rfl rfl)
theorem dX4_addDeed_56 : decode cX4_addDeed 56 = .ok (.invokestatic 62, 3) := dk_184 0 62 (dk_at dksX4_addDeed_2 10 rfl rfl)
theorem dX4_addDeed_59 : decode cX4_addDeed 59 = .ok (.iload_n 1, 1) := dk_27 (dk_at dksX4_addDeed_2 13 rfl rfl)
theorem dX4_addDeed_60 : decode cX4_addDeed 60 = .ok (.iastore, 1) := dk_79 (dk_at dksX4_addDeed_2 14 rfl rfl)
theorem dX4_addDeed_61 : decode cX4_addDeed 61 = .ok (.aload_n 0, 1) := dk_42 (dk_at dksX4_addDeed_2 15 rfl rfl)
theorem dX4_addDeed_62 : decode cX4_addDeed 62 = .ok (.iload 4, 2) := dk_21 4 (dk_at dksX4_addDeed_2 16 rfl rfl)
theorem dX4_addDeed_64 : decode cX4_addDeed 64 = .ok (.iconst 1, 1) := dk_4 (dk_at dksX4_addDeed_2 18 rfl rfl)
theorem dX4_addDeed_65 : decode cX4_addDeed 65 = .ok (.invokestatic 62, 3) := dk_184 0 62 (dk_at dksX4_addDeed_2 19 rfl rfl)
theorem dX4_addDeed_68 : decode cX4_addDeed 68 = .ok (.aload_n 0, 1) := dk_42 (dk_at dksX4_addDeed_2 22 rfl rfl)
theorem dX4_addDeed_69 : decode cX4_addDeed 69 = .ok (.iconst 3, 1) := dk_6 (dk_at dksX4_addDeed_2 23 rfl rfl)
theorem dX4_addDeed_70 : decode cX4_addDeed 70 = .ok (.iaload, 1) := dk_46 (dk_at dksX4_addDeed_3 0 rfl rfl)
theorem dX4_addDeed_71 : decode cX4_addDeed 71 = .ok (.iastore, 1) := dk_79 (dk_at dksX4_addDeed_3 1 rfl rfl)
theorem dX4_addDeed_72 : decode cX4_addDeed 72 = .ok (.aload_n 0, 1) := dk_42 (dk_at dksX4_addDeed_3 2 rfl rfl)
theorem dX4_addDeed_73 : decode cX4_addDeed 73 = .ok (.bipush 6, 2) := dk_16 6 (dk_at dksX4_addDeed_3 3 rfl rfl)
theorem dX4_addDeed_75 : decode cX4_addDeed 75 = .ok (.dup2, 1) := dk_92 (dk_at dksX4_addDeed_3 5 rfl rfl)
theorem dX4_addDeed_76 : decode cX4_addDeed 76 = .ok (.iaload, 1) := dk_46 (dk_at dksX4_addDeed_3 6 rfl rfl)
theorem dX4_addDeed_77 : decode cX4_addDeed 77 = .ok (.iconst 1, 1) := dk_4 (dk_at dksX4_addDeed_3 7 rfl rfl)
theorem dX4_addDeed_78 : decode cX4_addDeed 78 = .ok (.iadd, 1) := dk_96 (dk_at dksX4_addDeed_3 8 rfl rfl)
theorem dX4_addDeed_79 : decode cX4_addDeed 79 = .ok (.iastore, 1) := dk_79 (dk_at dksX4_addDeed_3 9 rfl rfl)
theorem dX4_addDeed_80 : decode cX4_addDeed 80 = .ok (.iload 4, 2) := dk_21 4 (dk_at dksX4_addDeed_3 10 rfl rfl)
theorem dX4_addDeed_82 : decode cX4_addDeed 82 = .ok (.ireturn, 1) := dk_172 (dk_at dksX4_addDeed_3 12 rfl rfl)
abbrev cX4_deedOn : ByteArray := prog_20_method_26_code
def yX4_deedOn : MethodName := ⟨RX4, "deedOn", "([III)I"⟩
def dkwX4_deedOn_1 : List UInt8 := [4, 184, 0, 62, 46, 28, 163, 0, 5, 29, 172, 132, 3, 255, 167, 255, 225, 16, 254, 172]
abbrev dktX4_deedOn_1 : List UInt8 := dkwX4_deedOn_1 ++ []
def dkwX4_deedOn_0 : List UInt8 := [42, 16, 6, 46, 4, 100, 62, 29, 155, 0, 33, 42, 29, 3, 184, 0, 62, 46, 27, 160, 0, 16, 42, 29]
abbrev dktX4_deedOn_0 : List UInt8 := dkwX4_deedOn_0 ++ dktX4_deedOn_1
theorem dksX4_deedOn_0 : cX4_deedOn.data.toList.drop 0 = dktX4_deedOn_0 := by decide +kernel
theorem dksX4_deedOn_1 : cX4_deedOn.data.toList.drop 24 = dktX4_deedOn_1 := dk_seg dksX4_deedOn_0 24 rfl rfl
theorem dX4_deedOn_0 : decode cX4_deedOn 0 = .ok (.aload_n 0, 1) := dk_42 (dk_at dksX4_deedOn_0 0 rfl rfl)
theorem dX4_deedOn_1 : decode cX4_deedOn 1 = .ok (.bipush 6, 2) := dk_16 6 (dk_at dksX4_deedOn_0 1 rfl rfl)
theorem dX4_deedOn_3 : decode cX4_deedOn 3 = .ok (.iaload, 1) := dk_46 (dk_at dksX4_deedOn_0 3 rfl rfl)
theorem dX4_deedOn_4 : decode cX4_deedOn 4 = .ok (.iconst 1, 1) := dk_4 (dk_at dksX4_deedOn_0 4 rfl rfl)
theorem dX4_deedOn_5 : decode cX4_deedOn 5 = .ok (.isub, 1) := dk_100 (dk_at dksX4_deedOn_0 5 rfl rfl)
theorem dX4_deedOn_6 : decode cX4_deedOn 6 = .ok (.istore_n 3, 1) := dk_62 (dk_at dksX4_deedOn_0 6 rfl rfl)
theorem dX4_deedOn_7 : decode cX4_deedOn 7 = .ok (.iload_n 3, 1) := dk_29 (dk_at dksX4_deedOn_0 7 rfl rfl)
theorem dX4_deedOn_8 : decode cX4_deedOn 8 = .ok (.ifCond .lt 33, 3) := dk_155 0 33 (dk_at dksX4_deedOn_0 8 rfl rfl)
theorem dX4_deedOn_11 : decode cX4_deedOn 11 = .ok (.aload_n 0, 1) := dk_42 (dk_at dksX4_deedOn_0 11 rfl rfl)
theorem dX4_deedOn_12 : decode cX4_deedOn 12 = .ok (.iload_n 3, 1) := dk_29 (dk_at dksX4_deedOn_0 12 rfl rfl)
theorem dX4_deedOn_13 : decode cX4_deedOn 13 = .ok (.iconst 0, 1) := dk_3 (dk_at dksX4_deedOn_0 13 rfl rfl)
theorem dX4_deedOn_14 : decode cX4_deedOn 14 = .ok (.invokestatic 62, 3) := dk_184 0 62 (dk_at dksX4_deedOn_0 14 rfl rfl)
theorem dX4_deedOn_17 : decode cX4_deedOn 17 = .ok (.iaload, 1) := dk_46 (dk_at dksX4_deedOn_0 17 rfl rfl)
theorem dX4_deedOn_18 : decode cX4_deedOn 18 = .ok (.iload_n 1, 1) := dk_27 (dk_at dksX4_deedOn_0 18 rfl rfl)
theorem dX4_deedOn_19 : decode cX4_deedOn 19 = .ok (.if_icmp .ne 16, 3) := dk_160 0 16 (dk_at dksX4_deedOn_0 19 rfl rfl)
theorem dX4_deedOn_22 : decode cX4_deedOn 22 = .ok (.aload_n 0, 1) := dk_42 (dk_at dksX4_deedOn_0 22 rfl rfl)
theorem dX4_deedOn_23 : decode cX4_deedOn 23 = .ok (.iload_n 3, 1) := dk_29 (dk_at dksX4_deedOn_0 23 rfl rfl)
theorem dX4_deedOn_24 : decode cX4_deedOn 24 = .ok (.iconst 1, 1) := dk_4 (dk_at dksX4_deedOn_1 0 rfl rfl)
theorem dX4_deedOn_25 : decode cX4_deedOn 25 = .ok (.invokestatic 62, 3) := dk_184 0 62 (dk_at dksX4_deedOn_1 1 rfl rfl)
theorem dX4_deedOn_28 : decode cX4_deedOn 28 = .ok (.iaload, 1) := dk_46 (dk_at dksX4_deedOn_1 4 rfl rfl)
theorem dX4_deedOn_29 : decode cX4_deedOn 29 = .ok (.iload_n 2, 1) := dk_28 (dk_at dksX4_deedOn_1 5 rfl rfl)
theorem dX4_deedOn_30 : decode cX4_deedOn 30 = .ok (.if_icmp .gt 5, 3) := dk_163 0 5 (dk_at dksX4_deedOn_1 6 rfl rfl)
theorem dX4_deedOn_33 : decode cX4_deedOn 33 = .ok (.iload_n 3, 1) := dk_29 (dk_at dksX4_deedOn_1 9 rfl rfl)
theorem dX4_deedOn_34 : decode cX4_deedOn 34 = .ok (.ireturn, 1) := dk_172 (dk_at dksX4_deedOn_1 10 rfl rfl)
theorem dX4_deedOn_35 : decode cX4_deedOn 35 = .ok (.iinc 3 (-1), 3) := dk_132 3 255 (dk_at dksX4_deedOn_1 11 rfl rfl)
theorem dX4_deedOn_38 : decode cX4_deedOn 38 = .ok (.goto (-31), 3) := dk_167 255 225 (dk_at dksX4_deedOn_1 14 rfl rfl)
theorem dX4_deedOn_41 : decode cX4_deedOn 41 = .ok (.bipush (-2), 2) := dk_16 254 (dk_at dksX4_deedOn_1 17 rfl rfl)
theorem dX4_deedOn_43 : decode cX4_deedOn 43 = .ok (.ireturn, 1) := dk_172 (dk_at dksX4_deedOn_1 19 rfl rfl)
abbrev cX4_liesOn : ByteArray := prog_20_method_32_code
def yX4_liesOn : MethodName := ⟨RX4, "liesOn", "([III)Z"⟩
def dkwX4_liesOn_1 : List UInt8 := [4, 126, 4, 160, 0, 7, 4, 167, 0, 4, 3, 172]
abbrev dktX4_liesOn_1 : List UInt8 := dkwX4_liesOn_1 ++ []
def dkwX4_liesOn_0 : List UInt8 := [42, 27, 28, 16, 20, 162, 0, 8, 16, 6, 167, 0, 5, 16, 7, 184, 0, 101, 46, 28, 16, 20, 112, 122]
abbrev dktX4_liesOn_0 : List UInt8 := dkwX4_liesOn_0 ++ dktX4_liesOn_1
theorem dksX4_liesOn_0 : cX4_liesOn.data.toList.drop 0 = dktX4_liesOn_0 := by decide +kernel
theorem dksX4_liesOn_1 : cX4_liesOn.data.toList.drop 24 = dktX4_liesOn_1 := dk_seg dksX4_liesOn_0 24 rfl rfl
theorem dX4_liesOn_0 : decode cX4_liesOn 0 = .ok (.aload_n 0, 1) := dk_42 (dk_at dksX4_liesOn_0 0 rfl rfl)
theorem dX4_liesOn_1 : decode cX4_liesOn 1 = .ok (.iload_n 1, 1) := dk_27 (dk_at dksX4_liesOn_0 1 rfl rfl)
theorem dX4_liesOn_2 : decode cX4_liesOn 2 = .ok (.iload_n 2, 1) := dk_28 (dk_at dksX4_liesOn_0 2 rfl rfl)
theorem dX4_liesOn_3 : decode cX4_liesOn 3 = .ok (.bipush 20, 2) := dk_16 20 (dk_at dksX4_liesOn_0 3 rfl rfl)
theorem dX4_liesOn_5 : decode cX4_liesOn 5 = .ok (.if_icmp .ge 8, 3) := dk_162 0 8 (dk_at dksX4_liesOn_0 5 rfl rfl)
theorem dX4_liesOn_8 : decode cX4_liesOn 8 = .ok (.bipush 6, 2) := dk_16 6 (dk_at dksX4_liesOn_0 8 rfl rfl)
theorem dX4_liesOn_10 : decode cX4_liesOn 10 = .ok (.goto 5, 3) := dk_167 0 5 (dk_at dksX4_liesOn_0 10 rfl rfl)
theorem dX4_liesOn_13 : decode cX4_liesOn 13 = .ok (.bipush 7, 2) := dk_16 7 (dk_at dksX4_liesOn_0 13 rfl rfl)
theorem dX4_liesOn_15 : decode cX4_liesOn 15 = .ok (.invokestatic 101, 3) := dk_184 0 101 (dk_at dksX4_liesOn_0 15 rfl rfl)
theorem dX4_liesOn_18 : decode cX4_liesOn 18 = .ok (.iaload, 1) := dk_46 (dk_at dksX4_liesOn_0 18 rfl rfl)
theorem dX4_liesOn_19 : decode cX4_liesOn 19 = .ok (.iload_n 2, 1) := dk_28 (dk_at dksX4_liesOn_0 19 rfl rfl)
theorem dX4_liesOn_20 : decode cX4_liesOn 20 = .ok (.bipush 20, 2) := dk_16 20 (dk_at dksX4_liesOn_0 20 rfl rfl)
theorem dX4_liesOn_22 : decode cX4_liesOn 22 = .ok (.irem, 1) := dk_112 (dk_at dksX4_liesOn_0 22 rfl rfl)
theorem dX4_liesOn_23 : decode cX4_liesOn 23 = .ok (.ishr, 1) := dk_122 (dk_at dksX4_liesOn_0 23 rfl rfl)
theorem dX4_liesOn_24 : decode cX4_liesOn 24 = .ok (.iconst 1, 1) := dk_4 (dk_at dksX4_liesOn_1 0 rfl rfl)
theorem dX4_liesOn_25 : decode cX4_liesOn 25 = .ok (.iand, 1) := dk_126 (dk_at dksX4_liesOn_1 1 rfl rfl)
theorem dX4_liesOn_26 : decode cX4_liesOn 26 = .ok (.iconst 1, 1) := dk_4 (dk_at dksX4_liesOn_1 2 rfl rfl)
theorem dX4_liesOn_27 : decode cX4_liesOn 27 = .ok (.if_icmp .ne 7, 3) := dk_160 0 7 (dk_at dksX4_liesOn_1 3 rfl rfl)
theorem dX4_liesOn_30 : decode cX4_liesOn 30 = .ok (.iconst 1, 1) := dk_4 (dk_at dksX4_liesOn_1 6 rfl rfl)
theorem dX4_liesOn_31 : decode cX4_liesOn 31 = .ok (.goto 4, 3) := dk_167 0 4 (dk_at dksX4_liesOn_1 7 rfl rfl)
theorem dX4_liesOn_34 : decode cX4_liesOn 34 = .ok (.iconst 0, 1) := dk_3 (dk_at dksX4_liesOn_1 10 rfl rfl)
theorem dX4_liesOn_35 : decode cX4_liesOn 35 = .ok (.ireturn, 1) := dk_172 (dk_at dksX4_liesOn_1 11 rfl rfl)
abbrev cX4_burdenAt : ByteArray := prog_20_method_8_code
def yX4_burdenAt : MethodName := ⟨RX4, "burdenAt", "(II)I"⟩
def dkwX4_burdenAt_0 : List UInt8 := [17, 3, 126, 16, 8, 26, 104, 96, 27, 96, 172]
abbrev dktX4_burdenAt_0 : List UInt8 := dkwX4_burdenAt_0 ++ []
theorem dksX4_burdenAt_0 : cX4_burdenAt.data.toList.drop 0 = dktX4_burdenAt_0 := by decide +kernel
theorem dX4_burdenAt_0 : decode cX4_burdenAt 0 = .ok (.sipush 894, 3) := dk_17 3 126 (dk_at dksX4_burdenAt_0 0 rfl rfl)
theorem dX4_burdenAt_3 : decode cX4_burdenAt 3 = .ok (.bipush 8, 2) := dk_16 8 (dk_at dksX4_burdenAt_0 3 rfl rfl)
theorem dX4_burdenAt_5 : decode cX4_burdenAt 5 = .ok (.iload_n 0, 1) := dk_26 (dk_at dksX4_burdenAt_0 5 rfl rfl)
theorem dX4_burdenAt_6 : decode cX4_burdenAt 6 = .ok (.imul, 1) := dk_104 (dk_at dksX4_burdenAt_0 6 rfl rfl)
theorem dX4_burdenAt_7 : decode cX4_burdenAt 7 = .ok (.iadd, 1) := dk_96 (dk_at dksX4_burdenAt_0 7 rfl rfl)
theorem dX4_burdenAt_8 : decode cX4_burdenAt 8 = .ok (.iload_n 1, 1) := dk_27 (dk_at dksX4_burdenAt_0 8 rfl rfl)
theorem dX4_burdenAt_9 : decode cX4_burdenAt 9 = .ok (.iadd, 1) := dk_96 (dk_at dksX4_burdenAt_0 9 rfl rfl)
theorem dX4_burdenAt_10 : decode cX4_burdenAt 10 = .ok (.ireturn, 1) := dk_172 (dk_at dksX4_burdenAt_0 10 rfl rfl)
abbrev cX4_takesOff : ByteArray := prog_20_method_34_code
def yX4_takesOff : MethodName := ⟨RX4, "takesOff", "([III)V"⟩
def dkwX4_takesOff_1 : List UInt8 := [112, 120, 2, 130, 126, 79, 177]
abbrev dktX4_takesOff_1 : List UInt8 := dkwX4_takesOff_1 ++ []
def dkwX4_takesOff_0 : List UInt8 := [42, 27, 28, 16, 20, 162, 0, 8, 16, 6, 167, 0, 5, 16, 7, 184, 0, 101, 92, 46, 4, 28, 16, 20]
abbrev dktX4_takesOff_0 : List UInt8 := dkwX4_takesOff_0 ++ dktX4_takesOff_1
theorem dksX4_takesOff_0 : cX4_takesOff.data.toList.drop 0 = dktX4_takesOff_0 := by decide +kernel
theorem dksX4_takesOff_1 : cX4_takesOff.data.toList.drop 24 = dktX4_takesOff_1 := dk_seg dksX4_takesOff_0 24 rfl rfl
theorem dX4_takesOff_0 : decode cX4_takesOff 0 = .ok (.aload_n 0, 1) := dk_42 (dk_at dksX4_takesOff_0 0 rfl rfl)
theorem dX4_takesOff_1 : decode cX4_takesOff 1 = .ok (.iload_n 1, 1) := dk_27 (dk_at dksX4_takesOff_0 1 rfl rfl)
theorem dX4_takesOff_2 : decode cX4_takesOff 2 = .ok (.iload_n 2, 1) := dk_28 (dk_at dksX4_takesOff_0 2 rfl rfl)
theorem dX4_takesOff_3 : decode cX4_takesOff 3 = .ok (.bipush 20, 2) := dk_16 20 (dk_at dksX4_takesOff_0 3 rfl rfl)
theorem dX4_takesOff_5 : decode cX4_takesOff 5 = .ok (.if_icmp .ge 8, 3) := dk_162 0 8 (dk_at dksX4_takesOff_0 5 rfl rfl)
theorem dX4_takesOff_8 : decode cX4_takesOff 8 = .ok (.bipush 6, 2) := dk_16 6 (dk_at dksX4_takesOff_0 8 rfl rfl)
theorem dX4_takesOff_10 : decode cX4_takesOff 10 = .ok (.goto 5, 3) := dk_167 0 5 (dk_at dksX4_takesOff_0 10 rfl rfl)
theorem dX4_takesOff_13 : decode cX4_takesOff 13 = .ok (.bipush 7, 2) := dk_16 7 (dk_at dksX4_takesOff_0 13 rfl rfl)
theorem dX4_takesOff_15 : decode cX4_takesOff 15 = .ok (.invokestatic 101, 3) := dk_184 0 101 (dk_at dksX4_takesOff_0 15 rfl rfl)
theorem dX4_takesOff_18 : decode cX4_takesOff 18 = .ok (.dup2, 1) := dk_92 (dk_at dksX4_takesOff_0 18 rfl rfl)
theorem dX4_takesOff_19 : decode cX4_takesOff 19 = .ok (.iaload, 1) := dk_46 (dk_at dksX4_takesOff_0 19 rfl rfl)
theorem dX4_takesOff_20 : decode cX4_takesOff 20 = .ok (.iconst 1, 1) := dk_4 (dk_at dksX4_takesOff_0 20 rfl rfl)
theorem dX4_takesOff_21 : decode cX4_takesOff 21 = .ok (.iload_n 2, 1) := dk_28 (dk_at dksX4_takesOff_0 21 rfl rfl)
theorem dX4_takesOff_22 : decode cX4_takesOff 22 = .ok (.bipush 20, 2) := dk_16 20 (dk_at dksX4_takesOff_0 22 rfl rfl)
theorem dX4_takesOff_24 : decode cX4_takesOff 24 = .ok (.irem, 1) := dk_112 (dk_at dksX4_takesOff_1 0 rfl rfl)
theorem dX4_takesOff_25 : decode cX4_takesOff 25 = .ok (.ishl, 1) := dk_120 (dk_at dksX4_takesOff_1 1 rfl rfl)
theorem dX4_takesOff_26 : decode cX4_takesOff 26 = .ok (.iconst (-1), 1) := dk_2 (dk_at dksX4_takesOff_1 2 rfl rfl)
theorem dX4_takesOff_27 : decode cX4_takesOff 27 = .ok (.ixor, 1) := dk_130 (dk_at dksX4_takesOff_1 3 rfl rfl)
theorem dX4_takesOff_28 : decode cX4_takesOff 28 = .ok (.iand, 1) := dk_126 (dk_at dksX4_takesOff_1 4 rfl rfl)
theorem dX4_takesOff_29 : decode cX4_takesOff 29 = .ok (.iastore, 1) := dk_79 (dk_at dksX4_takesOff_1 5 rfl rfl)
theorem dX4_takesOff_30 : decode cX4_takesOff 30 = .ok (.return_, 1) := dk_177 (dk_at dksX4_takesOff_1 6 rfl rfl)
abbrev cX4_hasSquare : ByteArray := prog_20_method_20_code
def yX4_hasSquare : MethodName := ⟨RX4, "hasSquare", "([IIII)Z"⟩
def dkwX4_hasSquare_2 : List UInt8 := [6, 184, 0, 66, 46, 96, 4, 100, 184, 0, 54, 153, 0, 7, 4, 167, 0, 4, 3, 172]
abbrev dktX4_hasSquare_2 : List UInt8 := dkwX4_hasSquare_2 ++ []
def dkwX4_hasSquare_1 : List UInt8 := [100, 184, 0, 54, 153, 0, 38, 29, 42, 27, 4, 184, 0, 66, 46, 42, 27, 4, 184, 0, 66, 46, 42, 27]
abbrev dktX4_hasSquare_1 : List UInt8 := dkwX4_hasSquare_1 ++ dktX4_hasSquare_2
def dkwX4_hasSquare_0 : List UInt8 := [28, 42, 27, 3, 184, 0, 66, 46, 42, 27, 3, 184, 0, 66, 46, 42, 27, 5, 184, 0, 66, 46, 96, 4]
abbrev dktX4_hasSquare_0 : List UInt8 := dkwX4_hasSquare_0 ++ dktX4_hasSquare_1
theorem dksX4_hasSquare_0 : cX4_hasSquare.data.toList.drop 0 = dktX4_hasSquare_0 := by decide +kernel
theorem dksX4_hasSquare_1 : cX4_hasSquare.data.toList.drop 24 = dktX4_hasSquare_1 := dk_seg dksX4_hasSquare_0 24 rfl rfl
theorem dksX4_hasSquare_2 : cX4_hasSquare.data.toList.drop 48 = dktX4_hasSquare_2 := dk_seg dksX4_hasSquare_1 24 rfl rfl
theorem dX4_hasSquare_0 : decode cX4_hasSquare 0 = .ok (.iload_n 2, 1) := dk_28 (dk_at dksX4_hasSquare_0 0 rfl rfl)
theorem dX4_hasSquare_1 : decode cX4_hasSquare 1 = .ok (.aload_n 0, 1) := dk_42 (dk_at dksX4_hasSquare_0 1 rfl rfl)
theorem dX4_hasSquare_2 : decode cX4_hasSquare 2 = .ok (.iload_n 1, 1) := dk_27 (dk_at dksX4_hasSquare_0 2 rfl rfl)
theorem dX4_hasSquare_3 : decode cX4_hasSquare 3 = .ok (.iconst 0, 1) := dk_3 (dk_at dksX4_hasSquare_0 3 rfl rfl)
theorem dX4_hasSquare_4 : decode cX4_hasSquare 4 = .ok (.invokestatic 66, 3) := dk_184 0 66 (dk_at dksX4_hasSquare_0 4 rfl rfl)
theorem dX4_hasSquare_7 : decode cX4_hasSquare 7 = .ok (.iaload, 1) := dk_46 (dk_at dksX4_hasSquare_0 7 rfl rfl)
theorem dX4_hasSquare_8 : decode cX4_hasSquare 8 = .ok (.aload_n 0, 1) := dk_42 (dk_at dksX4_hasSquare_0 8 rfl rfl)
theorem dX4_hasSquare_9 : decode cX4_hasSquare 9 = .ok (.iload_n 1, 1) := dk_27 (dk_at dksX4_hasSquare_0 9 rfl rfl)
theorem dX4_hasSquare_10 : decode cX4_hasSquare 10 = .ok (.iconst 0, 1) := dk_3 (dk_at dksX4_hasSquare_0 10 rfl rfl)
theorem dX4_hasSquare_11 : decode cX4_hasSquare 11 = .ok (.invokestatic 66, 3) := dk_184 0 66 (dk_at dksX4_hasSquare_0 11 rfl rfl)
theorem dX4_hasSquare_14 : decode cX4_hasSquare 14 = .ok (.iaload, 1) := dk_46 (dk_at dksX4_hasSquare_0 14 rfl rfl)
theorem dX4_hasSquare_15 : decode cX4_hasSquare 15 = .ok (.aload_n 0, 1) := dk_42 (dk_at dksX4_hasSquare_0 15 rfl rfl)
theorem dX4_hasSquare_16 : decode cX4_hasSquare 16 = .ok (.iload_n 1, 1) := dk_27 (dk_at dksX4_hasSquare_0 16 rfl rfl)
theorem dX4_hasSquare_17 : decode cX4_hasSquare 17 = .ok (.iconst 2, 1) := dk_5 (dk_at dksX4_hasSquare_0 17 rfl rfl)
theorem dX4_hasSquare_18 : decode cX4_hasSquare 18 = .ok (.invokestatic 66, 3) := dk_184 0 66 (dk_at dksX4_hasSquare_0 18 rfl rfl)
theorem dX4_hasSquare_21 : decode cX4_hasSquare 21 = .ok (.iaload, 1) := dk_46 (dk_at dksX4_hasSquare_0 21 rfl rfl)
theorem dX4_hasSquare_22 : decode cX4_hasSquare 22 = .ok (.iadd, 1) := dk_96 (dk_at dksX4_hasSquare_0 22 rfl rfl)
theorem dX4_hasSquare_23 : decode cX4_hasSquare 23 = .ok (.iconst 1, 1) := dk_4 (dk_at dksX4_hasSquare_0 23 rfl rfl)
theorem dX4_hasSquare_24 : decode cX4_hasSquare 24 = .ok (.isub, 1) := dk_100 (dk_at dksX4_hasSquare_1 0 rfl rfl)
theorem dX4_hasSquare_25 : decode cX4_hasSquare 25 = .ok (.invokestatic 54, 3) := dk_184 0 54 (dk_at dksX4_hasSquare_1 1 rfl rfl)
theorem dX4_hasSquare_28 : decode cX4_hasSquare 28 = .ok (.ifCond .eq 38, 3) := dk_153 0 38 (dk_at dksX4_hasSquare_1 4 rfl rfl)
theorem dX4_hasSquare_31 : decode cX4_hasSquare 31 = .ok (.iload_n 3, 1) := dk_29 (dk_at dksX4_hasSquare_1 7 rfl rfl)
theorem dX4_hasSquare_32 : decode cX4_hasSquare 32 = .ok (.aload_n 0, 1) := dk_42 (dk_at dksX4_hasSquare_1 8 rfl rfl)
theorem dX4_hasSquare_33 : decode cX4_hasSquare 33 = .ok (.iload_n 1, 1) := dk_27 (dk_at dksX4_hasSquare_1 9 rfl rfl)
theorem dX4_hasSquare_34 : decode cX4_hasSquare 34 = .ok (.iconst 1, 1) := dk_4 (dk_at dksX4_hasSquare_1 10 rfl rfl)
theorem dX4_hasSquare_35 : decode cX4_hasSquare 35 = .ok (.invokestatic 66, 3) := dk_184 0 66 (dk_at dksX4_hasSquare_1 11 rfl rfl)
theorem dX4_hasSquare_38 : decode cX4_hasSquare 38 = .ok (.iaload, 1) := dk_46 (dk_at dksX4_hasSquare_1 14 rfl rfl)
theorem dX4_hasSquare_39 : decode cX4_hasSquare 39 = .ok (.aload_n 0, 1) := dk_42 (dk_at dksX4_hasSquare_1 15 rfl rfl)
theorem dX4_hasSquare_40 : decode cX4_hasSquare 40 = .ok (.iload_n 1, 1) := dk_27 (dk_at dksX4_hasSquare_1 16 rfl rfl)
theorem dX4_hasSquare_41 : decode cX4_hasSquare 41 = .ok (.iconst 1, 1) := dk_4 (dk_at dksX4_hasSquare_1 17 rfl rfl)
theorem dX4_hasSquare_42 : decode cX4_hasSquare 42 = .ok (.invokestatic 66, 3) := dk_184 0 66 (dk_at dksX4_hasSquare_1 18 rfl rfl)
theorem dX4_hasSquare_45 : decode cX4_hasSquare 45 = .ok (.iaload, 1) := dk_46 (dk_at dksX4_hasSquare_1 21 rfl rfl)
theorem dX4_hasSquare_46 : decode cX4_hasSquare 46 = .ok (.aload_n 0, 1) := dk_42 (dk_at dksX4_hasSquare_1 22 rfl rfl)
theorem dX4_hasSquare_47 : decode cX4_hasSquare 47 = .ok (.iload_n 1, 1) := dk_27 (dk_at dksX4_hasSquare_1 23 rfl rfl)
theorem dX4_hasSquare_48 : decode cX4_hasSquare 48 = .ok (.iconst 3, 1) := dk_6 (dk_at dksX4_hasSquare_2 0 rfl rfl)
theorem dX4_hasSquare_49 : decode cX4_hasSquare 49 = .ok (.invokestatic 66, 3) := dk_184 0 66 (dk_at dksX4_hasSquare_2 1 rfl rfl)
theorem dX4_hasSquare_52 : decode cX4_hasSquare 52 = .ok (.iaload, 1) := dk_46 (dk_at dksX4_hasSquare_2 4 rfl rfl)
theorem dX4_hasSquare_53 : decode cX4_hasSquare 53 = .ok (.iadd, 1) := dk_96 (dk_at dksX4_hasSquare_2 5 rfl rfl)
theorem dX4_hasSquare_54 : decode cX4_hasSquare 54 = .ok (.iconst 1, 1) := dk_4 (dk_at dksX4_hasSquare_2 6 rfl rfl)
theorem dX4_hasSquare_55 : decode cX4_hasSquare 55 = .ok (.isub, 1) := dk_100 (dk_at dksX4_hasSquare_2 7 rfl rfl)
theorem dX4_hasSquare_56 : decode cX4_hasSquare 56 = .ok (.invokestatic 54, 3) := dk_184 0 54 (dk_at dksX4_hasSquare_2 8 rfl rfl)
theorem dX4_hasSquare_59 : decode cX4_hasSquare 59 = .ok (.ifCond .eq 7, 3) := dk_153 0 7 (dk_at dksX4_hasSquare_2 11 rfl rfl)
theorem dX4_hasSquare_62 : decode cX4_hasSquare 62 = .ok (.iconst 1, 1) := dk_4 (dk_at dksX4_hasSquare_2 14 rfl rfl)
theorem dX4_hasSquare_63 : decode cX4_hasSquare 63 = .ok (.goto 4, 3) := dk_167 0 4 (dk_at dksX4_hasSquare_2 15 rfl rfl)
theorem dX4_hasSquare_66 : decode cX4_hasSquare 66 = .ok (.iconst 0, 1) := dk_3 (dk_at dksX4_hasSquare_2 18 rfl rfl)
theorem dX4_hasSquare_67 : decode cX4_hasSquare 67 = .ok (.ireturn, 1) := dk_172 (dk_at dksX4_hasSquare_2 19 rfl rfl)
abbrev cX4_isPath : ByteArray := prog_20_method_35_code
def yX4_isPath : MethodName := ⟨RX4, "isPath", "([II)Z"⟩
def dkwX4_isPath_0 : List UInt8 := [42, 27, 3, 184, 0, 101, 46, 4, 160, 0, 7, 4, 167, 0, 4, 3, 172]
abbrev dktX4_isPath_0 : List UInt8 := dkwX4_isPath_0 ++ []
theorem dksX4_isPath_0 : cX4_isPath.data.toList.drop 0 = dktX4_isPath_0 := by decide +kernel
theorem dX4_isPath_0 : decode cX4_isPath 0 = .ok (.aload_n 0, 1) := dk_42 (dk_at dksX4_isPath_0 0 rfl rfl)
theorem dX4_isPath_1 : decode cX4_isPath 1 = .ok (.iload_n 1, 1) := dk_27 (dk_at dksX4_isPath_0 1 rfl rfl)
theorem dX4_isPath_2 : decode cX4_isPath 2 = .ok (.iconst 0, 1) := dk_3 (dk_at dksX4_isPath_0 2 rfl rfl)
theorem dX4_isPath_3 : decode cX4_isPath 3 = .ok (.invokestatic 101, 3) := dk_184 0 101 (dk_at dksX4_isPath_0 3 rfl rfl)
theorem dX4_isPath_6 : decode cX4_isPath 6 = .ok (.iaload, 1) := dk_46 (dk_at dksX4_isPath_0 6 rfl rfl)
theorem dX4_isPath_7 : decode cX4_isPath 7 = .ok (.iconst 1, 1) := dk_4 (dk_at dksX4_isPath_0 7 rfl rfl)
theorem dX4_isPath_8 : decode cX4_isPath 8 = .ok (.if_icmp .ne 7, 3) := dk_160 0 7 (dk_at dksX4_isPath_0 8 rfl rfl)
theorem dX4_isPath_11 : decode cX4_isPath 11 = .ok (.iconst 1, 1) := dk_4 (dk_at dksX4_isPath_0 11 rfl rfl)
theorem dX4_isPath_12 : decode cX4_isPath 12 = .ok (.goto 4, 3) := dk_167 0 4 (dk_at dksX4_isPath_0 12 rfl rfl)
theorem dX4_isPath_15 : decode cX4_isPath 15 = .ok (.iconst 0, 1) := dk_3 (dk_at dksX4_isPath_0 15 rfl rfl)
theorem dX4_isPath_16 : decode cX4_isPath 16 = .ok (.ireturn, 1) := dk_172 (dk_at dksX4_isPath_0 16 rfl rfl)
abbrev cX4_lays : ByteArray := prog_20_method_33_code
def yX4_lays : MethodName := ⟨RX4, "lays", "([III)V"⟩
def dkwX4_lays_1 : List UInt8 := [112, 120, 128, 79, 177]
abbrev dktX4_lays_1 : List UInt8 := dkwX4_lays_1 ++ []
def dkwX4_lays_0 : List UInt8 := [42, 27, 28, 16, 20, 162, 0, 8, 16, 6, 167, 0, 5, 16, 7, 184, 0, 101, 92, 46, 4, 28, 16, 20]
abbrev dktX4_lays_0 : List UInt8 := dkwX4_lays_0 ++ dktX4_lays_1
theorem dksX4_lays_0 : cX4_lays.data.toList.drop 0 = dktX4_lays_0 := by decide +kernel
theorem dksX4_lays_1 : cX4_lays.data.toList.drop 24 = dktX4_lays_1 := dk_seg dksX4_lays_0 24 rfl rfl
theorem dX4_lays_0 : decode cX4_lays 0 = .ok (.aload_n 0, 1) := dk_42 (dk_at dksX4_lays_0 0 rfl rfl)
theorem dX4_lays_1 : decode cX4_lays 1 = .ok (.iload_n 1, 1) := dk_27 (dk_at dksX4_lays_0 1 rfl rfl)
theorem dX4_lays_2 : decode cX4_lays 2 = .ok (.iload_n 2, 1) := dk_28 (dk_at dksX4_lays_0 2 rfl rfl)
theorem dX4_lays_3 : decode cX4_lays 3 = .ok (.bipush 20, 2) := dk_16 20 (dk_at dksX4_lays_0 3 rfl rfl)
theorem dX4_lays_5 : decode cX4_lays 5 = .ok (.if_icmp .ge 8, 3) := dk_162 0 8 (dk_at dksX4_lays_0 5 rfl rfl)
theorem dX4_lays_8 : decode cX4_lays 8 = .ok (.bipush 6, 2) := dk_16 6 (dk_at dksX4_lays_0 8 rfl rfl)
theorem dX4_lays_10 : decode cX4_lays 10 = .ok (.goto 5, 3) := dk_167 0 5 (dk_at dksX4_lays_0 10 rfl rfl)
theorem dX4_lays_13 : decode cX4_lays 13 = .ok (.bipush 7, 2) := dk_16 7 (dk_at dksX4_lays_0 13 rfl rfl)
theorem dX4_lays_15 : decode cX4_lays 15 = .ok (.invokestatic 101, 3) := dk_184 0 101 (dk_at dksX4_lays_0 15 rfl rfl)
theorem dX4_lays_18 : decode cX4_lays 18 = .ok (.dup2, 1) := dk_92 (dk_at dksX4_lays_0 18 rfl rfl)
theorem dX4_lays_19 : decode cX4_lays 19 = .ok (.iaload, 1) := dk_46 (dk_at dksX4_lays_0 19 rfl rfl)
theorem dX4_lays_20 : decode cX4_lays 20 = .ok (.iconst 1, 1) := dk_4 (dk_at dksX4_lays_0 20 rfl rfl)
theorem dX4_lays_21 : decode cX4_lays 21 = .ok (.iload_n 2, 1) := dk_28 (dk_at dksX4_lays_0 21 rfl rfl)
theorem dX4_lays_22 : decode cX4_lays 22 = .ok (.bipush 20, 2) := dk_16 20 (dk_at dksX4_lays_0 22 rfl rfl)
theorem dX4_lays_24 : decode cX4_lays 24 = .ok (.irem, 1) := dk_112 (dk_at dksX4_lays_1 0 rfl rfl)
theorem dX4_lays_25 : decode cX4_lays 25 = .ok (.ishl, 1) := dk_120 (dk_at dksX4_lays_1 1 rfl rfl)
theorem dX4_lays_26 : decode cX4_lays 26 = .ok (.ior, 1) := dk_128 (dk_at dksX4_lays_1 2 rfl rfl)
theorem dX4_lays_27 : decode cX4_lays 27 = .ok (.iastore, 1) := dk_79 (dk_at dksX4_lays_1 3 rfl rfl)
theorem dX4_lays_28 : decode cX4_lays 28 = .ok (.return_, 1) := dk_177 (dk_at dksX4_lays_1 4 rfl rfl)
abbrev cX4_readGive : ByteArray := prog_20_method_63_code
def yX4_readGive : MethodName := ⟨RX4, "readGive", "()V"⟩
def dkwX4_readGive_2 : List UInt8 := [167, 0, 4, 3, 182, 0, 170, 153, 0, 15, 42, 180, 0, 13, 27, 28, 29, 21, 4, 184, 0, 198, 177]
abbrev dktX4_readGive_2 : List UInt8 := dkwX4_readGive_2 ++ []
def dkwX4_readGive_1 : List UInt8 := [42, 180, 0, 13, 27, 28, 184, 0, 92, 182, 0, 187, 54, 4, 42, 42, 180, 0, 146, 6, 160, 0, 7, 4]
abbrev dktX4_readGive_1 : List UInt8 := dkwX4_readGive_1 ++ dktX4_readGive_2
def dkwX4_readGive_0 : List UInt8 := [42, 182, 0, 167, 42, 182, 0, 183, 60, 42, 16, 254, 182, 0, 194, 61, 42, 28, 182, 0, 194, 62, 42, 4]
abbrev dktX4_readGive_0 : List UInt8 := dkwX4_readGive_0 ++ dktX4_readGive_1
theorem dksX4_readGive_0 : cX4_readGive.data.toList.drop 0 = dktX4_readGive_0 := by decide +kernel
theorem dksX4_readGive_1 : cX4_readGive.data.toList.drop 24 = dktX4_readGive_1 := dk_seg dksX4_readGive_0 24 rfl rfl
theorem dksX4_readGive_2 : cX4_readGive.data.toList.drop 48 = dktX4_readGive_2 := dk_seg dksX4_readGive_1 24 rfl rfl
theorem dX4_readGive_0 : decode cX4_readGive 0 = .ok (.aload_n 0, 1) := dk_42 (dk_at dksX4_readGive_0 0 rfl rfl)
theorem dX4_readGive_1 : decode cX4_readGive 1 = .ok (.invokevirtual 167, 3) := dk_182 0 167 (dk_at dksX4_readGive_0 1 rfl rfl)
theorem dX4_readGive_4 : decode cX4_readGive 4 = .ok (.aload_n 0, 1) := dk_42 (dk_at dksX4_readGive_0 4 rfl rfl)
theorem dX4_readGive_5 : decode cX4_readGive 5 = .ok (.invokevirtual 183, 3) := dk_182 0 183 (dk_at dksX4_readGive_0 5 rfl rfl)
theorem dX4_readGive_8 : decode cX4_readGive 8 = .ok (.istore_n 1, 1) := dk_60 (dk_at dksX4_readGive_0 8 rfl rfl)
theorem dX4_readGive_9 : decode cX4_readGive 9 = .ok (.aload_n 0, 1) := dk_42 (dk_at dksX4_readGive_0 9 rfl rfl)
theorem dX4_readGive_10 : decode cX4_readGive 10 = .ok (.bipush (-2), 2) := dk_16 254 (dk_at dksX4_readGive_0 10 rfl rfl)
theorem dX4_readGive_12 : decode cX4_readGive 12 = .ok (.invokevirtual 194, 3) := dk_182 0 194 (dk_at dksX4_readGive_0 12 rfl rfl)
theorem dX4_readGive_15 : decode cX4_readGive 15 = .ok (.istore_n 2, 1) := dk_61 (dk_at dksX4_readGive_0 15 rfl rfl)
theorem dX4_readGive_16 : decode cX4_readGive 16 = .ok (.aload_n 0, 1) := dk_42 (dk_at dksX4_readGive_0 16 rfl rfl)
theorem dX4_readGive_17 : decode cX4_readGive 17 = .ok (.iload_n 2, 1) := dk_28 (dk_at dksX4_readGive_0 17 rfl rfl)
theorem dX4_readGive_18 : decode cX4_readGive 18 = .ok (.invokevirtual 194, 3) := dk_182 0 194 (dk_at dksX4_readGive_0 18 rfl rfl)
theorem dX4_readGive_21 : decode cX4_readGive 21 = .ok (.istore_n 3, 1) := dk_62 (dk_at dksX4_readGive_0 21 rfl rfl)
theorem dX4_readGive_22 : decode cX4_readGive 22 = .ok (.aload_n 0, 1) := dk_42 (dk_at dksX4_readGive_0 22 rfl rfl)
theorem dX4_readGive_23 : decode cX4_readGive 23 = .ok (.iconst 1, 1) := dk_4 (dk_at dksX4_readGive_0 23 rfl rfl)
theorem dX4_readGive_24 : decode cX4_readGive 24 = .ok (.aload_n 0, 1) := dk_42 (dk_at dksX4_readGive_1 0 rfl rfl)
theorem dX4_readGive_25 : decode cX4_readGive 25 = .ok (.getfield 13, 3) := dk_180 0 13 (dk_at dksX4_readGive_1 1 rfl rfl)
theorem dX4_readGive_28 : decode cX4_readGive 28 = .ok (.iload_n 1, 1) := dk_27 (dk_at dksX4_readGive_1 4 rfl rfl)
theorem dX4_readGive_29 : decode cX4_readGive 29 = .ok (.iload_n 2, 1) := dk_28 (dk_at dksX4_readGive_1 5 rfl rfl)
theorem dX4_readGive_30 : decode cX4_readGive 30 = .ok (.invokestatic 92, 3) := dk_184 0 92 (dk_at dksX4_readGive_1 6 rfl rfl)
theorem dX4_readGive_33 : decode cX4_readGive 33 = .ok (.invokevirtual 187, 3) := dk_182 0 187 (dk_at dksX4_readGive_1 9 rfl rfl)
theorem dX4_readGive_36 : decode cX4_readGive 36 = .ok (.istore 4, 2) := dk_54 4 (dk_at dksX4_readGive_1 12 rfl rfl)
theorem dX4_readGive_38 : decode cX4_readGive 38 = .ok (.aload_n 0, 1) := dk_42 (dk_at dksX4_readGive_1 14 rfl rfl)
theorem dX4_readGive_39 : decode cX4_readGive 39 = .ok (.aload_n 0, 1) := dk_42 (dk_at dksX4_readGive_1 15 rfl rfl)
theorem dX4_readGive_40 : decode cX4_readGive 40 = .ok (.getfield 146, 3) := dk_180 0 146 (dk_at dksX4_readGive_1 16 rfl rfl)
theorem dX4_readGive_43 : decode cX4_readGive 43 = .ok (.iconst 3, 1) := dk_6 (dk_at dksX4_readGive_1 19 rfl rfl)
theorem dX4_readGive_44 : decode cX4_readGive 44 = .ok (.if_icmp .ne 7, 3) := dk_160 0 7 (dk_at dksX4_readGive_1 20 rfl rfl)
theorem dX4_readGive_47 : decode cX4_readGive 47 = .ok (.iconst 1, 1) := dk_4 (dk_at dksX4_readGive_1 23 rfl rfl)
theorem dX4_readGive_48 : decode cX4_readGive 48 = .ok (.goto 4, 3) := dk_167 0 4 (dk_at dksX4_readGive_2 0 rfl rfl)
theorem dX4_readGive_51 : decode cX4_readGive 51 = .ok (.iconst 0, 1) := dk_3 (dk_at dksX4_readGive_2 3 rfl rfl)
theorem dX4_readGive_52 : decode cX4_readGive 52 = .ok (.invokevirtual 170, 3) := dk_182 0 170 (dk_at dksX4_readGive_2 4 rfl rfl)
theorem dX4_readGive_55 : decode cX4_readGive 55 = .ok (.ifCond .eq 15, 3) := dk_153 0 15 (dk_at dksX4_readGive_2 7 rfl rfl)
theorem dX4_readGive_58 : decode cX4_readGive 58 = .ok (.aload_n 0, 1) := dk_42 (dk_at dksX4_readGive_2 10 rfl rfl)
theorem dX4_readGive_59 : decode cX4_readGive 59 = .ok (.getfield 13, 3) := dk_180 0 13 (dk_at dksX4_readGive_2 11 rfl rfl)
theorem dX4_readGive_62 : decode cX4_readGive 62 = .ok (.iload_n 1, 1) := dk_27 (dk_at dksX4_readGive_2 14 rfl rfl)
theorem dX4_readGive_63 : decode cX4_readGive 63 = .ok (.iload_n 2, 1) := dk_28 (dk_at dksX4_readGive_2 15 rfl rfl)
theorem dX4_readGive_64 : decode cX4_readGive 64 = .ok (.iload_n 3, 1) := dk_29 (dk_at dksX4_readGive_2 16 rfl rfl)
theorem dX4_readGive_65 : decode cX4_readGive 65 = .ok (.iload 4, 2) := dk_21 4 (dk_at dksX4_readGive_2 17 rfl rfl)
theorem dX4_readGive_67 : decode cX4_readGive 67 = .ok (.invokestatic 198, 3) := dk_184 0 198 (dk_at dksX4_readGive_2 19 rfl rfl)
theorem dX4_readGive_70 : decode cX4_readGive 70 = .ok (.return_, 1) := dk_177 (dk_at dksX4_readGive_2 22 rfl rfl)
abbrev cX4_takesOwner : ByteArray := prog_20_method_60_code
def yX4_takesOwner : MethodName := ⟨RX4, "takesOwner", "(I)I"⟩
def dkwX4_takesOwner_2 : List UInt8 := [167, 0, 4, 3, 182, 0, 170, 153, 0, 7, 28, 167, 0, 4, 3, 172]
abbrev dktX4_takesOwner_2 : List UInt8 := dkwX4_takesOwner_2 ++ []
def dkwX4_takesOwner_1 : List UInt8 := [180, 0, 143, 184, 0, 177, 167, 0, 5, 16, 254, 61, 42, 28, 155, 0, 12, 28, 27, 159, 0, 7, 4]
abbrev dktX4_takesOwner_1 : List UInt8 := dkwX4_takesOwner_1 ++ dktX4_takesOwner_2
def dkwX4_takesOwner_0 : List UInt8 := [42, 180, 0, 146, 4, 160, 0, 27, 42, 180, 0, 143, 184, 0, 174, 154, 0, 17, 42, 180, 0, 13, 42]
abbrev dktX4_takesOwner_0 : List UInt8 := dkwX4_takesOwner_0 ++ dktX4_takesOwner_1
theorem dksX4_takesOwner_0 : cX4_takesOwner.data.toList.drop 0 = dktX4_takesOwner_0 := by decide +kernel
theorem dksX4_takesOwner_1 : cX4_takesOwner.data.toList.drop 23 = dktX4_takesOwner_1 := dk_seg dksX4_takesOwner_0 23 rfl rfl
theorem dksX4_takesOwner_2 : cX4_takesOwner.data.toList.drop 46 = dktX4_takesOwner_2 := dk_seg dksX4_takesOwner_1 23 rfl rfl
theorem dX4_takesOwner_0 : decode cX4_takesOwner 0 = .ok (.aload_n 0, 1) := dk_42 (dk_at dksX4_takesOwner_0 0 rfl rfl)
theorem dX4_takesOwner_1 : decode cX4_takesOwner 1 = .ok (.getfield 146, 3) := dk_180 0 146 (dk_at dksX4_takesOwner_0 1 rfl rfl)
theorem dX4_takesOwner_4 : decode cX4_takesOwner 4 = .ok (.iconst 1, 1) := dk_4 (dk_at dksX4_takesOwner_0 4 rfl rfl)
theorem dX4_takesOwner_5 : decode cX4_takesOwner 5 = .ok (.if_icmp .ne 27, 3) := dk_160 0 27 (dk_at dksX4_takesOwner_0 5 rfl rfl)
theorem dX4_takesOwner_8 : decode cX4_takesOwner 8 = .ok (.aload_n 0, 1) := dk_42 (dk_at dksX4_takesOwner_0 8 rfl rfl)
theorem dX4_takesOwner_9 : decode cX4_takesOwner 9 = .ok (.getfield 143, 3) := dk_180 0 143 (dk_at dksX4_takesOwner_0 9 rfl rfl)
theorem dX4_takesOwner_12 : decode cX4_takesOwner 12 = .ok (.invokestatic 174, 3) := dk_184 0 174 (dk_at dksX4_takesOwner_0 12 rfl rfl)
theorem dX4_takesOwner_15 : decode cX4_takesOwner 15 = .ok (.ifCond .ne 17, 3) := dk_154 0 17 (dk_at dksX4_takesOwner_0 15 rfl rfl)
theorem dX4_takesOwner_18 : decode cX4_takesOwner 18 = .ok (.aload_n 0, 1) := dk_42 (dk_at dksX4_takesOwner_0 18 rfl rfl)
theorem dX4_takesOwner_19 : decode cX4_takesOwner 19 = .ok (.getfield 13, 3) := dk_180 0 13 (dk_at dksX4_takesOwner_0 19 rfl rfl)
theorem dX4_takesOwner_22 : decode cX4_takesOwner 22 = .ok (.aload_n 0, 1) := dk_42 (dk_at dksX4_takesOwner_0 22 rfl rfl)
theorem dX4_takesOwner_23 : decode cX4_takesOwner 23 = .ok (.getfield 143, 3) := dk_180 0 143 (dk_at dksX4_takesOwner_1 0 rfl rfl)
theorem dX4_takesOwner_26 : decode cX4_takesOwner 26 = .ok (.invokestatic 177, 3) := dk_184 0 177 (dk_at dksX4_takesOwner_1 3 rfl rfl)
theorem dX4_takesOwner_29 : decode cX4_takesOwner 29 = .ok (.goto 5, 3) := dk_167 0 5 (dk_at dksX4_takesOwner_1 6 rfl rfl)
theorem dX4_takesOwner_32 : decode cX4_takesOwner 32 = .ok (.bipush (-2), 2) := dk_16 254 (dk_at dksX4_takesOwner_1 9 rfl rfl)
theorem dX4_takesOwner_34 : decode cX4_takesOwner 34 = .ok (.istore_n 2, 1) := dk_61 (dk_at dksX4_takesOwner_1 11 rfl rfl)
theorem dX4_takesOwner_35 : decode cX4_takesOwner 35 = .ok (.aload_n 0, 1) := dk_42 (dk_at dksX4_takesOwner_1 12 rfl rfl)
theorem dX4_takesOwner_36 : decode cX4_takesOwner 36 = .ok (.iload_n 2, 1) := dk_28 (dk_at dksX4_takesOwner_1 13 rfl rfl)
theorem dX4_takesOwner_37 : decode cX4_takesOwner 37 = .ok (.ifCond .lt 12, 3) := dk_155 0 12 (dk_at dksX4_takesOwner_1 14 rfl rfl)
theorem dX4_takesOwner_40 : decode cX4_takesOwner 40 = .ok (.iload_n 2, 1) := dk_28 (dk_at dksX4_takesOwner_1 17 rfl rfl)
theorem dX4_takesOwner_41 : decode cX4_takesOwner 41 = .ok (.iload_n 1, 1) := dk_27 (dk_at dksX4_takesOwner_1 18 rfl rfl)
theorem dX4_takesOwner_42 : decode cX4_takesOwner 42 = .ok (.if_icmp .eq 7, 3) := dk_159 0 7 (dk_at dksX4_takesOwner_1 19 rfl rfl)
theorem dX4_takesOwner_45 : decode cX4_takesOwner 45 = .ok (.iconst 1, 1) := dk_4 (dk_at dksX4_takesOwner_1 22 rfl rfl)
theorem dX4_takesOwner_46 : decode cX4_takesOwner 46 = .ok (.goto 4, 3) := dk_167 0 4 (dk_at dksX4_takesOwner_2 0 rfl rfl)
theorem dX4_takesOwner_49 : decode cX4_takesOwner 49 = .ok (.iconst 0, 1) := dk_3 (dk_at dksX4_takesOwner_2 3 rfl rfl)
theorem dX4_takesOwner_50 : decode cX4_takesOwner 50 = .ok (.invokevirtual 170, 3) := dk_182 0 170 (dk_at dksX4_takesOwner_2 4 rfl rfl)
theorem dX4_takesOwner_53 : decode cX4_takesOwner 53 = .ok (.ifCond .eq 7, 3) := dk_153 0 7 (dk_at dksX4_takesOwner_2 7 rfl rfl)
theorem dX4_takesOwner_56 : decode cX4_takesOwner 56 = .ok (.iload_n 2, 1) := dk_28 (dk_at dksX4_takesOwner_2 10 rfl rfl)
theorem dX4_takesOwner_57 : decode cX4_takesOwner 57 = .ok (.goto 4, 3) := dk_167 0 4 (dk_at dksX4_takesOwner_2 11 rfl rfl)
theorem dX4_takesOwner_60 : decode cX4_takesOwner 60 = .ok (.iconst 0, 1) := dk_3 (dk_at dksX4_takesOwner_2 14 rfl rfl)
theorem dX4_takesOwner_61 : decode cX4_takesOwner 61 = .ok (.ireturn, 1) := dk_172 (dk_at dksX4_takesOwner_2 15 rfl rfl)
abbrev cX4_shareOf : ByteArray := prog_20_method_27_code
def yX4_shareOf : MethodName := ⟨RX4, "shareOf", "([III)I"⟩
def dkwX4_shareOf_0 : List UInt8 := [42, 42, 27, 17, 39, 15, 184, 0, 89, 5, 28, 96, 184, 0, 62, 46, 172]
abbrev dktX4_shareOf_0 : List UInt8 := dkwX4_shareOf_0 ++ []
theorem dksX4_shareOf_0 : cX4_shareOf.data.toList.drop 0 = dktX4_shareOf_0 := by decide +kernel
theorem dX4_shareOf_0 : decode cX4_shareOf 0 = .ok (.aload_n 0, 1) := dk_42 (dk_at dksX4_shareOf_0 0 rfl rfl)
theorem dX4_shareOf_1 : decode cX4_shareOf 1 = .ok (.aload_n 0, 1) := dk_42 (dk_at dksX4_shareOf_0 1 rfl rfl)
theorem dX4_shareOf_2 : decode cX4_shareOf 2 = .ok (.iload_n 1, 1) := dk_27 (dk_at dksX4_shareOf_0 2 rfl rfl)
theorem dX4_shareOf_3 : decode cX4_shareOf 3 = .ok (.sipush 9999, 3) := dk_17 39 15 (dk_at dksX4_shareOf_0 3 rfl rfl)
theorem dX4_shareOf_6 : decode cX4_shareOf 6 = .ok (.invokestatic 89, 3) := dk_184 0 89 (dk_at dksX4_shareOf_0 6 rfl rfl)
theorem dX4_shareOf_9 : decode cX4_shareOf 9 = .ok (.iconst 2, 1) := dk_5 (dk_at dksX4_shareOf_0 9 rfl rfl)
theorem dX4_shareOf_10 : decode cX4_shareOf 10 = .ok (.iload_n 2, 1) := dk_28 (dk_at dksX4_shareOf_0 10 rfl rfl)
theorem dX4_shareOf_11 : decode cX4_shareOf 11 = .ok (.iadd, 1) := dk_96 (dk_at dksX4_shareOf_0 11 rfl rfl)
theorem dX4_shareOf_12 : decode cX4_shareOf 12 = .ok (.invokestatic 62, 3) := dk_184 0 62 (dk_at dksX4_shareOf_0 12 rfl rfl)
theorem dX4_shareOf_15 : decode cX4_shareOf 15 = .ok (.iaload, 1) := dk_46 (dk_at dksX4_shareOf_0 15 rfl rfl)
theorem dX4_shareOf_16 : decode cX4_shareOf 16 = .ok (.ireturn, 1) := dk_172 (dk_at dksX4_shareOf_0 16 rfl rfl)
abbrev cX4_gives : ByteArray := prog_20_method_31_code
def yX4_gives : MethodName := ⟨RX4, "gives", "([IIIII)V"⟩
def dkwX4_gives_2 : List UInt8 := [96, 79, 177]
abbrev dktX4_gives_2 : List UInt8 := dkwX4_gives_2 ++ []
def dkwX4_gives_1 : List UInt8 := [28, 96, 184, 0, 62, 92, 46, 21, 4, 100, 79, 42, 21, 5, 5, 29, 96, 184, 0, 62, 92, 46, 21, 4]
abbrev dktX4_gives_1 : List UInt8 := dkwX4_gives_1 ++ dktX4_gives_2
def dkwX4_gives_0 : List UInt8 := [42, 27, 184, 0, 95, 54, 5, 21, 5, 156, 0, 11, 42, 27, 27, 184, 0, 98, 54, 5, 42, 21, 5, 5]
abbrev dktX4_gives_0 : List UInt8 := dkwX4_gives_0 ++ dktX4_gives_1
theorem dksX4_gives_0 : cX4_gives.data.toList.drop 0 = dktX4_gives_0 := by decide +kernel
theorem dksX4_gives_1 : cX4_gives.data.toList.drop 24 = dktX4_gives_1 := dk_seg dksX4_gives_0 24 rfl rfl
theorem dksX4_gives_2 : cX4_gives.data.toList.drop 48 = dktX4_gives_2 := dk_seg dksX4_gives_1 24 rfl rfl
theorem dX4_gives_0 : decode cX4_gives 0 = .ok (.aload_n 0, 1) := dk_42 (dk_at dksX4_gives_0 0 rfl rfl)
theorem dX4_gives_1 : decode cX4_gives 1 = .ok (.iload_n 1, 1) := dk_27 (dk_at dksX4_gives_0 1 rfl rfl)
theorem dX4_gives_2 : decode cX4_gives 2 = .ok (.invokestatic 95, 3) := dk_184 0 95 (dk_at dksX4_gives_0 2 rfl rfl)
theorem dX4_gives_5 : decode cX4_gives 5 = .ok (.istore 5, 2) := dk_54 5 (dk_at dksX4_gives_0 5 rfl rfl)
theorem dX4_gives_7 : decode cX4_gives 7 = .ok (.iload 5, 2) := dk_21 5 (dk_at dksX4_gives_0 7 rfl rfl)
theorem dX4_gives_9 : decode cX4_gives 9 = .ok (.ifCond .ge 11, 3) := dk_156 0 11 (dk_at dksX4_gives_0 9 rfl rfl)
theorem dX4_gives_12 : decode cX4_gives 12 = .ok (.aload_n 0, 1) := dk_42 (dk_at dksX4_gives_0 12 rfl rfl)
theorem dX4_gives_13 : decode cX4_gives 13 = .ok (.iload_n 1, 1) := dk_27 (dk_at dksX4_gives_0 13 rfl rfl)
theorem dX4_gives_14 : decode cX4_gives 14 = .ok (.iload_n 1, 1) := dk_27 (dk_at dksX4_gives_0 14 rfl rfl)
theorem dX4_gives_15 : decode cX4_gives 15 = .ok (.invokestatic 98, 3) := dk_184 0 98 (dk_at dksX4_gives_0 15 rfl rfl)
theorem dX4_gives_18 : decode cX4_gives 18 = .ok (.istore 5, 2) := dk_54 5 (dk_at dksX4_gives_0 18 rfl rfl)
theorem dX4_gives_20 : decode cX4_gives 20 = .ok (.aload_n 0, 1) := dk_42 (dk_at dksX4_gives_0 20 rfl rfl)
theorem dX4_gives_21 : decode cX4_gives 21 = .ok (.iload 5, 2) := dk_21 5 (dk_at dksX4_gives_0 21 rfl rfl)
theorem dX4_gives_23 : decode cX4_gives 23 = .ok (.iconst 2, 1) := dk_5 (dk_at dksX4_gives_0 23 rfl rfl)
theorem dX4_gives_24 : decode cX4_gives 24 = .ok (.iload_n 2, 1) := dk_28 (dk_at dksX4_gives_1 0 rfl rfl)
theorem dX4_gives_25 : decode cX4_gives 25 = .ok (.iadd, 1) := dk_96 (dk_at dksX4_gives_1 1 rfl rfl)
theorem dX4_gives_26 : decode cX4_gives 26 = .ok (.invokestatic 62, 3) := dk_184 0 62 (dk_at dksX4_gives_1 2 rfl rfl)
theorem dX4_gives_29 : decode cX4_gives 29 = .ok (.dup2, 1) := dk_92 (dk_at dksX4_gives_1 5 rfl rfl)
theorem dX4_gives_30 : decode cX4_gives 30 = .ok (.iaload, 1) := dk_46 (dk_at dksX4_gives_1 6 rfl rfl)
theorem dX4_gives_31 : decode cX4_gives 31 = .ok (.iload 4, 2) := dk_21 4 (dk_at dksX4_gives_1 7 rfl rfl)
theorem dX4_gives_33 : decode cX4_gives 33 = .ok (.isub, 1) := dk_100 (dk_at dksX4_gives_1 9 rfl rfl)
theorem dX4_gives_34 : decode cX4_gives 34 = .ok (.iastore, 1) := dk_79 (dk_at dksX4_gives_1 10 rfl rfl)
theorem dX4_gives_35 : decode cX4_gives 35 = .ok (.aload_n 0, 1) := dk_42 (dk_at dksX4_gives_1 11 rfl rfl)
theorem dX4_gives_36 : decode cX4_gives 36 = .ok (.iload 5, 2) := dk_21 5 (dk_at dksX4_gives_1 12 rfl rfl)
theorem dX4_gives_38 : decode cX4_gives 38 = .ok (.iconst 2, 1) := dk_5 (dk_at dksX4_gives_1 14 rfl rfl)
theorem dX4_gives_39 : decode cX4_gives 39 = .ok (.iload_n 3, 1) := dk_29 (dk_at dksX4_gives_1 15 rfl rfl)
theorem dX4_gives_40 : decode cX4_gives 40 = .ok (.iadd, 1) := dk_96 (dk_at dksX4_gives_1 16 rfl rfl)
theorem dX4_gives_41 : decode cX4_gives 41 = .ok (.invokestatic 62, 3) := dk_184 0 62 (dk_at dksX4_gives_1 17 rfl rfl)
theorem dX4_gives_44 : decode cX4_gives 44 = .ok (.dup2, 1) := dk_92 (dk_at dksX4_gives_1 20 rfl rfl)
theorem dX4_gives_45 : decode cX4_gives 45 = .ok (.iaload, 1) := dk_46 (dk_at dksX4_gives_1 21 rfl rfl)
theorem dX4_gives_46 : decode cX4_gives 46 = .ok (.iload 4, 2) := dk_21 4 (dk_at dksX4_gives_1 22 rfl rfl)
theorem dX4_gives_48 : decode cX4_gives 48 = .ok (.iadd, 1) := dk_96 (dk_at dksX4_gives_2 0 rfl rfl)
theorem dX4_gives_49 : decode cX4_gives 49 = .ok (.iastore, 1) := dk_79 (dk_at dksX4_gives_2 1 rfl rfl)
theorem dX4_gives_50 : decode cX4_gives 50 = .ok (.return_, 1) := dk_177 (dk_at dksX4_gives_2 2 rfl rfl)
abbrev cX4_deedToday : ByteArray := prog_20_method_30_code
def yX4_deedToday : MethodName := ⟨RX4, "deedToday", "([II)I"⟩
def dkwX4_deedToday_1 : List UInt8 := [167, 0, 5, 16, 254, 172]
abbrev dktX4_deedToday_1 : List UInt8 := dkwX4_deedToday_1 ++ []
def dkwX4_deedToday_0 : List UInt8 := [42, 27, 17, 39, 15, 184, 0, 89, 61, 42, 28, 4, 184, 0, 62, 46, 42, 6, 46, 160, 0, 7, 28]
abbrev dktX4_deedToday_0 : List UInt8 := dkwX4_deedToday_0 ++ dktX4_deedToday_1
theorem dksX4_deedToday_0 : cX4_deedToday.data.toList.drop 0 = dktX4_deedToday_0 := by decide +kernel
theorem dksX4_deedToday_1 : cX4_deedToday.data.toList.drop 23 = dktX4_deedToday_1 := dk_seg dksX4_deedToday_0 23 rfl rfl
theorem dX4_deedToday_0 : decode cX4_deedToday 0 = .ok (.aload_n 0, 1) := dk_42 (dk_at dksX4_deedToday_0 0 rfl rfl)
theorem dX4_deedToday_1 : decode cX4_deedToday 1 = .ok (.iload_n 1, 1) := dk_27 (dk_at dksX4_deedToday_0 1 rfl rfl)
theorem dX4_deedToday_2 : decode cX4_deedToday 2 = .ok (.sipush 9999, 3) := dk_17 39 15 (dk_at dksX4_deedToday_0 2 rfl rfl)
theorem dX4_deedToday_5 : decode cX4_deedToday 5 = .ok (.invokestatic 89, 3) := dk_184 0 89 (dk_at dksX4_deedToday_0 5 rfl rfl)
theorem dX4_deedToday_8 : decode cX4_deedToday 8 = .ok (.istore_n 2, 1) := dk_61 (dk_at dksX4_deedToday_0 8 rfl rfl)
theorem dX4_deedToday_9 : decode cX4_deedToday 9 = .ok (.aload_n 0, 1) := dk_42 (dk_at dksX4_deedToday_0 9 rfl rfl)
theorem dX4_deedToday_10 : decode cX4_deedToday 10 = .ok (.iload_n 2, 1) := dk_28 (dk_at dksX4_deedToday_0 10 rfl rfl)
theorem dX4_deedToday_11 : decode cX4_deedToday 11 = .ok (.iconst 1, 1) := dk_4 (dk_at dksX4_deedToday_0 11 rfl rfl)
theorem dX4_deedToday_12 : decode cX4_deedToday 12 = .ok (.invokestatic 62, 3) := dk_184 0 62 (dk_at dksX4_deedToday_0 12 rfl rfl)
theorem dX4_deedToday_15 : decode cX4_deedToday 15 = .ok (.iaload, 1) := dk_46 (dk_at dksX4_deedToday_0 15 rfl rfl)
theorem dX4_deedToday_16 : decode cX4_deedToday 16 = .ok (.aload_n 0, 1) := dk_42 (dk_at dksX4_deedToday_0 16 rfl rfl)
theorem dX4_deedToday_17 : decode cX4_deedToday 17 = .ok (.iconst 3, 1) := dk_6 (dk_at dksX4_deedToday_0 17 rfl rfl)
theorem dX4_deedToday_18 : decode cX4_deedToday 18 = .ok (.iaload, 1) := dk_46 (dk_at dksX4_deedToday_0 18 rfl rfl)
theorem dX4_deedToday_19 : decode cX4_deedToday 19 = .ok (.if_icmp .ne 7, 3) := dk_160 0 7 (dk_at dksX4_deedToday_0 19 rfl rfl)
theorem dX4_deedToday_22 : decode cX4_deedToday 22 = .ok (.iload_n 2, 1) := dk_28 (dk_at dksX4_deedToday_0 22 rfl rfl)
theorem dX4_deedToday_23 : decode cX4_deedToday 23 = .ok (.goto 5, 3) := dk_167 0 5 (dk_at dksX4_deedToday_1 0 rfl rfl)
theorem dX4_deedToday_26 : decode cX4_deedToday 26 = .ok (.bipush (-2), 2) := dk_16 254 (dk_at dksX4_deedToday_1 3 rfl rfl)
theorem dX4_deedToday_28 : decode cX4_deedToday 28 = .ok (.ireturn, 1) := dk_172 (dk_at dksX4_deedToday_1 5 rfl rfl)
abbrev cX4_readDebt : ByteArray := prog_20_method_64_code
def yX4_readDebt : MethodName := ⟨RX4, "readDebt", "()V"⟩
def dkwX4_readDebt_3 : List UInt8 := [29, 27, 184, 0, 202, 87, 177]
abbrev dktX4_readDebt_3 : List UInt8 := dkwX4_readDebt_3 ++ []
def dkwX4_readDebt_2 : List UInt8 := [180, 0, 146, 6, 160, 0, 7, 4, 167, 0, 4, 3, 182, 0, 170, 153, 0, 15, 42, 180, 0, 13, 3, 28]
abbrev dktX4_readDebt_2 : List UInt8 := dkwX4_readDebt_2 ++ dktX4_readDebt_3
def dkwX4_readDebt_1 : List UInt8 := [182, 0, 183, 60, 42, 16, 254, 182, 0, 194, 61, 42, 4, 17, 39, 15, 182, 0, 187, 62, 42, 42]
abbrev dktX4_readDebt_1 : List UInt8 := dkwX4_readDebt_1 ++ dktX4_readDebt_2
def dkwX4_readDebt_0 : List UInt8 := [42, 42, 180, 0, 13, 16, 7, 46, 16, 20, 162, 0, 7, 4, 167, 0, 4, 3, 182, 0, 170, 87, 42]
abbrev dktX4_readDebt_0 : List UInt8 := dkwX4_readDebt_0 ++ dktX4_readDebt_1
theorem dksX4_readDebt_0 : cX4_readDebt.data.toList.drop 0 = dktX4_readDebt_0 := by decide +kernel
theorem dksX4_readDebt_1 : cX4_readDebt.data.toList.drop 23 = dktX4_readDebt_1 := dk_seg dksX4_readDebt_0 23 rfl rfl
theorem dksX4_readDebt_2 : cX4_readDebt.data.toList.drop 45 = dktX4_readDebt_2 := dk_seg dksX4_readDebt_1 22 rfl rfl
theorem dksX4_readDebt_3 : cX4_readDebt.data.toList.drop 69 = dktX4_readDebt_3 := dk_seg dksX4_readDebt_2 24 rfl rfl
theorem dX4_readDebt_0 : decode cX4_readDebt 0 = .ok (.aload_n 0, 1) := dk_42 (dk_at dksX4_readDebt_0 0 rfl rfl)
theorem dX4_readDebt_1 : decode cX4_readDebt 1 = .ok (.aload_n 0, 1) := dk_42 (dk_at dksX4_readDebt_0 1 rfl rfl)
theorem dX4_readDebt_2 : decode cX4_readDebt 2 = .ok (.getfield 13, 3) := dk_180 0 13 (dk_at dksX4_readDebt_0 2 rfl rfl)
theorem dX4_readDebt_5 : decode cX4_readDebt 5 = .ok (.bipush 7, 2) := dk_16 7 (dk_at dksX4_readDebt_0 5 rfl rfl)
theorem dX4_readDebt_7 : decode cX4_readDebt 7 = .ok (.iaload, 1) := dk_46 (dk_at dksX4_readDebt_0 7 rfl rfl)
theorem dX4_readDebt_8 : decode cX4_readDebt 8 = .ok (.bipush 20, 2) := dk_16 20 (dk_at dksX4_readDebt_0 8 rfl rfl)
theorem dX4_readDebt_10 : decode cX4_readDebt 10 = .ok (.if_icmp .ge 7, 3) := dk_162 0 7 (dk_at dksX4_readDebt_0 10 rfl rfl)
theorem dX4_readDebt_13 : decode cX4_readDebt 13 = .ok (.iconst 1, 1) := dk_4 (dk_at dksX4_readDebt_0 13 rfl rfl)
theorem dX4_readDebt_14 : decode cX4_readDebt 14 = .ok (.goto 4, 3) := dk_167 0 4 (dk_at dksX4_readDebt_0 14 rfl rfl)
theorem dX4_readDebt_17 : decode cX4_readDebt 17 = .ok (.iconst 0, 1) := dk_3 (dk_at dksX4_readDebt_0 17 rfl rfl)
theorem dX4_readDebt_18 : decode cX4_readDebt 18 = .ok (.invokevirtual 170, 3) := dk_182 0 170 (dk_at dksX4_readDebt_0 18 rfl rfl)
theorem dX4_readDebt_21 : decode cX4_readDebt 21 = .ok (.pop, 1) := dk_87 (dk_at dksX4_readDebt_0 21 rfl rfl)
theorem dX4_readDebt_22 : decode cX4_readDebt 22 = .ok (.aload_n 0, 1) := dk_42 (dk_at dksX4_readDebt_0 22 rfl rfl)
theorem dX4_readDebt_23 : decode cX4_readDebt 23 = .ok (.invokevirtual 183, 3) := dk_182 0 183 (dk_at dksX4_readDebt_1 0 rfl rfl)
theorem dX4_readDebt_26 : decode cX4_readDebt 26 = .ok (.istore_n 1, 1) := dk_60 (dk_at dksX4_readDebt_1 3 rfl rfl)
theorem dX4_readDebt_27 : decode cX4_readDebt 27 = .ok (.aload_n 0, 1) := dk_42 (dk_at dksX4_readDebt_1 4 rfl rfl)
theorem dX4_readDebt_28 : decode cX4_readDebt 28 = .ok (.bipush (-2), 2) := dk_16 254 (dk_at dksX4_readDebt_1 5 rfl rfl)
theorem dX4_readDebt_30 : decode cX4_readDebt 30 = .ok (.invokevirtual 194, 3) := dk_182 0 194 (dk_at dksX4_readDebt_1 7 rfl rfl)
theorem dX4_readDebt_33 : decode cX4_readDebt 33 = .ok (.istore_n 2, 1) := dk_61 (dk_at dksX4_readDebt_1 10 rfl rfl)
theorem dX4_readDebt_34 : decode cX4_readDebt 34 = .ok (.aload_n 0, 1) := dk_42 (dk_at dksX4_readDebt_1 11 rfl rfl)
theorem dX4_readDebt_35 : decode cX4_readDebt 35 = .ok (.iconst 1, 1) := dk_4 (dk_at dksX4_readDebt_1 12 rfl rfl)
theorem dX4_readDebt_36 : decode cX4_readDebt 36 = .ok (.sipush 9999, 3) := dk_17 39 15 (dk_at dksX4_readDebt_1 13 rfl rfl)
theorem dX4_readDebt_39 : decode cX4_readDebt 39 = .ok (.invokevirtual 187, 3) := dk_182 0 187 (dk_at dksX4_readDebt_1 16 rfl rfl)
theorem dX4_readDebt_42 : decode cX4_readDebt 42 = .ok (.istore_n 3, 1) := dk_62 (dk_at dksX4_readDebt_1 19 rfl rfl)
theorem dX4_readDebt_43 : decode cX4_readDebt 43 = .ok (.aload_n 0, 1) := dk_42 (dk_at dksX4_readDebt_1 20 rfl rfl)
theorem dX4_readDebt_44 : decode cX4_readDebt 44 = .ok (.aload_n 0, 1) := dk_42 (dk_at dksX4_readDebt_1 21 rfl rfl)
theorem dX4_readDebt_45 : decode cX4_readDebt 45 = .ok (.getfield 146, 3) := dk_180 0 146 (dk_at dksX4_readDebt_2 0 rfl rfl)
theorem dX4_readDebt_48 : decode cX4_readDebt 48 = .ok (.iconst 3, 1) := dk_6 (dk_at dksX4_readDebt_2 3 rfl rfl)
theorem dX4_readDebt_49 : decode cX4_readDebt 49 = .ok (.if_icmp .ne 7, 3) := dk_160 0 7 (dk_at dksX4_readDebt_2 4 rfl rfl)
theorem dX4_readDebt_52 : decode cX4_readDebt 52 = .ok (.iconst 1, 1) := dk_4 (dk_at dksX4_readDebt_2 7 rfl rfl)
theorem dX4_readDebt_53 : decode cX4_readDebt 53 = .ok (.goto 4, 3) := dk_167 0 4 (dk_at dksX4_readDebt_2 8 rfl rfl)
theorem dX4_readDebt_56 : decode cX4_readDebt 56 = .ok (.iconst 0, 1) := dk_3 (dk_at dksX4_readDebt_2 11 rfl rfl)
theorem dX4_readDebt_57 : decode cX4_readDebt 57 = .ok (.invokevirtual 170, 3) := dk_182 0 170 (dk_at dksX4_readDebt_2 12 rfl rfl)
theorem dX4_readDebt_60 : decode cX4_readDebt 60 = .ok (.ifCond .eq 15, 3) := dk_153 0 15 (dk_at dksX4_readDebt_2 15 rfl rfl)
theorem dX4_readDebt_63 : decode cX4_readDebt 63 = .ok (.aload_n 0, 1) := dk_42 (dk_at dksX4_readDebt_2 18 rfl rfl)
theorem dX4_readDebt_64 : decode cX4_readDebt 64 = .ok (.getfield 13, 3) := dk_180 0 13 (dk_at dksX4_readDebt_2 19 rfl rfl)
theorem dX4_readDebt_67 : decode cX4_readDebt 67 = .ok (.iconst 0, 1) := dk_3 (dk_at dksX4_readDebt_2 22 rfl rfl)
theorem dX4_readDebt_68 : decode cX4_readDebt 68 = .ok (.iload_n 2, 1) := dk_28 (dk_at dksX4_readDebt_2 23 rfl rfl)
theorem dX4_readDebt_69 : decode cX4_readDebt 69 = .ok (.iload_n 3, 1) := dk_29 (dk_at dksX4_readDebt_3 0 rfl rfl)
theorem dX4_readDebt_70 : decode cX4_readDebt 70 = .ok (.iload_n 1, 1) := dk_27 (dk_at dksX4_readDebt_3 1 rfl rfl)
theorem dX4_readDebt_71 : decode cX4_readDebt 71 = .ok (.invokestatic 202, 3) := dk_184 0 202 (dk_at dksX4_readDebt_3 2 rfl rfl)
theorem dX4_readDebt_74 : decode cX4_readDebt 74 = .ok (.pop, 1) := dk_87 (dk_at dksX4_readDebt_3 5 rfl rfl)
theorem dX4_readDebt_75 : decode cX4_readDebt 75 = .ok (.return_, 1) := dk_177 (dk_at dksX4_readDebt_3 6 rfl rfl)
abbrev cX4_burdenComes : ByteArray := prog_20_method_43_code
def yX4_burdenComes : MethodName := ⟨RX4, "burdenComes", "([IIIII)I"⟩
def dkwX4_burdenComes_4 : List UInt8 := [21, 5, 172]
abbrev dktX4_burdenComes_4 : List UInt8 := dkwX4_burdenComes_4 ++ []
def dkwX4_burdenComes_3 : List UInt8 := [8, 184, 0, 101, 42, 6, 46, 79, 42, 21, 5, 21, 4, 184, 0, 123, 42, 16, 7, 92, 46, 4, 96, 79]
abbrev dktX4_burdenComes_3 : List UInt8 := dkwX4_burdenComes_3 ++ dktX4_burdenComes_4
def dkwX4_burdenComes_2 : List UInt8 := [28, 79, 42, 21, 5, 5, 184, 0, 101, 29, 79, 42, 21, 5, 6, 184, 0, 101, 21, 5, 79, 42, 21, 5]
abbrev dktX4_burdenComes_2 : List UInt8 := dkwX4_burdenComes_2 ++ dktX4_burdenComes_3
def dkwX4_burdenComes_1 : List UInt8 := [3, 79, 132, 6, 1, 167, 255, 236, 42, 21, 5, 3, 184, 0, 101, 27, 79, 42, 21, 5, 4, 184, 0, 101]
abbrev dktX4_burdenComes_1 : List UInt8 := dkwX4_burdenComes_1 ++ dktX4_burdenComes_2
def dkwX4_burdenComes_0 : List UInt8 := [42, 16, 7, 46, 54, 5, 3, 54, 6, 21, 6, 16, 8, 162, 0, 19, 42, 21, 5, 21, 6, 184, 0, 101]
abbrev dktX4_burdenComes_0 : List UInt8 := dkwX4_burdenComes_0 ++ dktX4_burdenComes_1
theorem dksX4_burdenComes_0 : cX4_burdenComes.data.toList.drop 0 = dktX4_burdenComes_0 := by decide +kernel
theorem dksX4_burdenComes_1 : cX4_burdenComes.data.toList.drop 24 = dktX4_burdenComes_1 := dk_seg dksX4_burdenComes_0 24 rfl rfl
theorem dksX4_burdenComes_2 : cX4_burdenComes.data.toList.drop 48 = dktX4_burdenComes_2 := dk_seg dksX4_burdenComes_1 24 rfl rfl
theorem dksX4_burdenComes_3 : cX4_burdenComes.data.toList.drop 72 = dktX4_burdenComes_3 := dk_seg dksX4_burdenComes_2 24 rfl rfl
theorem dksX4_burdenComes_4 : cX4_burdenComes.data.toList.drop 96 = dktX4_burdenComes_4 := dk_seg dksX4_burdenComes_3 24 rfl rfl
theorem dX4_burdenComes_0 : decode cX4_burdenComes 0 = .ok (.aload_n 0, 1) := dk_42 (dk_at dksX4_burdenComes_0 0 rfl rfl)
theorem dX4_burdenComes_1 : decode cX4_burdenComes 1 = .ok (.bipush 7, 2) := dk_16 7 (dk_at dksX4_burdenComes_0 1 rfl rfl)
theorem dX4_burdenComes_3 : decode cX4_burdenComes 3 = .ok (.iaload, 1) := dk_46 (dk_at dksX4_burdenComes_0 3 rfl rfl)
theorem dX4_burdenComes_4 : decode cX4_burdenComes 4 = .ok (.istore 5, 2) := dk_54 5 (dk_at dksX4_burdenComes_0 4 rfl rfl)
theorem dX4_burdenComes_6 : decode cX4_burdenComes 6 = .ok (.iconst 0, 1) := dk_3 (dk_at dksX4_burdenComes_0 6 rfl rfl)
theorem dX4_burdenComes_7 : decode cX4_burdenComes 7 = .ok (.istore 6, 2) := dk_54 6 (dk_at dksX4_burdenComes_0 7 rfl rfl)
theorem dX4_burdenComes_9 : decode cX4_burdenComes 9 = .ok (.iload 6, 2) := dk_21 6 (dk_at dksX4_burdenComes_0 9 rfl rfl)
theorem dX4_burdenComes_11 : decode cX4_burdenComes 11 = .ok (.bipush 8, 2) := dk_16 8 (dk_at dksX4_burdenComes_0 11 rfl rfl)
theorem dX4_burdenComes_13 : decode cX4_burdenComes 13 = .ok (.if_icmp .ge 19, 3) := dk_162 0 19 (dk_at dksX4_burdenComes_0 13 rfl rfl)
theorem dX4_burdenComes_16 : decode cX4_burdenComes 16 = .ok (.aload_n 0, 1) := dk_42 (dk_at dksX4_burdenComes_0 16 rfl rfl)
theorem dX4_burdenComes_17 : decode cX4_burdenComes 17 = .ok (.iload 5, 2) := dk_21 5 (dk_at dksX4_burdenComes_0 17 rfl rfl)
theorem dX4_burdenComes_19 : decode cX4_burdenComes 19 = .ok (.iload 6, 2) := dk_21 6 (dk_at dksX4_burdenComes_0 19 rfl rfl)
theorem dX4_burdenComes_21 : decode cX4_burdenComes 21 = .ok (.invokestatic 101, 3) := dk_184 0 101 (dk_at dksX4_burdenComes_0 21 rfl rfl)
theorem dX4_burdenComes_24 : decode cX4_burdenComes 24 = .ok (.iconst 0, 1) := dk_3 (dk_at dksX4_burdenComes_1 0 rfl rfl)
theorem dX4_burdenComes_25 : decode cX4_burdenComes 25 = .ok (.iastore, 1) := dk_79 (dk_at dksX4_burdenComes_1 1 rfl rfl)
theorem dX4_burdenComes_26 : decode cX4_burdenComes 26 = .ok (.iinc 6 1, 3) := dk_132 6 1 (dk_at dksX4_burdenComes_1 2 rfl rfl)
theorem dX4_burdenComes_29 : decode cX4_burdenComes 29 = .ok (.goto (-20), 3) := dk_167 255 236 (dk_at dksX4_burdenComes_1 5 rfl rfl)
theorem dX4_burdenComes_32 : decode cX4_burdenComes 32 = .ok (.aload_n 0, 1) := dk_42 (dk_at dksX4_burdenComes_1 8 rfl rfl)
theorem dX4_burdenComes_33 : decode cX4_burdenComes 33 = .ok (.iload 5, 2) := dk_21 5 (dk_at dksX4_burdenComes_1 9 rfl rfl)
theorem dX4_burdenComes_35 : decode cX4_burdenComes 35 = .ok (.iconst 0, 1) := dk_3 (dk_at dksX4_burdenComes_1 11 rfl rfl)
theorem dX4_burdenComes_36 : decode cX4_burdenComes 36 = .ok (.invokestatic 101, 3) := dk_184 0 101 (dk_at dksX4_burdenComes_1 12 rfl rfl)
theorem dX4_burdenComes_39 : decode cX4_burdenComes 39 = .ok (.iload_n 1, 1) := dk_27 (dk_at dksX4_burdenComes_1 15 rfl rfl)
theorem dX4_burdenComes_40 : decode cX4_burdenComes 40 = .ok (.iastore, 1) := dk_79 (dk_at dksX4_burdenComes_1 16 rfl rfl)
theorem dX4_burdenComes_41 : decode cX4_burdenComes 41 = .ok (.aload_n 0, 1) := dk_42 (dk_at dksX4_burdenComes_1 17 rfl rfl)
theorem dX4_burdenComes_42 : decode cX4_burdenComes 42 = .ok (.iload 5, 2) := dk_21 5 (dk_at dksX4_burdenComes_1 18 rfl rfl)
theorem dX4_burdenComes_44 : decode cX4_burdenComes 44 = .ok (.iconst 1, 1) := dk_4 (dk_at dksX4_burdenComes_1 20 rfl rfl)
theorem dX4_burdenComes_45 : decode cX4_burdenComes 45 = .ok (.invokestatic 101, 3) := dk_184 0 101 (dk_at dksX4_burdenComes_1 21 rfl rfl)
theorem dX4_burdenComes_48 : decode cX4_burdenComes 48 = .ok (.iload_n 2, 1) := dk_28 (dk_at dksX4_burdenComes_2 0 rfl rfl)
theorem dX4_burdenComes_49 : decode cX4_burdenComes 49 = .ok (.iastore, 1) := dk_79 (dk_at dksX4_burdenComes_2 1 rfl rfl)
theorem dX4_burdenComes_50 : decode cX4_burdenComes 50 = .ok (.aload_n 0, 1) := dk_42 (dk_at dksX4_burdenComes_2 2 rfl rfl)
theorem dX4_burdenComes_51 : decode cX4_burdenComes 51 = .ok (.iload 5, 2) := dk_21 5 (dk_at dksX4_burdenComes_2 3 rfl rfl)
theorem dX4_burdenComes_53 : decode cX4_burdenComes 53 = .ok (.iconst 2, 1) := dk_5 (dk_at dksX4_burdenComes_2 5 rfl rfl)
theorem dX4_burdenComes_54 : decode cX4_burdenComes 54 = .ok (.invokestatic 101, 3) := dk_184 0 101 (dk_at dksX4_burdenComes_2 6 rfl rfl)
theorem dX4_burdenComes_57 : decode cX4_burdenComes 57 = .ok (.iload_n 3, 1) := dk_29 (dk_at dksX4_burdenComes_2 9 rfl rfl)
theorem dX4_burdenComes_58 : decode cX4_burdenComes 58 = .ok (.iastore, 1) := dk_79 (dk_at dksX4_burdenComes_2 10 rfl rfl)
theorem dX4_burdenComes_59 : decode cX4_burdenComes 59 = .ok (.aload_n 0, 1) := dk_42 (dk_at dksX4_burdenComes_2 11 rfl rfl)
theorem dX4_burdenComes_60 : decode cX4_burdenComes 60 = .ok (.iload 5, 2) := dk_21 5 (dk_at dksX4_burdenComes_2 12 rfl rfl)
theorem dX4_burdenComes_62 : decode cX4_burdenComes 62 = .ok (.iconst 3, 1) := dk_6 (dk_at dksX4_burdenComes_2 14 rfl rfl)
theorem dX4_burdenComes_63 : decode cX4_burdenComes 63 = .ok (.invokestatic 101, 3) := dk_184 0 101 (dk_at dksX4_burdenComes_2 15 rfl rfl)
theorem dX4_burdenComes_66 : decode cX4_burdenComes 66 = .ok (.iload 5, 2) := dk_21 5 (dk_at dksX4_burdenComes_2 18 rfl rfl)
theorem dX4_burdenComes_68 : decode cX4_burdenComes 68 = .ok (.iastore, 1) := dk_79 (dk_at dksX4_burdenComes_2 20 rfl rfl)
theorem dX4_burdenComes_69 : decode cX4_burdenComes 69 = .ok (.aload_n 0, 1) := dk_42 (dk_at dksX4_burdenComes_2 21 rfl rfl)
theorem dX4_burdenComes_70 : decode cX4_burdenComes 70 = .ok (.iload 5, 2) := dk_21 5 (dk_at dksX4_burdenComes_2 22 rfl rfl)
theorem dX4_burdenComes_72 : decode cX4_burdenComes 72 = .ok (.iconst 5, 1) := dk_8 (dk_at dksX4_burdenComes_3 0 rfl rfl)
theorem dX4_burdenComes_73 : decode cX4_burdenComes 73 = .ok (.invokestatic 101, 3) := dk_184 0 101 (dk_at dksX4_burdenComes_3 1 rfl rfl)
theorem dX4_burdenComes_76 : decode cX4_burdenComes 76 = .ok (.aload_n 0, 1) := dk_42 (dk_at dksX4_burdenComes_3 4 rfl rfl)
theorem dX4_burdenComes_77 : decode cX4_burdenComes 77 = .ok (.iconst 3, 1) := dk_6 (dk_at dksX4_burdenComes_3 5 rfl rfl)
theorem dX4_burdenComes_78 : decode cX4_burdenComes 78 = .ok (.iaload, 1) := dk_46 (dk_at dksX4_burdenComes_3 6 rfl rfl)
theorem dX4_burdenComes_79 : decode cX4_burdenComes 79 = .ok (.iastore, 1) := dk_79 (dk_at dksX4_burdenComes_3 7 rfl rfl)
theorem dX4_burdenComes_80 : decode cX4_burdenComes 80 = .ok (.aload_n 0, 1) := dk_42 (dk_at dksX4_burdenComes_3 8 rfl rfl)
theorem dX4_burdenComes_81 : decode cX4_burdenComes 81 = .ok (.iload 5, 2) := dk_21 5 (dk_at dksX4_burdenComes_3 9 rfl rfl)
theorem dX4_burdenComes_83 : decode cX4_burdenComes 83 = .ok (.iload 4, 2) := dk_21 4 (dk_at dksX4_burdenComes_3 11 rfl rfl)
theorem dX4_burdenComes_85 : decode cX4_burdenComes 85 = .ok (.invokestatic 123, 3) := dk_184 0 123 (dk_at dksX4_burdenComes_3 13 rfl rfl)
theorem dX4_burdenComes_88 : decode cX4_burdenComes 88 = .ok (.aload_n 0, 1) := dk_42 (dk_at dksX4_burdenComes_3 16 rfl rfl)
theorem dX4_burdenComes_89 : decode cX4_burdenComes 89 = .ok (.bipush 7, 2) := dk_16 7 (dk_at dksX4_burdenComes_3 17 rfl rfl)
theorem dX4_burdenComes_91 : decode cX4_burdenComes 91 = .ok (.dup2, 1) := dk_92 (dk_at dksX4_burdenComes_3 19 rfl rfl)
theorem dX4_burdenComes_92 : decode cX4_burdenComes 92 = .ok (.iaload, 1) := dk_46 (dk_at dksX4_burdenComes_3 20 rfl rfl)
theorem dX4_burdenComes_93 : decode cX4_burdenComes 93 = .ok (.iconst 1, 1) := dk_4 (dk_at dksX4_burdenComes_3 21 rfl rfl)
theorem dX4_burdenComes_94 : decode cX4_burdenComes 94 = .ok (.iadd, 1) := dk_96 (dk_at dksX4_burdenComes_3 22 rfl rfl)
theorem dX4_burdenComes_95 : decode cX4_burdenComes 95 = .ok (.iastore, 1) := dk_79 (dk_at dksX4_burdenComes_3 23 rfl rfl)
theorem dX4_burdenComes_96 : decode cX4_burdenComes 96 = .ok (.iload 5, 2) := dk_21 5 (dk_at dksX4_burdenComes_4 0 rfl rfl)
theorem dX4_burdenComes_98 : decode cX4_burdenComes 98 = .ok (.ireturn, 1) := dk_172 (dk_at dksX4_burdenComes_4 2 rfl rfl)
abbrev cX4_readPath : ByteArray := prog_20_method_65_code
def yX4_readPath : MethodName := ⟨RX4, "readPath", "()V"⟩
def dkwX4_readPath_6 : List UInt8 := [29, 27, 184, 0, 202, 87, 177]
abbrev dktX4_readPath_6 : List UInt8 := dkwX4_readPath_6 ++ []
def dkwX4_readPath_5 : List UInt8 := [180, 0, 146, 6, 160, 0, 7, 4, 167, 0, 4, 3, 182, 0, 170, 153, 0, 15, 42, 180, 0, 13, 4, 28]
abbrev dktX4_readPath_5 : List UInt8 := dkwX4_readPath_5 ++ dktX4_readPath_6
def dkwX4_readPath_4 : List UInt8 := [180, 0, 13, 28, 29, 184, 0, 206, 154, 0, 7, 4, 167, 0, 4, 3, 182, 0, 170, 87, 42, 42]
abbrev dktX4_readPath_4 : List UInt8 := dkwX4_readPath_4 ++ dktX4_readPath_5
def dkwX4_readPath_3 : List UInt8 := [42, 180, 0, 146, 5, 160, 0, 32, 42, 180, 0, 13, 27, 28, 29, 184, 0, 77, 153, 0, 19, 42]
abbrev dktX4_readPath_3 : List UInt8 := dkwX4_readPath_3 ++ dktX4_readPath_4
def dkwX4_readPath_2 : List UInt8 := [46, 42, 180, 0, 13, 27, 5, 184, 0, 66, 46, 96, 4, 100, 182, 0, 187, 61, 42, 180, 0, 143, 62, 42]
abbrev dktX4_readPath_2 : List UInt8 := dkwX4_readPath_2 ++ dktX4_readPath_3
def dkwX4_readPath_1 : List UInt8 := [182, 0, 183, 60, 42, 42, 180, 0, 13, 27, 3, 184, 0, 66, 46, 42, 180, 0, 13, 27, 3, 184, 0, 66]
abbrev dktX4_readPath_1 : List UInt8 := dkwX4_readPath_1 ++ dktX4_readPath_2
def dkwX4_readPath_0 : List UInt8 := [42, 42, 180, 0, 13, 16, 7, 46, 16, 20, 162, 0, 7, 4, 167, 0, 4, 3, 182, 0, 170, 87, 42]
abbrev dktX4_readPath_0 : List UInt8 := dkwX4_readPath_0 ++ dktX4_readPath_1
theorem dksX4_readPath_0 : cX4_readPath.data.toList.drop 0 = dktX4_readPath_0 := by decide +kernel
theorem dksX4_readPath_1 : cX4_readPath.data.toList.drop 23 = dktX4_readPath_1 := dk_seg dksX4_readPath_0 23 rfl rfl
theorem dksX4_readPath_2 : cX4_readPath.data.toList.drop 47 = dktX4_readPath_2 := dk_seg dksX4_readPath_1 24 rfl rfl
theorem dksX4_readPath_3 : cX4_readPath.data.toList.drop 71 = dktX4_readPath_3 := dk_seg dksX4_readPath_2 24 rfl rfl
theorem dksX4_readPath_4 : cX4_readPath.data.toList.drop 93 = dktX4_readPath_4 := dk_seg dksX4_readPath_3 22 rfl rfl
theorem dksX4_readPath_5 : cX4_readPath.data.toList.drop 115 = dktX4_readPath_5 := dk_seg dksX4_readPath_4 22 rfl rfl
theorem dksX4_readPath_6 : cX4_readPath.data.toList.drop 139 = dktX4_readPath_6 := dk_seg dksX4_readPath_5 24 rfl rfl
theorem dX4_readPath_0 : decode cX4_readPath 0 = .ok (.aload_n 0, 1) := dk_42 (dk_at dksX4_readPath_0 0 rfl rfl)
theorem dX4_readPath_1 : decode cX4_readPath 1 = .ok (.aload_n 0, 1) := dk_42 (dk_at dksX4_readPath_0 1 rfl rfl)
theorem dX4_readPath_2 : decode cX4_readPath 2 = .ok (.getfield 13, 3) := dk_180 0 13 (dk_at dksX4_readPath_0 2 rfl rfl)
theorem dX4_readPath_5 : decode cX4_readPath 5 = .ok (.bipush 7, 2) := dk_16 7 (dk_at dksX4_readPath_0 5 rfl rfl)
theorem dX4_readPath_7 : decode cX4_readPath 7 = .ok (.iaload, 1) := dk_46 (dk_at dksX4_readPath_0 7 rfl rfl)
theorem dX4_readPath_8 : decode cX4_readPath 8 = .ok (.bipush 20, 2) := dk_16 20 (dk_at dksX4_readPath_0 8 rfl rfl)
theorem dX4_readPath_10 : decode cX4_readPath 10 = .ok (.if_icmp .ge 7, 3) := dk_162 0 7 (dk_at dksX4_readPath_0 10 rfl rfl)
theorem dX4_readPath_13 : decode cX4_readPath 13 = .ok (.iconst 1, 1) := dk_4 (dk_at dksX4_readPath_0 13 rfl rfl)
theorem dX4_readPath_14 : decode cX4_readPath 14 = .ok (.goto 4, 3) := dk_167 0 4 (dk_at dksX4_readPath_0 14 rfl rfl)
theorem dX4_readPath_17 : decode cX4_readPath 17 = .ok (.iconst 0, 1) := dk_3 (dk_at dksX4_readPath_0 17 rfl rfl)
theorem dX4_readPath_18 : decode cX4_readPath 18 = .ok (.invokevirtual 170, 3) := dk_182 0 170 (dk_at dksX4_readPath_0 18 rfl rfl)
theorem dX4_readPath_21 : decode cX4_readPath 21 = .ok (.pop, 1) := dk_87 (dk_at dksX4_readPath_0 21 rfl rfl)
theorem dX4_readPath_22 : decode cX4_readPath 22 = .ok (.aload_n 0, 1) := dk_42 (dk_at dksX4_readPath_0 22 rfl rfl)
theorem dX4_readPath_23 : decode cX4_readPath 23 = .ok (.invokevirtual 183, 3) := dk_182 0 183 (dk_at dksX4_readPath_1 0 rfl rfl)
theorem dX4_readPath_26 : decode cX4_readPath 26 = .ok (.istore_n 1, 1) := dk_60 (dk_at dksX4_readPath_1 3 rfl rfl)
theorem dX4_readPath_27 : decode cX4_readPath 27 = .ok (.aload_n 0, 1) := dk_42 (dk_at dksX4_readPath_1 4 rfl rfl)
theorem dX4_readPath_28 : decode cX4_readPath 28 = .ok (.aload_n 0, 1) := dk_42 (dk_at dksX4_readPath_1 5 rfl rfl)
theorem dX4_readPath_29 : decode cX4_readPath 29 = .ok (.getfield 13, 3) := dk_180 0 13 (dk_at dksX4_readPath_1 6 rfl rfl)
theorem dX4_readPath_32 : decode cX4_readPath 32 = .ok (.iload_n 1, 1) := dk_27 (dk_at dksX4_readPath_1 9 rfl rfl)
theorem dX4_readPath_33 : decode cX4_readPath 33 = .ok (.iconst 0, 1) := dk_3 (dk_at dksX4_readPath_1 10 rfl rfl)
theorem dX4_readPath_34 : decode cX4_readPath 34 = .ok (.invokestatic 66, 3) := dk_184 0 66 (dk_at dksX4_readPath_1 11 rfl rfl)
theorem dX4_readPath_37 : decode cX4_readPath 37 = .ok (.iaload, 1) := dk_46 (dk_at dksX4_readPath_1 14 rfl rfl)
theorem dX4_readPath_38 : decode cX4_readPath 38 = .ok (.aload_n 0, 1) := dk_42 (dk_at dksX4_readPath_1 15 rfl rfl)
theorem dX4_readPath_39 : decode cX4_readPath 39 = .ok (.getfield 13, 3) := dk_180 0 13 (dk_at dksX4_readPath_1 16 rfl rfl)
theorem dX4_readPath_42 : decode cX4_readPath 42 = .ok (.iload_n 1, 1) := dk_27 (dk_at dksX4_readPath_1 19 rfl rfl)
theorem dX4_readPath_43 : decode cX4_readPath 43 = .ok (.iconst 0, 1) := dk_3 (dk_at dksX4_readPath_1 20 rfl rfl)
theorem dX4_readPath_44 : decode cX4_readPath 44 = .ok (.invokestatic 66, 3) := dk_184 0 66 (dk_at dksX4_readPath_1 21 rfl rfl)
theorem dX4_readPath_47 : decode cX4_readPath 47 = .ok (.iaload, 1) := dk_46 (dk_at dksX4_readPath_2 0 rfl rfl)
theorem dX4_readPath_48 : decode cX4_readPath 48 = .ok (.aload_n 0, 1) := dk_42 (dk_at dksX4_readPath_2 1 rfl rfl)
theorem dX4_readPath_49 : decode cX4_readPath 49 = .ok (.getfield 13, 3) := dk_180 0 13 (dk_at dksX4_readPath_2 2 rfl rfl)
theorem dX4_readPath_52 : decode cX4_readPath 52 = .ok (.iload_n 1, 1) := dk_27 (dk_at dksX4_readPath_2 5 rfl rfl)
theorem dX4_readPath_53 : decode cX4_readPath 53 = .ok (.iconst 2, 1) := dk_5 (dk_at dksX4_readPath_2 6 rfl rfl)
theorem dX4_readPath_54 : decode cX4_readPath 54 = .ok (.invokestatic 66, 3) := dk_184 0 66 (dk_at dksX4_readPath_2 7 rfl rfl)
theorem dX4_readPath_57 : decode cX4_readPath 57 = .ok (.iaload, 1) := dk_46 (dk_at dksX4_readPath_2 10 rfl rfl)
theorem dX4_readPath_58 : decode cX4_readPath 58 = .ok (.iadd, 1) := dk_96 (dk_at dksX4_readPath_2 11 rfl rfl)
theorem dX4_readPath_59 : decode cX4_readPath 59 = .ok (.iconst 1, 1) := dk_4 (dk_at dksX4_readPath_2 12 rfl rfl)
theorem dX4_readPath_60 : decode cX4_readPath 60 = .ok (.isub, 1) := dk_100 (dk_at dksX4_readPath_2 13 rfl rfl)
theorem dX4_readPath_61 : decode cX4_readPath 61 = .ok (.invokevirtual 187, 3) := dk_182 0 187 (dk_at dksX4_readPath_2 14 rfl rfl)
theorem dX4_readPath_64 : decode cX4_readPath 64 = .ok (.istore_n 2, 1) := dk_61 (dk_at dksX4_readPath_2 17 rfl rfl)
theorem dX4_readPath_65 : decode cX4_readPath 65 = .ok (.aload_n 0, 1) := dk_42 (dk_at dksX4_readPath_2 18 rfl rfl)
theorem dX4_readPath_66 : decode cX4_readPath 66 = .ok (.getfield 143, 3) := dk_180 0 143 (dk_at dksX4_readPath_2 19 rfl rfl)
theorem dX4_readPath_69 : decode cX4_readPath 69 = .ok (.istore_n 3, 1) := dk_62 (dk_at dksX4_readPath_2 22 rfl rfl)
theorem dX4_readPath_70 : decode cX4_readPath 70 = .ok (.aload_n 0, 1) := dk_42 (dk_at dksX4_readPath_2 23 rfl rfl)
theorem dX4_readPath_71 : decode cX4_readPath 71 = .ok (.aload_n 0, 1) := dk_42 (dk_at dksX4_readPath_3 0 rfl rfl)
theorem dX4_readPath_72 : decode cX4_readPath 72 = .ok (.getfield 146, 3) := dk_180 0 146 (dk_at dksX4_readPath_3 1 rfl rfl)
theorem dX4_readPath_75 : decode cX4_readPath 75 = .ok (.iconst 2, 1) := dk_5 (dk_at dksX4_readPath_3 4 rfl rfl)
theorem dX4_readPath_76 : decode cX4_readPath 76 = .ok (.if_icmp .ne 32, 3) := dk_160 0 32 (dk_at dksX4_readPath_3 5 rfl rfl)
theorem dX4_readPath_79 : decode cX4_readPath 79 = .ok (.aload_n 0, 1) := dk_42 (dk_at dksX4_readPath_3 8 rfl rfl)
theorem dX4_readPath_80 : decode cX4_readPath 80 = .ok (.getfield 13, 3) := dk_180 0 13 (dk_at dksX4_readPath_3 9 rfl rfl)
theorem dX4_readPath_83 : decode cX4_readPath 83 = .ok (.iload_n 1, 1) := dk_27 (dk_at dksX4_readPath_3 12 rfl rfl)
theorem dX4_readPath_84 : decode cX4_readPath 84 = .ok (.iload_n 2, 1) := dk_28 (dk_at dksX4_readPath_3 13 rfl rfl)
theorem dX4_readPath_85 : decode cX4_readPath 85 = .ok (.iload_n 3, 1) := dk_29 (dk_at dksX4_readPath_3 14 rfl rfl)
theorem dX4_readPath_86 : decode cX4_readPath 86 = .ok (.invokestatic 77, 3) := dk_184 0 77 (dk_at dksX4_readPath_3 15 rfl rfl)
theorem dX4_readPath_89 : decode cX4_readPath 89 = .ok (.ifCond .eq 19, 3) := dk_153 0 19 (dk_at dksX4_readPath_3 18 rfl rfl)
theorem dX4_readPath_92 : decode cX4_readPath 92 = .ok (.aload_n 0, 1) := dk_42 (dk_at dksX4_readPath_3 21 rfl rfl)
theorem dX4_readPath_93 : decode cX4_readPath 93 = .ok (.getfield 13, 3) := dk_180 0 13 (dk_at dksX4_readPath_4 0 rfl rfl)
theorem dX4_readPath_96 : decode cX4_readPath 96 = .ok (.iload_n 2, 1) := dk_28 (dk_at dksX4_readPath_4 3 rfl rfl)
theorem dX4_readPath_97 : decode cX4_readPath 97 = .ok (.iload_n 3, 1) := dk_29 (dk_at dksX4_readPath_4 4 rfl rfl)
theorem dX4_readPath_98 : decode cX4_readPath 98 = .ok (.invokestatic 206, 3) := dk_184 0 206 (dk_at dksX4_readPath_4 5 rfl rfl)
theorem dX4_readPath_101 : decode cX4_readPath 101 = .ok (.ifCond .ne 7, 3) := dk_154 0 7 (dk_at dksX4_readPath_4 8 rfl rfl)
theorem dX4_readPath_104 : decode cX4_readPath 104 = .ok (.iconst 1, 1) := dk_4 (dk_at dksX4_readPath_4 11 rfl rfl)
theorem dX4_readPath_105 : decode cX4_readPath 105 = .ok (.goto 4, 3) := dk_167 0 4 (dk_at dksX4_readPath_4 12 rfl rfl)
theorem dX4_readPath_108 : decode cX4_readPath 108 = .ok (.iconst 0, 1) := dk_3 (dk_at dksX4_readPath_4 15 rfl rfl)
theorem dX4_readPath_109 : decode cX4_readPath 109 = .ok (.invokevirtual 170, 3) := dk_182 0 170 (dk_at dksX4_readPath_4 16 rfl rfl)
theorem dX4_readPath_112 : decode cX4_readPath 112 = .ok (.pop, 1) := dk_87 (dk_at dksX4_readPath_4 19 rfl rfl)
theorem dX4_readPath_113 : decode cX4_readPath 113 = .ok (.aload_n 0, 1) := dk_42 (dk_at dksX4_readPath_4 20 rfl rfl)
theorem dX4_readPath_114 : decode cX4_readPath 114 = .ok (.aload_n 0, 1) := dk_42 (dk_at dksX4_readPath_4 21 rfl rfl)
theorem dX4_readPath_115 : decode cX4_readPath 115 = .ok (.getfield 146, 3) := dk_180 0 146 (dk_at dksX4_readPath_5 0 rfl rfl)
theorem dX4_readPath_118 : decode cX4_readPath 118 = .ok (.iconst 3, 1) := dk_6 (dk_at dksX4_readPath_5 3 rfl rfl)
theorem dX4_readPath_119 : decode cX4_readPath 119 = .ok (.if_icmp .ne 7, 3) := dk_160 0 7 (dk_at dksX4_readPath_5 4 rfl rfl)
theorem dX4_readPath_122 : decode cX4_readPath 122 = .ok (.iconst 1, 1) := dk_4 (dk_at dksX4_readPath_5 7 rfl rfl)
theorem dX4_readPath_123 : decode cX4_readPath 123 = .ok (.goto 4, 3) := dk_167 0 4 (dk_at dksX4_readPath_5 8 rfl rfl)
theorem dX4_readPath_126 : decode cX4_readPath 126 = .ok (.iconst 0, 1) := dk_3 (dk_at dksX4_readPath_5 11 rfl rfl)
theorem dX4_readPath_127 : decode cX4_readPath 127 = .ok (.invokevirtual 170, 3) := dk_182 0 170 (dk_at dksX4_readPath_5 12 rfl rfl)
theorem dX4_readPath_130 : decode cX4_readPath 130 = .ok (.ifCond .eq 15, 3) := dk_153 0 15 (dk_at dksX4_readPath_5 15 rfl rfl)
theorem dX4_readPath_133 : decode cX4_readPath 133 = .ok (.aload_n 0, 1) := dk_42 (dk_at dksX4_readPath_5 18 rfl rfl)
theorem dX4_readPath_134 : decode cX4_readPath 134 = .ok (.getfield 13, 3) := dk_180 0 13 (dk_at dksX4_readPath_5 19 rfl rfl)
theorem dX4_readPath_137 : decode cX4_readPath 137 = .ok (.iconst 1, 1) := dk_4 (dk_at dksX4_readPath_5 22 rfl rfl)
theorem dX4_readPath_138 : decode cX4_readPath 138 = .ok (.iload_n 2, 1) := dk_28 (dk_at dksX4_readPath_5 23 rfl rfl)
theorem dX4_readPath_139 : decode cX4_readPath 139 = .ok (.iload_n 3, 1) := dk_29 (dk_at dksX4_readPath_6 0 rfl rfl)
theorem dX4_readPath_140 : decode cX4_readPath 140 = .ok (.iload_n 1, 1) := dk_27 (dk_at dksX4_readPath_6 1 rfl rfl)
theorem dX4_readPath_141 : decode cX4_readPath 141 = .ok (.invokestatic 202, 3) := dk_184 0 202 (dk_at dksX4_readPath_6 2 rfl rfl)
theorem dX4_readPath_144 : decode cX4_readPath 144 = .ok (.pop, 1) := dk_87 (dk_at dksX4_readPath_6 5 rfl rfl)
theorem dX4_readPath_145 : decode cX4_readPath 145 = .ok (.return_, 1) := dk_177 (dk_at dksX4_readPath_6 6 rfl rfl)
abbrev cX4_hasPath : ByteArray := prog_20_method_44_code
def yX4_hasPath : MethodName := ⟨RX4, "hasPath", "([III)Z"⟩
def dkwX4_hasPath_2 : List UInt8 := [160, 0, 5, 4, 172, 132, 3, 1, 167, 255, 205, 3, 172]
abbrev dktX4_hasPath_2 : List UInt8 := dkwX4_hasPath_2 ++ []
def dkwX4_hasPath_1 : List UInt8 := [154, 0, 27, 42, 29, 4, 184, 0, 101, 46, 27, 160, 0, 16, 42, 29, 5, 184, 0, 101, 46, 28]
abbrev dktX4_hasPath_1 : List UInt8 := dkwX4_hasPath_1 ++ dktX4_hasPath_2
def dkwX4_hasPath_0 : List UInt8 := [3, 62, 29, 42, 16, 7, 46, 162, 0, 49, 42, 29, 184, 0, 108, 153, 0, 35, 42, 29, 184, 0, 117]
abbrev dktX4_hasPath_0 : List UInt8 := dkwX4_hasPath_0 ++ dktX4_hasPath_1
theorem dksX4_hasPath_0 : cX4_hasPath.data.toList.drop 0 = dktX4_hasPath_0 := by decide +kernel
theorem dksX4_hasPath_1 : cX4_hasPath.data.toList.drop 23 = dktX4_hasPath_1 := dk_seg dksX4_hasPath_0 23 rfl rfl
theorem dksX4_hasPath_2 : cX4_hasPath.data.toList.drop 45 = dktX4_hasPath_2 := dk_seg dksX4_hasPath_1 22 rfl rfl
theorem dX4_hasPath_0 : decode cX4_hasPath 0 = .ok (.iconst 0, 1) := dk_3 (dk_at dksX4_hasPath_0 0 rfl rfl)
theorem dX4_hasPath_1 : decode cX4_hasPath 1 = .ok (.istore_n 3, 1) := dk_62 (dk_at dksX4_hasPath_0 1 rfl rfl)
theorem dX4_hasPath_2 : decode cX4_hasPath 2 = .ok (.iload_n 3, 1) := dk_29 (dk_at dksX4_hasPath_0 2 rfl rfl)
theorem dX4_hasPath_3 : decode cX4_hasPath 3 = .ok (.aload_n 0, 1) := dk_42 (dk_at dksX4_hasPath_0 3 rfl rfl)
theorem dX4_hasPath_4 : decode cX4_hasPath 4 = .ok (.bipush 7, 2) := dk_16 7 (dk_at dksX4_hasPath_0 4 rfl rfl)
theorem dX4_hasPath_6 : decode cX4_hasPath 6 = .ok (.iaload, 1) := dk_46 (dk_at dksX4_hasPath_0 6 rfl rfl)
theorem dX4_hasPath_7 : decode cX4_hasPath 7 = .ok (.if_icmp .ge 49, 3) := dk_162 0 49 (dk_at dksX4_hasPath_0 7 rfl rfl)
theorem dX4_hasPath_10 : decode cX4_hasPath 10 = .ok (.aload_n 0, 1) := dk_42 (dk_at dksX4_hasPath_0 10 rfl rfl)
theorem dX4_hasPath_11 : decode cX4_hasPath 11 = .ok (.iload_n 3, 1) := dk_29 (dk_at dksX4_hasPath_0 11 rfl rfl)
theorem dX4_hasPath_12 : decode cX4_hasPath 12 = .ok (.invokestatic 108, 3) := dk_184 0 108 (dk_at dksX4_hasPath_0 12 rfl rfl)
theorem dX4_hasPath_15 : decode cX4_hasPath 15 = .ok (.ifCond .eq 35, 3) := dk_153 0 35 (dk_at dksX4_hasPath_0 15 rfl rfl)
theorem dX4_hasPath_18 : decode cX4_hasPath 18 = .ok (.aload_n 0, 1) := dk_42 (dk_at dksX4_hasPath_0 18 rfl rfl)
theorem dX4_hasPath_19 : decode cX4_hasPath 19 = .ok (.iload_n 3, 1) := dk_29 (dk_at dksX4_hasPath_0 19 rfl rfl)
theorem dX4_hasPath_20 : decode cX4_hasPath 20 = .ok (.invokestatic 117, 3) := dk_184 0 117 (dk_at dksX4_hasPath_0 20 rfl rfl)
theorem dX4_hasPath_23 : decode cX4_hasPath 23 = .ok (.ifCond .ne 27, 3) := dk_154 0 27 (dk_at dksX4_hasPath_1 0 rfl rfl)
theorem dX4_hasPath_26 : decode cX4_hasPath 26 = .ok (.aload_n 0, 1) := dk_42 (dk_at dksX4_hasPath_1 3 rfl rfl)
theorem dX4_hasPath_27 : decode cX4_hasPath 27 = .ok (.iload_n 3, 1) := dk_29 (dk_at dksX4_hasPath_1 4 rfl rfl)
theorem dX4_hasPath_28 : decode cX4_hasPath 28 = .ok (.iconst 1, 1) := dk_4 (dk_at dksX4_hasPath_1 5 rfl rfl)
theorem dX4_hasPath_29 : decode cX4_hasPath 29 = .ok (.invokestatic 101, 3) := dk_184 0 101 (dk_at dksX4_hasPath_1 6 rfl rfl)
theorem dX4_hasPath_32 : decode cX4_hasPath 32 = .ok (.iaload, 1) := dk_46 (dk_at dksX4_hasPath_1 9 rfl rfl)
theorem dX4_hasPath_33 : decode cX4_hasPath 33 = .ok (.iload_n 1, 1) := dk_27 (dk_at dksX4_hasPath_1 10 rfl rfl)
theorem dX4_hasPath_34 : decode cX4_hasPath 34 = .ok (.if_icmp .ne 16, 3) := dk_160 0 16 (dk_at dksX4_hasPath_1 11 rfl rfl)
theorem dX4_hasPath_37 : decode cX4_hasPath 37 = .ok (.aload_n 0, 1) := dk_42 (dk_at dksX4_hasPath_1 14 rfl rfl)
theorem dX4_hasPath_38 : decode cX4_hasPath 38 = .ok (.iload_n 3, 1) := dk_29 (dk_at dksX4_hasPath_1 15 rfl rfl)
theorem dX4_hasPath_39 : decode cX4_hasPath 39 = .ok (.iconst 2, 1) := dk_5 (dk_at dksX4_hasPath_1 16 rfl rfl)
theorem dX4_hasPath_40 : decode cX4_hasPath 40 = .ok (.invokestatic 101, 3) := dk_184 0 101 (dk_at dksX4_hasPath_1 17 rfl rfl)
theorem dX4_hasPath_43 : decode cX4_hasPath 43 = .ok (.iaload, 1) := dk_46 (dk_at dksX4_hasPath_1 20 rfl rfl)
theorem dX4_hasPath_44 : decode cX4_hasPath 44 = .ok (.iload_n 2, 1) := dk_28 (dk_at dksX4_hasPath_1 21 rfl rfl)
theorem dX4_hasPath_45 : decode cX4_hasPath 45 = .ok (.if_icmp .ne 5, 3) := dk_160 0 5 (dk_at dksX4_hasPath_2 0 rfl rfl)
theorem dX4_hasPath_48 : decode cX4_hasPath 48 = .ok (.iconst 1, 1) := dk_4 (dk_at dksX4_hasPath_2 3 rfl rfl)
theorem dX4_hasPath_49 : decode cX4_hasPath 49 = .ok (.ireturn, 1) := dk_172 (dk_at dksX4_hasPath_2 4 rfl rfl)
theorem dX4_hasPath_50 : decode cX4_hasPath 50 = .ok (.iinc 3 1, 3) := dk_132 3 1 (dk_at dksX4_hasPath_2 5 rfl rfl)
theorem dX4_hasPath_53 : decode cX4_hasPath 53 = .ok (.goto (-51), 3) := dk_167 255 205 (dk_at dksX4_hasPath_2 8 rfl rfl)
theorem dX4_hasPath_56 : decode cX4_hasPath 56 = .ok (.iconst 0, 1) := dk_3 (dk_at dksX4_hasPath_2 11 rfl rfl)
theorem dX4_hasPath_57 : decode cX4_hasPath 57 = .ok (.ireturn, 1) := dk_172 (dk_at dksX4_hasPath_2 12 rfl rfl)
abbrev cX4_isEnded : ByteArray := prog_20_method_36_code
def yX4_isEnded : MethodName := ⟨RX4, "isEnded", "([II)Z"⟩
def dkwX4_isEnded_0 : List UInt8 := [42, 27, 7, 184, 0, 101, 46, 4, 160, 0, 7, 4, 167, 0, 4, 3, 172]
abbrev dktX4_isEnded_0 : List UInt8 := dkwX4_isEnded_0 ++ []
theorem dksX4_isEnded_0 : cX4_isEnded.data.toList.drop 0 = dktX4_isEnded_0 := by decide +kernel
theorem dX4_isEnded_0 : decode cX4_isEnded 0 = .ok (.aload_n 0, 1) := dk_42 (dk_at dksX4_isEnded_0 0 rfl rfl)
theorem dX4_isEnded_1 : decode cX4_isEnded 1 = .ok (.iload_n 1, 1) := dk_27 (dk_at dksX4_isEnded_0 1 rfl rfl)
theorem dX4_isEnded_2 : decode cX4_isEnded 2 = .ok (.iconst 4, 1) := dk_7 (dk_at dksX4_isEnded_0 2 rfl rfl)
theorem dX4_isEnded_3 : decode cX4_isEnded 3 = .ok (.invokestatic 101, 3) := dk_184 0 101 (dk_at dksX4_isEnded_0 3 rfl rfl)
theorem dX4_isEnded_6 : decode cX4_isEnded 6 = .ok (.iaload, 1) := dk_46 (dk_at dksX4_isEnded_0 6 rfl rfl)
theorem dX4_isEnded_7 : decode cX4_isEnded 7 = .ok (.iconst 1, 1) := dk_4 (dk_at dksX4_isEnded_0 7 rfl rfl)
theorem dX4_isEnded_8 : decode cX4_isEnded 8 = .ok (.if_icmp .ne 7, 3) := dk_160 0 7 (dk_at dksX4_isEnded_0 8 rfl rfl)
theorem dX4_isEnded_11 : decode cX4_isEnded 11 = .ok (.iconst 1, 1) := dk_4 (dk_at dksX4_isEnded_0 11 rfl rfl)
theorem dX4_isEnded_12 : decode cX4_isEnded 12 = .ok (.goto 4, 3) := dk_167 0 4 (dk_at dksX4_isEnded_0 12 rfl rfl)
theorem dX4_isEnded_15 : decode cX4_isEnded 15 = .ok (.iconst 0, 1) := dk_3 (dk_at dksX4_isEnded_0 15 rfl rfl)
theorem dX4_isEnded_16 : decode cX4_isEnded 16 = .ok (.ireturn, 1) := dk_172 (dk_at dksX4_isEnded_0 16 rfl rfl)
abbrev cX4_layRow : ByteArray := prog_20_method_4_code
def yX4_layRow : MethodName := ⟨RX4, "layRow", "([II[II)V"⟩
def dkwX4_layRow_1 : List UInt8 := [132, 4, 1, 167, 255, 233, 177]
abbrev dktX4_layRow_1 : List UInt8 := dkwX4_layRow_1 ++ []
def dkwX4_layRow_0 : List UInt8 := [3, 54, 4, 21, 4, 17, 4, 151, 162, 0, 21, 44, 29, 21, 4, 96, 42, 27, 21, 4, 96, 46, 79]
abbrev dktX4_layRow_0 : List UInt8 := dkwX4_layRow_0 ++ dktX4_layRow_1
theorem dksX4_layRow_0 : cX4_layRow.data.toList.drop 0 = dktX4_layRow_0 := by decide +kernel
theorem dksX4_layRow_1 : cX4_layRow.data.toList.drop 23 = dktX4_layRow_1 := dk_seg dksX4_layRow_0 23 rfl rfl
theorem dX4_layRow_0 : decode cX4_layRow 0 = .ok (.iconst 0, 1) := dk_3 (dk_at dksX4_layRow_0 0 rfl rfl)
theorem dX4_layRow_1 : decode cX4_layRow 1 = .ok (.istore 4, 2) := dk_54 4 (dk_at dksX4_layRow_0 1 rfl rfl)
theorem dX4_layRow_3 : decode cX4_layRow 3 = .ok (.iload 4, 2) := dk_21 4 (dk_at dksX4_layRow_0 3 rfl rfl)
theorem dX4_layRow_5 : decode cX4_layRow 5 = .ok (.sipush 1175, 3) := dk_17 4 151 (dk_at dksX4_layRow_0 5 rfl rfl)
theorem dX4_layRow_8 : decode cX4_layRow 8 = .ok (.if_icmp .ge 21, 3) := dk_162 0 21 (dk_at dksX4_layRow_0 8 rfl rfl)
theorem dX4_layRow_11 : decode cX4_layRow 11 = .ok (.aload_n 2, 1) := dk_44 (dk_at dksX4_layRow_0 11 rfl rfl)
theorem dX4_layRow_12 : decode cX4_layRow 12 = .ok (.iload_n 3, 1) := dk_29 (dk_at dksX4_layRow_0 12 rfl rfl)
theorem dX4_layRow_13 : decode cX4_layRow 13 = .ok (.iload 4, 2) := dk_21 4 (dk_at dksX4_layRow_0 13 rfl rfl)
theorem dX4_layRow_15 : decode cX4_layRow 15 = .ok (.iadd, 1) := dk_96 (dk_at dksX4_layRow_0 15 rfl rfl)
theorem dX4_layRow_16 : decode cX4_layRow 16 = .ok (.aload_n 0, 1) := dk_42 (dk_at dksX4_layRow_0 16 rfl rfl)
theorem dX4_layRow_17 : decode cX4_layRow 17 = .ok (.iload_n 1, 1) := dk_27 (dk_at dksX4_layRow_0 17 rfl rfl)
theorem dX4_layRow_18 : decode cX4_layRow 18 = .ok (.iload 4, 2) := dk_21 4 (dk_at dksX4_layRow_0 18 rfl rfl)
theorem dX4_layRow_20 : decode cX4_layRow 20 = .ok (.iadd, 1) := dk_96 (dk_at dksX4_layRow_0 20 rfl rfl)
theorem dX4_layRow_21 : decode cX4_layRow 21 = .ok (.iaload, 1) := dk_46 (dk_at dksX4_layRow_0 21 rfl rfl)
theorem dX4_layRow_22 : decode cX4_layRow 22 = .ok (.iastore, 1) := dk_79 (dk_at dksX4_layRow_0 22 rfl rfl)
theorem dX4_layRow_23 : decode cX4_layRow 23 = .ok (.iinc 4 1, 3) := dk_132 4 1 (dk_at dksX4_layRow_1 0 rfl rfl)
theorem dX4_layRow_26 : decode cX4_layRow 26 = .ok (.goto (-23), 3) := dk_167 255 233 (dk_at dksX4_layRow_1 3 rfl rfl)
theorem dX4_layRow_29 : decode cX4_layRow 29 = .ok (.return_, 1) := dk_177 (dk_at dksX4_layRow_1 6 rfl rfl)
abbrev cX4_owner : ByteArray := prog_20_method_70_code
def yX4_owner : MethodName := ⟨RX4, "owner", "()I"⟩
def dkwX4_owner_3 : List UInt8 := [3, 181, 0, 134, 42, 180, 0, 7, 7, 46, 4, 100, 172]
abbrev dktX4_owner_3 : List UInt8 := dkwX4_owner_3 ++ []
def dkwX4_owner_2 : List UInt8 := [7, 92, 46, 4, 96, 79, 42, 3, 42, 180, 0, 7, 7, 46, 4, 100, 42, 180, 0, 134, 182, 0, 233, 42]
abbrev dktX4_owner_2 : List UInt8 := dkwX4_owner_2 ++ dktX4_owner_3
def dkwX4_owner_1 : List UInt8 := [172, 42, 182, 0, 230, 42, 180, 0, 7, 16, 8, 42, 180, 0, 7, 7, 46, 96, 27, 79, 42, 180, 0, 7]
abbrev dktX4_owner_1 : List UInt8 := dkwX4_owner_1 ++ dktX4_owner_2
def dkwX4_owner_0 : List UInt8 := [42, 182, 0, 227, 60, 27, 156, 0, 5, 2, 172, 42, 180, 0, 7, 7, 46, 16, 6, 160, 0, 6, 16, 253]
abbrev dktX4_owner_0 : List UInt8 := dkwX4_owner_0 ++ dktX4_owner_1
theorem dksX4_owner_0 : cX4_owner.data.toList.drop 0 = dktX4_owner_0 := by decide +kernel
theorem dksX4_owner_1 : cX4_owner.data.toList.drop 24 = dktX4_owner_1 := dk_seg dksX4_owner_0 24 rfl rfl
theorem dksX4_owner_2 : cX4_owner.data.toList.drop 48 = dktX4_owner_2 := dk_seg dksX4_owner_1 24 rfl rfl
theorem dksX4_owner_3 : cX4_owner.data.toList.drop 72 = dktX4_owner_3 := dk_seg dksX4_owner_2 24 rfl rfl
theorem dX4_owner_0 : decode cX4_owner 0 = .ok (.aload_n 0, 1) := dk_42 (dk_at dksX4_owner_0 0 rfl rfl)
theorem dX4_owner_1 : decode cX4_owner 1 = .ok (.invokevirtual 227, 3) := dk_182 0 227 (dk_at dksX4_owner_0 1 rfl rfl)
theorem dX4_owner_4 : decode cX4_owner 4 = .ok (.istore_n 1, 1) := dk_60 (dk_at dksX4_owner_0 4 rfl rfl)
theorem dX4_owner_5 : decode cX4_owner 5 = .ok (.iload_n 1, 1) := dk_27 (dk_at dksX4_owner_0 5 rfl rfl)
theorem dX4_owner_6 : decode cX4_owner 6 = .ok (.ifCond .ge 5, 3) := dk_156 0 5 (dk_at dksX4_owner_0 6 rfl rfl)
theorem dX4_owner_9 : decode cX4_owner 9 = .ok (.iconst (-1), 1) := dk_2 (dk_at dksX4_owner_0 9 rfl rfl)
theorem dX4_owner_10 : decode cX4_owner 10 = .ok (.ireturn, 1) := dk_172 (dk_at dksX4_owner_0 10 rfl rfl)
theorem dX4_owner_11 : decode cX4_owner 11 = .ok (.aload_n 0, 1) := dk_42 (dk_at dksX4_owner_0 11 rfl rfl)
theorem dX4_owner_12 : decode cX4_owner 12 = .ok (.getfield 7, 3) := dk_180 0 7 (dk_at dksX4_owner_0 12 rfl rfl)
theorem dX4_owner_15 : decode cX4_owner 15 = .ok (.iconst 4, 1) := dk_7 (dk_at dksX4_owner_0 15 rfl rfl)
theorem dX4_owner_16 : decode cX4_owner 16 = .ok (.iaload, 1) := dk_46 (dk_at dksX4_owner_0 16 rfl rfl)
theorem dX4_owner_17 : decode cX4_owner 17 = .ok (.bipush 6, 2) := dk_16 6 (dk_at dksX4_owner_0 17 rfl rfl)
theorem dX4_owner_19 : decode cX4_owner 19 = .ok (.if_icmp .ne 6, 3) := dk_160 0 6 (dk_at dksX4_owner_0 19 rfl rfl)
theorem dX4_owner_22 : decode cX4_owner 22 = .ok (.bipush (-3), 2) := dk_16 253 (dk_at dksX4_owner_0 22 rfl rfl)
theorem dX4_owner_24 : decode cX4_owner 24 = .ok (.ireturn, 1) := dk_172 (dk_at dksX4_owner_1 0 rfl rfl)
theorem dX4_owner_25 : decode cX4_owner 25 = .ok (.aload_n 0, 1) := dk_42 (dk_at dksX4_owner_1 1 rfl rfl)
theorem dX4_owner_26 : decode cX4_owner 26 = .ok (.invokevirtual 230, 3) := dk_182 0 230 (dk_at dksX4_owner_1 2 rfl rfl)
theorem dX4_owner_29 : decode cX4_owner 29 = .ok (.aload_n 0, 1) := dk_42 (dk_at dksX4_owner_1 5 rfl rfl)
theorem dX4_owner_30 : decode cX4_owner 30 = .ok (.getfield 7, 3) := dk_180 0 7 (dk_at dksX4_owner_1 6 rfl rfl)
theorem dX4_owner_33 : decode cX4_owner 33 = .ok (.bipush 8, 2) := dk_16 8 (dk_at dksX4_owner_1 9 rfl rfl)
theorem dX4_owner_35 : decode cX4_owner 35 = .ok (.aload_n 0, 1) := dk_42 (dk_at dksX4_owner_1 11 rfl rfl)
theorem dX4_owner_36 : decode cX4_owner 36 = .ok (.getfield 7, 3) := dk_180 0 7 (dk_at dksX4_owner_1 12 rfl rfl)
theorem dX4_owner_39 : decode cX4_owner 39 = .ok (.iconst 4, 1) := dk_7 (dk_at dksX4_owner_1 15 rfl rfl)
theorem dX4_owner_40 : decode cX4_owner 40 = .ok (.iaload, 1) := dk_46 (dk_at dksX4_owner_1 16 rfl rfl)
theorem dX4_owner_41 : decode cX4_owner 41 = .ok (.iadd, 1) := dk_96 (dk_at dksX4_owner_1 17 rfl rfl)
theorem dX4_owner_42 : decode cX4_owner 42 = .ok (.iload_n 1, 1) := dk_27 (dk_at dksX4_owner_1 18 rfl rfl)
theorem dX4_owner_43 : decode cX4_owner 43 = .ok (.iastore, 1) := dk_79 (dk_at dksX4_owner_1 19 rfl rfl)
theorem dX4_owner_44 : decode cX4_owner 44 = .ok (.aload_n 0, 1) := dk_42 (dk_at dksX4_owner_1 20 rfl rfl)
theorem dX4_owner_45 : decode cX4_owner 45 = .ok (.getfield 7, 3) := dk_180 0 7 (dk_at dksX4_owner_1 21 rfl rfl)
theorem dX4_owner_48 : decode cX4_owner 48 = .ok (.iconst 4, 1) := dk_7 (dk_at dksX4_owner_2 0 rfl rfl)
theorem dX4_owner_49 : decode cX4_owner 49 = .ok (.dup2, 1) := dk_92 (dk_at dksX4_owner_2 1 rfl rfl)
theorem dX4_owner_50 : decode cX4_owner 50 = .ok (.iaload, 1) := dk_46 (dk_at dksX4_owner_2 2 rfl rfl)
theorem dX4_owner_51 : decode cX4_owner 51 = .ok (.iconst 1, 1) := dk_4 (dk_at dksX4_owner_2 3 rfl rfl)
theorem dX4_owner_52 : decode cX4_owner 52 = .ok (.iadd, 1) := dk_96 (dk_at dksX4_owner_2 4 rfl rfl)
theorem dX4_owner_53 : decode cX4_owner 53 = .ok (.iastore, 1) := dk_79 (dk_at dksX4_owner_2 5 rfl rfl)
theorem dX4_owner_54 : decode cX4_owner 54 = .ok (.aload_n 0, 1) := dk_42 (dk_at dksX4_owner_2 6 rfl rfl)
theorem dX4_owner_55 : decode cX4_owner 55 = .ok (.iconst 0, 1) := dk_3 (dk_at dksX4_owner_2 7 rfl rfl)
theorem dX4_owner_56 : decode cX4_owner 56 = .ok (.aload_n 0, 1) := dk_42 (dk_at dksX4_owner_2 8 rfl rfl)
theorem dX4_owner_57 : decode cX4_owner 57 = .ok (.getfield 7, 3) := dk_180 0 7 (dk_at dksX4_owner_2 9 rfl rfl)
theorem dX4_owner_60 : decode cX4_owner 60 = .ok (.iconst 4, 1) := dk_7 (dk_at dksX4_owner_2 12 rfl rfl)
theorem dX4_owner_61 : decode cX4_owner 61 = .ok (.iaload, 1) := dk_46 (dk_at dksX4_owner_2 13 rfl rfl)
theorem dX4_owner_62 : decode cX4_owner 62 = .ok (.iconst 1, 1) := dk_4 (dk_at dksX4_owner_2 14 rfl rfl)
theorem dX4_owner_63 : decode cX4_owner 63 = .ok (.isub, 1) := dk_100 (dk_at dksX4_owner_2 15 rfl rfl)
theorem dX4_owner_64 : decode cX4_owner 64 = .ok (.aload_n 0, 1) := dk_42 (dk_at dksX4_owner_2 16 rfl rfl)
theorem dX4_owner_65 : decode cX4_owner 65 = .ok (.getfield 134, 3) := dk_180 0 134 (dk_at dksX4_owner_2 17 rfl rfl)
theorem dX4_owner_68 : decode cX4_owner 68 = .ok (.invokevirtual 233, 3) := dk_182 0 233 (dk_at dksX4_owner_2 20 rfl rfl)
theorem dX4_owner_71 : decode cX4_owner 71 = .ok (.aload_n 0, 1) := dk_42 (dk_at dksX4_owner_2 23 rfl rfl)
theorem dX4_owner_72 : decode cX4_owner 72 = .ok (.iconst 0, 1) := dk_3 (dk_at dksX4_owner_3 0 rfl rfl)
theorem dX4_owner_73 : decode cX4_owner 73 = .ok (.putfield 134, 3) := dk_181 0 134 (dk_at dksX4_owner_3 1 rfl rfl)
theorem dX4_owner_76 : decode cX4_owner 76 = .ok (.aload_n 0, 1) := dk_42 (dk_at dksX4_owner_3 4 rfl rfl)
theorem dX4_owner_77 : decode cX4_owner 77 = .ok (.getfield 7, 3) := dk_180 0 7 (dk_at dksX4_owner_3 5 rfl rfl)
theorem dX4_owner_80 : decode cX4_owner 80 = .ok (.iconst 4, 1) := dk_7 (dk_at dksX4_owner_3 8 rfl rfl)
theorem dX4_owner_81 : decode cX4_owner 81 = .ok (.iaload, 1) := dk_46 (dk_at dksX4_owner_3 9 rfl rfl)
theorem dX4_owner_82 : decode cX4_owner 82 = .ok (.iconst 1, 1) := dk_4 (dk_at dksX4_owner_3 10 rfl rfl)
theorem dX4_owner_83 : decode cX4_owner 83 = .ok (.isub, 1) := dk_100 (dk_at dksX4_owner_3 11 rfl rfl)
theorem dX4_owner_84 : decode cX4_owner 84 = .ok (.ireturn, 1) := dk_172 (dk_at dksX4_owner_3 12 rfl rfl)
abbrev cX4_newName : ByteArray := prog_20_method_69_code
def yX4_newName : MethodName := ⟨RX4, "newName", "()I"⟩
def dkwX4_newName_3 : List UInt8 := [184, 0, 177, 156, 0, 7, 27, 167, 0, 4, 2, 172]
abbrev dktX4_newName_3 : List UInt8 := dkwX4_newName_3 ++ []
def dkwX4_newName_2 : List UInt8 := [132, 3, 1, 167, 255, 220, 28, 153, 0, 25, 27, 184, 0, 174, 154, 0, 18, 42, 180, 0, 7, 27]
abbrev dktX4_newName_2 : List UInt8 := dkwX4_newName_2 ++ dktX4_newName_3
def dkwX4_newName_1 : List UInt8 := [153, 0, 30, 42, 29, 182, 0, 149, 61, 16, 27, 27, 104, 42, 180, 0, 29, 29, 46, 96, 16, 96, 100, 60]
abbrev dktX4_newName_1 : List UInt8 := dkwX4_newName_1 ++ dktX4_newName_2
def dkwX4_newName_0 : List UInt8 := [3, 60, 42, 180, 0, 134, 4, 8, 184, 0, 54, 61, 3, 62, 29, 42, 180, 0, 134, 162, 0, 34, 28]
abbrev dktX4_newName_0 : List UInt8 := dkwX4_newName_0 ++ dktX4_newName_1
theorem dksX4_newName_0 : cX4_newName.data.toList.drop 0 = dktX4_newName_0 := by decide +kernel
theorem dksX4_newName_1 : cX4_newName.data.toList.drop 23 = dktX4_newName_1 := dk_seg dksX4_newName_0 23 rfl rfl
theorem dksX4_newName_2 : cX4_newName.data.toList.drop 47 = dktX4_newName_2 := dk_seg dksX4_newName_1 24 rfl rfl
theorem dksX4_newName_3 : cX4_newName.data.toList.drop 69 = dktX4_newName_3 := dk_seg dksX4_newName_2 22 rfl rfl
theorem dX4_newName_0 : decode cX4_newName 0 = .ok (.iconst 0, 1) := dk_3 (dk_at dksX4_newName_0 0 rfl rfl)
theorem dX4_newName_1 : decode cX4_newName 1 = .ok (.istore_n 1, 1) := dk_60 (dk_at dksX4_newName_0 1 rfl rfl)
theorem dX4_newName_2 : decode cX4_newName 2 = .ok (.aload_n 0, 1) := dk_42 (dk_at dksX4_newName_0 2 rfl rfl)
theorem dX4_newName_3 : decode cX4_newName 3 = .ok (.getfield 134, 3) := dk_180 0 134 (dk_at dksX4_newName_0 3 rfl rfl)
theorem dX4_newName_6 : decode cX4_newName 6 = .ok (.iconst 1, 1) := dk_4 (dk_at dksX4_newName_0 6 rfl rfl)
theorem dX4_newName_7 : decode cX4_newName 7 = .ok (.iconst 5, 1) := dk_8 (dk_at dksX4_newName_0 7 rfl rfl)
theorem dX4_newName_8 : decode cX4_newName 8 = .ok (.invokestatic 54, 3) := dk_184 0 54 (dk_at dksX4_newName_0 8 rfl rfl)
theorem dX4_newName_11 : decode cX4_newName 11 = .ok (.istore_n 2, 1) := dk_61 (dk_at dksX4_newName_0 11 rfl rfl)
theorem dX4_newName_12 : decode cX4_newName 12 = .ok (.iconst 0, 1) := dk_3 (dk_at dksX4_newName_0 12 rfl rfl)
theorem dX4_newName_13 : decode cX4_newName 13 = .ok (.istore_n 3, 1) := dk_62 (dk_at dksX4_newName_0 13 rfl rfl)
theorem dX4_newName_14 : decode cX4_newName 14 = .ok (.iload_n 3, 1) := dk_29 (dk_at dksX4_newName_0 14 rfl rfl)
theorem dX4_newName_15 : decode cX4_newName 15 = .ok (.aload_n 0, 1) := dk_42 (dk_at dksX4_newName_0 15 rfl rfl)
theorem dX4_newName_16 : decode cX4_newName 16 = .ok (.getfield 134, 3) := dk_180 0 134 (dk_at dksX4_newName_0 16 rfl rfl)
theorem dX4_newName_19 : decode cX4_newName 19 = .ok (.if_icmp .ge 34, 3) := dk_162 0 34 (dk_at dksX4_newName_0 19 rfl rfl)
theorem dX4_newName_22 : decode cX4_newName 22 = .ok (.iload_n 2, 1) := dk_28 (dk_at dksX4_newName_0 22 rfl rfl)
theorem dX4_newName_23 : decode cX4_newName 23 = .ok (.ifCond .eq 30, 3) := dk_153 0 30 (dk_at dksX4_newName_1 0 rfl rfl)
theorem dX4_newName_26 : decode cX4_newName 26 = .ok (.aload_n 0, 1) := dk_42 (dk_at dksX4_newName_1 3 rfl rfl)
theorem dX4_newName_27 : decode cX4_newName 27 = .ok (.iload_n 3, 1) := dk_29 (dk_at dksX4_newName_1 4 rfl rfl)
theorem dX4_newName_28 : decode cX4_newName 28 = .ok (.invokevirtual 149, 3) := dk_182 0 149 (dk_at dksX4_newName_1 5 rfl rfl)
theorem dX4_newName_31 : decode cX4_newName 31 = .ok (.istore_n 2, 1) := dk_61 (dk_at dksX4_newName_1 8 rfl rfl)
theorem dX4_newName_32 : decode cX4_newName 32 = .ok (.bipush 27, 2) := dk_16 27 (dk_at dksX4_newName_1 9 rfl rfl)
theorem dX4_newName_34 : decode cX4_newName 34 = .ok (.iload_n 1, 1) := dk_27 (dk_at dksX4_newName_1 11 rfl rfl)
theorem dX4_newName_35 : decode cX4_newName 35 = .ok (.imul, 1) := dk_104 (dk_at dksX4_newName_1 12 rfl rfl)
theorem dX4_newName_36 : decode cX4_newName 36 = .ok (.aload_n 0, 1) := dk_42 (dk_at dksX4_newName_1 13 rfl rfl)
theorem dX4_newName_37 : decode cX4_newName 37 = .ok (.getfield 29, 3) := dk_180 0 29 (dk_at dksX4_newName_1 14 rfl rfl)
theorem dX4_newName_40 : decode cX4_newName 40 = .ok (.iload_n 3, 1) := dk_29 (dk_at dksX4_newName_1 17 rfl rfl)
theorem dX4_newName_41 : decode cX4_newName 41 = .ok (.iaload, 1) := dk_46 (dk_at dksX4_newName_1 18 rfl rfl)
theorem dX4_newName_42 : decode cX4_newName 42 = .ok (.iadd, 1) := dk_96 (dk_at dksX4_newName_1 19 rfl rfl)
theorem dX4_newName_43 : decode cX4_newName 43 = .ok (.bipush 96, 2) := dk_16 96 (dk_at dksX4_newName_1 20 rfl rfl)
theorem dX4_newName_45 : decode cX4_newName 45 = .ok (.isub, 1) := dk_100 (dk_at dksX4_newName_1 22 rfl rfl)
theorem dX4_newName_46 : decode cX4_newName 46 = .ok (.istore_n 1, 1) := dk_60 (dk_at dksX4_newName_1 23 rfl rfl)
theorem dX4_newName_47 : decode cX4_newName 47 = .ok (.iinc 3 1, 3) := dk_132 3 1 (dk_at dksX4_newName_2 0 rfl rfl)
theorem dX4_newName_50 : decode cX4_newName 50 = .ok (.goto (-36), 3) := dk_167 255 220 (dk_at dksX4_newName_2 3 rfl rfl)
theorem dX4_newName_53 : decode cX4_newName 53 = .ok (.iload_n 2, 1) := dk_28 (dk_at dksX4_newName_2 6 rfl rfl)
theorem dX4_newName_54 : decode cX4_newName 54 = .ok (.ifCond .eq 25, 3) := dk_153 0 25 (dk_at dksX4_newName_2 7 rfl rfl)
theorem dX4_newName_57 : decode cX4_newName 57 = .ok (.iload_n 1, 1) := dk_27 (dk_at dksX4_newName_2 10 rfl rfl)
theorem dX4_newName_58 : decode cX4_newName 58 = .ok (.invokestatic 174, 3) := dk_184 0 174 (dk_at dksX4_newName_2 11 rfl rfl)
theorem dX4_newName_61 : decode cX4_newName 61 = .ok (.ifCond .ne 18, 3) := dk_154 0 18 (dk_at dksX4_newName_2 14 rfl rfl)
theorem dX4_newName_64 : decode cX4_newName 64 = .ok (.aload_n 0, 1) := dk_42 (dk_at dksX4_newName_2 17 rfl rfl)
theorem dX4_newName_65 : decode cX4_newName 65 = .ok (.getfield 7, 3) := dk_180 0 7 (dk_at dksX4_newName_2 18 rfl rfl)
theorem dX4_newName_68 : decode cX4_newName 68 = .ok (.iload_n 1, 1) := dk_27 (dk_at dksX4_newName_2 21 rfl rfl)
theorem dX4_newName_69 : decode cX4_newName 69 = .ok (.invokestatic 177, 3) := dk_184 0 177 (dk_at dksX4_newName_3 0 rfl rfl)
theorem dX4_newName_72 : decode cX4_newName 72 = .ok (.ifCond .ge 7, 3) := dk_156 0 7 (dk_at dksX4_newName_3 3 rfl rfl)
theorem dX4_newName_75 : decode cX4_newName 75 = .ok (.iload_n 1, 1) := dk_27 (dk_at dksX4_newName_3 6 rfl rfl)
theorem dX4_newName_76 : decode cX4_newName 76 = .ok (.goto 4, 3) := dk_167 0 4 (dk_at dksX4_newName_3 7 rfl rfl)
theorem dX4_newName_79 : decode cX4_newName 79 = .ok (.iconst (-1), 1) := dk_2 (dk_at dksX4_newName_3 10 rfl rfl)
theorem dX4_newName_80 : decode cX4_newName 80 = .ok (.ireturn, 1) := dk_172 (dk_at dksX4_newName_3 11 rfl rfl)
abbrev cX4_keepForUndo : ByteArray := prog_20_method_68_code
def yX4_keepForUndo : MethodName := ⟨RX4, "keepForUndo", "()V"⟩
def dkwX4_keepForUndo_3 : List UInt8 := [104, 184, 0, 50, 42, 89, 180, 0, 224, 4, 96, 181, 0, 224, 177]
abbrev dktX4_keepForUndo_3 : List UInt8 := dkwX4_keepForUndo_3 ++ []
def dkwX4_keepForUndo_2 : List UInt8 := [180, 0, 224, 4, 100, 181, 0, 224, 42, 180, 0, 7, 3, 42, 180, 0, 19, 17, 4, 151, 42, 180, 0, 224]
abbrev dktX4_keepForUndo_2 : List UInt8 := dkwX4_keepForUndo_2 ++ dktX4_keepForUndo_3
def dkwX4_keepForUndo_1 : List UInt8 := [27, 104, 42, 180, 0, 19, 17, 4, 151, 27, 4, 100, 104, 184, 0, 50, 132, 1, 1, 167, 255, 224, 42, 89]
abbrev dktX4_keepForUndo_1 : List UInt8 := dkwX4_keepForUndo_1 ++ dktX4_keepForUndo_2
def dkwX4_keepForUndo_0 : List UInt8 := [42, 180, 0, 224, 16, 8, 160, 0, 50, 4, 60, 27, 16, 8, 162, 0, 32, 42, 180, 0, 19, 17, 4, 151]
abbrev dktX4_keepForUndo_0 : List UInt8 := dkwX4_keepForUndo_0 ++ dktX4_keepForUndo_1
theorem dksX4_keepForUndo_0 : cX4_keepForUndo.data.toList.drop 0 = dktX4_keepForUndo_0 := by decide +kernel
theorem dksX4_keepForUndo_1 : cX4_keepForUndo.data.toList.drop 24 = dktX4_keepForUndo_1 := dk_seg dksX4_keepForUndo_0 24 rfl rfl
theorem dksX4_keepForUndo_2 : cX4_keepForUndo.data.toList.drop 48 = dktX4_keepForUndo_2 := dk_seg dksX4_keepForUndo_1 24 rfl rfl
theorem dksX4_keepForUndo_3 : cX4_keepForUndo.data.toList.drop 72 = dktX4_keepForUndo_3 := dk_seg dksX4_keepForUndo_2 24 rfl rfl
theorem dX4_keepForUndo_0 : decode cX4_keepForUndo 0 = .ok (.aload_n 0, 1) := dk_42 (dk_at dksX4_keepForUndo_0 0 rfl rfl)
theorem dX4_keepForUndo_1 : decode cX4_keepForUndo 1 = .ok (.getfield 224, 3) := dk_180 0 224 (dk_at dksX4_keepForUndo_0 1 rfl rfl)
theorem dX4_keepForUndo_4 : decode cX4_keepForUndo 4 = .ok (.bipush 8, 2) := dk_16 8 (dk_at dksX4_keepForUndo_0 4 rfl rfl)
theorem dX4_keepForUndo_6 : decode cX4_keepForUndo 6 = .ok (.if_icmp .ne 50, 3) := dk_160 0 50 (dk_at dksX4_keepForUndo_0 6 rfl rfl)
theorem dX4_keepForUndo_9 : decode cX4_keepForUndo 9 = .ok (.iconst 1, 1) := dk_4 (dk_at dksX4_keepForUndo_0 9 rfl rfl)
theorem dX4_keepForUndo_10 : decode cX4_keepForUndo 10 = .ok (.istore_n 1, 1) := dk_60 (dk_at dksX4_keepForUndo_0 10 rfl rfl)
theorem dX4_keepForUndo_11 : decode cX4_keepForUndo 11 = .ok (.iload_n 1, 1) := dk_27 (dk_at dksX4_keepForUndo_0 11 rfl rfl)
theorem dX4_keepForUndo_12 : decode cX4_keepForUndo 12 = .ok (.bipush 8, 2) := dk_16 8 (dk_at dksX4_keepForUndo_0 12 rfl rfl)
theorem dX4_keepForUndo_14 : decode cX4_keepForUndo 14 = .ok (.if_icmp .ge 32, 3) := dk_162 0 32 (dk_at dksX4_keepForUndo_0 14 rfl rfl)
theorem dX4_keepForUndo_17 : decode cX4_keepForUndo 17 = .ok (.aload_n 0, 1) := dk_42 (dk_at dksX4_keepForUndo_0 17 rfl rfl)
theorem dX4_keepForUndo_18 : decode cX4_keepForUndo 18 = .ok (.getfield 19, 3) := dk_180 0 19 (dk_at dksX4_keepForUndo_0 18 rfl rfl)
theorem dX4_keepForUndo_21 : decode cX4_keepForUndo 21 = .ok (.sipush 1175, 3) := dk_17 4 151 (dk_at dksX4_keepForUndo_0 21 rfl rfl)
theorem dX4_keepForUndo_24 : decode cX4_keepForUndo 24 = .ok (.iload_n 1, 1) := dk_27 (dk_at dksX4_keepForUndo_1 0 rfl rfl)
theorem dX4_keepForUndo_25 : decode cX4_keepForUndo 25 = .ok (.imul, 1) := dk_104 (dk_at dksX4_keepForUndo_1 1 rfl rfl)
theorem dX4_keepForUndo_26 : decode cX4_keepForUndo 26 = .ok (.aload_n 0, 1) := dk_42 (dk_at dksX4_keepForUndo_1 2 rfl rfl)
theorem dX4_keepForUndo_27 : decode cX4_keepForUndo 27 = .ok (.getfield 19, 3) := dk_180 0 19 (dk_at dksX4_keepForUndo_1 3 rfl rfl)
theorem dX4_keepForUndo_30 : decode cX4_keepForUndo 30 = .ok (.sipush 1175, 3) := dk_17 4 151 (dk_at dksX4_keepForUndo_1 6 rfl rfl)
theorem dX4_keepForUndo_33 : decode cX4_keepForUndo 33 = .ok (.iload_n 1, 1) := dk_27 (dk_at dksX4_keepForUndo_1 9 rfl rfl)
theorem dX4_keepForUndo_34 : decode cX4_keepForUndo 34 = .ok (.iconst 1, 1) := dk_4 (dk_at dksX4_keepForUndo_1 10 rfl rfl)
theorem dX4_keepForUndo_35 : decode cX4_keepForUndo 35 = .ok (.isub, 1) := dk_100 (dk_at dksX4_keepForUndo_1 11 rfl rfl)
theorem dX4_keepForUndo_36 : decode cX4_keepForUndo 36 = .ok (.imul, 1) := dk_104 (dk_at dksX4_keepForUndo_1 12 rfl rfl)
theorem dX4_keepForUndo_37 : decode cX4_keepForUndo 37 = .ok (.invokestatic 50, 3) := dk_184 0 50 (dk_at dksX4_keepForUndo_1 13 rfl rfl)
theorem dX4_keepForUndo_40 : decode cX4_keepForUndo 40 = .ok (.iinc 1 1, 3) := dk_132 1 1 (dk_at dksX4_keepForUndo_1 16 rfl rfl)
theorem dX4_keepForUndo_43 : decode cX4_keepForUndo 43 = .ok (.goto (-32), 3) := dk_167 255 224 (dk_at dksX4_keepForUndo_1 19 rfl rfl)
theorem dX4_keepForUndo_46 : decode cX4_keepForUndo 46 = .ok (.aload_n 0, 1) := dk_42 (dk_at dksX4_keepForUndo_1 22 rfl rfl)
theorem dX4_keepForUndo_47 : decode cX4_keepForUndo 47 = .ok (.dup, 1) := dk_89 (dk_at dksX4_keepForUndo_1 23 rfl rfl)
theorem dX4_keepForUndo_48 : decode cX4_keepForUndo 48 = .ok (.getfield 224, 3) := dk_180 0 224 (dk_at dksX4_keepForUndo_2 0 rfl rfl)
theorem dX4_keepForUndo_51 : decode cX4_keepForUndo 51 = .ok (.iconst 1, 1) := dk_4 (dk_at dksX4_keepForUndo_2 3 rfl rfl)
theorem dX4_keepForUndo_52 : decode cX4_keepForUndo 52 = .ok (.isub, 1) := dk_100 (dk_at dksX4_keepForUndo_2 4 rfl rfl)
theorem dX4_keepForUndo_53 : decode cX4_keepForUndo 53 = .ok (.putfield 224, 3) := dk_181 0 224 (dk_at dksX4_keepForUndo_2 5 rfl rfl)
theorem dX4_keepForUndo_56 : decode cX4_keepForUndo 56 = .ok (.aload_n 0, 1) := dk_42 (dk_at dksX4_keepForUndo_2 8 rfl rfl)
theorem dX4_keepForUndo_57 : decode cX4_keepForUndo 57 = .ok (.getfield 7, 3) := dk_180 0 7 (dk_at dksX4_keepForUndo_2 9 rfl rfl)
theorem dX4_keepForUndo_60 : decode cX4_keepForUndo 60 = .ok (.iconst 0, 1) := dk_3 (dk_at dksX4_keepForUndo_2 12 rfl rfl)
theorem dX4_keepForUndo_61 : decode cX4_keepForUndo 61 = .ok (.aload_n 0, 1) := dk_42 (dk_at dksX4_keepForUndo_2 13 rfl rfl)
theorem dX4_keepForUndo_62 : decode cX4_keepForUndo 62 = .ok (.getfield 19, 3) := dk_180 0 19 (dk_at dksX4_keepForUndo_2 14 rfl rfl)
theorem dX4_keepForUndo_65 : decode cX4_keepForUndo 65 = .ok (.sipush 1175, 3) := dk_17 4 151 (dk_at dksX4_keepForUndo_2 17 rfl rfl)
theorem dX4_keepForUndo_68 : decode cX4_keepForUndo 68 = .ok (.aload_n 0, 1) := dk_42 (dk_at dksX4_keepForUndo_2 20 rfl rfl)
theorem dX4_keepForUndo_69 : decode cX4_keepForUndo 69 = .ok (.getfield 224, 3) := dk_180 0 224 (dk_at dksX4_keepForUndo_2 21 rfl rfl)
theorem dX4_keepForUndo_72 : decode cX4_keepForUndo 72 = .ok (.imul, 1) := dk_104 (dk_at dksX4_keepForUndo_3 0 rfl rfl)
theorem dX4_keepForUndo_73 : decode cX4_keepForUndo 73 = .ok (.invokestatic 50, 3) := dk_184 0 50 (dk_at dksX4_keepForUndo_3 1 rfl rfl)
theorem dX4_keepForUndo_76 : decode cX4_keepForUndo 76 = .ok (.aload_n 0, 1) := dk_42 (dk_at dksX4_keepForUndo_3 4 rfl rfl)
theorem dX4_keepForUndo_77 : decode cX4_keepForUndo 77 = .ok (.dup, 1) := dk_89 (dk_at dksX4_keepForUndo_3 5 rfl rfl)
theorem dX4_keepForUndo_78 : decode cX4_keepForUndo 78 = .ok (.getfield 224, 3) := dk_180 0 224 (dk_at dksX4_keepForUndo_3 6 rfl rfl)
theorem dX4_keepForUndo_81 : decode cX4_keepForUndo 81 = .ok (.iconst 1, 1) := dk_4 (dk_at dksX4_keepForUndo_3 9 rfl rfl)
theorem dX4_keepForUndo_82 : decode cX4_keepForUndo 82 = .ok (.iadd, 1) := dk_96 (dk_at dksX4_keepForUndo_3 10 rfl rfl)
theorem dX4_keepForUndo_83 : decode cX4_keepForUndo 83 = .ok (.putfield 224, 3) := dk_181 0 224 (dk_at dksX4_keepForUndo_3 11 rfl rfl)
theorem dX4_keepForUndo_86 : decode cX4_keepForUndo 86 = .ok (.return_, 1) := dk_177 (dk_at dksX4_keepForUndo_3 14 rfl rfl)
abbrev cX4_tells : ByteArray := prog_20_method_67_code
def yX4_tells : MethodName := ⟨RX4, "tells", "(III)V"⟩
def dkwX4_tells_5 : List UInt8 := [46, 4, 96, 79, 177]
abbrev dktX4_tells_5 : List UInt8 := dkwX4_tells_5 ++ []
def dkwX4_tells_4 : List UInt8 := [21, 4, 4, 96, 28, 79, 42, 180, 0, 7, 21, 4, 5, 96, 29, 79, 42, 180, 0, 7, 17, 4, 30, 92]
abbrev dktX4_tells_4 : List UInt8 := dkwX4_tells_4 ++ dktX4_tells_5
def dkwX4_tells_3 : List UInt8 := [180, 0, 7, 17, 4, 30, 46, 104, 96, 54, 4, 42, 180, 0, 7, 21, 4, 27, 79, 42, 180, 0, 7]
abbrev dktX4_tells_3 : List UInt8 := dkwX4_tells_3 ++ dktX4_tells_4
def dkwX4_tells_2 : List UInt8 := [132, 4, 1, 167, 255, 222, 42, 180, 0, 7, 17, 4, 30, 92, 46, 4, 100, 79, 17, 4, 31, 6, 42]
abbrev dktX4_tells_2 : List UInt8 := dkwX4_tells_2 ++ dktX4_tells_3
def dkwX4_tells_1 : List UInt8 := [180, 0, 7, 17, 4, 31, 21, 4, 96, 42, 180, 0, 7, 17, 4, 31, 21, 4, 96, 6, 96, 46, 79]
abbrev dktX4_tells_1 : List UInt8 := dkwX4_tells_1 ++ dktX4_tells_2
def dkwX4_tells_0 : List UInt8 := [42, 180, 0, 7, 17, 4, 30, 46, 16, 40, 160, 0, 55, 3, 54, 4, 21, 4, 16, 117, 162, 0, 33, 42]
abbrev dktX4_tells_0 : List UInt8 := dkwX4_tells_0 ++ dktX4_tells_1
theorem dksX4_tells_0 : cX4_tells.data.toList.drop 0 = dktX4_tells_0 := by decide +kernel
theorem dksX4_tells_1 : cX4_tells.data.toList.drop 24 = dktX4_tells_1 := dk_seg dksX4_tells_0 24 rfl rfl
theorem dksX4_tells_2 : cX4_tells.data.toList.drop 47 = dktX4_tells_2 := dk_seg dksX4_tells_1 23 rfl rfl
theorem dksX4_tells_3 : cX4_tells.data.toList.drop 70 = dktX4_tells_3 := dk_seg dksX4_tells_2 23 rfl rfl
theorem dksX4_tells_4 : cX4_tells.data.toList.drop 93 = dktX4_tells_4 := dk_seg dksX4_tells_3 23 rfl rfl
theorem dksX4_tells_5 : cX4_tells.data.toList.drop 117 = dktX4_tells_5 := dk_seg dksX4_tells_4 24 rfl rfl
theorem dX4_tells_0 : decode cX4_tells 0 = .ok (.aload_n 0, 1) := dk_42 (dk_at dksX4_tells_0 0 rfl rfl)
theorem dX4_tells_1 : decode cX4_tells 1 = .ok (.getfield 7, 3) := dk_180 0 7 (dk_at dksX4_tells_0 1 rfl rfl)
theorem dX4_tells_4 : decode cX4_tells 4 = .ok (.sipush 1054, 3) := dk_17 4 30 (dk_at dksX4_tells_0 4 rfl rfl)
theorem dX4_tells_7 : decode cX4_tells 7 = .ok (.iaload, 1) := dk_46 (dk_at dksX4_tells_0 7 rfl rfl)
theorem dX4_tells_8 : decode cX4_tells 8 = .ok (.bipush 40, 2) := dk_16 40 (dk_at dksX4_tells_0 8 rfl rfl)
theorem dX4_tells_10 : decode cX4_tells 10 = .ok (.if_icmp .ne 55, 3) := dk_160 0 55 (dk_at dksX4_tells_0 10 rfl rfl)
theorem dX4_tells_13 : decode cX4_tells 13 = .ok (.iconst 0, 1) := dk_3 (dk_at dksX4_tells_0 13 rfl rfl)
theorem dX4_tells_14 : decode cX4_tells 14 = .ok (.istore 4, 2) := dk_54 4 (dk_at dksX4_tells_0 14 rfl rfl)
theorem dX4_tells_16 : decode cX4_tells 16 = .ok (.iload 4, 2) := dk_21 4 (dk_at dksX4_tells_0 16 rfl rfl)
theorem dX4_tells_18 : decode cX4_tells 18 = .ok (.bipush 117, 2) := dk_16 117 (dk_at dksX4_tells_0 18 rfl rfl)
theorem dX4_tells_20 : decode cX4_tells 20 = .ok (.if_icmp .ge 33, 3) := dk_162 0 33 (dk_at dksX4_tells_0 20 rfl rfl)
theorem dX4_tells_23 : decode cX4_tells 23 = .ok (.aload_n 0, 1) := dk_42 (dk_at dksX4_tells_0 23 rfl rfl)
theorem dX4_tells_24 : decode cX4_tells 24 = .ok (.getfield 7, 3) := dk_180 0 7 (dk_at dksX4_tells_1 0 rfl rfl)
theorem dX4_tells_27 : decode cX4_tells 27 = .ok (.sipush 1055, 3) := dk_17 4 31 (dk_at dksX4_tells_1 3 rfl rfl)
theorem dX4_tells_30 : decode cX4_tells 30 = .ok (.iload 4, 2) := dk_21 4 (dk_at dksX4_tells_1 6 rfl rfl)
theorem dX4_tells_32 : decode cX4_tells 32 = .ok (.iadd, 1) := dk_96 (dk_at dksX4_tells_1 8 rfl rfl)
theorem dX4_tells_33 : decode cX4_tells 33 = .ok (.aload_n 0, 1) := dk_42 (dk_at dksX4_tells_1 9 rfl rfl)
theorem dX4_tells_34 : decode cX4_tells 34 = .ok (.getfield 7, 3) := dk_180 0 7 (dk_at dksX4_tells_1 10 rfl rfl)
theorem dX4_tells_37 : decode cX4_tells 37 = .ok (.sipush 1055, 3) := dk_17 4 31 (dk_at dksX4_tells_1 13 rfl rfl)
theorem dX4_tells_40 : decode cX4_tells 40 = .ok (.iload 4, 2) := dk_21 4 (dk_at dksX4_tells_1 16 rfl rfl)
theorem dX4_tells_42 : decode cX4_tells 42 = .ok (.iadd, 1) := dk_96 (dk_at dksX4_tells_1 18 rfl rfl)
theorem dX4_tells_43 : decode cX4_tells 43 = .ok (.iconst 3, 1) := dk_6 (dk_at dksX4_tells_1 19 rfl rfl)
theorem dX4_tells_44 : decode cX4_tells 44 = .ok (.iadd, 1) := dk_96 (dk_at dksX4_tells_1 20 rfl rfl)
theorem dX4_tells_45 : decode cX4_tells 45 = .ok (.iaload, 1) := dk_46 (dk_at dksX4_tells_1 21 rfl rfl)
theorem dX4_tells_46 : decode cX4_tells 46 = .ok (.iastore, 1) := dk_79 (dk_at dksX4_tells_1 22 rfl rfl)
theorem dX4_tells_47 : decode cX4_tells 47 = .ok (.iinc 4 1, 3) := dk_132 4 1 (dk_at dksX4_tells_2 0 rfl rfl)
theorem dX4_tells_50 : decode cX4_tells 50 = .ok (.goto (-34), 3) := dk_167 255 222 (dk_at dksX4_tells_2 3 rfl rfl)
theorem dX4_tells_53 : decode cX4_tells 53 = .ok (.aload_n 0, 1) := dk_42 (dk_at dksX4_tells_2 6 rfl rfl)
theorem dX4_tells_54 : decode cX4_tells 54 = .ok (.getfield 7, 3) := dk_180 0 7 (dk_at dksX4_tells_2 7 rfl rfl)
theorem dX4_tells_57 : decode cX4_tells 57 = .ok (.sipush 1054, 3) := dk_17 4 30 (dk_at dksX4_tells_2 10 rfl rfl)
theorem dX4_tells_60 : decode cX4_tells 60 = .ok (.dup2, 1) := dk_92 (dk_at dksX4_tells_2 13 rfl rfl)
theorem dX4_tells_61 : decode cX4_tells 61 = .ok (.iaload, 1) := dk_46 (dk_at dksX4_tells_2 14 rfl rfl)
theorem dX4_tells_62 : decode cX4_tells 62 = .ok (.iconst 1, 1) := dk_4 (dk_at dksX4_tells_2 15 rfl rfl)
theorem dX4_tells_63 : decode cX4_tells 63 = .ok (.isub, 1) := dk_100 (dk_at dksX4_tells_2 16 rfl rfl)
theorem dX4_tells_64 : decode cX4_tells 64 = .ok (.iastore, 1) := dk_79 (dk_at dksX4_tells_2 17 rfl rfl)
theorem dX4_tells_65 : decode cX4_tells 65 = .ok (.sipush 1055, 3) := dk_17 4 31 (dk_at dksX4_tells_2 18 rfl rfl)
theorem dX4_tells_68 : decode cX4_tells 68 = .ok (.iconst 3, 1) := dk_6 (dk_at dksX4_tells_2 21 rfl rfl)
theorem dX4_tells_69 : decode cX4_tells 69 = .ok (.aload_n 0, 1) := dk_42 (dk_at dksX4_tells_2 22 rfl rfl)
theorem dX4_tells_70 : decode cX4_tells 70 = .ok (.getfield 7, 3) := dk_180 0 7 (dk_at dksX4_tells_3 0 rfl rfl)
theorem dX4_tells_73 : decode cX4_tells 73 = .ok (.sipush 1054, 3) := dk_17 4 30 (dk_at dksX4_tells_3 3 rfl rfl)
theorem dX4_tells_76 : decode cX4_tells 76 = .ok (.iaload, 1) := dk_46 (dk_at dksX4_tells_3 6 rfl rfl)
theorem dX4_tells_77 : decode cX4_tells 77 = .ok (.imul, 1) := dk_104 (dk_at dksX4_tells_3 7 rfl rfl)
theorem dX4_tells_78 : decode cX4_tells 78 = .ok (.iadd, 1) := dk_96 (dk_at dksX4_tells_3 8 rfl rfl)
theorem dX4_tells_79 : decode cX4_tells 79 = .ok (.istore 4, 2) := dk_54 4 (dk_at dksX4_tells_3 9 rfl rfl)
theorem dX4_tells_81 : decode cX4_tells 81 = .ok (.aload_n 0, 1) := dk_42 (dk_at dksX4_tells_3 11 rfl rfl)
theorem dX4_tells_82 : decode cX4_tells 82 = .ok (.getfield 7, 3) := dk_180 0 7 (dk_at dksX4_tells_3 12 rfl rfl)
theorem dX4_tells_85 : decode cX4_tells 85 = .ok (.iload 4, 2) := dk_21 4 (dk_at dksX4_tells_3 15 rfl rfl)
theorem dX4_tells_87 : decode cX4_tells 87 = .ok (.iload_n 1, 1) := dk_27 (dk_at dksX4_tells_3 17 rfl rfl)
theorem dX4_tells_88 : decode cX4_tells 88 = .ok (.iastore, 1) := dk_79 (dk_at dksX4_tells_3 18 rfl rfl)
theorem dX4_tells_89 : decode cX4_tells 89 = .ok (.aload_n 0, 1) := dk_42 (dk_at dksX4_tells_3 19 rfl rfl)
theorem dX4_tells_90 : decode cX4_tells 90 = .ok (.getfield 7, 3) := dk_180 0 7 (dk_at dksX4_tells_3 20 rfl rfl)
theorem dX4_tells_93 : decode cX4_tells 93 = .ok (.iload 4, 2) := dk_21 4 (dk_at dksX4_tells_4 0 rfl rfl)
theorem dX4_tells_95 : decode cX4_tells 95 = .ok (.iconst 1, 1) := dk_4 (dk_at dksX4_tells_4 2 rfl rfl)
theorem dX4_tells_96 : decode cX4_tells 96 = .ok (.iadd, 1) := dk_96 (dk_at dksX4_tells_4 3 rfl rfl)
theorem dX4_tells_97 : decode cX4_tells 97 = .ok (.iload_n 2, 1) := dk_28 (dk_at dksX4_tells_4 4 rfl rfl)
theorem dX4_tells_98 : decode cX4_tells 98 = .ok (.iastore, 1) := dk_79 (dk_at dksX4_tells_4 5 rfl rfl)
theorem dX4_tells_99 : decode cX4_tells 99 = .ok (.aload_n 0, 1) := dk_42 (dk_at dksX4_tells_4 6 rfl rfl)
theorem dX4_tells_100 : decode cX4_tells 100 = .ok (.getfield 7, 3) := dk_180 0 7 (dk_at dksX4_tells_4 7 rfl rfl)
theorem dX4_tells_103 : decode cX4_tells 103 = .ok (.iload 4, 2) := dk_21 4 (dk_at dksX4_tells_4 10 rfl rfl)
theorem dX4_tells_105 : decode cX4_tells 105 = .ok (.iconst 2, 1) := dk_5 (dk_at dksX4_tells_4 12 rfl rfl)
theorem dX4_tells_106 : decode cX4_tells 106 = .ok (.iadd, 1) := dk_96 (dk_at dksX4_tells_4 13 rfl rfl)
theorem dX4_tells_107 : decode cX4_tells 107 = .ok (.iload_n 3, 1) := dk_29 (dk_at dksX4_tells_4 14 rfl rfl)
theorem dX4_tells_108 : decode cX4_tells 108 = .ok (.iastore, 1) := dk_79 (dk_at dksX4_tells_4 15 rfl rfl)
theorem dX4_tells_109 : decode cX4_tells 109 = .ok (.aload_n 0, 1) := dk_42 (dk_at dksX4_tells_4 16 rfl rfl)
theorem dX4_tells_110 : decode cX4_tells 110 = .ok (.getfield 7, 3) := dk_180 0 7 (dk_at dksX4_tells_4 17 rfl rfl)
theorem dX4_tells_113 : decode cX4_tells 113 = .ok (.sipush 1054, 3) := dk_17 4 30 (dk_at dksX4_tells_4 20 rfl rfl)
theorem dX4_tells_116 : decode cX4_tells 116 = .ok (.dup2, 1) := dk_92 (dk_at dksX4_tells_4 23 rfl rfl)
theorem dX4_tells_117 : decode cX4_tells 117 = .ok (.iaload, 1) := dk_46 (dk_at dksX4_tells_5 0 rfl rfl)
theorem dX4_tells_118 : decode cX4_tells 118 = .ok (.iconst 1, 1) := dk_4 (dk_at dksX4_tells_5 1 rfl rfl)
theorem dX4_tells_119 : decode cX4_tells 119 = .ok (.iadd, 1) := dk_96 (dk_at dksX4_tells_5 2 rfl rfl)
theorem dX4_tells_120 : decode cX4_tells 120 = .ok (.iastore, 1) := dk_79 (dk_at dksX4_tells_5 3 rfl rfl)
theorem dX4_tells_121 : decode cX4_tells 121 = .ok (.return_, 1) := dk_177 (dk_at dksX4_tells_5 4 rfl rfl)
abbrev cX4_rename : ByteArray := prog_20_method_71_code
def yX4_rename : MethodName := ⟨RX4, "rename", "(I)I"⟩
def dkwX4_rename_2 : List UInt8 := [181, 0, 134, 29, 172]
abbrev dktX4_rename_2 : List UInt8 := dkwX4_rename_2 ++ []
def dkwX4_rename_1 : List UInt8 := [42, 182, 0, 230, 42, 180, 0, 7, 16, 8, 27, 96, 28, 79, 42, 16, 12, 27, 29, 182, 0, 233, 42, 3]
abbrev dktX4_rename_1 : List UInt8 := dkwX4_rename_1 ++ dktX4_rename_2
def dkwX4_rename_0 : List UInt8 := [42, 182, 0, 227, 61, 42, 180, 0, 134, 62, 42, 27, 182, 0, 237, 153, 0, 7, 28, 156, 0, 5, 2, 172]
abbrev dktX4_rename_0 : List UInt8 := dkwX4_rename_0 ++ dktX4_rename_1
theorem dksX4_rename_0 : cX4_rename.data.toList.drop 0 = dktX4_rename_0 := by decide +kernel
theorem dksX4_rename_1 : cX4_rename.data.toList.drop 24 = dktX4_rename_1 := dk_seg dksX4_rename_0 24 rfl rfl
theorem dksX4_rename_2 : cX4_rename.data.toList.drop 48 = dktX4_rename_2 := dk_seg dksX4_rename_1 24 rfl rfl
theorem dX4_rename_0 : decode cX4_rename 0 = .ok (.aload_n 0, 1) := dk_42 (dk_at dksX4_rename_0 0 rfl rfl)
theorem dX4_rename_1 : decode cX4_rename 1 = .ok (.invokevirtual 227, 3) := dk_182 0 227 (dk_at dksX4_rename_0 1 rfl rfl)
theorem dX4_rename_4 : decode cX4_rename 4 = .ok (.istore_n 2, 1) := dk_61 (dk_at dksX4_rename_0 4 rfl rfl)
theorem dX4_rename_5 : decode cX4_rename 5 = .ok (.aload_n 0, 1) := dk_42 (dk_at dksX4_rename_0 5 rfl rfl)
theorem dX4_rename_6 : decode cX4_rename 6 = .ok (.getfield 134, 3) := dk_180 0 134 (dk_at dksX4_rename_0 6 rfl rfl)
theorem dX4_rename_9 : decode cX4_rename 9 = .ok (.istore_n 3, 1) := dk_62 (dk_at dksX4_rename_0 9 rfl rfl)
theorem dX4_rename_10 : decode cX4_rename 10 = .ok (.aload_n 0, 1) := dk_42 (dk_at dksX4_rename_0 10 rfl rfl)
theorem dX4_rename_11 : decode cX4_rename 11 = .ok (.iload_n 1, 1) := dk_27 (dk_at dksX4_rename_0 11 rfl rfl)
theorem dX4_rename_12 : decode cX4_rename 12 = .ok (.invokevirtual 237, 3) := dk_182 0 237 (dk_at dksX4_rename_0 12 rfl rfl)
theorem dX4_rename_15 : decode cX4_rename 15 = .ok (.ifCond .eq 7, 3) := dk_153 0 7 (dk_at dksX4_rename_0 15 rfl rfl)
theorem dX4_rename_18 : decode cX4_rename 18 = .ok (.iload_n 2, 1) := dk_28 (dk_at dksX4_rename_0 18 rfl rfl)
theorem dX4_rename_19 : decode cX4_rename 19 = .ok (.ifCond .ge 5, 3) := dk_156 0 5 (dk_at dksX4_rename_0 19 rfl rfl)
theorem dX4_rename_22 : decode cX4_rename 22 = .ok (.iconst (-1), 1) := dk_2 (dk_at dksX4_rename_0 22 rfl rfl)
theorem dX4_rename_23 : decode cX4_rename 23 = .ok (.ireturn, 1) := dk_172 (dk_at dksX4_rename_0 23 rfl rfl)
theorem dX4_rename_24 : decode cX4_rename 24 = .ok (.aload_n 0, 1) := dk_42 (dk_at dksX4_rename_1 0 rfl rfl)
theorem dX4_rename_25 : decode cX4_rename 25 = .ok (.invokevirtual 230, 3) := dk_182 0 230 (dk_at dksX4_rename_1 1 rfl rfl)
theorem dX4_rename_28 : decode cX4_rename 28 = .ok (.aload_n 0, 1) := dk_42 (dk_at dksX4_rename_1 4 rfl rfl)
theorem dX4_rename_29 : decode cX4_rename 29 = .ok (.getfield 7, 3) := dk_180 0 7 (dk_at dksX4_rename_1 5 rfl rfl)
theorem dX4_rename_32 : decode cX4_rename 32 = .ok (.bipush 8, 2) := dk_16 8 (dk_at dksX4_rename_1 8 rfl rfl)
theorem dX4_rename_34 : decode cX4_rename 34 = .ok (.iload_n 1, 1) := dk_27 (dk_at dksX4_rename_1 10 rfl rfl)
theorem dX4_rename_35 : decode cX4_rename 35 = .ok (.iadd, 1) := dk_96 (dk_at dksX4_rename_1 11 rfl rfl)
theorem dX4_rename_36 : decode cX4_rename 36 = .ok (.iload_n 2, 1) := dk_28 (dk_at dksX4_rename_1 12 rfl rfl)
theorem dX4_rename_37 : decode cX4_rename 37 = .ok (.iastore, 1) := dk_79 (dk_at dksX4_rename_1 13 rfl rfl)
theorem dX4_rename_38 : decode cX4_rename 38 = .ok (.aload_n 0, 1) := dk_42 (dk_at dksX4_rename_1 14 rfl rfl)
theorem dX4_rename_39 : decode cX4_rename 39 = .ok (.bipush 12, 2) := dk_16 12 (dk_at dksX4_rename_1 15 rfl rfl)
theorem dX4_rename_41 : decode cX4_rename 41 = .ok (.iload_n 1, 1) := dk_27 (dk_at dksX4_rename_1 17 rfl rfl)
theorem dX4_rename_42 : decode cX4_rename 42 = .ok (.iload_n 3, 1) := dk_29 (dk_at dksX4_rename_1 18 rfl rfl)
theorem dX4_rename_43 : decode cX4_rename 43 = .ok (.invokevirtual 233, 3) := dk_182 0 233 (dk_at dksX4_rename_1 19 rfl rfl)
theorem dX4_rename_46 : decode cX4_rename 46 = .ok (.aload_n 0, 1) := dk_42 (dk_at dksX4_rename_1 22 rfl rfl)
theorem dX4_rename_47 : decode cX4_rename 47 = .ok (.iconst 0, 1) := dk_3 (dk_at dksX4_rename_1 23 rfl rfl)
theorem dX4_rename_48 : decode cX4_rename 48 = .ok (.putfield 134, 3) := dk_181 0 134 (dk_at dksX4_rename_2 0 rfl rfl)
theorem dX4_rename_51 : decode cX4_rename 51 = .ok (.iload_n 3, 1) := dk_29 (dk_at dksX4_rename_2 3 rfl rfl)
theorem dX4_rename_52 : decode cX4_rename 52 = .ok (.ireturn, 1) := dk_172 (dk_at dksX4_rename_2 4 rfl rfl)
abbrev cX4_isOwner : ByteArray := prog_20_method_9_code
def yX4_isOwner : MethodName := ⟨RX4, "isOwner", "(I)Z"⟩
def dkwX4_isOwner_0 : List UInt8 := [27, 3, 42, 180, 0, 7, 7, 46, 4, 100, 184, 0, 54, 172]
abbrev dktX4_isOwner_0 : List UInt8 := dkwX4_isOwner_0 ++ []
theorem dksX4_isOwner_0 : cX4_isOwner.data.toList.drop 0 = dktX4_isOwner_0 := by decide +kernel
theorem dX4_isOwner_0 : decode cX4_isOwner 0 = .ok (.iload_n 1, 1) := dk_27 (dk_at dksX4_isOwner_0 0 rfl rfl)
theorem dX4_isOwner_1 : decode cX4_isOwner 1 = .ok (.iconst 0, 1) := dk_3 (dk_at dksX4_isOwner_0 1 rfl rfl)
theorem dX4_isOwner_2 : decode cX4_isOwner 2 = .ok (.aload_n 0, 1) := dk_42 (dk_at dksX4_isOwner_0 2 rfl rfl)
theorem dX4_isOwner_3 : decode cX4_isOwner 3 = .ok (.getfield 7, 3) := dk_180 0 7 (dk_at dksX4_isOwner_0 3 rfl rfl)
theorem dX4_isOwner_6 : decode cX4_isOwner 6 = .ok (.iconst 4, 1) := dk_7 (dk_at dksX4_isOwner_0 6 rfl rfl)
theorem dX4_isOwner_7 : decode cX4_isOwner 7 = .ok (.iaload, 1) := dk_46 (dk_at dksX4_isOwner_0 7 rfl rfl)
theorem dX4_isOwner_8 : decode cX4_isOwner 8 = .ok (.iconst 1, 1) := dk_4 (dk_at dksX4_isOwner_0 8 rfl rfl)
theorem dX4_isOwner_9 : decode cX4_isOwner 9 = .ok (.isub, 1) := dk_100 (dk_at dksX4_isOwner_0 9 rfl rfl)
theorem dX4_isOwner_10 : decode cX4_isOwner 10 = .ok (.invokestatic 54, 3) := dk_184 0 54 (dk_at dksX4_isOwner_0 10 rfl rfl)
theorem dX4_isOwner_13 : decode cX4_isOwner 13 = .ok (.ireturn, 1) := dk_172 (dk_at dksX4_isOwner_0 13 rfl rfl)
abbrev cX4_split : ByteArray := prog_20_method_74_code
def yX4_split : MethodName := ⟨RX4, "split", "(III)I"⟩
def dkwX4_split_3 : List UInt8 := [27, 21, 4, 182, 0, 233, 21, 4, 172]
abbrev dktX4_split_3 : List UInt8 := dkwX4_split_3 ++ []
def dkwX4_split_2 : List UInt8 := [164, 0, 6, 16, 253, 172, 42, 182, 0, 230, 42, 180, 0, 7, 27, 28, 29, 184, 0, 190, 54, 4, 42, 4]
abbrev dktX4_split_2 : List UInt8 := dkwX4_split_2 ++ dktX4_split_3
def dkwX4_split_1 : List UInt8 := [180, 0, 7, 8, 46, 5, 96, 16, 40, 163, 0, 17, 42, 180, 0, 7, 16, 6, 46, 5, 96, 16, 60]
abbrev dktX4_split_1 : List UInt8 := dkwX4_split_1 ++ dktX4_split_2
def dkwX4_split_0 : List UInt8 := [42, 27, 28, 29, 182, 0, 246, 154, 0, 5, 2, 172, 42, 27, 182, 0, 249, 153, 0, 6, 16, 252, 172, 42]
abbrev dktX4_split_0 : List UInt8 := dkwX4_split_0 ++ dktX4_split_1
theorem dksX4_split_0 : cX4_split.data.toList.drop 0 = dktX4_split_0 := by decide +kernel
theorem dksX4_split_1 : cX4_split.data.toList.drop 24 = dktX4_split_1 := dk_seg dksX4_split_0 24 rfl rfl
theorem dksX4_split_2 : cX4_split.data.toList.drop 47 = dktX4_split_2 := dk_seg dksX4_split_1 23 rfl rfl
theorem dksX4_split_3 : cX4_split.data.toList.drop 71 = dktX4_split_3 := dk_seg dksX4_split_2 24 rfl rfl
theorem dX4_split_0 : decode cX4_split 0 = .ok (.aload_n 0, 1) := dk_42 (dk_at dksX4_split_0 0 rfl rfl)
theorem dX4_split_1 : decode cX4_split 1 = .ok (.iload_n 1, 1) := dk_27 (dk_at dksX4_split_0 1 rfl rfl)
theorem dX4_split_2 : decode cX4_split 2 = .ok (.iload_n 2, 1) := dk_28 (dk_at dksX4_split_0 2 rfl rfl)
theorem dX4_split_3 : decode cX4_split 3 = .ok (.iload_n 3, 1) := dk_29 (dk_at dksX4_split_0 3 rfl rfl)
theorem dX4_split_4 : decode cX4_split 4 = .ok (.invokevirtual 246, 3) := dk_182 0 246 (dk_at dksX4_split_0 4 rfl rfl)
theorem dX4_split_7 : decode cX4_split 7 = .ok (.ifCond .ne 5, 3) := dk_154 0 5 (dk_at dksX4_split_0 7 rfl rfl)
theorem dX4_split_10 : decode cX4_split 10 = .ok (.iconst (-1), 1) := dk_2 (dk_at dksX4_split_0 10 rfl rfl)
theorem dX4_split_11 : decode cX4_split 11 = .ok (.ireturn, 1) := dk_172 (dk_at dksX4_split_0 11 rfl rfl)
theorem dX4_split_12 : decode cX4_split 12 = .ok (.aload_n 0, 1) := dk_42 (dk_at dksX4_split_0 12 rfl rfl)
theorem dX4_split_13 : decode cX4_split 13 = .ok (.iload_n 1, 1) := dk_27 (dk_at dksX4_split_0 13 rfl rfl)
theorem dX4_split_14 : decode cX4_split 14 = .ok (.invokevirtual 249, 3) := dk_182 0 249 (dk_at dksX4_split_0 14 rfl rfl)
theorem dX4_split_17 : decode cX4_split 17 = .ok (.ifCond .eq 6, 3) := dk_153 0 6 (dk_at dksX4_split_0 17 rfl rfl)
theorem dX4_split_20 : decode cX4_split 20 = .ok (.bipush (-4), 2) := dk_16 252 (dk_at dksX4_split_0 20 rfl rfl)
theorem dX4_split_22 : decode cX4_split 22 = .ok (.ireturn, 1) := dk_172 (dk_at dksX4_split_0 22 rfl rfl)
theorem dX4_split_23 : decode cX4_split 23 = .ok (.aload_n 0, 1) := dk_42 (dk_at dksX4_split_0 23 rfl rfl)
theorem dX4_split_24 : decode cX4_split 24 = .ok (.getfield 7, 3) := dk_180 0 7 (dk_at dksX4_split_1 0 rfl rfl)
theorem dX4_split_27 : decode cX4_split 27 = .ok (.iconst 5, 1) := dk_8 (dk_at dksX4_split_1 3 rfl rfl)
theorem dX4_split_28 : decode cX4_split 28 = .ok (.iaload, 1) := dk_46 (dk_at dksX4_split_1 4 rfl rfl)
theorem dX4_split_29 : decode cX4_split 29 = .ok (.iconst 2, 1) := dk_5 (dk_at dksX4_split_1 5 rfl rfl)
theorem dX4_split_30 : decode cX4_split 30 = .ok (.iadd, 1) := dk_96 (dk_at dksX4_split_1 6 rfl rfl)
theorem dX4_split_31 : decode cX4_split 31 = .ok (.bipush 40, 2) := dk_16 40 (dk_at dksX4_split_1 7 rfl rfl)
theorem dX4_split_33 : decode cX4_split 33 = .ok (.if_icmp .gt 17, 3) := dk_163 0 17 (dk_at dksX4_split_1 9 rfl rfl)
theorem dX4_split_36 : decode cX4_split 36 = .ok (.aload_n 0, 1) := dk_42 (dk_at dksX4_split_1 12 rfl rfl)
theorem dX4_split_37 : decode cX4_split 37 = .ok (.getfield 7, 3) := dk_180 0 7 (dk_at dksX4_split_1 13 rfl rfl)
theorem dX4_split_40 : decode cX4_split 40 = .ok (.bipush 6, 2) := dk_16 6 (dk_at dksX4_split_1 16 rfl rfl)
theorem dX4_split_42 : decode cX4_split 42 = .ok (.iaload, 1) := dk_46 (dk_at dksX4_split_1 18 rfl rfl)
theorem dX4_split_43 : decode cX4_split 43 = .ok (.iconst 2, 1) := dk_5 (dk_at dksX4_split_1 19 rfl rfl)
theorem dX4_split_44 : decode cX4_split 44 = .ok (.iadd, 1) := dk_96 (dk_at dksX4_split_1 20 rfl rfl)
theorem dX4_split_45 : decode cX4_split 45 = .ok (.bipush 60, 2) := dk_16 60 (dk_at dksX4_split_1 21 rfl rfl)
theorem dX4_split_47 : decode cX4_split 47 = .ok (.if_icmp .le 6, 3) := dk_164 0 6 (dk_at dksX4_split_2 0 rfl rfl)
theorem dX4_split_50 : decode cX4_split 50 = .ok (.bipush (-3), 2) := dk_16 253 (dk_at dksX4_split_2 3 rfl rfl)
theorem dX4_split_52 : decode cX4_split 52 = .ok (.ireturn, 1) := dk_172 (dk_at dksX4_split_2 5 rfl rfl)
theorem dX4_split_53 : decode cX4_split 53 = .ok (.aload_n 0, 1) := dk_42 (dk_at dksX4_split_2 6 rfl rfl)
theorem dX4_split_54 : decode cX4_split 54 = .ok (.invokevirtual 230, 3) := dk_182 0 230 (dk_at dksX4_split_2 7 rfl rfl)
theorem dX4_split_57 : decode cX4_split 57 = .ok (.aload_n 0, 1) := dk_42 (dk_at dksX4_split_2 10 rfl rfl)
theorem dX4_split_58 : decode cX4_split 58 = .ok (.getfield 7, 3) := dk_180 0 7 (dk_at dksX4_split_2 11 rfl rfl)
theorem dX4_split_61 : decode cX4_split 61 = .ok (.iload_n 1, 1) := dk_27 (dk_at dksX4_split_2 14 rfl rfl)
theorem dX4_split_62 : decode cX4_split 62 = .ok (.iload_n 2, 1) := dk_28 (dk_at dksX4_split_2 15 rfl rfl)
theorem dX4_split_63 : decode cX4_split 63 = .ok (.iload_n 3, 1) := dk_29 (dk_at dksX4_split_2 16 rfl rfl)
theorem dX4_split_64 : decode cX4_split 64 = .ok (.invokestatic 190, 3) := dk_184 0 190 (dk_at dksX4_split_2 17 rfl rfl)
theorem dX4_split_67 : decode cX4_split 67 = .ok (.istore 4, 2) := dk_54 4 (dk_at dksX4_split_2 20 rfl rfl)
theorem dX4_split_69 : decode cX4_split 69 = .ok (.aload_n 0, 1) := dk_42 (dk_at dksX4_split_2 22 rfl rfl)
theorem dX4_split_70 : decode cX4_split 70 = .ok (.iconst 1, 1) := dk_4 (dk_at dksX4_split_2 23 rfl rfl)
theorem dX4_split_71 : decode cX4_split 71 = .ok (.iload_n 1, 1) := dk_27 (dk_at dksX4_split_3 0 rfl rfl)
theorem dX4_split_72 : decode cX4_split 72 = .ok (.iload 4, 2) := dk_21 4 (dk_at dksX4_split_3 1 rfl rfl)
theorem dX4_split_74 : decode cX4_split 74 = .ok (.invokevirtual 233, 3) := dk_182 0 233 (dk_at dksX4_split_3 3 rfl rfl)
theorem dX4_split_77 : decode cX4_split 77 = .ok (.iload 4, 2) := dk_21 4 (dk_at dksX4_split_3 6 rfl rfl)
theorem dX4_split_79 : decode cX4_split 79 = .ok (.ireturn, 1) := dk_172 (dk_at dksX4_split_3 8 rfl rfl)
abbrev cX4_isLine : ByteArray := prog_20_method_72_code
def yX4_isLine : MethodName := ⟨RX4, "isLine", "(III)Z"⟩
def dkwX4_isLine_2 : List UInt8 := [167, 0, 4, 3, 172]
abbrev dktX4_isLine_2 : List UInt8 := dkwX4_isLine_2 ++ []
def dkwX4_isLine_1 : List UInt8 := [28, 4, 160, 0, 7, 6, 167, 0, 4, 5, 184, 0, 66, 46, 4, 100, 184, 0, 54, 153, 0, 7, 4]
abbrev dktX4_isLine_1 : List UInt8 := dkwX4_isLine_1 ++ dktX4_isLine_2
def dkwX4_isLine_0 : List UInt8 := [42, 27, 182, 0, 240, 153, 0, 45, 28, 3, 4, 184, 0, 54, 153, 0, 36, 29, 4, 42, 180, 0, 7, 27]
abbrev dktX4_isLine_0 : List UInt8 := dkwX4_isLine_0 ++ dktX4_isLine_1
theorem dksX4_isLine_0 : cX4_isLine.data.toList.drop 0 = dktX4_isLine_0 := by decide +kernel
theorem dksX4_isLine_1 : cX4_isLine.data.toList.drop 24 = dktX4_isLine_1 := dk_seg dksX4_isLine_0 24 rfl rfl
theorem dksX4_isLine_2 : cX4_isLine.data.toList.drop 47 = dktX4_isLine_2 := dk_seg dksX4_isLine_1 23 rfl rfl
theorem dX4_isLine_0 : decode cX4_isLine 0 = .ok (.aload_n 0, 1) := dk_42 (dk_at dksX4_isLine_0 0 rfl rfl)
theorem dX4_isLine_1 : decode cX4_isLine 1 = .ok (.iload_n 1, 1) := dk_27 (dk_at dksX4_isLine_0 1 rfl rfl)
theorem dX4_isLine_2 : decode cX4_isLine 2 = .ok (.invokevirtual 240, 3) := dk_182 0 240 (dk_at dksX4_isLine_0 2 rfl rfl)
theorem dX4_isLine_5 : decode cX4_isLine 5 = .ok (.ifCond .eq 45, 3) := dk_153 0 45 (dk_at dksX4_isLine_0 5 rfl rfl)
theorem dX4_isLine_8 : decode cX4_isLine 8 = .ok (.iload_n 2, 1) := dk_28 (dk_at dksX4_isLine_0 8 rfl rfl)
theorem dX4_isLine_9 : decode cX4_isLine 9 = .ok (.iconst 0, 1) := dk_3 (dk_at dksX4_isLine_0 9 rfl rfl)
theorem dX4_isLine_10 : decode cX4_isLine 10 = .ok (.iconst 1, 1) := dk_4 (dk_at dksX4_isLine_0 10 rfl rfl)
theorem dX4_isLine_11 : decode cX4_isLine 11 = .ok (.invokestatic 54, 3) := dk_184 0 54 (dk_at dksX4_isLine_0 11 rfl rfl)
theorem dX4_isLine_14 : decode cX4_isLine 14 = .ok (.ifCond .eq 36, 3) := dk_153 0 36 (dk_at dksX4_isLine_0 14 rfl rfl)
theorem dX4_isLine_17 : decode cX4_isLine 17 = .ok (.iload_n 3, 1) := dk_29 (dk_at dksX4_isLine_0 17 rfl rfl)
theorem dX4_isLine_18 : decode cX4_isLine 18 = .ok (.iconst 1, 1) := dk_4 (dk_at dksX4_isLine_0 18 rfl rfl)
theorem dX4_isLine_19 : decode cX4_isLine 19 = .ok (.aload_n 0, 1) := dk_42 (dk_at dksX4_isLine_0 19 rfl rfl)
theorem dX4_isLine_20 : decode cX4_isLine 20 = .ok (.getfield 7, 3) := dk_180 0 7 (dk_at dksX4_isLine_0 20 rfl rfl)
theorem dX4_isLine_23 : decode cX4_isLine 23 = .ok (.iload_n 1, 1) := dk_27 (dk_at dksX4_isLine_0 23 rfl rfl)
theorem dX4_isLine_24 : decode cX4_isLine 24 = .ok (.iload_n 2, 1) := dk_28 (dk_at dksX4_isLine_1 0 rfl rfl)
theorem dX4_isLine_25 : decode cX4_isLine 25 = .ok (.iconst 1, 1) := dk_4 (dk_at dksX4_isLine_1 1 rfl rfl)
theorem dX4_isLine_26 : decode cX4_isLine 26 = .ok (.if_icmp .ne 7, 3) := dk_160 0 7 (dk_at dksX4_isLine_1 2 rfl rfl)
theorem dX4_isLine_29 : decode cX4_isLine 29 = .ok (.iconst 3, 1) := dk_6 (dk_at dksX4_isLine_1 5 rfl rfl)
theorem dX4_isLine_30 : decode cX4_isLine 30 = .ok (.goto 4, 3) := dk_167 0 4 (dk_at dksX4_isLine_1 6 rfl rfl)
theorem dX4_isLine_33 : decode cX4_isLine 33 = .ok (.iconst 2, 1) := dk_5 (dk_at dksX4_isLine_1 9 rfl rfl)
theorem dX4_isLine_34 : decode cX4_isLine 34 = .ok (.invokestatic 66, 3) := dk_184 0 66 (dk_at dksX4_isLine_1 10 rfl rfl)
theorem dX4_isLine_37 : decode cX4_isLine 37 = .ok (.iaload, 1) := dk_46 (dk_at dksX4_isLine_1 13 rfl rfl)
theorem dX4_isLine_38 : decode cX4_isLine 38 = .ok (.iconst 1, 1) := dk_4 (dk_at dksX4_isLine_1 14 rfl rfl)
theorem dX4_isLine_39 : decode cX4_isLine 39 = .ok (.isub, 1) := dk_100 (dk_at dksX4_isLine_1 15 rfl rfl)
theorem dX4_isLine_40 : decode cX4_isLine 40 = .ok (.invokestatic 54, 3) := dk_184 0 54 (dk_at dksX4_isLine_1 16 rfl rfl)
theorem dX4_isLine_43 : decode cX4_isLine 43 = .ok (.ifCond .eq 7, 3) := dk_153 0 7 (dk_at dksX4_isLine_1 19 rfl rfl)
theorem dX4_isLine_46 : decode cX4_isLine 46 = .ok (.iconst 1, 1) := dk_4 (dk_at dksX4_isLine_1 22 rfl rfl)
theorem dX4_isLine_47 : decode cX4_isLine 47 = .ok (.goto 4, 3) := dk_167 0 4 (dk_at dksX4_isLine_2 0 rfl rfl)
theorem dX4_isLine_50 : decode cX4_isLine 50 = .ok (.iconst 0, 1) := dk_3 (dk_at dksX4_isLine_2 3 rfl rfl)
theorem dX4_isLine_51 : decode cX4_isLine 51 = .ok (.ireturn, 1) := dk_172 (dk_at dksX4_isLine_2 4 rfl rfl)
abbrev cX4_isParcel : ByteArray := prog_20_method_10_code
def yX4_isParcel : MethodName := ⟨RX4, "isParcel", "(I)Z"⟩
def dkwX4_isParcel_0 : List UInt8 := [27, 3, 42, 180, 0, 7, 8, 46, 4, 100, 184, 0, 54, 172]
abbrev dktX4_isParcel_0 : List UInt8 := dkwX4_isParcel_0 ++ []
theorem dksX4_isParcel_0 : cX4_isParcel.data.toList.drop 0 = dktX4_isParcel_0 := by decide +kernel
theorem dX4_isParcel_0 : decode cX4_isParcel 0 = .ok (.iload_n 1, 1) := dk_27 (dk_at dksX4_isParcel_0 0 rfl rfl)
theorem dX4_isParcel_1 : decode cX4_isParcel 1 = .ok (.iconst 0, 1) := dk_3 (dk_at dksX4_isParcel_0 1 rfl rfl)
theorem dX4_isParcel_2 : decode cX4_isParcel 2 = .ok (.aload_n 0, 1) := dk_42 (dk_at dksX4_isParcel_0 2 rfl rfl)
theorem dX4_isParcel_3 : decode cX4_isParcel 3 = .ok (.getfield 7, 3) := dk_180 0 7 (dk_at dksX4_isParcel_0 3 rfl rfl)
theorem dX4_isParcel_6 : decode cX4_isParcel 6 = .ok (.iconst 5, 1) := dk_8 (dk_at dksX4_isParcel_0 6 rfl rfl)
theorem dX4_isParcel_7 : decode cX4_isParcel 7 = .ok (.iaload, 1) := dk_46 (dk_at dksX4_isParcel_0 7 rfl rfl)
theorem dX4_isParcel_8 : decode cX4_isParcel 8 = .ok (.iconst 1, 1) := dk_4 (dk_at dksX4_isParcel_0 8 rfl rfl)
theorem dX4_isParcel_9 : decode cX4_isParcel 9 = .ok (.isub, 1) := dk_100 (dk_at dksX4_isParcel_0 9 rfl rfl)
theorem dX4_isParcel_10 : decode cX4_isParcel 10 = .ok (.invokestatic 54, 3) := dk_184 0 54 (dk_at dksX4_isParcel_0 10 rfl rfl)
theorem dX4_isParcel_13 : decode cX4_isParcel 13 = .ok (.ireturn, 1) := dk_172 (dk_at dksX4_isParcel_0 13 rfl rfl)
abbrev cX4_isFixed : ByteArray := prog_20_method_73_code
def yX4_isFixed : MethodName := ⟨RX4, "isFixed", "(I)Z"⟩
def dkwX4_isFixed_1 : List UInt8 := [167, 0, 4, 3, 172]
abbrev dktX4_isFixed_1 : List UInt8 := dkwX4_isFixed_1 ++ []
def dkwX4_isFixed_0 : List UInt8 := [42, 180, 0, 7, 27, 184, 0, 73, 153, 0, 14, 42, 180, 0, 7, 27, 184, 0, 243, 153, 0, 7, 4]
abbrev dktX4_isFixed_0 : List UInt8 := dkwX4_isFixed_0 ++ dktX4_isFixed_1
theorem dksX4_isFixed_0 : cX4_isFixed.data.toList.drop 0 = dktX4_isFixed_0 := by decide +kernel
theorem dksX4_isFixed_1 : cX4_isFixed.data.toList.drop 23 = dktX4_isFixed_1 := dk_seg dksX4_isFixed_0 23 rfl rfl
theorem dX4_isFixed_0 : decode cX4_isFixed 0 = .ok (.aload_n 0, 1) := dk_42 (dk_at dksX4_isFixed_0 0 rfl rfl)
theorem dX4_isFixed_1 : decode cX4_isFixed 1 = .ok (.getfield 7, 3) := dk_180 0 7 (dk_at dksX4_isFixed_0 1 rfl rfl)
theorem dX4_isFixed_4 : decode cX4_isFixed 4 = .ok (.iload_n 1, 1) := dk_27 (dk_at dksX4_isFixed_0 4 rfl rfl)
theorem dX4_isFixed_5 : decode cX4_isFixed 5 = .ok (.invokestatic 73, 3) := dk_184 0 73 (dk_at dksX4_isFixed_0 5 rfl rfl)
theorem dX4_isFixed_8 : decode cX4_isFixed 8 = .ok (.ifCond .eq 14, 3) := dk_153 0 14 (dk_at dksX4_isFixed_0 8 rfl rfl)
theorem dX4_isFixed_11 : decode cX4_isFixed 11 = .ok (.aload_n 0, 1) := dk_42 (dk_at dksX4_isFixed_0 11 rfl rfl)
theorem dX4_isFixed_12 : decode cX4_isFixed 12 = .ok (.getfield 7, 3) := dk_180 0 7 (dk_at dksX4_isFixed_0 12 rfl rfl)
theorem dX4_isFixed_15 : decode cX4_isFixed 15 = .ok (.iload_n 1, 1) := dk_27 (dk_at dksX4_isFixed_0 15 rfl rfl)
theorem dX4_isFixed_16 : decode cX4_isFixed 16 = .ok (.invokestatic 243, 3) := dk_184 0 243 (dk_at dksX4_isFixed_0 16 rfl rfl)
theorem dX4_isFixed_19 : decode cX4_isFixed 19 = .ok (.ifCond .eq 7, 3) := dk_153 0 7 (dk_at dksX4_isFixed_0 19 rfl rfl)
theorem dX4_isFixed_22 : decode cX4_isFixed 22 = .ok (.iconst 1, 1) := dk_4 (dk_at dksX4_isFixed_0 22 rfl rfl)
theorem dX4_isFixed_23 : decode cX4_isFixed 23 = .ok (.goto 4, 3) := dk_167 0 4 (dk_at dksX4_isFixed_1 0 rfl rfl)
theorem dX4_isFixed_26 : decode cX4_isFixed 26 = .ok (.iconst 0, 1) := dk_3 (dk_at dksX4_isFixed_1 3 rfl rfl)
theorem dX4_isFixed_27 : decode cX4_isFixed 27 = .ok (.ireturn, 1) := dk_172 (dk_at dksX4_isFixed_1 4 rfl rfl)
abbrev cX4_isBarred : ByteArray := prog_20_method_17_code
def yX4_isBarred : MethodName := ⟨RX4, "isBarred", "([II)Z"⟩
def dkwX4_isBarred_0 : List UInt8 := [42, 27, 16, 7, 184, 0, 66, 46, 4, 160, 0, 7, 4, 167, 0, 4, 3, 172]
abbrev dktX4_isBarred_0 : List UInt8 := dkwX4_isBarred_0 ++ []
theorem dksX4_isBarred_0 : cX4_isBarred.data.toList.drop 0 = dktX4_isBarred_0 := by decide +kernel
theorem dX4_isBarred_0 : decode cX4_isBarred 0 = .ok (.aload_n 0, 1) := dk_42 (dk_at dksX4_isBarred_0 0 rfl rfl)
theorem dX4_isBarred_1 : decode cX4_isBarred 1 = .ok (.iload_n 1, 1) := dk_27 (dk_at dksX4_isBarred_0 1 rfl rfl)
theorem dX4_isBarred_2 : decode cX4_isBarred 2 = .ok (.bipush 7, 2) := dk_16 7 (dk_at dksX4_isBarred_0 2 rfl rfl)
theorem dX4_isBarred_4 : decode cX4_isBarred 4 = .ok (.invokestatic 66, 3) := dk_184 0 66 (dk_at dksX4_isBarred_0 4 rfl rfl)
theorem dX4_isBarred_7 : decode cX4_isBarred 7 = .ok (.iaload, 1) := dk_46 (dk_at dksX4_isBarred_0 7 rfl rfl)
theorem dX4_isBarred_8 : decode cX4_isBarred 8 = .ok (.iconst 1, 1) := dk_4 (dk_at dksX4_isBarred_0 8 rfl rfl)
theorem dX4_isBarred_9 : decode cX4_isBarred 9 = .ok (.if_icmp .ne 7, 3) := dk_160 0 7 (dk_at dksX4_isBarred_0 9 rfl rfl)
theorem dX4_isBarred_12 : decode cX4_isBarred 12 = .ok (.iconst 1, 1) := dk_4 (dk_at dksX4_isBarred_0 12 rfl rfl)
theorem dX4_isBarred_13 : decode cX4_isBarred 13 = .ok (.goto 4, 3) := dk_167 0 4 (dk_at dksX4_isBarred_0 13 rfl rfl)
theorem dX4_isBarred_16 : decode cX4_isBarred 16 = .ok (.iconst 0, 1) := dk_3 (dk_at dksX4_isBarred_0 16 rfl rfl)
theorem dX4_isBarred_17 : decode cX4_isBarred 17 = .ok (.ireturn, 1) := dk_172 (dk_at dksX4_isBarred_0 17 rfl rfl)
abbrev cX4_join : ByteArray := prog_20_method_77_code
def yX4_join : MethodName := ⟨RX4, "join", "(II)I"⟩
def dkwX4_join_3 : List UInt8 := [167, 0, 4, 28, 29, 182, 0, 233, 29, 172]
abbrev dktX4_join_3 : List UInt8 := dkwX4_join_3 ++ []
def dkwX4_join_2 : List UInt8 := [172, 42, 182, 0, 230, 42, 180, 0, 7, 27, 28, 184, 1, 9, 62, 42, 5, 27, 28, 162, 0, 7, 27]
abbrev dktX4_join_2 : List UInt8 := dkwX4_join_2 ++ dktX4_join_3
def dkwX4_join_1 : List UInt8 := [180, 0, 7, 8, 46, 16, 40, 159, 0, 15, 42, 180, 0, 7, 16, 6, 46, 16, 60, 160, 0, 6, 16, 253]
abbrev dktX4_join_1 : List UInt8 := dkwX4_join_1 ++ dktX4_join_2
def dkwX4_join_0 : List UInt8 := [42, 27, 28, 182, 1, 2, 154, 0, 5, 2, 172, 42, 27, 28, 182, 1, 6, 153, 0, 6, 16, 252, 172, 42]
abbrev dktX4_join_0 : List UInt8 := dkwX4_join_0 ++ dktX4_join_1
theorem dksX4_join_0 : cX4_join.data.toList.drop 0 = dktX4_join_0 := by decide +kernel
theorem dksX4_join_1 : cX4_join.data.toList.drop 24 = dktX4_join_1 := dk_seg dksX4_join_0 24 rfl rfl
theorem dksX4_join_2 : cX4_join.data.toList.drop 48 = dktX4_join_2 := dk_seg dksX4_join_1 24 rfl rfl
theorem dksX4_join_3 : cX4_join.data.toList.drop 71 = dktX4_join_3 := dk_seg dksX4_join_2 23 rfl rfl
theorem dX4_join_0 : decode cX4_join 0 = .ok (.aload_n 0, 1) := dk_42 (dk_at dksX4_join_0 0 rfl rfl)
theorem dX4_join_1 : decode cX4_join 1 = .ok (.iload_n 1, 1) := dk_27 (dk_at dksX4_join_0 1 rfl rfl)
theorem dX4_join_2 : decode cX4_join 2 = .ok (.iload_n 2, 1) := dk_28 (dk_at dksX4_join_0 2 rfl rfl)
theorem dX4_join_3 : decode cX4_join 3 = .ok (.invokevirtual 258, 3) := dk_182 1 2 (dk_at dksX4_join_0 3 rfl rfl)
theorem dX4_join_6 : decode cX4_join 6 = .ok (.ifCond .ne 5, 3) := dk_154 0 5 (dk_at dksX4_join_0 6 rfl rfl)
theorem dX4_join_9 : decode cX4_join 9 = .ok (.iconst (-1), 1) := dk_2 (dk_at dksX4_join_0 9 rfl rfl)
theorem dX4_join_10 : decode cX4_join 10 = .ok (.ireturn, 1) := dk_172 (dk_at dksX4_join_0 10 rfl rfl)
theorem dX4_join_11 : decode cX4_join 11 = .ok (.aload_n 0, 1) := dk_42 (dk_at dksX4_join_0 11 rfl rfl)
theorem dX4_join_12 : decode cX4_join 12 = .ok (.iload_n 1, 1) := dk_27 (dk_at dksX4_join_0 12 rfl rfl)
theorem dX4_join_13 : decode cX4_join 13 = .ok (.iload_n 2, 1) := dk_28 (dk_at dksX4_join_0 13 rfl rfl)
theorem dX4_join_14 : decode cX4_join 14 = .ok (.invokevirtual 262, 3) := dk_182 1 6 (dk_at dksX4_join_0 14 rfl rfl)
theorem dX4_join_17 : decode cX4_join 17 = .ok (.ifCond .eq 6, 3) := dk_153 0 6 (dk_at dksX4_join_0 17 rfl rfl)
theorem dX4_join_20 : decode cX4_join 20 = .ok (.bipush (-4), 2) := dk_16 252 (dk_at dksX4_join_0 20 rfl rfl)
theorem dX4_join_22 : decode cX4_join 22 = .ok (.ireturn, 1) := dk_172 (dk_at dksX4_join_0 22 rfl rfl)
theorem dX4_join_23 : decode cX4_join 23 = .ok (.aload_n 0, 1) := dk_42 (dk_at dksX4_join_0 23 rfl rfl)
theorem dX4_join_24 : decode cX4_join 24 = .ok (.getfield 7, 3) := dk_180 0 7 (dk_at dksX4_join_1 0 rfl rfl)
theorem dX4_join_27 : decode cX4_join 27 = .ok (.iconst 5, 1) := dk_8 (dk_at dksX4_join_1 3 rfl rfl)
theorem dX4_join_28 : decode cX4_join 28 = .ok (.iaload, 1) := dk_46 (dk_at dksX4_join_1 4 rfl rfl)
theorem dX4_join_29 : decode cX4_join 29 = .ok (.bipush 40, 2) := dk_16 40 (dk_at dksX4_join_1 5 rfl rfl)
theorem dX4_join_31 : decode cX4_join 31 = .ok (.if_icmp .eq 15, 3) := dk_159 0 15 (dk_at dksX4_join_1 7 rfl rfl)
theorem dX4_join_34 : decode cX4_join 34 = .ok (.aload_n 0, 1) := dk_42 (dk_at dksX4_join_1 10 rfl rfl)
theorem dX4_join_35 : decode cX4_join 35 = .ok (.getfield 7, 3) := dk_180 0 7 (dk_at dksX4_join_1 11 rfl rfl)
theorem dX4_join_38 : decode cX4_join 38 = .ok (.bipush 6, 2) := dk_16 6 (dk_at dksX4_join_1 14 rfl rfl)
theorem dX4_join_40 : decode cX4_join 40 = .ok (.iaload, 1) := dk_46 (dk_at dksX4_join_1 16 rfl rfl)
theorem dX4_join_41 : decode cX4_join 41 = .ok (.bipush 60, 2) := dk_16 60 (dk_at dksX4_join_1 17 rfl rfl)
theorem dX4_join_43 : decode cX4_join 43 = .ok (.if_icmp .ne 6, 3) := dk_160 0 6 (dk_at dksX4_join_1 19 rfl rfl)
theorem dX4_join_46 : decode cX4_join 46 = .ok (.bipush (-3), 2) := dk_16 253 (dk_at dksX4_join_1 22 rfl rfl)
theorem dX4_join_48 : decode cX4_join 48 = .ok (.ireturn, 1) := dk_172 (dk_at dksX4_join_2 0 rfl rfl)
theorem dX4_join_49 : decode cX4_join 49 = .ok (.aload_n 0, 1) := dk_42 (dk_at dksX4_join_2 1 rfl rfl)
theorem dX4_join_50 : decode cX4_join 50 = .ok (.invokevirtual 230, 3) := dk_182 0 230 (dk_at dksX4_join_2 2 rfl rfl)
theorem dX4_join_53 : decode cX4_join 53 = .ok (.aload_n 0, 1) := dk_42 (dk_at dksX4_join_2 5 rfl rfl)
theorem dX4_join_54 : decode cX4_join 54 = .ok (.getfield 7, 3) := dk_180 0 7 (dk_at dksX4_join_2 6 rfl rfl)
theorem dX4_join_57 : decode cX4_join 57 = .ok (.iload_n 1, 1) := dk_27 (dk_at dksX4_join_2 9 rfl rfl)
theorem dX4_join_58 : decode cX4_join 58 = .ok (.iload_n 2, 1) := dk_28 (dk_at dksX4_join_2 10 rfl rfl)
theorem dX4_join_59 : decode cX4_join 59 = .ok (.invokestatic 265, 3) := dk_184 1 9 (dk_at dksX4_join_2 11 rfl rfl)
theorem dX4_join_62 : decode cX4_join 62 = .ok (.istore_n 3, 1) := dk_62 (dk_at dksX4_join_2 14 rfl rfl)
theorem dX4_join_63 : decode cX4_join 63 = .ok (.aload_n 0, 1) := dk_42 (dk_at dksX4_join_2 15 rfl rfl)
theorem dX4_join_64 : decode cX4_join 64 = .ok (.iconst 2, 1) := dk_5 (dk_at dksX4_join_2 16 rfl rfl)
theorem dX4_join_65 : decode cX4_join 65 = .ok (.iload_n 1, 1) := dk_27 (dk_at dksX4_join_2 17 rfl rfl)
theorem dX4_join_66 : decode cX4_join 66 = .ok (.iload_n 2, 1) := dk_28 (dk_at dksX4_join_2 18 rfl rfl)
theorem dX4_join_67 : decode cX4_join 67 = .ok (.if_icmp .ge 7, 3) := dk_162 0 7 (dk_at dksX4_join_2 19 rfl rfl)
theorem dX4_join_70 : decode cX4_join 70 = .ok (.iload_n 1, 1) := dk_27 (dk_at dksX4_join_2 22 rfl rfl)
theorem dX4_join_71 : decode cX4_join 71 = .ok (.goto 4, 3) := dk_167 0 4 (dk_at dksX4_join_3 0 rfl rfl)
theorem dX4_join_74 : decode cX4_join 74 = .ok (.iload_n 2, 1) := dk_28 (dk_at dksX4_join_3 3 rfl rfl)
theorem dX4_join_75 : decode cX4_join 75 = .ok (.iload_n 3, 1) := dk_29 (dk_at dksX4_join_3 4 rfl rfl)
theorem dX4_join_76 : decode cX4_join 76 = .ok (.invokevirtual 233, 3) := dk_182 0 233 (dk_at dksX4_join_3 5 rfl rfl)
theorem dX4_join_79 : decode cX4_join 79 = .ok (.iload_n 3, 1) := dk_29 (dk_at dksX4_join_3 8 rfl rfl)
theorem dX4_join_80 : decode cX4_join 80 = .ok (.ireturn, 1) := dk_172 (dk_at dksX4_join_3 9 rfl rfl)
abbrev cX4_areTwo : ByteArray := prog_20_method_76_code
def yX4_areTwo : MethodName := ⟨RX4, "areTwo", "(II)Z"⟩
def dkwX4_areTwo_1 : List UInt8 := [167, 0, 4, 3, 172]
abbrev dktX4_areTwo_1 : List UInt8 := dkwX4_areTwo_1 ++ []
def dkwX4_areTwo_0 : List UInt8 := [42, 27, 182, 0, 240, 153, 0, 20, 42, 28, 182, 0, 240, 153, 0, 12, 27, 28, 159, 0, 7, 4]
abbrev dktX4_areTwo_0 : List UInt8 := dkwX4_areTwo_0 ++ dktX4_areTwo_1
theorem dksX4_areTwo_0 : cX4_areTwo.data.toList.drop 0 = dktX4_areTwo_0 := by decide +kernel
theorem dksX4_areTwo_1 : cX4_areTwo.data.toList.drop 22 = dktX4_areTwo_1 := dk_seg dksX4_areTwo_0 22 rfl rfl
theorem dX4_areTwo_0 : decode cX4_areTwo 0 = .ok (.aload_n 0, 1) := dk_42 (dk_at dksX4_areTwo_0 0 rfl rfl)
theorem dX4_areTwo_1 : decode cX4_areTwo 1 = .ok (.iload_n 1, 1) := dk_27 (dk_at dksX4_areTwo_0 1 rfl rfl)
theorem dX4_areTwo_2 : decode cX4_areTwo 2 = .ok (.invokevirtual 240, 3) := dk_182 0 240 (dk_at dksX4_areTwo_0 2 rfl rfl)
theorem dX4_areTwo_5 : decode cX4_areTwo 5 = .ok (.ifCond .eq 20, 3) := dk_153 0 20 (dk_at dksX4_areTwo_0 5 rfl rfl)
theorem dX4_areTwo_8 : decode cX4_areTwo 8 = .ok (.aload_n 0, 1) := dk_42 (dk_at dksX4_areTwo_0 8 rfl rfl)
theorem dX4_areTwo_9 : decode cX4_areTwo 9 = .ok (.iload_n 2, 1) := dk_28 (dk_at dksX4_areTwo_0 9 rfl rfl)
theorem dX4_areTwo_10 : decode cX4_areTwo 10 = .ok (.invokevirtual 240, 3) := dk_182 0 240 (dk_at dksX4_areTwo_0 10 rfl rfl)
theorem dX4_areTwo_13 : decode cX4_areTwo 13 = .ok (.ifCond .eq 12, 3) := dk_153 0 12 (dk_at dksX4_areTwo_0 13 rfl rfl)
theorem dX4_areTwo_16 : decode cX4_areTwo 16 = .ok (.iload_n 1, 1) := dk_27 (dk_at dksX4_areTwo_0 16 rfl rfl)
theorem dX4_areTwo_17 : decode cX4_areTwo 17 = .ok (.iload_n 2, 1) := dk_28 (dk_at dksX4_areTwo_0 17 rfl rfl)
theorem dX4_areTwo_18 : decode cX4_areTwo 18 = .ok (.if_icmp .eq 7, 3) := dk_159 0 7 (dk_at dksX4_areTwo_0 18 rfl rfl)
theorem dX4_areTwo_21 : decode cX4_areTwo 21 = .ok (.iconst 1, 1) := dk_4 (dk_at dksX4_areTwo_0 21 rfl rfl)
theorem dX4_areTwo_22 : decode cX4_areTwo 22 = .ok (.goto 4, 3) := dk_167 0 4 (dk_at dksX4_areTwo_1 0 rfl rfl)
theorem dX4_areTwo_25 : decode cX4_areTwo 25 = .ok (.iconst 0, 1) := dk_3 (dk_at dksX4_areTwo_1 3 rfl rfl)
theorem dX4_areTwo_26 : decode cX4_areTwo 26 = .ok (.ireturn, 1) := dk_172 (dk_at dksX4_areTwo_1 4 rfl rfl)
abbrev cX4_reason : ByteArray := prog_20_method_75_code
def yX4_reason : MethodName := ⟨RX4, "reason", "(II)I"⟩
def dkwX4_reason_3 : List UInt8 := [153, 0, 7, 3, 167, 0, 4, 7, 172]
abbrev dktX4_reason_3 : List UInt8 := dkwX4_reason_3 ++ []
def dkwX4_reason_2 : List UInt8 := [42, 180, 0, 7, 27, 28, 184, 0, 252, 154, 0, 5, 6, 172, 42, 180, 0, 7, 27, 28, 184, 0, 255]
abbrev dktX4_reason_2 : List UInt8 := dkwX4_reason_2 ++ dktX4_reason_3
def dkwX4_reason_1 : List UInt8 := [42, 180, 0, 7, 27, 184, 0, 243, 154, 0, 14, 42, 180, 0, 7, 28, 184, 0, 243, 153, 0, 5, 5, 172]
abbrev dktX4_reason_1 : List UInt8 := dkwX4_reason_1 ++ dktX4_reason_2
def dkwX4_reason_0 : List UInt8 := [42, 180, 0, 7, 27, 184, 0, 73, 153, 0, 14, 42, 180, 0, 7, 28, 184, 0, 73, 154, 0, 5, 4, 172]
abbrev dktX4_reason_0 : List UInt8 := dkwX4_reason_0 ++ dktX4_reason_1
theorem dksX4_reason_0 : cX4_reason.data.toList.drop 0 = dktX4_reason_0 := by decide +kernel
theorem dksX4_reason_1 : cX4_reason.data.toList.drop 24 = dktX4_reason_1 := dk_seg dksX4_reason_0 24 rfl rfl
theorem dksX4_reason_2 : cX4_reason.data.toList.drop 48 = dktX4_reason_2 := dk_seg dksX4_reason_1 24 rfl rfl
theorem dksX4_reason_3 : cX4_reason.data.toList.drop 71 = dktX4_reason_3 := dk_seg dksX4_reason_2 23 rfl rfl
theorem dX4_reason_0 : decode cX4_reason 0 = .ok (.aload_n 0, 1) := dk_42 (dk_at dksX4_reason_0 0 rfl rfl)
theorem dX4_reason_1 : decode cX4_reason 1 = .ok (.getfield 7, 3) := dk_180 0 7 (dk_at dksX4_reason_0 1 rfl rfl)
theorem dX4_reason_4 : decode cX4_reason 4 = .ok (.iload_n 1, 1) := dk_27 (dk_at dksX4_reason_0 4 rfl rfl)
theorem dX4_reason_5 : decode cX4_reason 5 = .ok (.invokestatic 73, 3) := dk_184 0 73 (dk_at dksX4_reason_0 5 rfl rfl)
theorem dX4_reason_8 : decode cX4_reason 8 = .ok (.ifCond .eq 14, 3) := dk_153 0 14 (dk_at dksX4_reason_0 8 rfl rfl)
theorem dX4_reason_11 : decode cX4_reason 11 = .ok (.aload_n 0, 1) := dk_42 (dk_at dksX4_reason_0 11 rfl rfl)
theorem dX4_reason_12 : decode cX4_reason 12 = .ok (.getfield 7, 3) := dk_180 0 7 (dk_at dksX4_reason_0 12 rfl rfl)
theorem dX4_reason_15 : decode cX4_reason 15 = .ok (.iload_n 2, 1) := dk_28 (dk_at dksX4_reason_0 15 rfl rfl)
theorem dX4_reason_16 : decode cX4_reason 16 = .ok (.invokestatic 73, 3) := dk_184 0 73 (dk_at dksX4_reason_0 16 rfl rfl)
theorem dX4_reason_19 : decode cX4_reason 19 = .ok (.ifCond .ne 5, 3) := dk_154 0 5 (dk_at dksX4_reason_0 19 rfl rfl)
theorem dX4_reason_22 : decode cX4_reason 22 = .ok (.iconst 1, 1) := dk_4 (dk_at dksX4_reason_0 22 rfl rfl)
theorem dX4_reason_23 : decode cX4_reason 23 = .ok (.ireturn, 1) := dk_172 (dk_at dksX4_reason_0 23 rfl rfl)
theorem dX4_reason_24 : decode cX4_reason 24 = .ok (.aload_n 0, 1) := dk_42 (dk_at dksX4_reason_1 0 rfl rfl)
theorem dX4_reason_25 : decode cX4_reason 25 = .ok (.getfield 7, 3) := dk_180 0 7 (dk_at dksX4_reason_1 1 rfl rfl)
theorem dX4_reason_28 : decode cX4_reason 28 = .ok (.iload_n 1, 1) := dk_27 (dk_at dksX4_reason_1 4 rfl rfl)
theorem dX4_reason_29 : decode cX4_reason 29 = .ok (.invokestatic 243, 3) := dk_184 0 243 (dk_at dksX4_reason_1 5 rfl rfl)
theorem dX4_reason_32 : decode cX4_reason 32 = .ok (.ifCond .ne 14, 3) := dk_154 0 14 (dk_at dksX4_reason_1 8 rfl rfl)
theorem dX4_reason_35 : decode cX4_reason 35 = .ok (.aload_n 0, 1) := dk_42 (dk_at dksX4_reason_1 11 rfl rfl)
theorem dX4_reason_36 : decode cX4_reason 36 = .ok (.getfield 7, 3) := dk_180 0 7 (dk_at dksX4_reason_1 12 rfl rfl)
theorem dX4_reason_39 : decode cX4_reason 39 = .ok (.iload_n 2, 1) := dk_28 (dk_at dksX4_reason_1 15 rfl rfl)
theorem dX4_reason_40 : decode cX4_reason 40 = .ok (.invokestatic 243, 3) := dk_184 0 243 (dk_at dksX4_reason_1 16 rfl rfl)
theorem dX4_reason_43 : decode cX4_reason 43 = .ok (.ifCond .eq 5, 3) := dk_153 0 5 (dk_at dksX4_reason_1 19 rfl rfl)
theorem dX4_reason_46 : decode cX4_reason 46 = .ok (.iconst 2, 1) := dk_5 (dk_at dksX4_reason_1 22 rfl rfl)
theorem dX4_reason_47 : decode cX4_reason 47 = .ok (.ireturn, 1) := dk_172 (dk_at dksX4_reason_1 23 rfl rfl)
theorem dX4_reason_48 : decode cX4_reason 48 = .ok (.aload_n 0, 1) := dk_42 (dk_at dksX4_reason_2 0 rfl rfl)
theorem dX4_reason_49 : decode cX4_reason 49 = .ok (.getfield 7, 3) := dk_180 0 7 (dk_at dksX4_reason_2 1 rfl rfl)
theorem dX4_reason_52 : decode cX4_reason 52 = .ok (.iload_n 1, 1) := dk_27 (dk_at dksX4_reason_2 4 rfl rfl)
theorem dX4_reason_53 : decode cX4_reason 53 = .ok (.iload_n 2, 1) := dk_28 (dk_at dksX4_reason_2 5 rfl rfl)
theorem dX4_reason_54 : decode cX4_reason 54 = .ok (.invokestatic 252, 3) := dk_184 0 252 (dk_at dksX4_reason_2 6 rfl rfl)
theorem dX4_reason_57 : decode cX4_reason 57 = .ok (.ifCond .ne 5, 3) := dk_154 0 5 (dk_at dksX4_reason_2 9 rfl rfl)
theorem dX4_reason_60 : decode cX4_reason 60 = .ok (.iconst 3, 1) := dk_6 (dk_at dksX4_reason_2 12 rfl rfl)
theorem dX4_reason_61 : decode cX4_reason 61 = .ok (.ireturn, 1) := dk_172 (dk_at dksX4_reason_2 13 rfl rfl)
theorem dX4_reason_62 : decode cX4_reason 62 = .ok (.aload_n 0, 1) := dk_42 (dk_at dksX4_reason_2 14 rfl rfl)
theorem dX4_reason_63 : decode cX4_reason 63 = .ok (.getfield 7, 3) := dk_180 0 7 (dk_at dksX4_reason_2 15 rfl rfl)
theorem dX4_reason_66 : decode cX4_reason 66 = .ok (.iload_n 1, 1) := dk_27 (dk_at dksX4_reason_2 18 rfl rfl)
theorem dX4_reason_67 : decode cX4_reason 67 = .ok (.iload_n 2, 1) := dk_28 (dk_at dksX4_reason_2 19 rfl rfl)
theorem dX4_reason_68 : decode cX4_reason 68 = .ok (.invokestatic 255, 3) := dk_184 0 255 (dk_at dksX4_reason_2 20 rfl rfl)
theorem dX4_reason_71 : decode cX4_reason 71 = .ok (.ifCond .eq 7, 3) := dk_153 0 7 (dk_at dksX4_reason_3 0 rfl rfl)
theorem dX4_reason_74 : decode cX4_reason 74 = .ok (.iconst 0, 1) := dk_3 (dk_at dksX4_reason_3 3 rfl rfl)
theorem dX4_reason_75 : decode cX4_reason 75 = .ok (.goto 4, 3) := dk_167 0 4 (dk_at dksX4_reason_3 4 rfl rfl)
theorem dX4_reason_78 : decode cX4_reason 78 = .ok (.iconst 4, 1) := dk_7 (dk_at dksX4_reason_3 7 rfl rfl)
theorem dX4_reason_79 : decode cX4_reason 79 = .ok (.ireturn, 1) := dk_172 (dk_at dksX4_reason_3 8 rfl rfl)
abbrev cX4_areOblong : ByteArray := prog_20_method_25_code
def yX4_areOblong : MethodName := ⟨RX4, "areOblong", "([III)Z"⟩
def dkwX4_areOblong_4 : List UInt8 := [21, 4, 153, 0, 7, 4, 167, 0, 4, 3, 172]
abbrev dktX4_areOblong_4 : List UInt8 := dkwX4_areOblong_4 ++ []
def dkwX4_areOblong_3 : List UInt8 := [160, 0, 7, 4, 167, 0, 4, 3, 54, 4, 42, 27, 28, 184, 0, 85, 158, 0, 16, 29, 154, 0, 8]
abbrev dktX4_areOblong_3 : List UInt8 := dkwX4_areOblong_3 ++ dktX4_areOblong_4
def dkwX4_areOblong_2 : List UInt8 := [28, 3, 184, 0, 66, 46, 160, 0, 24, 42, 27, 5, 184, 0, 66, 46, 42, 28, 5, 184, 0, 66, 46]
abbrev dktX4_areOblong_2 : List UInt8 := dkwX4_areOblong_2 ++ dktX4_areOblong_3
def dkwX4_areOblong_1 : List UInt8 := [42, 28, 6, 184, 0, 66, 46, 160, 0, 7, 4, 167, 0, 4, 3, 62, 42, 27, 3, 184, 0, 66, 46, 42]
abbrev dktX4_areOblong_1 : List UInt8 := dkwX4_areOblong_1 ++ dktX4_areOblong_2
def dkwX4_areOblong_0 : List UInt8 := [42, 27, 4, 184, 0, 66, 46, 42, 28, 4, 184, 0, 66, 46, 160, 0, 24, 42, 27, 6, 184, 0, 66, 46]
abbrev dktX4_areOblong_0 : List UInt8 := dkwX4_areOblong_0 ++ dktX4_areOblong_1
theorem dksX4_areOblong_0 : cX4_areOblong.data.toList.drop 0 = dktX4_areOblong_0 := by decide +kernel
theorem dksX4_areOblong_1 : cX4_areOblong.data.toList.drop 24 = dktX4_areOblong_1 := dk_seg dksX4_areOblong_0 24 rfl rfl
theorem dksX4_areOblong_2 : cX4_areOblong.data.toList.drop 48 = dktX4_areOblong_2 := dk_seg dksX4_areOblong_1 24 rfl rfl
theorem dksX4_areOblong_3 : cX4_areOblong.data.toList.drop 71 = dktX4_areOblong_3 := dk_seg dksX4_areOblong_2 23 rfl rfl
theorem dksX4_areOblong_4 : cX4_areOblong.data.toList.drop 94 = dktX4_areOblong_4 := dk_seg dksX4_areOblong_3 23 rfl rfl
theorem dX4_areOblong_0 : decode cX4_areOblong 0 = .ok (.aload_n 0, 1) := dk_42 (dk_at dksX4_areOblong_0 0 rfl rfl)
theorem dX4_areOblong_1 : decode cX4_areOblong 1 = .ok (.iload_n 1, 1) := dk_27 (dk_at dksX4_areOblong_0 1 rfl rfl)
theorem dX4_areOblong_2 : decode cX4_areOblong 2 = .ok (.iconst 1, 1) := dk_4 (dk_at dksX4_areOblong_0 2 rfl rfl)
theorem dX4_areOblong_3 : decode cX4_areOblong 3 = .ok (.invokestatic 66, 3) := dk_184 0 66 (dk_at dksX4_areOblong_0 3 rfl rfl)
theorem dX4_areOblong_6 : decode cX4_areOblong 6 = .ok (.iaload, 1) := dk_46 (dk_at dksX4_areOblong_0 6 rfl rfl)
theorem dX4_areOblong_7 : decode cX4_areOblong 7 = .ok (.aload_n 0, 1) := dk_42 (dk_at dksX4_areOblong_0 7 rfl rfl)
theorem dX4_areOblong_8 : decode cX4_areOblong 8 = .ok (.iload_n 2, 1) := dk_28 (dk_at dksX4_areOblong_0 8 rfl rfl)
theorem dX4_areOblong_9 : decode cX4_areOblong 9 = .ok (.iconst 1, 1) := dk_4 (dk_at dksX4_areOblong_0 9 rfl rfl)
theorem dX4_areOblong_10 : decode cX4_areOblong 10 = .ok (.invokestatic 66, 3) := dk_184 0 66 (dk_at dksX4_areOblong_0 10 rfl rfl)
theorem dX4_areOblong_13 : decode cX4_areOblong 13 = .ok (.iaload, 1) := dk_46 (dk_at dksX4_areOblong_0 13 rfl rfl)
theorem dX4_areOblong_14 : decode cX4_areOblong 14 = .ok (.if_icmp .ne 24, 3) := dk_160 0 24 (dk_at dksX4_areOblong_0 14 rfl rfl)
theorem dX4_areOblong_17 : decode cX4_areOblong 17 = .ok (.aload_n 0, 1) := dk_42 (dk_at dksX4_areOblong_0 17 rfl rfl)
theorem dX4_areOblong_18 : decode cX4_areOblong 18 = .ok (.iload_n 1, 1) := dk_27 (dk_at dksX4_areOblong_0 18 rfl rfl)
theorem dX4_areOblong_19 : decode cX4_areOblong 19 = .ok (.iconst 3, 1) := dk_6 (dk_at dksX4_areOblong_0 19 rfl rfl)
theorem dX4_areOblong_20 : decode cX4_areOblong 20 = .ok (.invokestatic 66, 3) := dk_184 0 66 (dk_at dksX4_areOblong_0 20 rfl rfl)
theorem dX4_areOblong_23 : decode cX4_areOblong 23 = .ok (.iaload, 1) := dk_46 (dk_at dksX4_areOblong_0 23 rfl rfl)
theorem dX4_areOblong_24 : decode cX4_areOblong 24 = .ok (.aload_n 0, 1) := dk_42 (dk_at dksX4_areOblong_1 0 rfl rfl)
theorem dX4_areOblong_25 : decode cX4_areOblong 25 = .ok (.iload_n 2, 1) := dk_28 (dk_at dksX4_areOblong_1 1 rfl rfl)
theorem dX4_areOblong_26 : decode cX4_areOblong 26 = .ok (.iconst 3, 1) := dk_6 (dk_at dksX4_areOblong_1 2 rfl rfl)
theorem dX4_areOblong_27 : decode cX4_areOblong 27 = .ok (.invokestatic 66, 3) := dk_184 0 66 (dk_at dksX4_areOblong_1 3 rfl rfl)
theorem dX4_areOblong_30 : decode cX4_areOblong 30 = .ok (.iaload, 1) := dk_46 (dk_at dksX4_areOblong_1 6 rfl rfl)
theorem dX4_areOblong_31 : decode cX4_areOblong 31 = .ok (.if_icmp .ne 7, 3) := dk_160 0 7 (dk_at dksX4_areOblong_1 7 rfl rfl)
theorem dX4_areOblong_34 : decode cX4_areOblong 34 = .ok (.iconst 1, 1) := dk_4 (dk_at dksX4_areOblong_1 10 rfl rfl)
theorem dX4_areOblong_35 : decode cX4_areOblong 35 = .ok (.goto 4, 3) := dk_167 0 4 (dk_at dksX4_areOblong_1 11 rfl rfl)
theorem dX4_areOblong_38 : decode cX4_areOblong 38 = .ok (.iconst 0, 1) := dk_3 (dk_at dksX4_areOblong_1 14 rfl rfl)
theorem dX4_areOblong_39 : decode cX4_areOblong 39 = .ok (.istore_n 3, 1) := dk_62 (dk_at dksX4_areOblong_1 15 rfl rfl)
theorem dX4_areOblong_40 : decode cX4_areOblong 40 = .ok (.aload_n 0, 1) := dk_42 (dk_at dksX4_areOblong_1 16 rfl rfl)
theorem dX4_areOblong_41 : decode cX4_areOblong 41 = .ok (.iload_n 1, 1) := dk_27 (dk_at dksX4_areOblong_1 17 rfl rfl)
theorem dX4_areOblong_42 : decode cX4_areOblong 42 = .ok (.iconst 0, 1) := dk_3 (dk_at dksX4_areOblong_1 18 rfl rfl)
theorem dX4_areOblong_43 : decode cX4_areOblong 43 = .ok (.invokestatic 66, 3) := dk_184 0 66 (dk_at dksX4_areOblong_1 19 rfl rfl)
theorem dX4_areOblong_46 : decode cX4_areOblong 46 = .ok (.iaload, 1) := dk_46 (dk_at dksX4_areOblong_1 22 rfl rfl)
theorem dX4_areOblong_47 : decode cX4_areOblong 47 = .ok (.aload_n 0, 1) := dk_42 (dk_at dksX4_areOblong_1 23 rfl rfl)
theorem dX4_areOblong_48 : decode cX4_areOblong 48 = .ok (.iload_n 2, 1) := dk_28 (dk_at dksX4_areOblong_2 0 rfl rfl)
theorem dX4_areOblong_49 : decode cX4_areOblong 49 = .ok (.iconst 0, 1) := dk_3 (dk_at dksX4_areOblong_2 1 rfl rfl)
theorem dX4_areOblong_50 : decode cX4_areOblong 50 = .ok (.invokestatic 66, 3) := dk_184 0 66 (dk_at dksX4_areOblong_2 2 rfl rfl)
theorem dX4_areOblong_53 : decode cX4_areOblong 53 = .ok (.iaload, 1) := dk_46 (dk_at dksX4_areOblong_2 5 rfl rfl)
theorem dX4_areOblong_54 : decode cX4_areOblong 54 = .ok (.if_icmp .ne 24, 3) := dk_160 0 24 (dk_at dksX4_areOblong_2 6 rfl rfl)
theorem dX4_areOblong_57 : decode cX4_areOblong 57 = .ok (.aload_n 0, 1) := dk_42 (dk_at dksX4_areOblong_2 9 rfl rfl)
theorem dX4_areOblong_58 : decode cX4_areOblong 58 = .ok (.iload_n 1, 1) := dk_27 (dk_at dksX4_areOblong_2 10 rfl rfl)
theorem dX4_areOblong_59 : decode cX4_areOblong 59 = .ok (.iconst 2, 1) := dk_5 (dk_at dksX4_areOblong_2 11 rfl rfl)
theorem dX4_areOblong_60 : decode cX4_areOblong 60 = .ok (.invokestatic 66, 3) := dk_184 0 66 (dk_at dksX4_areOblong_2 12 rfl rfl)
theorem dX4_areOblong_63 : decode cX4_areOblong 63 = .ok (.iaload, 1) := dk_46 (dk_at dksX4_areOblong_2 15 rfl rfl)
theorem dX4_areOblong_64 : decode cX4_areOblong 64 = .ok (.aload_n 0, 1) := dk_42 (dk_at dksX4_areOblong_2 16 rfl rfl)
theorem dX4_areOblong_65 : decode cX4_areOblong 65 = .ok (.iload_n 2, 1) := dk_28 (dk_at dksX4_areOblong_2 17 rfl rfl)
theorem dX4_areOblong_66 : decode cX4_areOblong 66 = .ok (.iconst 2, 1) := dk_5 (dk_at dksX4_areOblong_2 18 rfl rfl)
theorem dX4_areOblong_67 : decode cX4_areOblong 67 = .ok (.invokestatic 66, 3) := dk_184 0 66 (dk_at dksX4_areOblong_2 19 rfl rfl)
theorem dX4_areOblong_70 : decode cX4_areOblong 70 = .ok (.iaload, 1) := dk_46 (dk_at dksX4_areOblong_2 22 rfl rfl)
theorem dX4_areOblong_71 : decode cX4_areOblong 71 = .ok (.if_icmp .ne 7, 3) := dk_160 0 7 (dk_at dksX4_areOblong_3 0 rfl rfl)
theorem dX4_areOblong_74 : decode cX4_areOblong 74 = .ok (.iconst 1, 1) := dk_4 (dk_at dksX4_areOblong_3 3 rfl rfl)
theorem dX4_areOblong_75 : decode cX4_areOblong 75 = .ok (.goto 4, 3) := dk_167 0 4 (dk_at dksX4_areOblong_3 4 rfl rfl)
theorem dX4_areOblong_78 : decode cX4_areOblong 78 = .ok (.iconst 0, 1) := dk_3 (dk_at dksX4_areOblong_3 7 rfl rfl)
theorem dX4_areOblong_79 : decode cX4_areOblong 79 = .ok (.istore 4, 2) := dk_54 4 (dk_at dksX4_areOblong_3 8 rfl rfl)
theorem dX4_areOblong_81 : decode cX4_areOblong 81 = .ok (.aload_n 0, 1) := dk_42 (dk_at dksX4_areOblong_3 10 rfl rfl)
theorem dX4_areOblong_82 : decode cX4_areOblong 82 = .ok (.iload_n 1, 1) := dk_27 (dk_at dksX4_areOblong_3 11 rfl rfl)
theorem dX4_areOblong_83 : decode cX4_areOblong 83 = .ok (.iload_n 2, 1) := dk_28 (dk_at dksX4_areOblong_3 12 rfl rfl)
theorem dX4_areOblong_84 : decode cX4_areOblong 84 = .ok (.invokestatic 85, 3) := dk_184 0 85 (dk_at dksX4_areOblong_3 13 rfl rfl)
theorem dX4_areOblong_87 : decode cX4_areOblong 87 = .ok (.ifCond .le 16, 3) := dk_158 0 16 (dk_at dksX4_areOblong_3 16 rfl rfl)
theorem dX4_areOblong_90 : decode cX4_areOblong 90 = .ok (.iload_n 3, 1) := dk_29 (dk_at dksX4_areOblong_3 19 rfl rfl)
theorem dX4_areOblong_91 : decode cX4_areOblong 91 = .ok (.ifCond .ne 8, 3) := dk_154 0 8 (dk_at dksX4_areOblong_3 20 rfl rfl)
theorem dX4_areOblong_94 : decode cX4_areOblong 94 = .ok (.iload 4, 2) := dk_21 4 (dk_at dksX4_areOblong_4 0 rfl rfl)
theorem dX4_areOblong_96 : decode cX4_areOblong 96 = .ok (.ifCond .eq 7, 3) := dk_153 0 7 (dk_at dksX4_areOblong_4 2 rfl rfl)
theorem dX4_areOblong_99 : decode cX4_areOblong 99 = .ok (.iconst 1, 1) := dk_4 (dk_at dksX4_areOblong_4 5 rfl rfl)
theorem dX4_areOblong_100 : decode cX4_areOblong 100 = .ok (.goto 4, 3) := dk_167 0 4 (dk_at dksX4_areOblong_4 6 rfl rfl)
theorem dX4_areOblong_103 : decode cX4_areOblong 103 = .ok (.iconst 0, 1) := dk_3 (dk_at dksX4_areOblong_4 9 rfl rfl)
theorem dX4_areOblong_104 : decode cX4_areOblong 104 = .ok (.ireturn, 1) := dk_172 (dk_at dksX4_areOblong_4 10 rfl rfl)
abbrev cX4_edgeOf : ByteArray := prog_20_method_23_code
def yX4_edgeOf : MethodName := ⟨RX4, "edgeOf", "([III)I"⟩
def dkwX4_edgeOf_3 : List UInt8 := [158, 0, 6, 21, 4, 172, 21, 4, 154, 0, 11, 29, 158, 0, 7, 29, 167, 0, 4, 3, 172]
abbrev dktX4_edgeOf_3 : List UInt8 := dkwX4_edgeOf_3 ++ []
def dkwX4_edgeOf_2 : List UInt8 := [4, 184, 0, 66, 46, 42, 28, 6, 184, 0, 66, 46, 184, 0, 81, 54, 4, 29, 154, 0, 11, 21, 4]
abbrev dktX4_edgeOf_2 : List UInt8 := dkwX4_edgeOf_2 ++ dktX4_edgeOf_3
def dkwX4_edgeOf_1 : List UInt8 := [184, 0, 66, 46, 184, 0, 81, 62, 42, 27, 4, 184, 0, 66, 46, 42, 27, 6, 184, 0, 66, 46, 42, 28]
abbrev dktX4_edgeOf_1 : List UInt8 := dkwX4_edgeOf_1 ++ dktX4_edgeOf_2
def dkwX4_edgeOf_0 : List UInt8 := [42, 27, 3, 184, 0, 66, 46, 42, 27, 5, 184, 0, 66, 46, 42, 28, 3, 184, 0, 66, 46, 42, 28, 5]
abbrev dktX4_edgeOf_0 : List UInt8 := dkwX4_edgeOf_0 ++ dktX4_edgeOf_1
theorem dksX4_edgeOf_0 : cX4_edgeOf.data.toList.drop 0 = dktX4_edgeOf_0 := by decide +kernel
theorem dksX4_edgeOf_1 : cX4_edgeOf.data.toList.drop 24 = dktX4_edgeOf_1 := dk_seg dksX4_edgeOf_0 24 rfl rfl
theorem dksX4_edgeOf_2 : cX4_edgeOf.data.toList.drop 48 = dktX4_edgeOf_2 := dk_seg dksX4_edgeOf_1 24 rfl rfl
theorem dksX4_edgeOf_3 : cX4_edgeOf.data.toList.drop 71 = dktX4_edgeOf_3 := dk_seg dksX4_edgeOf_2 23 rfl rfl
theorem dX4_edgeOf_0 : decode cX4_edgeOf 0 = .ok (.aload_n 0, 1) := dk_42 (dk_at dksX4_edgeOf_0 0 rfl rfl)
theorem dX4_edgeOf_1 : decode cX4_edgeOf 1 = .ok (.iload_n 1, 1) := dk_27 (dk_at dksX4_edgeOf_0 1 rfl rfl)
theorem dX4_edgeOf_2 : decode cX4_edgeOf 2 = .ok (.iconst 0, 1) := dk_3 (dk_at dksX4_edgeOf_0 2 rfl rfl)
theorem dX4_edgeOf_3 : decode cX4_edgeOf 3 = .ok (.invokestatic 66, 3) := dk_184 0 66 (dk_at dksX4_edgeOf_0 3 rfl rfl)
theorem dX4_edgeOf_6 : decode cX4_edgeOf 6 = .ok (.iaload, 1) := dk_46 (dk_at dksX4_edgeOf_0 6 rfl rfl)
theorem dX4_edgeOf_7 : decode cX4_edgeOf 7 = .ok (.aload_n 0, 1) := dk_42 (dk_at dksX4_edgeOf_0 7 rfl rfl)
theorem dX4_edgeOf_8 : decode cX4_edgeOf 8 = .ok (.iload_n 1, 1) := dk_27 (dk_at dksX4_edgeOf_0 8 rfl rfl)
theorem dX4_edgeOf_9 : decode cX4_edgeOf 9 = .ok (.iconst 2, 1) := dk_5 (dk_at dksX4_edgeOf_0 9 rfl rfl)
theorem dX4_edgeOf_10 : decode cX4_edgeOf 10 = .ok (.invokestatic 66, 3) := dk_184 0 66 (dk_at dksX4_edgeOf_0 10 rfl rfl)
theorem dX4_edgeOf_13 : decode cX4_edgeOf 13 = .ok (.iaload, 1) := dk_46 (dk_at dksX4_edgeOf_0 13 rfl rfl)
theorem dX4_edgeOf_14 : decode cX4_edgeOf 14 = .ok (.aload_n 0, 1) := dk_42 (dk_at dksX4_edgeOf_0 14 rfl rfl)
theorem dX4_edgeOf_15 : decode cX4_edgeOf 15 = .ok (.iload_n 2, 1) := dk_28 (dk_at dksX4_edgeOf_0 15 rfl rfl)
theorem dX4_edgeOf_16 : decode cX4_edgeOf 16 = .ok (.iconst 0, 1) := dk_3 (dk_at dksX4_edgeOf_0 16 rfl rfl)
theorem dX4_edgeOf_17 : decode cX4_edgeOf 17 = .ok (.invokestatic 66, 3) := dk_184 0 66 (dk_at dksX4_edgeOf_0 17 rfl rfl)
theorem dX4_edgeOf_20 : decode cX4_edgeOf 20 = .ok (.iaload, 1) := dk_46 (dk_at dksX4_edgeOf_0 20 rfl rfl)
theorem dX4_edgeOf_21 : decode cX4_edgeOf 21 = .ok (.aload_n 0, 1) := dk_42 (dk_at dksX4_edgeOf_0 21 rfl rfl)
theorem dX4_edgeOf_22 : decode cX4_edgeOf 22 = .ok (.iload_n 2, 1) := dk_28 (dk_at dksX4_edgeOf_0 22 rfl rfl)
theorem dX4_edgeOf_23 : decode cX4_edgeOf 23 = .ok (.iconst 2, 1) := dk_5 (dk_at dksX4_edgeOf_0 23 rfl rfl)
theorem dX4_edgeOf_24 : decode cX4_edgeOf 24 = .ok (.invokestatic 66, 3) := dk_184 0 66 (dk_at dksX4_edgeOf_1 0 rfl rfl)
theorem dX4_edgeOf_27 : decode cX4_edgeOf 27 = .ok (.iaload, 1) := dk_46 (dk_at dksX4_edgeOf_1 3 rfl rfl)
theorem dX4_edgeOf_28 : decode cX4_edgeOf 28 = .ok (.invokestatic 81, 3) := dk_184 0 81 (dk_at dksX4_edgeOf_1 4 rfl rfl)
theorem dX4_edgeOf_31 : decode cX4_edgeOf 31 = .ok (.istore_n 3, 1) := dk_62 (dk_at dksX4_edgeOf_1 7 rfl rfl)
theorem dX4_edgeOf_32 : decode cX4_edgeOf 32 = .ok (.aload_n 0, 1) := dk_42 (dk_at dksX4_edgeOf_1 8 rfl rfl)
theorem dX4_edgeOf_33 : decode cX4_edgeOf 33 = .ok (.iload_n 1, 1) := dk_27 (dk_at dksX4_edgeOf_1 9 rfl rfl)
theorem dX4_edgeOf_34 : decode cX4_edgeOf 34 = .ok (.iconst 1, 1) := dk_4 (dk_at dksX4_edgeOf_1 10 rfl rfl)
theorem dX4_edgeOf_35 : decode cX4_edgeOf 35 = .ok (.invokestatic 66, 3) := dk_184 0 66 (dk_at dksX4_edgeOf_1 11 rfl rfl)
theorem dX4_edgeOf_38 : decode cX4_edgeOf 38 = .ok (.iaload, 1) := dk_46 (dk_at dksX4_edgeOf_1 14 rfl rfl)
theorem dX4_edgeOf_39 : decode cX4_edgeOf 39 = .ok (.aload_n 0, 1) := dk_42 (dk_at dksX4_edgeOf_1 15 rfl rfl)
theorem dX4_edgeOf_40 : decode cX4_edgeOf 40 = .ok (.iload_n 1, 1) := dk_27 (dk_at dksX4_edgeOf_1 16 rfl rfl)
theorem dX4_edgeOf_41 : decode cX4_edgeOf 41 = .ok (.iconst 3, 1) := dk_6 (dk_at dksX4_edgeOf_1 17 rfl rfl)
theorem dX4_edgeOf_42 : decode cX4_edgeOf 42 = .ok (.invokestatic 66, 3) := dk_184 0 66 (dk_at dksX4_edgeOf_1 18 rfl rfl)
theorem dX4_edgeOf_45 : decode cX4_edgeOf 45 = .ok (.iaload, 1) := dk_46 (dk_at dksX4_edgeOf_1 21 rfl rfl)
theorem dX4_edgeOf_46 : decode cX4_edgeOf 46 = .ok (.aload_n 0, 1) := dk_42 (dk_at dksX4_edgeOf_1 22 rfl rfl)
theorem dX4_edgeOf_47 : decode cX4_edgeOf 47 = .ok (.iload_n 2, 1) := dk_28 (dk_at dksX4_edgeOf_1 23 rfl rfl)
theorem dX4_edgeOf_48 : decode cX4_edgeOf 48 = .ok (.iconst 1, 1) := dk_4 (dk_at dksX4_edgeOf_2 0 rfl rfl)
theorem dX4_edgeOf_49 : decode cX4_edgeOf 49 = .ok (.invokestatic 66, 3) := dk_184 0 66 (dk_at dksX4_edgeOf_2 1 rfl rfl)
theorem dX4_edgeOf_52 : decode cX4_edgeOf 52 = .ok (.iaload, 1) := dk_46 (dk_at dksX4_edgeOf_2 4 rfl rfl)
theorem dX4_edgeOf_53 : decode cX4_edgeOf 53 = .ok (.aload_n 0, 1) := dk_42 (dk_at dksX4_edgeOf_2 5 rfl rfl)
theorem dX4_edgeOf_54 : decode cX4_edgeOf 54 = .ok (.iload_n 2, 1) := dk_28 (dk_at dksX4_edgeOf_2 6 rfl rfl)
theorem dX4_edgeOf_55 : decode cX4_edgeOf 55 = .ok (.iconst 3, 1) := dk_6 (dk_at dksX4_edgeOf_2 7 rfl rfl)
theorem dX4_edgeOf_56 : decode cX4_edgeOf 56 = .ok (.invokestatic 66, 3) := dk_184 0 66 (dk_at dksX4_edgeOf_2 8 rfl rfl)
theorem dX4_edgeOf_59 : decode cX4_edgeOf 59 = .ok (.iaload, 1) := dk_46 (dk_at dksX4_edgeOf_2 11 rfl rfl)
theorem dX4_edgeOf_60 : decode cX4_edgeOf 60 = .ok (.invokestatic 81, 3) := dk_184 0 81 (dk_at dksX4_edgeOf_2 12 rfl rfl)
theorem dX4_edgeOf_63 : decode cX4_edgeOf 63 = .ok (.istore 4, 2) := dk_54 4 (dk_at dksX4_edgeOf_2 15 rfl rfl)
theorem dX4_edgeOf_65 : decode cX4_edgeOf 65 = .ok (.iload_n 3, 1) := dk_29 (dk_at dksX4_edgeOf_2 17 rfl rfl)
theorem dX4_edgeOf_66 : decode cX4_edgeOf 66 = .ok (.ifCond .ne 11, 3) := dk_154 0 11 (dk_at dksX4_edgeOf_2 18 rfl rfl)
theorem dX4_edgeOf_69 : decode cX4_edgeOf 69 = .ok (.iload 4, 2) := dk_21 4 (dk_at dksX4_edgeOf_2 21 rfl rfl)
theorem dX4_edgeOf_71 : decode cX4_edgeOf 71 = .ok (.ifCond .le 6, 3) := dk_158 0 6 (dk_at dksX4_edgeOf_3 0 rfl rfl)
theorem dX4_edgeOf_74 : decode cX4_edgeOf 74 = .ok (.iload 4, 2) := dk_21 4 (dk_at dksX4_edgeOf_3 3 rfl rfl)
theorem dX4_edgeOf_76 : decode cX4_edgeOf 76 = .ok (.ireturn, 1) := dk_172 (dk_at dksX4_edgeOf_3 5 rfl rfl)
theorem dX4_edgeOf_77 : decode cX4_edgeOf 77 = .ok (.iload 4, 2) := dk_21 4 (dk_at dksX4_edgeOf_3 6 rfl rfl)
theorem dX4_edgeOf_79 : decode cX4_edgeOf 79 = .ok (.ifCond .ne 11, 3) := dk_154 0 11 (dk_at dksX4_edgeOf_3 8 rfl rfl)
theorem dX4_edgeOf_82 : decode cX4_edgeOf 82 = .ok (.iload_n 3, 1) := dk_29 (dk_at dksX4_edgeOf_3 11 rfl rfl)
theorem dX4_edgeOf_83 : decode cX4_edgeOf 83 = .ok (.ifCond .le 7, 3) := dk_158 0 7 (dk_at dksX4_edgeOf_3 12 rfl rfl)
theorem dX4_edgeOf_86 : decode cX4_edgeOf 86 = .ok (.iload_n 3, 1) := dk_29 (dk_at dksX4_edgeOf_3 15 rfl rfl)
theorem dX4_edgeOf_87 : decode cX4_edgeOf 87 = .ok (.goto 4, 3) := dk_167 0 4 (dk_at dksX4_edgeOf_3 16 rfl rfl)
theorem dX4_edgeOf_90 : decode cX4_edgeOf 90 = .ok (.iconst 0, 1) := dk_3 (dk_at dksX4_edgeOf_3 19 rfl rfl)
theorem dX4_edgeOf_91 : decode cX4_edgeOf 91 = .ok (.ireturn, 1) := dk_172 (dk_at dksX4_edgeOf_3 20 rfl rfl)
abbrev cX4_common : ByteArray := prog_20_method_22_code
def yX4_common : MethodName := ⟨RX4, "common", "(IIII)I"⟩
def dkwX4_common_1 : List UInt8 := [167, 0, 6, 28, 29, 96, 54, 5, 21, 5, 21, 4, 100, 172]
abbrev dktX4_common_1 : List UInt8 := dkwX4_common_1 ++ []
def dkwX4_common_0 : List UInt8 := [26, 28, 164, 0, 7, 26, 167, 0, 4, 28, 54, 4, 26, 27, 96, 28, 29, 96, 162, 0, 9, 26, 27, 96]
abbrev dktX4_common_0 : List UInt8 := dkwX4_common_0 ++ dktX4_common_1
theorem dksX4_common_0 : cX4_common.data.toList.drop 0 = dktX4_common_0 := by decide +kernel
theorem dksX4_common_1 : cX4_common.data.toList.drop 24 = dktX4_common_1 := dk_seg dksX4_common_0 24 rfl rfl
theorem dX4_common_0 : decode cX4_common 0 = .ok (.iload_n 0, 1) := dk_26 (dk_at dksX4_common_0 0 rfl rfl)
theorem dX4_common_1 : decode cX4_common 1 = .ok (.iload_n 2, 1) := dk_28 (dk_at dksX4_common_0 1 rfl rfl)
theorem dX4_common_2 : decode cX4_common 2 = .ok (.if_icmp .le 7, 3) := dk_164 0 7 (dk_at dksX4_common_0 2 rfl rfl)
theorem dX4_common_5 : decode cX4_common 5 = .ok (.iload_n 0, 1) := dk_26 (dk_at dksX4_common_0 5 rfl rfl)
theorem dX4_common_6 : decode cX4_common 6 = .ok (.goto 4, 3) := dk_167 0 4 (dk_at dksX4_common_0 6 rfl rfl)
theorem dX4_common_9 : decode cX4_common 9 = .ok (.iload_n 2, 1) := dk_28 (dk_at dksX4_common_0 9 rfl rfl)
theorem dX4_common_10 : decode cX4_common 10 = .ok (.istore 4, 2) := dk_54 4 (dk_at dksX4_common_0 10 rfl rfl)
theorem dX4_common_12 : decode cX4_common 12 = .ok (.iload_n 0, 1) := dk_26 (dk_at dksX4_common_0 12 rfl rfl)
theorem dX4_common_13 : decode cX4_common 13 = .ok (.iload_n 1, 1) := dk_27 (dk_at dksX4_common_0 13 rfl rfl)
theorem dX4_common_14 : decode cX4_common 14 = .ok (.iadd, 1) := dk_96 (dk_at dksX4_common_0 14 rfl rfl)
theorem dX4_common_15 : decode cX4_common 15 = .ok (.iload_n 2, 1) := dk_28 (dk_at dksX4_common_0 15 rfl rfl)
theorem dX4_common_16 : decode cX4_common 16 = .ok (.iload_n 3, 1) := dk_29 (dk_at dksX4_common_0 16 rfl rfl)
theorem dX4_common_17 : decode cX4_common 17 = .ok (.iadd, 1) := dk_96 (dk_at dksX4_common_0 17 rfl rfl)
theorem dX4_common_18 : decode cX4_common 18 = .ok (.if_icmp .ge 9, 3) := dk_162 0 9 (dk_at dksX4_common_0 18 rfl rfl)
theorem dX4_common_21 : decode cX4_common 21 = .ok (.iload_n 0, 1) := dk_26 (dk_at dksX4_common_0 21 rfl rfl)
theorem dX4_common_22 : decode cX4_common 22 = .ok (.iload_n 1, 1) := dk_27 (dk_at dksX4_common_0 22 rfl rfl)
theorem dX4_common_23 : decode cX4_common 23 = .ok (.iadd, 1) := dk_96 (dk_at dksX4_common_0 23 rfl rfl)
theorem dX4_common_24 : decode cX4_common 24 = .ok (.goto 6, 3) := dk_167 0 6 (dk_at dksX4_common_1 0 rfl rfl)
theorem dX4_common_27 : decode cX4_common 27 = .ok (.iload_n 2, 1) := dk_28 (dk_at dksX4_common_1 3 rfl rfl)
theorem dX4_common_28 : decode cX4_common 28 = .ok (.iload_n 3, 1) := dk_29 (dk_at dksX4_common_1 4 rfl rfl)
theorem dX4_common_29 : decode cX4_common 29 = .ok (.iadd, 1) := dk_96 (dk_at dksX4_common_1 5 rfl rfl)
theorem dX4_common_30 : decode cX4_common 30 = .ok (.istore 5, 2) := dk_54 5 (dk_at dksX4_common_1 6 rfl rfl)
theorem dX4_common_32 : decode cX4_common 32 = .ok (.iload 5, 2) := dk_21 5 (dk_at dksX4_common_1 8 rfl rfl)
theorem dX4_common_34 : decode cX4_common 34 = .ok (.iload 4, 2) := dk_21 4 (dk_at dksX4_common_1 10 rfl rfl)
theorem dX4_common_36 : decode cX4_common 36 = .ok (.isub, 1) := dk_100 (dk_at dksX4_common_1 12 rfl rfl)
theorem dX4_common_37 : decode cX4_common 37 = .ok (.ireturn, 1) := dk_172 (dk_at dksX4_common_1 13 rfl rfl)
abbrev cX4_areSame : ByteArray := prog_20_method_28_code
def yX4_areSame : MethodName := ⟨RX4, "areSame", "([III)Z"⟩
def dkwX4_areSame_1 : List UInt8 := [3, 172, 132, 3, 1, 167, 255, 229, 4, 172]
abbrev dktX4_areSame_1 : List UInt8 := dkwX4_areSame_1 ++ []
def dkwX4_areSame_0 : List UInt8 := [3, 62, 29, 42, 7, 46, 162, 0, 26, 42, 27, 29, 184, 0, 92, 42, 28, 29, 184, 0, 92, 159, 0, 5]
abbrev dktX4_areSame_0 : List UInt8 := dkwX4_areSame_0 ++ dktX4_areSame_1
theorem dksX4_areSame_0 : cX4_areSame.data.toList.drop 0 = dktX4_areSame_0 := by decide +kernel
theorem dksX4_areSame_1 : cX4_areSame.data.toList.drop 24 = dktX4_areSame_1 := dk_seg dksX4_areSame_0 24 rfl rfl
theorem dX4_areSame_0 : decode cX4_areSame 0 = .ok (.iconst 0, 1) := dk_3 (dk_at dksX4_areSame_0 0 rfl rfl)
theorem dX4_areSame_1 : decode cX4_areSame 1 = .ok (.istore_n 3, 1) := dk_62 (dk_at dksX4_areSame_0 1 rfl rfl)
theorem dX4_areSame_2 : decode cX4_areSame 2 = .ok (.iload_n 3, 1) := dk_29 (dk_at dksX4_areSame_0 2 rfl rfl)
theorem dX4_areSame_3 : decode cX4_areSame 3 = .ok (.aload_n 0, 1) := dk_42 (dk_at dksX4_areSame_0 3 rfl rfl)
theorem dX4_areSame_4 : decode cX4_areSame 4 = .ok (.iconst 4, 1) := dk_7 (dk_at dksX4_areSame_0 4 rfl rfl)
theorem dX4_areSame_5 : decode cX4_areSame 5 = .ok (.iaload, 1) := dk_46 (dk_at dksX4_areSame_0 5 rfl rfl)
theorem dX4_areSame_6 : decode cX4_areSame 6 = .ok (.if_icmp .ge 26, 3) := dk_162 0 26 (dk_at dksX4_areSame_0 6 rfl rfl)
theorem dX4_areSame_9 : decode cX4_areSame 9 = .ok (.aload_n 0, 1) := dk_42 (dk_at dksX4_areSame_0 9 rfl rfl)
theorem dX4_areSame_10 : decode cX4_areSame 10 = .ok (.iload_n 1, 1) := dk_27 (dk_at dksX4_areSame_0 10 rfl rfl)
theorem dX4_areSame_11 : decode cX4_areSame 11 = .ok (.iload_n 3, 1) := dk_29 (dk_at dksX4_areSame_0 11 rfl rfl)
theorem dX4_areSame_12 : decode cX4_areSame 12 = .ok (.invokestatic 92, 3) := dk_184 0 92 (dk_at dksX4_areSame_0 12 rfl rfl)
theorem dX4_areSame_15 : decode cX4_areSame 15 = .ok (.aload_n 0, 1) := dk_42 (dk_at dksX4_areSame_0 15 rfl rfl)
theorem dX4_areSame_16 : decode cX4_areSame 16 = .ok (.iload_n 2, 1) := dk_28 (dk_at dksX4_areSame_0 16 rfl rfl)
theorem dX4_areSame_17 : decode cX4_areSame 17 = .ok (.iload_n 3, 1) := dk_29 (dk_at dksX4_areSame_0 17 rfl rfl)
theorem dX4_areSame_18 : decode cX4_areSame 18 = .ok (.invokestatic 92, 3) := dk_184 0 92 (dk_at dksX4_areSame_0 18 rfl rfl)
theorem dX4_areSame_21 : decode cX4_areSame 21 = .ok (.if_icmp .eq 5, 3) := dk_159 0 5 (dk_at dksX4_areSame_0 21 rfl rfl)
theorem dX4_areSame_24 : decode cX4_areSame 24 = .ok (.iconst 0, 1) := dk_3 (dk_at dksX4_areSame_1 0 rfl rfl)
theorem dX4_areSame_25 : decode cX4_areSame 25 = .ok (.ireturn, 1) := dk_172 (dk_at dksX4_areSame_1 1 rfl rfl)
theorem dX4_areSame_26 : decode cX4_areSame 26 = .ok (.iinc 3 1, 3) := dk_132 3 1 (dk_at dksX4_areSame_1 2 rfl rfl)
theorem dX4_areSame_29 : decode cX4_areSame 29 = .ok (.goto (-27), 3) := dk_167 255 229 (dk_at dksX4_areSame_1 5 rfl rfl)
theorem dX4_areSame_32 : decode cX4_areSame 32 = .ok (.iconst 1, 1) := dk_4 (dk_at dksX4_areSame_1 8 rfl rfl)
theorem dX4_areSame_33 : decode cX4_areSame 33 = .ok (.ireturn, 1) := dk_172 (dk_at dksX4_areSame_1 9 rfl rfl)
abbrev cX4_joins : ByteArray := prog_20_method_47_code
def yX4_joins : MethodName := ⟨RX4, "joins", "([III)I"⟩
def dkwX4_joins_12 : List UInt8 := [184, 0, 123, 132, 9, 1, 167, 255, 199, 21, 8, 172]
abbrev dktX4_joins_12 : List UInt8 := dkwX4_joins_12 ++ []
def dkwX4_joins_11 : List UInt8 := [167, 0, 25, 42, 21, 9, 27, 184, 0, 131, 42, 21, 9, 28, 184, 0, 131, 42, 21, 9, 21, 8]
abbrev dktX4_joins_11 : List UInt8 := dkwX4_joins_11 ++ dktX4_joins_12
def dkwX4_joins_10 : List UInt8 := [162, 0, 54, 42, 21, 9, 27, 184, 0, 104, 154, 0, 16, 42, 21, 9, 28, 184, 0, 104, 154, 0, 6]
abbrev dktX4_joins_10 : List UInt8 := dkwX4_joins_10 ++ dktX4_joins_11
def dkwX4_joins_9 : List UInt8 := [21, 4, 184, 0, 58, 54, 8, 42, 21, 8, 27, 184, 0, 98, 87, 3, 54, 9, 21, 9, 42, 16, 7, 46]
abbrev dktX4_joins_9 : List UInt8 := dkwX4_joins_9 ++ dktX4_joins_10
def dkwX4_joins_8 : List UInt8 := [184, 0, 66, 46, 42, 28, 6, 184, 0, 66, 46, 96, 167, 0, 10, 42, 27, 6, 184, 0, 66, 46, 29]
abbrev dktX4_joins_8 : List UInt8 := dkwX4_joins_8 ++ dktX4_joins_9
def dkwX4_joins_7 : List UInt8 := [42, 27, 5, 184, 0, 66, 46, 42, 28, 5, 184, 0, 66, 46, 96, 21, 5, 153, 0, 21, 42, 27, 6]
abbrev dktX4_joins_7 : List UInt8 := dkwX4_joins_7 ++ dktX4_joins_8
def dkwX4_joins_6 : List UInt8 := [28, 184, 0, 127, 42, 21, 6, 21, 7, 21, 5, 153, 0, 13, 42, 27, 5, 184, 0, 66, 46, 167, 0, 18]
abbrev dktX4_joins_6 : List UInt8 := dkwX4_joins_6 ++ dktX4_joins_7
def dkwX4_joins_5 : List UInt8 := [27, 4, 184, 0, 66, 46, 167, 0, 10, 42, 28, 4, 184, 0, 66, 46, 54, 7, 42, 27, 184, 0, 127, 42]
abbrev dktX4_joins_5 : List UInt8 := dkwX4_joins_5 ++ dktX4_joins_6
def dkwX4_joins_4 : List UInt8 := [184, 0, 66, 46, 54, 6, 42, 27, 4, 184, 0, 66, 46, 42, 28, 4, 184, 0, 66, 46, 162, 0, 13, 42]
abbrev dktX4_joins_4 : List UInt8 := dkwX4_joins_4 ++ dktX4_joins_5
def dkwX4_joins_3 : List UInt8 := [28, 3, 184, 0, 66, 46, 162, 0, 13, 42, 27, 3, 184, 0, 66, 46, 167, 0, 10, 42, 28, 3]
abbrev dktX4_joins_3 : List UInt8 := dkwX4_joins_3 ++ dktX4_joins_4
def dkwX4_joins_2 : List UInt8 := [28, 5, 184, 0, 66, 46, 160, 0, 7, 4, 167, 0, 4, 3, 54, 5, 42, 27, 3, 184, 0, 66, 46, 42]
abbrev dktX4_joins_2 : List UInt8 := dkwX4_joins_2 ++ dktX4_joins_3
def dkwX4_joins_1 : List UInt8 := [27, 3, 184, 0, 66, 46, 42, 28, 3, 184, 0, 66, 46, 160, 0, 24, 42, 27, 5, 184, 0, 66, 46, 42]
abbrev dktX4_joins_1 : List UInt8 := dkwX4_joins_1 ++ dktX4_joins_2
def dkwX4_joins_0 : List UInt8 := [27, 28, 162, 0, 7, 27, 167, 0, 4, 28, 62, 27, 28, 162, 0, 7, 28, 167, 0, 4, 27, 54, 4, 42]
abbrev dktX4_joins_0 : List UInt8 := dkwX4_joins_0 ++ dktX4_joins_1
theorem dksX4_joins_0 : cX4_joins.data.toList.drop 0 = dktX4_joins_0 := by decide +kernel
theorem dksX4_joins_1 : cX4_joins.data.toList.drop 24 = dktX4_joins_1 := dk_seg dksX4_joins_0 24 rfl rfl
theorem dksX4_joins_2 : cX4_joins.data.toList.drop 48 = dktX4_joins_2 := dk_seg dksX4_joins_1 24 rfl rfl
theorem dksX4_joins_3 : cX4_joins.data.toList.drop 72 = dktX4_joins_3 := dk_seg dksX4_joins_2 24 rfl rfl
theorem dksX4_joins_4 : cX4_joins.data.toList.drop 94 = dktX4_joins_4 := dk_seg dksX4_joins_3 22 rfl rfl
theorem dksX4_joins_5 : cX4_joins.data.toList.drop 118 = dktX4_joins_5 := dk_seg dksX4_joins_4 24 rfl rfl
theorem dksX4_joins_6 : cX4_joins.data.toList.drop 142 = dktX4_joins_6 := dk_seg dksX4_joins_5 24 rfl rfl
theorem dksX4_joins_7 : cX4_joins.data.toList.drop 166 = dktX4_joins_7 := dk_seg dksX4_joins_6 24 rfl rfl
theorem dksX4_joins_8 : cX4_joins.data.toList.drop 189 = dktX4_joins_8 := dk_seg dksX4_joins_7 23 rfl rfl
theorem dksX4_joins_9 : cX4_joins.data.toList.drop 212 = dktX4_joins_9 := dk_seg dksX4_joins_8 23 rfl rfl
theorem dksX4_joins_10 : cX4_joins.data.toList.drop 236 = dktX4_joins_10 := dk_seg dksX4_joins_9 24 rfl rfl
theorem dksX4_joins_11 : cX4_joins.data.toList.drop 259 = dktX4_joins_11 := dk_seg dksX4_joins_10 23 rfl rfl
theorem dksX4_joins_12 : cX4_joins.data.toList.drop 281 = dktX4_joins_12 := dk_seg dksX4_joins_11 22 rfl rfl
theorem dX4_joins_0 : decode cX4_joins 0 = .ok (.iload_n 1, 1) := dk_27 (dk_at dksX4_joins_0 0 rfl rfl)
theorem dX4_joins_1 : decode cX4_joins 1 = .ok (.iload_n 2, 1) := dk_28 (dk_at dksX4_joins_0 1 rfl rfl)
theorem dX4_joins_2 : decode cX4_joins 2 = .ok (.if_icmp .ge 7, 3) := dk_162 0 7 (dk_at dksX4_joins_0 2 rfl rfl)
theorem dX4_joins_5 : decode cX4_joins 5 = .ok (.iload_n 1, 1) := dk_27 (dk_at dksX4_joins_0 5 rfl rfl)
theorem dX4_joins_6 : decode cX4_joins 6 = .ok (.goto 4, 3) := dk_167 0 4 (dk_at dksX4_joins_0 6 rfl rfl)
theorem dX4_joins_9 : decode cX4_joins 9 = .ok (.iload_n 2, 1) := dk_28 (dk_at dksX4_joins_0 9 rfl rfl)
theorem dX4_joins_10 : decode cX4_joins 10 = .ok (.istore_n 3, 1) := dk_62 (dk_at dksX4_joins_0 10 rfl rfl)
theorem dX4_joins_11 : decode cX4_joins 11 = .ok (.iload_n 1, 1) := dk_27 (dk_at dksX4_joins_0 11 rfl rfl)
theorem dX4_joins_12 : decode cX4_joins 12 = .ok (.iload_n 2, 1) := dk_28 (dk_at dksX4_joins_0 12 rfl rfl)
theorem dX4_joins_13 : decode cX4_joins 13 = .ok (.if_icmp .ge 7, 3) := dk_162 0 7 (dk_at dksX4_joins_0 13 rfl rfl)
theorem dX4_joins_16 : decode cX4_joins 16 = .ok (.iload_n 2, 1) := dk_28 (dk_at dksX4_joins_0 16 rfl rfl)
theorem dX4_joins_17 : decode cX4_joins 17 = .ok (.goto 4, 3) := dk_167 0 4 (dk_at dksX4_joins_0 17 rfl rfl)
theorem dX4_joins_20 : decode cX4_joins 20 = .ok (.iload_n 1, 1) := dk_27 (dk_at dksX4_joins_0 20 rfl rfl)
theorem dX4_joins_21 : decode cX4_joins 21 = .ok (.istore 4, 2) := dk_54 4 (dk_at dksX4_joins_0 21 rfl rfl)
theorem dX4_joins_23 : decode cX4_joins 23 = .ok (.aload_n 0, 1) := dk_42 (dk_at dksX4_joins_0 23 rfl rfl)
theorem dX4_joins_24 : decode cX4_joins 24 = .ok (.iload_n 1, 1) := dk_27 (dk_at dksX4_joins_1 0 rfl rfl)
theorem dX4_joins_25 : decode cX4_joins 25 = .ok (.iconst 0, 1) := dk_3 (dk_at dksX4_joins_1 1 rfl rfl)
theorem dX4_joins_26 : decode cX4_joins 26 = .ok (.invokestatic 66, 3) := dk_184 0 66 (dk_at dksX4_joins_1 2 rfl rfl)
theorem dX4_joins_29 : decode cX4_joins 29 = .ok (.iaload, 1) := dk_46 (dk_at dksX4_joins_1 5 rfl rfl)
theorem dX4_joins_30 : decode cX4_joins 30 = .ok (.aload_n 0, 1) := dk_42 (dk_at dksX4_joins_1 6 rfl rfl)
theorem dX4_joins_31 : decode cX4_joins 31 = .ok (.iload_n 2, 1) := dk_28 (dk_at dksX4_joins_1 7 rfl rfl)
theorem dX4_joins_32 : decode cX4_joins 32 = .ok (.iconst 0, 1) := dk_3 (dk_at dksX4_joins_1 8 rfl rfl)
theorem dX4_joins_33 : decode cX4_joins 33 = .ok (.invokestatic 66, 3) := dk_184 0 66 (dk_at dksX4_joins_1 9 rfl rfl)
theorem dX4_joins_36 : decode cX4_joins 36 = .ok (.iaload, 1) := dk_46 (dk_at dksX4_joins_1 12 rfl rfl)
theorem dX4_joins_37 : decode cX4_joins 37 = .ok (.if_icmp .ne 24, 3) := dk_160 0 24 (dk_at dksX4_joins_1 13 rfl rfl)
theorem dX4_joins_40 : decode cX4_joins 40 = .ok (.aload_n 0, 1) := dk_42 (dk_at dksX4_joins_1 16 rfl rfl)
theorem dX4_joins_41 : decode cX4_joins 41 = .ok (.iload_n 1, 1) := dk_27 (dk_at dksX4_joins_1 17 rfl rfl)
theorem dX4_joins_42 : decode cX4_joins 42 = .ok (.iconst 2, 1) := dk_5 (dk_at dksX4_joins_1 18 rfl rfl)
theorem dX4_joins_43 : decode cX4_joins 43 = .ok (.invokestatic 66, 3) := dk_184 0 66 (dk_at dksX4_joins_1 19 rfl rfl)
theorem dX4_joins_46 : decode cX4_joins 46 = .ok (.iaload, 1) := dk_46 (dk_at dksX4_joins_1 22 rfl rfl)
theorem dX4_joins_47 : decode cX4_joins 47 = .ok (.aload_n 0, 1) := dk_42 (dk_at dksX4_joins_1 23 rfl rfl)
theorem dX4_joins_48 : decode cX4_joins 48 = .ok (.iload_n 2, 1) := dk_28 (dk_at dksX4_joins_2 0 rfl rfl)
theorem dX4_joins_49 : decode cX4_joins 49 = .ok (.iconst 2, 1) := dk_5 (dk_at dksX4_joins_2 1 rfl rfl)
theorem dX4_joins_50 : decode cX4_joins 50 = .ok (.invokestatic 66, 3) := dk_184 0 66 (dk_at dksX4_joins_2 2 rfl rfl)
theorem dX4_joins_53 : decode cX4_joins 53 = .ok (.iaload, 1) := dk_46 (dk_at dksX4_joins_2 5 rfl rfl)
theorem dX4_joins_54 : decode cX4_joins 54 = .ok (.if_icmp .ne 7, 3) := dk_160 0 7 (dk_at dksX4_joins_2 6 rfl rfl)
theorem dX4_joins_57 : decode cX4_joins 57 = .ok (.iconst 1, 1) := dk_4 (dk_at dksX4_joins_2 9 rfl rfl)
theorem dX4_joins_58 : decode cX4_joins 58 = .ok (.goto 4, 3) := dk_167 0 4 (dk_at dksX4_joins_2 10 rfl rfl)
theorem dX4_joins_61 : decode cX4_joins 61 = .ok (.iconst 0, 1) := dk_3 (dk_at dksX4_joins_2 13 rfl rfl)
theorem dX4_joins_62 : decode cX4_joins 62 = .ok (.istore 5, 2) := dk_54 5 (dk_at dksX4_joins_2 14 rfl rfl)
theorem dX4_joins_64 : decode cX4_joins 64 = .ok (.aload_n 0, 1) := dk_42 (dk_at dksX4_joins_2 16 rfl rfl)
theorem dX4_joins_65 : decode cX4_joins 65 = .ok (.iload_n 1, 1) := dk_27 (dk_at dksX4_joins_2 17 rfl rfl)
theorem dX4_joins_66 : decode cX4_joins 66 = .ok (.iconst 0, 1) := dk_3 (dk_at dksX4_joins_2 18 rfl rfl)
theorem dX4_joins_67 : decode cX4_joins 67 = .ok (.invokestatic 66, 3) := dk_184 0 66 (dk_at dksX4_joins_2 19 rfl rfl)
theorem dX4_joins_70 : decode cX4_joins 70 = .ok (.iaload, 1) := dk_46 (dk_at dksX4_joins_2 22 rfl rfl)
theorem dX4_joins_71 : decode cX4_joins 71 = .ok (.aload_n 0, 1) := dk_42 (dk_at dksX4_joins_2 23 rfl rfl)
theorem dX4_joins_72 : decode cX4_joins 72 = .ok (.iload_n 2, 1) := dk_28 (dk_at dksX4_joins_3 0 rfl rfl)
theorem dX4_joins_73 : decode cX4_joins 73 = .ok (.iconst 0, 1) := dk_3 (dk_at dksX4_joins_3 1 rfl rfl)
theorem dX4_joins_74 : decode cX4_joins 74 = .ok (.invokestatic 66, 3) := dk_184 0 66 (dk_at dksX4_joins_3 2 rfl rfl)
theorem dX4_joins_77 : decode cX4_joins 77 = .ok (.iaload, 1) := dk_46 (dk_at dksX4_joins_3 5 rfl rfl)
theorem dX4_joins_78 : decode cX4_joins 78 = .ok (.if_icmp .ge 13, 3) := dk_162 0 13 (dk_at dksX4_joins_3 6 rfl rfl)
theorem dX4_joins_81 : decode cX4_joins 81 = .ok (.aload_n 0, 1) := dk_42 (dk_at dksX4_joins_3 9 rfl rfl)
theorem dX4_joins_82 : decode cX4_joins 82 = .ok (.iload_n 1, 1) := dk_27 (dk_at dksX4_joins_3 10 rfl rfl)
theorem dX4_joins_83 : decode cX4_joins 83 = .ok (.iconst 0, 1) := dk_3 (dk_at dksX4_joins_3 11 rfl rfl)
theorem dX4_joins_84 : decode cX4_joins 84 = .ok (.invokestatic 66, 3) := dk_184 0 66 (dk_at dksX4_joins_3 12 rfl rfl)
theorem dX4_joins_87 : decode cX4_joins 87 = .ok (.iaload, 1) := dk_46 (dk_at dksX4_joins_3 15 rfl rfl)
theorem dX4_joins_88 : decode cX4_joins 88 = .ok (.goto 10, 3) := dk_167 0 10 (dk_at dksX4_joins_3 16 rfl rfl)
theorem dX4_joins_91 : decode cX4_joins 91 = .ok (.aload_n 0, 1) := dk_42 (dk_at dksX4_joins_3 19 rfl rfl)
theorem dX4_joins_92 : decode cX4_joins 92 = .ok (.iload_n 2, 1) := dk_28 (dk_at dksX4_joins_3 20 rfl rfl)
theorem dX4_joins_93 : decode cX4_joins 93 = .ok (.iconst 0, 1) := dk_3 (dk_at dksX4_joins_3 21 rfl rfl)
theorem dX4_joins_94 : decode cX4_joins 94 = .ok (.invokestatic 66, 3) := dk_184 0 66 (dk_at dksX4_joins_4 0 rfl rfl)
theorem dX4_joins_97 : decode cX4_joins 97 = .ok (.iaload, 1) := dk_46 (dk_at dksX4_joins_4 3 rfl rfl)
theorem dX4_joins_98 : decode cX4_joins 98 = .ok (.istore 6, 2) := dk_54 6 (dk_at dksX4_joins_4 4 rfl rfl)
theorem dX4_joins_100 : decode cX4_joins 100 = .ok (.aload_n 0, 1) := dk_42 (dk_at dksX4_joins_4 6 rfl rfl)
theorem dX4_joins_101 : decode cX4_joins 101 = .ok (.iload_n 1, 1) := dk_27 (dk_at dksX4_joins_4 7 rfl rfl)
theorem dX4_joins_102 : decode cX4_joins 102 = .ok (.iconst 1, 1) := dk_4 (dk_at dksX4_joins_4 8 rfl rfl)
theorem dX4_joins_103 : decode cX4_joins 103 = .ok (.invokestatic 66, 3) := dk_184 0 66 (dk_at dksX4_joins_4 9 rfl rfl)
theorem dX4_joins_106 : decode cX4_joins 106 = .ok (.iaload, 1) := dk_46 (dk_at dksX4_joins_4 12 rfl rfl)
theorem dX4_joins_107 : decode cX4_joins 107 = .ok (.aload_n 0, 1) := dk_42 (dk_at dksX4_joins_4 13 rfl rfl)
theorem dX4_joins_108 : decode cX4_joins 108 = .ok (.iload_n 2, 1) := dk_28 (dk_at dksX4_joins_4 14 rfl rfl)
theorem dX4_joins_109 : decode cX4_joins 109 = .ok (.iconst 1, 1) := dk_4 (dk_at dksX4_joins_4 15 rfl rfl)
theorem dX4_joins_110 : decode cX4_joins 110 = .ok (.invokestatic 66, 3) := dk_184 0 66 (dk_at dksX4_joins_4 16 rfl rfl)
theorem dX4_joins_113 : decode cX4_joins 113 = .ok (.iaload, 1) := dk_46 (dk_at dksX4_joins_4 19 rfl rfl)
theorem dX4_joins_114 : decode cX4_joins 114 = .ok (.if_icmp .ge 13, 3) := dk_162 0 13 (dk_at dksX4_joins_4 20 rfl rfl)
theorem dX4_joins_117 : decode cX4_joins 117 = .ok (.aload_n 0, 1) := dk_42 (dk_at dksX4_joins_4 23 rfl rfl)
theorem dX4_joins_118 : decode cX4_joins 118 = .ok (.iload_n 1, 1) := dk_27 (dk_at dksX4_joins_5 0 rfl rfl)
theorem dX4_joins_119 : decode cX4_joins 119 = .ok (.iconst 1, 1) := dk_4 (dk_at dksX4_joins_5 1 rfl rfl)
theorem dX4_joins_120 : decode cX4_joins 120 = .ok (.invokestatic 66, 3) := dk_184 0 66 (dk_at dksX4_joins_5 2 rfl rfl)
theorem dX4_joins_123 : decode cX4_joins 123 = .ok (.iaload, 1) := dk_46 (dk_at dksX4_joins_5 5 rfl rfl)
theorem dX4_joins_124 : decode cX4_joins 124 = .ok (.goto 10, 3) := dk_167 0 10 (dk_at dksX4_joins_5 6 rfl rfl)
theorem dX4_joins_127 : decode cX4_joins 127 = .ok (.aload_n 0, 1) := dk_42 (dk_at dksX4_joins_5 9 rfl rfl)
theorem dX4_joins_128 : decode cX4_joins 128 = .ok (.iload_n 2, 1) := dk_28 (dk_at dksX4_joins_5 10 rfl rfl)
theorem dX4_joins_129 : decode cX4_joins 129 = .ok (.iconst 1, 1) := dk_4 (dk_at dksX4_joins_5 11 rfl rfl)
theorem dX4_joins_130 : decode cX4_joins 130 = .ok (.invokestatic 66, 3) := dk_184 0 66 (dk_at dksX4_joins_5 12 rfl rfl)
theorem dX4_joins_133 : decode cX4_joins 133 = .ok (.iaload, 1) := dk_46 (dk_at dksX4_joins_5 15 rfl rfl)
theorem dX4_joins_134 : decode cX4_joins 134 = .ok (.istore 7, 2) := dk_54 7 (dk_at dksX4_joins_5 16 rfl rfl)
theorem dX4_joins_136 : decode cX4_joins 136 = .ok (.aload_n 0, 1) := dk_42 (dk_at dksX4_joins_5 18 rfl rfl)
theorem dX4_joins_137 : decode cX4_joins 137 = .ok (.iload_n 1, 1) := dk_27 (dk_at dksX4_joins_5 19 rfl rfl)
theorem dX4_joins_138 : decode cX4_joins 138 = .ok (.invokestatic 127, 3) := dk_184 0 127 (dk_at dksX4_joins_5 20 rfl rfl)
theorem dX4_joins_141 : decode cX4_joins 141 = .ok (.aload_n 0, 1) := dk_42 (dk_at dksX4_joins_5 23 rfl rfl)
theorem dX4_joins_142 : decode cX4_joins 142 = .ok (.iload_n 2, 1) := dk_28 (dk_at dksX4_joins_6 0 rfl rfl)
theorem dX4_joins_143 : decode cX4_joins 143 = .ok (.invokestatic 127, 3) := dk_184 0 127 (dk_at dksX4_joins_6 1 rfl rfl)
theorem dX4_joins_146 : decode cX4_joins 146 = .ok (.aload_n 0, 1) := dk_42 (dk_at dksX4_joins_6 4 rfl rfl)
theorem dX4_joins_147 : decode cX4_joins 147 = .ok (.iload 6, 2) := dk_21 6 (dk_at dksX4_joins_6 5 rfl rfl)
theorem dX4_joins_149 : decode cX4_joins 149 = .ok (.iload 7, 2) := dk_21 7 (dk_at dksX4_joins_6 7 rfl rfl)
theorem dX4_joins_151 : decode cX4_joins 151 = .ok (.iload 5, 2) := dk_21 5 (dk_at dksX4_joins_6 9 rfl rfl)
theorem dX4_joins_153 : decode cX4_joins 153 = .ok (.ifCond .eq 13, 3) := dk_153 0 13 (dk_at dksX4_joins_6 11 rfl rfl)
theorem dX4_joins_156 : decode cX4_joins 156 = .ok (.aload_n 0, 1) := dk_42 (dk_at dksX4_joins_6 14 rfl rfl)
theorem dX4_joins_157 : decode cX4_joins 157 = .ok (.iload_n 1, 1) := dk_27 (dk_at dksX4_joins_6 15 rfl rfl)
theorem dX4_joins_158 : decode cX4_joins 158 = .ok (.iconst 2, 1) := dk_5 (dk_at dksX4_joins_6 16 rfl rfl)
theorem dX4_joins_159 : decode cX4_joins 159 = .ok (.invokestatic 66, 3) := dk_184 0 66 (dk_at dksX4_joins_6 17 rfl rfl)
theorem dX4_joins_162 : decode cX4_joins 162 = .ok (.iaload, 1) := dk_46 (dk_at dksX4_joins_6 20 rfl rfl)
theorem dX4_joins_163 : decode cX4_joins 163 = .ok (.goto 18, 3) := dk_167 0 18 (dk_at dksX4_joins_6 21 rfl rfl)
theorem dX4_joins_166 : decode cX4_joins 166 = .ok (.aload_n 0, 1) := dk_42 (dk_at dksX4_joins_7 0 rfl rfl)
theorem dX4_joins_167 : decode cX4_joins 167 = .ok (.iload_n 1, 1) := dk_27 (dk_at dksX4_joins_7 1 rfl rfl)
theorem dX4_joins_168 : decode cX4_joins 168 = .ok (.iconst 2, 1) := dk_5 (dk_at dksX4_joins_7 2 rfl rfl)
theorem dX4_joins_169 : decode cX4_joins 169 = .ok (.invokestatic 66, 3) := dk_184 0 66 (dk_at dksX4_joins_7 3 rfl rfl)
theorem dX4_joins_172 : decode cX4_joins 172 = .ok (.iaload, 1) := dk_46 (dk_at dksX4_joins_7 6 rfl rfl)
theorem dX4_joins_173 : decode cX4_joins 173 = .ok (.aload_n 0, 1) := dk_42 (dk_at dksX4_joins_7 7 rfl rfl)
theorem dX4_joins_174 : decode cX4_joins 174 = .ok (.iload_n 2, 1) := dk_28 (dk_at dksX4_joins_7 8 rfl rfl)
theorem dX4_joins_175 : decode cX4_joins 175 = .ok (.iconst 2, 1) := dk_5 (dk_at dksX4_joins_7 9 rfl rfl)
theorem dX4_joins_176 : decode cX4_joins 176 = .ok (.invokestatic 66, 3) := dk_184 0 66 (dk_at dksX4_joins_7 10 rfl rfl)
theorem dX4_joins_179 : decode cX4_joins 179 = .ok (.iaload, 1) := dk_46 (dk_at dksX4_joins_7 13 rfl rfl)
theorem dX4_joins_180 : decode cX4_joins 180 = .ok (.iadd, 1) := dk_96 (dk_at dksX4_joins_7 14 rfl rfl)
theorem dX4_joins_181 : decode cX4_joins 181 = .ok (.iload 5, 2) := dk_21 5 (dk_at dksX4_joins_7 15 rfl rfl)
theorem dX4_joins_183 : decode cX4_joins 183 = .ok (.ifCond .eq 21, 3) := dk_153 0 21 (dk_at dksX4_joins_7 17 rfl rfl)
theorem dX4_joins_186 : decode cX4_joins 186 = .ok (.aload_n 0, 1) := dk_42 (dk_at dksX4_joins_7 20 rfl rfl)
theorem dX4_joins_187 : decode cX4_joins 187 = .ok (.iload_n 1, 1) := dk_27 (dk_at dksX4_joins_7 21 rfl rfl)
theorem dX4_joins_188 : decode cX4_joins 188 = .ok (.iconst 3, 1) := dk_6 (dk_at dksX4_joins_7 22 rfl rfl)
theorem dX4_joins_189 : decode cX4_joins 189 = .ok (.invokestatic 66, 3) := dk_184 0 66 (dk_at dksX4_joins_8 0 rfl rfl)
theorem dX4_joins_192 : decode cX4_joins 192 = .ok (.iaload, 1) := dk_46 (dk_at dksX4_joins_8 3 rfl rfl)
theorem dX4_joins_193 : decode cX4_joins 193 = .ok (.aload_n 0, 1) := dk_42 (dk_at dksX4_joins_8 4 rfl rfl)
theorem dX4_joins_194 : decode cX4_joins 194 = .ok (.iload_n 2, 1) := dk_28 (dk_at dksX4_joins_8 5 rfl rfl)
theorem dX4_joins_195 : decode cX4_joins 195 = .ok (.iconst 3, 1) := dk_6 (dk_at dksX4_joins_8 6 rfl rfl)
theorem dX4_joins_196 : decode cX4_joins 196 = .ok (.invokestatic 66, 3) := dk_184 0 66 (dk_at dksX4_joins_8 7 rfl rfl)
theorem dX4_joins_199 : decode cX4_joins 199 = .ok (.iaload, 1) := dk_46 (dk_at dksX4_joins_8 10 rfl rfl)
theorem dX4_joins_200 : decode cX4_joins 200 = .ok (.iadd, 1) := dk_96 (dk_at dksX4_joins_8 11 rfl rfl)
theorem dX4_joins_201 : decode cX4_joins 201 = .ok (.goto 10, 3) := dk_167 0 10 (dk_at dksX4_joins_8 12 rfl rfl)
theorem dX4_joins_204 : decode cX4_joins 204 = .ok (.aload_n 0, 1) := dk_42 (dk_at dksX4_joins_8 15 rfl rfl)
theorem dX4_joins_205 : decode cX4_joins 205 = .ok (.iload_n 1, 1) := dk_27 (dk_at dksX4_joins_8 16 rfl rfl)
theorem dX4_joins_206 : decode cX4_joins 206 = .ok (.iconst 3, 1) := dk_6 (dk_at dksX4_joins_8 17 rfl rfl)
theorem dX4_joins_207 : decode cX4_joins 207 = .ok (.invokestatic 66, 3) := dk_184 0 66 (dk_at dksX4_joins_8 18 rfl rfl)
theorem dX4_joins_210 : decode cX4_joins 210 = .ok (.iaload, 1) := dk_46 (dk_at dksX4_joins_8 21 rfl rfl)
theorem dX4_joins_211 : decode cX4_joins 211 = .ok (.iload_n 3, 1) := dk_29 (dk_at dksX4_joins_8 22 rfl rfl)
theorem dX4_joins_212 : decode cX4_joins 212 = .ok (.iload 4, 2) := dk_21 4 (dk_at dksX4_joins_9 0 rfl rfl)
theorem dX4_joins_214 : decode cX4_joins 214 = .ok (.invokestatic 58, 3) := dk_184 0 58 (dk_at dksX4_joins_9 2 rfl rfl)
theorem dX4_joins_217 : decode cX4_joins 217 = .ok (.istore 8, 2) := dk_54 8 (dk_at dksX4_joins_9 5 rfl rfl)
theorem dX4_joins_219 : decode cX4_joins 219 = .ok (.aload_n 0, 1) := dk_42 (dk_at dksX4_joins_9 7 rfl rfl)
theorem dX4_joins_220 : decode cX4_joins 220 = .ok (.iload 8, 2) := dk_21 8 (dk_at dksX4_joins_9 8 rfl rfl)
theorem dX4_joins_222 : decode cX4_joins 222 = .ok (.iload_n 1, 1) := dk_27 (dk_at dksX4_joins_9 10 rfl rfl)
theorem dX4_joins_223 : decode cX4_joins 223 = .ok (.invokestatic 98, 3) := dk_184 0 98 (dk_at dksX4_joins_9 11 rfl rfl)
theorem dX4_joins_226 : decode cX4_joins 226 = .ok (.pop, 1) := dk_87 (dk_at dksX4_joins_9 14 rfl rfl)
theorem dX4_joins_227 : decode cX4_joins 227 = .ok (.iconst 0, 1) := dk_3 (dk_at dksX4_joins_9 15 rfl rfl)
theorem dX4_joins_228 : decode cX4_joins 228 = .ok (.istore 9, 2) := dk_54 9 (dk_at dksX4_joins_9 16 rfl rfl)
theorem dX4_joins_230 : decode cX4_joins 230 = .ok (.iload 9, 2) := dk_21 9 (dk_at dksX4_joins_9 18 rfl rfl)
theorem dX4_joins_232 : decode cX4_joins 232 = .ok (.aload_n 0, 1) := dk_42 (dk_at dksX4_joins_9 20 rfl rfl)
theorem dX4_joins_233 : decode cX4_joins 233 = .ok (.bipush 7, 2) := dk_16 7 (dk_at dksX4_joins_9 21 rfl rfl)
theorem dX4_joins_235 : decode cX4_joins 235 = .ok (.iaload, 1) := dk_46 (dk_at dksX4_joins_9 23 rfl rfl)
theorem dX4_joins_236 : decode cX4_joins 236 = .ok (.if_icmp .ge 54, 3) := dk_162 0 54 (dk_at dksX4_joins_10 0 rfl rfl)
theorem dX4_joins_239 : decode cX4_joins 239 = .ok (.aload_n 0, 1) := dk_42 (dk_at dksX4_joins_10 3 rfl rfl)
theorem dX4_joins_240 : decode cX4_joins 240 = .ok (.iload 9, 2) := dk_21 9 (dk_at dksX4_joins_10 4 rfl rfl)
theorem dX4_joins_242 : decode cX4_joins 242 = .ok (.iload_n 1, 1) := dk_27 (dk_at dksX4_joins_10 6 rfl rfl)
theorem dX4_joins_243 : decode cX4_joins 243 = .ok (.invokestatic 104, 3) := dk_184 0 104 (dk_at dksX4_joins_10 7 rfl rfl)
theorem dX4_joins_246 : decode cX4_joins 246 = .ok (.ifCond .ne 16, 3) := dk_154 0 16 (dk_at dksX4_joins_10 10 rfl rfl)
theorem dX4_joins_249 : decode cX4_joins 249 = .ok (.aload_n 0, 1) := dk_42 (dk_at dksX4_joins_10 13 rfl rfl)
theorem dX4_joins_250 : decode cX4_joins 250 = .ok (.iload 9, 2) := dk_21 9 (dk_at dksX4_joins_10 14 rfl rfl)
theorem dX4_joins_252 : decode cX4_joins 252 = .ok (.iload_n 2, 1) := dk_28 (dk_at dksX4_joins_10 16 rfl rfl)
theorem dX4_joins_253 : decode cX4_joins 253 = .ok (.invokestatic 104, 3) := dk_184 0 104 (dk_at dksX4_joins_10 17 rfl rfl)
theorem dX4_joins_256 : decode cX4_joins 256 = .ok (.ifCond .ne 6, 3) := dk_154 0 6 (dk_at dksX4_joins_10 20 rfl rfl)
theorem dX4_joins_259 : decode cX4_joins 259 = .ok (.goto 25, 3) := dk_167 0 25 (dk_at dksX4_joins_11 0 rfl rfl)
theorem dX4_joins_262 : decode cX4_joins 262 = .ok (.aload_n 0, 1) := dk_42 (dk_at dksX4_joins_11 3 rfl rfl)
theorem dX4_joins_263 : decode cX4_joins 263 = .ok (.iload 9, 2) := dk_21 9 (dk_at dksX4_joins_11 4 rfl rfl)
theorem dX4_joins_265 : decode cX4_joins 265 = .ok (.iload_n 1, 1) := dk_27 (dk_at dksX4_joins_11 6 rfl rfl)
theorem dX4_joins_266 : decode cX4_joins 266 = .ok (.invokestatic 131, 3) := dk_184 0 131 (dk_at dksX4_joins_11 7 rfl rfl)
theorem dX4_joins_269 : decode cX4_joins 269 = .ok (.aload_n 0, 1) := dk_42 (dk_at dksX4_joins_11 10 rfl rfl)
theorem dX4_joins_270 : decode cX4_joins 270 = .ok (.iload 9, 2) := dk_21 9 (dk_at dksX4_joins_11 11 rfl rfl)
theorem dX4_joins_272 : decode cX4_joins 272 = .ok (.iload_n 2, 1) := dk_28 (dk_at dksX4_joins_11 13 rfl rfl)
theorem dX4_joins_273 : decode cX4_joins 273 = .ok (.invokestatic 131, 3) := dk_184 0 131 (dk_at dksX4_joins_11 14 rfl rfl)
theorem dX4_joins_276 : decode cX4_joins 276 = .ok (.aload_n 0, 1) := dk_42 (dk_at dksX4_joins_11 17 rfl rfl)
theorem dX4_joins_277 : decode cX4_joins 277 = .ok (.iload 9, 2) := dk_21 9 (dk_at dksX4_joins_11 18 rfl rfl)
theorem dX4_joins_279 : decode cX4_joins 279 = .ok (.iload 8, 2) := dk_21 8 (dk_at dksX4_joins_11 20 rfl rfl)
theorem dX4_joins_281 : decode cX4_joins 281 = .ok (.invokestatic 123, 3) := dk_184 0 123 (dk_at dksX4_joins_12 0 rfl rfl)
theorem dX4_joins_284 : decode cX4_joins 284 = .ok (.iinc 9 1, 3) := dk_132 9 1 (dk_at dksX4_joins_12 3 rfl rfl)
theorem dX4_joins_287 : decode cX4_joins 287 = .ok (.goto (-57), 3) := dk_167 255 199 (dk_at dksX4_joins_12 6 rfl rfl)
theorem dX4_joins_290 : decode cX4_joins 290 = .ok (.iload 8, 2) := dk_21 8 (dk_at dksX4_joins_12 9 rfl rfl)
theorem dX4_joins_292 : decode cX4_joins 292 = .ok (.ireturn, 1) := dk_172 (dk_at dksX4_joins_12 11 rfl rfl)
abbrev cX4_give : ByteArray := prog_20_method_78_code
def yX4_give : MethodName := ⟨RX4, "give", "(IIII)I"⟩
def dkwX4_give_5 : List UInt8 := [182, 0, 233, 42, 180, 0, 7, 27, 29, 184, 0, 92, 172]
abbrev dktX4_give_5 : List UInt8 := dkwX4_give_5 ++ []
def dkwX4_give_4 : List UInt8 := [182, 0, 230, 42, 180, 0, 7, 27, 28, 29, 21, 4, 184, 0, 198, 42, 6, 27, 16, 100, 28, 104, 29, 96]
abbrev dktX4_give_4 : List UInt8 := dkwX4_give_4 ++ dktX4_give_5
def dkwX4_give_3 : List UInt8 := [27, 184, 0, 95, 156, 0, 18, 42, 180, 0, 7, 16, 6, 46, 16, 60, 160, 0, 6, 16, 253, 172, 42]
abbrev dktX4_give_3 : List UInt8 := dkwX4_give_3 ++ dktX4_give_4
def dkwX4_give_2 : List UInt8 := [154, 0, 17, 42, 180, 0, 7, 27, 28, 184, 0, 92, 21, 4, 162, 0, 6, 16, 252, 172, 42, 180, 0, 7]
abbrev dktX4_give_2 : List UInt8 := dkwX4_give_2 ++ dktX4_give_3
def dkwX4_give_1 : List UInt8 := [28, 29, 159, 0, 14, 21, 4, 4, 16, 12, 184, 0, 54, 154, 0, 5, 2, 172, 42, 27, 182, 0, 249]
abbrev dktX4_give_1 : List UInt8 := dkwX4_give_1 ++ dktX4_give_2
def dkwX4_give_0 : List UInt8 := [42, 27, 182, 0, 240, 153, 0, 35, 42, 28, 182, 0, 237, 153, 0, 27, 42, 29, 182, 0, 237, 153, 0, 19]
abbrev dktX4_give_0 : List UInt8 := dkwX4_give_0 ++ dktX4_give_1
theorem dksX4_give_0 : cX4_give.data.toList.drop 0 = dktX4_give_0 := by decide +kernel
theorem dksX4_give_1 : cX4_give.data.toList.drop 24 = dktX4_give_1 := dk_seg dksX4_give_0 24 rfl rfl
theorem dksX4_give_2 : cX4_give.data.toList.drop 47 = dktX4_give_2 := dk_seg dksX4_give_1 23 rfl rfl
theorem dksX4_give_3 : cX4_give.data.toList.drop 71 = dktX4_give_3 := dk_seg dksX4_give_2 24 rfl rfl
theorem dksX4_give_4 : cX4_give.data.toList.drop 94 = dktX4_give_4 := dk_seg dksX4_give_3 23 rfl rfl
theorem dksX4_give_5 : cX4_give.data.toList.drop 118 = dktX4_give_5 := dk_seg dksX4_give_4 24 rfl rfl
theorem dX4_give_0 : decode cX4_give 0 = .ok (.aload_n 0, 1) := dk_42 (dk_at dksX4_give_0 0 rfl rfl)
theorem dX4_give_1 : decode cX4_give 1 = .ok (.iload_n 1, 1) := dk_27 (dk_at dksX4_give_0 1 rfl rfl)
theorem dX4_give_2 : decode cX4_give 2 = .ok (.invokevirtual 240, 3) := dk_182 0 240 (dk_at dksX4_give_0 2 rfl rfl)
theorem dX4_give_5 : decode cX4_give 5 = .ok (.ifCond .eq 35, 3) := dk_153 0 35 (dk_at dksX4_give_0 5 rfl rfl)
theorem dX4_give_8 : decode cX4_give 8 = .ok (.aload_n 0, 1) := dk_42 (dk_at dksX4_give_0 8 rfl rfl)
theorem dX4_give_9 : decode cX4_give 9 = .ok (.iload_n 2, 1) := dk_28 (dk_at dksX4_give_0 9 rfl rfl)
theorem dX4_give_10 : decode cX4_give 10 = .ok (.invokevirtual 237, 3) := dk_182 0 237 (dk_at dksX4_give_0 10 rfl rfl)
theorem dX4_give_13 : decode cX4_give 13 = .ok (.ifCond .eq 27, 3) := dk_153 0 27 (dk_at dksX4_give_0 13 rfl rfl)
theorem dX4_give_16 : decode cX4_give 16 = .ok (.aload_n 0, 1) := dk_42 (dk_at dksX4_give_0 16 rfl rfl)
theorem dX4_give_17 : decode cX4_give 17 = .ok (.iload_n 3, 1) := dk_29 (dk_at dksX4_give_0 17 rfl rfl)
theorem dX4_give_18 : decode cX4_give 18 = .ok (.invokevirtual 237, 3) := dk_182 0 237 (dk_at dksX4_give_0 18 rfl rfl)
theorem dX4_give_21 : decode cX4_give 21 = .ok (.ifCond .eq 19, 3) := dk_153 0 19 (dk_at dksX4_give_0 21 rfl rfl)
theorem dX4_give_24 : decode cX4_give 24 = .ok (.iload_n 2, 1) := dk_28 (dk_at dksX4_give_1 0 rfl rfl)
theorem dX4_give_25 : decode cX4_give 25 = .ok (.iload_n 3, 1) := dk_29 (dk_at dksX4_give_1 1 rfl rfl)
theorem dX4_give_26 : decode cX4_give 26 = .ok (.if_icmp .eq 14, 3) := dk_159 0 14 (dk_at dksX4_give_1 2 rfl rfl)
theorem dX4_give_29 : decode cX4_give 29 = .ok (.iload 4, 2) := dk_21 4 (dk_at dksX4_give_1 5 rfl rfl)
theorem dX4_give_31 : decode cX4_give 31 = .ok (.iconst 1, 1) := dk_4 (dk_at dksX4_give_1 7 rfl rfl)
theorem dX4_give_32 : decode cX4_give 32 = .ok (.bipush 12, 2) := dk_16 12 (dk_at dksX4_give_1 8 rfl rfl)
theorem dX4_give_34 : decode cX4_give 34 = .ok (.invokestatic 54, 3) := dk_184 0 54 (dk_at dksX4_give_1 10 rfl rfl)
theorem dX4_give_37 : decode cX4_give 37 = .ok (.ifCond .ne 5, 3) := dk_154 0 5 (dk_at dksX4_give_1 13 rfl rfl)
theorem dX4_give_40 : decode cX4_give 40 = .ok (.iconst (-1), 1) := dk_2 (dk_at dksX4_give_1 16 rfl rfl)
theorem dX4_give_41 : decode cX4_give 41 = .ok (.ireturn, 1) := dk_172 (dk_at dksX4_give_1 17 rfl rfl)
theorem dX4_give_42 : decode cX4_give 42 = .ok (.aload_n 0, 1) := dk_42 (dk_at dksX4_give_1 18 rfl rfl)
theorem dX4_give_43 : decode cX4_give 43 = .ok (.iload_n 1, 1) := dk_27 (dk_at dksX4_give_1 19 rfl rfl)
theorem dX4_give_44 : decode cX4_give 44 = .ok (.invokevirtual 249, 3) := dk_182 0 249 (dk_at dksX4_give_1 20 rfl rfl)
theorem dX4_give_47 : decode cX4_give 47 = .ok (.ifCond .ne 17, 3) := dk_154 0 17 (dk_at dksX4_give_2 0 rfl rfl)
theorem dX4_give_50 : decode cX4_give 50 = .ok (.aload_n 0, 1) := dk_42 (dk_at dksX4_give_2 3 rfl rfl)
theorem dX4_give_51 : decode cX4_give 51 = .ok (.getfield 7, 3) := dk_180 0 7 (dk_at dksX4_give_2 4 rfl rfl)
theorem dX4_give_54 : decode cX4_give 54 = .ok (.iload_n 1, 1) := dk_27 (dk_at dksX4_give_2 7 rfl rfl)
theorem dX4_give_55 : decode cX4_give 55 = .ok (.iload_n 2, 1) := dk_28 (dk_at dksX4_give_2 8 rfl rfl)
theorem dX4_give_56 : decode cX4_give 56 = .ok (.invokestatic 92, 3) := dk_184 0 92 (dk_at dksX4_give_2 9 rfl rfl)
theorem dX4_give_59 : decode cX4_give 59 = .ok (.iload 4, 2) := dk_21 4 (dk_at dksX4_give_2 12 rfl rfl)
theorem dX4_give_61 : decode cX4_give 61 = .ok (.if_icmp .ge 6, 3) := dk_162 0 6 (dk_at dksX4_give_2 14 rfl rfl)
theorem dX4_give_64 : decode cX4_give 64 = .ok (.bipush (-4), 2) := dk_16 252 (dk_at dksX4_give_2 17 rfl rfl)
theorem dX4_give_66 : decode cX4_give 66 = .ok (.ireturn, 1) := dk_172 (dk_at dksX4_give_2 19 rfl rfl)
theorem dX4_give_67 : decode cX4_give 67 = .ok (.aload_n 0, 1) := dk_42 (dk_at dksX4_give_2 20 rfl rfl)
theorem dX4_give_68 : decode cX4_give 68 = .ok (.getfield 7, 3) := dk_180 0 7 (dk_at dksX4_give_2 21 rfl rfl)
theorem dX4_give_71 : decode cX4_give 71 = .ok (.iload_n 1, 1) := dk_27 (dk_at dksX4_give_3 0 rfl rfl)
theorem dX4_give_72 : decode cX4_give 72 = .ok (.invokestatic 95, 3) := dk_184 0 95 (dk_at dksX4_give_3 1 rfl rfl)
theorem dX4_give_75 : decode cX4_give 75 = .ok (.ifCond .ge 18, 3) := dk_156 0 18 (dk_at dksX4_give_3 4 rfl rfl)
theorem dX4_give_78 : decode cX4_give 78 = .ok (.aload_n 0, 1) := dk_42 (dk_at dksX4_give_3 7 rfl rfl)
theorem dX4_give_79 : decode cX4_give 79 = .ok (.getfield 7, 3) := dk_180 0 7 (dk_at dksX4_give_3 8 rfl rfl)
theorem dX4_give_82 : decode cX4_give 82 = .ok (.bipush 6, 2) := dk_16 6 (dk_at dksX4_give_3 11 rfl rfl)
theorem dX4_give_84 : decode cX4_give 84 = .ok (.iaload, 1) := dk_46 (dk_at dksX4_give_3 13 rfl rfl)
theorem dX4_give_85 : decode cX4_give 85 = .ok (.bipush 60, 2) := dk_16 60 (dk_at dksX4_give_3 14 rfl rfl)
theorem dX4_give_87 : decode cX4_give 87 = .ok (.if_icmp .ne 6, 3) := dk_160 0 6 (dk_at dksX4_give_3 16 rfl rfl)
theorem dX4_give_90 : decode cX4_give 90 = .ok (.bipush (-3), 2) := dk_16 253 (dk_at dksX4_give_3 19 rfl rfl)
theorem dX4_give_92 : decode cX4_give 92 = .ok (.ireturn, 1) := dk_172 (dk_at dksX4_give_3 21 rfl rfl)
theorem dX4_give_93 : decode cX4_give 93 = .ok (.aload_n 0, 1) := dk_42 (dk_at dksX4_give_3 22 rfl rfl)
theorem dX4_give_94 : decode cX4_give 94 = .ok (.invokevirtual 230, 3) := dk_182 0 230 (dk_at dksX4_give_4 0 rfl rfl)
theorem dX4_give_97 : decode cX4_give 97 = .ok (.aload_n 0, 1) := dk_42 (dk_at dksX4_give_4 3 rfl rfl)
theorem dX4_give_98 : decode cX4_give 98 = .ok (.getfield 7, 3) := dk_180 0 7 (dk_at dksX4_give_4 4 rfl rfl)
theorem dX4_give_101 : decode cX4_give 101 = .ok (.iload_n 1, 1) := dk_27 (dk_at dksX4_give_4 7 rfl rfl)
theorem dX4_give_102 : decode cX4_give 102 = .ok (.iload_n 2, 1) := dk_28 (dk_at dksX4_give_4 8 rfl rfl)
theorem dX4_give_103 : decode cX4_give 103 = .ok (.iload_n 3, 1) := dk_29 (dk_at dksX4_give_4 9 rfl rfl)
theorem dX4_give_104 : decode cX4_give 104 = .ok (.iload 4, 2) := dk_21 4 (dk_at dksX4_give_4 10 rfl rfl)
theorem dX4_give_106 : decode cX4_give 106 = .ok (.invokestatic 198, 3) := dk_184 0 198 (dk_at dksX4_give_4 12 rfl rfl)
theorem dX4_give_109 : decode cX4_give 109 = .ok (.aload_n 0, 1) := dk_42 (dk_at dksX4_give_4 15 rfl rfl)
theorem dX4_give_110 : decode cX4_give 110 = .ok (.iconst 3, 1) := dk_6 (dk_at dksX4_give_4 16 rfl rfl)
theorem dX4_give_111 : decode cX4_give 111 = .ok (.iload_n 1, 1) := dk_27 (dk_at dksX4_give_4 17 rfl rfl)
theorem dX4_give_112 : decode cX4_give 112 = .ok (.bipush 100, 2) := dk_16 100 (dk_at dksX4_give_4 18 rfl rfl)
theorem dX4_give_114 : decode cX4_give 114 = .ok (.iload_n 2, 1) := dk_28 (dk_at dksX4_give_4 20 rfl rfl)
theorem dX4_give_115 : decode cX4_give 115 = .ok (.imul, 1) := dk_104 (dk_at dksX4_give_4 21 rfl rfl)
theorem dX4_give_116 : decode cX4_give 116 = .ok (.iload_n 3, 1) := dk_29 (dk_at dksX4_give_4 22 rfl rfl)
theorem dX4_give_117 : decode cX4_give 117 = .ok (.iadd, 1) := dk_96 (dk_at dksX4_give_4 23 rfl rfl)
theorem dX4_give_118 : decode cX4_give 118 = .ok (.invokevirtual 233, 3) := dk_182 0 233 (dk_at dksX4_give_5 0 rfl rfl)
theorem dX4_give_121 : decode cX4_give 121 = .ok (.aload_n 0, 1) := dk_42 (dk_at dksX4_give_5 3 rfl rfl)
theorem dX4_give_122 : decode cX4_give 122 = .ok (.getfield 7, 3) := dk_180 0 7 (dk_at dksX4_give_5 4 rfl rfl)
theorem dX4_give_125 : decode cX4_give 125 = .ok (.iload_n 1, 1) := dk_27 (dk_at dksX4_give_5 7 rfl rfl)
theorem dX4_give_126 : decode cX4_give 126 = .ok (.iload_n 3, 1) := dk_29 (dk_at dksX4_give_5 8 rfl rfl)
theorem dX4_give_127 : decode cX4_give 127 = .ok (.invokestatic 92, 3) := dk_184 0 92 (dk_at dksX4_give_5 9 rfl rfl)
theorem dX4_give_130 : decode cX4_give 130 = .ok (.ireturn, 1) := dk_172 (dk_at dksX4_give_5 12 rfl rfl)
abbrev cX4_debt : ByteArray := prog_20_method_79_code
def yX4_debt : MethodName := ⟨RX4, "debt", "(III)I"⟩
def dkwX4_debt_3 : List UInt8 := [54, 4, 42, 7, 21, 4, 29, 182, 0, 233, 21, 4, 172]
abbrev dktX4_debt_3 : List UInt8 := dkwX4_debt_3 ++ []
def dkwX4_debt_2 : List UInt8 := [16, 20, 160, 0, 6, 16, 253, 172, 42, 182, 0, 230, 42, 180, 0, 7, 3, 28, 29, 27, 184, 0, 202]
abbrev dktX4_debt_2 : List UInt8 := dkwX4_debt_2 ++ dktX4_debt_3
def dkwX4_debt_1 : List UInt8 := [154, 0, 5, 2, 172, 42, 27, 182, 0, 249, 153, 0, 6, 16, 252, 172, 42, 180, 0, 7, 16, 7, 46]
abbrev dktX4_debt_1 : List UInt8 := dkwX4_debt_1 ++ dktX4_debt_2
def dkwX4_debt_0 : List UInt8 := [42, 27, 182, 0, 240, 153, 0, 22, 42, 28, 182, 0, 237, 153, 0, 14, 29, 4, 17, 39, 15, 184, 0, 54]
abbrev dktX4_debt_0 : List UInt8 := dkwX4_debt_0 ++ dktX4_debt_1
theorem dksX4_debt_0 : cX4_debt.data.toList.drop 0 = dktX4_debt_0 := by decide +kernel
theorem dksX4_debt_1 : cX4_debt.data.toList.drop 24 = dktX4_debt_1 := dk_seg dksX4_debt_0 24 rfl rfl
theorem dksX4_debt_2 : cX4_debt.data.toList.drop 47 = dktX4_debt_2 := dk_seg dksX4_debt_1 23 rfl rfl
theorem dksX4_debt_3 : cX4_debt.data.toList.drop 70 = dktX4_debt_3 := dk_seg dksX4_debt_2 23 rfl rfl
theorem dX4_debt_0 : decode cX4_debt 0 = .ok (.aload_n 0, 1) := dk_42 (dk_at dksX4_debt_0 0 rfl rfl)
theorem dX4_debt_1 : decode cX4_debt 1 = .ok (.iload_n 1, 1) := dk_27 (dk_at dksX4_debt_0 1 rfl rfl)
theorem dX4_debt_2 : decode cX4_debt 2 = .ok (.invokevirtual 240, 3) := dk_182 0 240 (dk_at dksX4_debt_0 2 rfl rfl)
theorem dX4_debt_5 : decode cX4_debt 5 = .ok (.ifCond .eq 22, 3) := dk_153 0 22 (dk_at dksX4_debt_0 5 rfl rfl)
theorem dX4_debt_8 : decode cX4_debt 8 = .ok (.aload_n 0, 1) := dk_42 (dk_at dksX4_debt_0 8 rfl rfl)
theorem dX4_debt_9 : decode cX4_debt 9 = .ok (.iload_n 2, 1) := dk_28 (dk_at dksX4_debt_0 9 rfl rfl)
theorem dX4_debt_10 : decode cX4_debt 10 = .ok (.invokevirtual 237, 3) := dk_182 0 237 (dk_at dksX4_debt_0 10 rfl rfl)
theorem dX4_debt_13 : decode cX4_debt 13 = .ok (.ifCond .eq 14, 3) := dk_153 0 14 (dk_at dksX4_debt_0 13 rfl rfl)
theorem dX4_debt_16 : decode cX4_debt 16 = .ok (.iload_n 3, 1) := dk_29 (dk_at dksX4_debt_0 16 rfl rfl)
theorem dX4_debt_17 : decode cX4_debt 17 = .ok (.iconst 1, 1) := dk_4 (dk_at dksX4_debt_0 17 rfl rfl)
theorem dX4_debt_18 : decode cX4_debt 18 = .ok (.sipush 9999, 3) := dk_17 39 15 (dk_at dksX4_debt_0 18 rfl rfl)
theorem dX4_debt_21 : decode cX4_debt 21 = .ok (.invokestatic 54, 3) := dk_184 0 54 (dk_at dksX4_debt_0 21 rfl rfl)
theorem dX4_debt_24 : decode cX4_debt 24 = .ok (.ifCond .ne 5, 3) := dk_154 0 5 (dk_at dksX4_debt_1 0 rfl rfl)
theorem dX4_debt_27 : decode cX4_debt 27 = .ok (.iconst (-1), 1) := dk_2 (dk_at dksX4_debt_1 3 rfl rfl)
theorem dX4_debt_28 : decode cX4_debt 28 = .ok (.ireturn, 1) := dk_172 (dk_at dksX4_debt_1 4 rfl rfl)
theorem dX4_debt_29 : decode cX4_debt 29 = .ok (.aload_n 0, 1) := dk_42 (dk_at dksX4_debt_1 5 rfl rfl)
theorem dX4_debt_30 : decode cX4_debt 30 = .ok (.iload_n 1, 1) := dk_27 (dk_at dksX4_debt_1 6 rfl rfl)
theorem dX4_debt_31 : decode cX4_debt 31 = .ok (.invokevirtual 249, 3) := dk_182 0 249 (dk_at dksX4_debt_1 7 rfl rfl)
theorem dX4_debt_34 : decode cX4_debt 34 = .ok (.ifCond .eq 6, 3) := dk_153 0 6 (dk_at dksX4_debt_1 10 rfl rfl)
theorem dX4_debt_37 : decode cX4_debt 37 = .ok (.bipush (-4), 2) := dk_16 252 (dk_at dksX4_debt_1 13 rfl rfl)
theorem dX4_debt_39 : decode cX4_debt 39 = .ok (.ireturn, 1) := dk_172 (dk_at dksX4_debt_1 15 rfl rfl)
theorem dX4_debt_40 : decode cX4_debt 40 = .ok (.aload_n 0, 1) := dk_42 (dk_at dksX4_debt_1 16 rfl rfl)
theorem dX4_debt_41 : decode cX4_debt 41 = .ok (.getfield 7, 3) := dk_180 0 7 (dk_at dksX4_debt_1 17 rfl rfl)
theorem dX4_debt_44 : decode cX4_debt 44 = .ok (.bipush 7, 2) := dk_16 7 (dk_at dksX4_debt_1 20 rfl rfl)
theorem dX4_debt_46 : decode cX4_debt 46 = .ok (.iaload, 1) := dk_46 (dk_at dksX4_debt_1 22 rfl rfl)
theorem dX4_debt_47 : decode cX4_debt 47 = .ok (.bipush 20, 2) := dk_16 20 (dk_at dksX4_debt_2 0 rfl rfl)
theorem dX4_debt_49 : decode cX4_debt 49 = .ok (.if_icmp .ne 6, 3) := dk_160 0 6 (dk_at dksX4_debt_2 2 rfl rfl)
theorem dX4_debt_52 : decode cX4_debt 52 = .ok (.bipush (-3), 2) := dk_16 253 (dk_at dksX4_debt_2 5 rfl rfl)
theorem dX4_debt_54 : decode cX4_debt 54 = .ok (.ireturn, 1) := dk_172 (dk_at dksX4_debt_2 7 rfl rfl)
theorem dX4_debt_55 : decode cX4_debt 55 = .ok (.aload_n 0, 1) := dk_42 (dk_at dksX4_debt_2 8 rfl rfl)
theorem dX4_debt_56 : decode cX4_debt 56 = .ok (.invokevirtual 230, 3) := dk_182 0 230 (dk_at dksX4_debt_2 9 rfl rfl)
theorem dX4_debt_59 : decode cX4_debt 59 = .ok (.aload_n 0, 1) := dk_42 (dk_at dksX4_debt_2 12 rfl rfl)
theorem dX4_debt_60 : decode cX4_debt 60 = .ok (.getfield 7, 3) := dk_180 0 7 (dk_at dksX4_debt_2 13 rfl rfl)
theorem dX4_debt_63 : decode cX4_debt 63 = .ok (.iconst 0, 1) := dk_3 (dk_at dksX4_debt_2 16 rfl rfl)
theorem dX4_debt_64 : decode cX4_debt 64 = .ok (.iload_n 2, 1) := dk_28 (dk_at dksX4_debt_2 17 rfl rfl)
theorem dX4_debt_65 : decode cX4_debt 65 = .ok (.iload_n 3, 1) := dk_29 (dk_at dksX4_debt_2 18 rfl rfl)
theorem dX4_debt_66 : decode cX4_debt 66 = .ok (.iload_n 1, 1) := dk_27 (dk_at dksX4_debt_2 19 rfl rfl)
theorem dX4_debt_67 : decode cX4_debt 67 = .ok (.invokestatic 202, 3) := dk_184 0 202 (dk_at dksX4_debt_2 20 rfl rfl)
theorem dX4_debt_70 : decode cX4_debt 70 = .ok (.istore 4, 2) := dk_54 4 (dk_at dksX4_debt_3 0 rfl rfl)
theorem dX4_debt_72 : decode cX4_debt 72 = .ok (.aload_n 0, 1) := dk_42 (dk_at dksX4_debt_3 2 rfl rfl)
theorem dX4_debt_73 : decode cX4_debt 73 = .ok (.iconst 4, 1) := dk_7 (dk_at dksX4_debt_3 3 rfl rfl)
theorem dX4_debt_74 : decode cX4_debt 74 = .ok (.iload 4, 2) := dk_21 4 (dk_at dksX4_debt_3 4 rfl rfl)
theorem dX4_debt_76 : decode cX4_debt 76 = .ok (.iload_n 3, 1) := dk_29 (dk_at dksX4_debt_3 6 rfl rfl)
theorem dX4_debt_77 : decode cX4_debt 77 = .ok (.invokevirtual 233, 3) := dk_182 0 233 (dk_at dksX4_debt_3 7 rfl rfl)
theorem dX4_debt_80 : decode cX4_debt 80 = .ok (.iload 4, 2) := dk_21 4 (dk_at dksX4_debt_3 10 rfl rfl)
theorem dX4_debt_82 : decode cX4_debt 82 = .ok (.ireturn, 1) := dk_172 (dk_at dksX4_debt_3 12 rfl rfl)
abbrev cX4_path : ByteArray := prog_20_method_80_code
def yX4_path : MethodName := ⟨RX4, "path", "(II)I"⟩
def dkwX4_path_4 : List UInt8 := [21, 4, 172]
abbrev dktX4_path_4 : List UInt8 := dkwX4_path_4 ++ []
def dkwX4_path_3 : List UInt8 := [182, 0, 230, 42, 180, 0, 7, 4, 27, 28, 29, 184, 0, 202, 54, 4, 42, 8, 21, 4, 29, 182, 0, 233]
abbrev dktX4_path_3 : List UInt8 := dkwX4_path_3 ++ dktX4_path_4
def dkwX4_path_2 : List UInt8 := [153, 0, 6, 16, 254, 172, 42, 180, 0, 7, 16, 7, 46, 16, 20, 160, 0, 6, 16, 253, 172, 42]
abbrev dktX4_path_2 : List UInt8 := dkwX4_path_2 ++ dktX4_path_3
def dkwX4_path_1 : List UInt8 := [180, 0, 7, 29, 184, 0, 243, 153, 0, 6, 16, 252, 172, 42, 180, 0, 7, 27, 28, 184, 0, 206]
abbrev dktX4_path_1 : List UInt8 := dkwX4_path_1 ++ dktX4_path_2
def dkwX4_path_0 : List UInt8 := [42, 27, 28, 182, 1, 12, 154, 0, 5, 2, 172, 42, 180, 0, 7, 27, 28, 184, 1, 15, 62, 42]
abbrev dktX4_path_0 : List UInt8 := dkwX4_path_0 ++ dktX4_path_1
theorem dksX4_path_0 : cX4_path.data.toList.drop 0 = dktX4_path_0 := by decide +kernel
theorem dksX4_path_1 : cX4_path.data.toList.drop 22 = dktX4_path_1 := dk_seg dksX4_path_0 22 rfl rfl
theorem dksX4_path_2 : cX4_path.data.toList.drop 44 = dktX4_path_2 := dk_seg dksX4_path_1 22 rfl rfl
theorem dksX4_path_3 : cX4_path.data.toList.drop 66 = dktX4_path_3 := dk_seg dksX4_path_2 22 rfl rfl
theorem dksX4_path_4 : cX4_path.data.toList.drop 90 = dktX4_path_4 := dk_seg dksX4_path_3 24 rfl rfl
theorem dX4_path_0 : decode cX4_path 0 = .ok (.aload_n 0, 1) := dk_42 (dk_at dksX4_path_0 0 rfl rfl)
theorem dX4_path_1 : decode cX4_path 1 = .ok (.iload_n 1, 1) := dk_27 (dk_at dksX4_path_0 1 rfl rfl)
theorem dX4_path_2 : decode cX4_path 2 = .ok (.iload_n 2, 1) := dk_28 (dk_at dksX4_path_0 2 rfl rfl)
theorem dX4_path_3 : decode cX4_path 3 = .ok (.invokevirtual 268, 3) := dk_182 1 12 (dk_at dksX4_path_0 3 rfl rfl)
theorem dX4_path_6 : decode cX4_path 6 = .ok (.ifCond .ne 5, 3) := dk_154 0 5 (dk_at dksX4_path_0 6 rfl rfl)
theorem dX4_path_9 : decode cX4_path 9 = .ok (.iconst (-1), 1) := dk_2 (dk_at dksX4_path_0 9 rfl rfl)
theorem dX4_path_10 : decode cX4_path 10 = .ok (.ireturn, 1) := dk_172 (dk_at dksX4_path_0 10 rfl rfl)
theorem dX4_path_11 : decode cX4_path 11 = .ok (.aload_n 0, 1) := dk_42 (dk_at dksX4_path_0 11 rfl rfl)
theorem dX4_path_12 : decode cX4_path 12 = .ok (.getfield 7, 3) := dk_180 0 7 (dk_at dksX4_path_0 12 rfl rfl)
theorem dX4_path_15 : decode cX4_path 15 = .ok (.iload_n 1, 1) := dk_27 (dk_at dksX4_path_0 15 rfl rfl)
theorem dX4_path_16 : decode cX4_path 16 = .ok (.iload_n 2, 1) := dk_28 (dk_at dksX4_path_0 16 rfl rfl)
theorem dX4_path_17 : decode cX4_path 17 = .ok (.invokestatic 271, 3) := dk_184 1 15 (dk_at dksX4_path_0 17 rfl rfl)
theorem dX4_path_20 : decode cX4_path 20 = .ok (.istore_n 3, 1) := dk_62 (dk_at dksX4_path_0 20 rfl rfl)
theorem dX4_path_21 : decode cX4_path 21 = .ok (.aload_n 0, 1) := dk_42 (dk_at dksX4_path_0 21 rfl rfl)
theorem dX4_path_22 : decode cX4_path 22 = .ok (.getfield 7, 3) := dk_180 0 7 (dk_at dksX4_path_1 0 rfl rfl)
theorem dX4_path_25 : decode cX4_path 25 = .ok (.iload_n 3, 1) := dk_29 (dk_at dksX4_path_1 3 rfl rfl)
theorem dX4_path_26 : decode cX4_path 26 = .ok (.invokestatic 243, 3) := dk_184 0 243 (dk_at dksX4_path_1 4 rfl rfl)
theorem dX4_path_29 : decode cX4_path 29 = .ok (.ifCond .eq 6, 3) := dk_153 0 6 (dk_at dksX4_path_1 7 rfl rfl)
theorem dX4_path_32 : decode cX4_path 32 = .ok (.bipush (-4), 2) := dk_16 252 (dk_at dksX4_path_1 10 rfl rfl)
theorem dX4_path_34 : decode cX4_path 34 = .ok (.ireturn, 1) := dk_172 (dk_at dksX4_path_1 12 rfl rfl)
theorem dX4_path_35 : decode cX4_path 35 = .ok (.aload_n 0, 1) := dk_42 (dk_at dksX4_path_1 13 rfl rfl)
theorem dX4_path_36 : decode cX4_path 36 = .ok (.getfield 7, 3) := dk_180 0 7 (dk_at dksX4_path_1 14 rfl rfl)
theorem dX4_path_39 : decode cX4_path 39 = .ok (.iload_n 1, 1) := dk_27 (dk_at dksX4_path_1 17 rfl rfl)
theorem dX4_path_40 : decode cX4_path 40 = .ok (.iload_n 2, 1) := dk_28 (dk_at dksX4_path_1 18 rfl rfl)
theorem dX4_path_41 : decode cX4_path 41 = .ok (.invokestatic 206, 3) := dk_184 0 206 (dk_at dksX4_path_1 19 rfl rfl)
theorem dX4_path_44 : decode cX4_path 44 = .ok (.ifCond .eq 6, 3) := dk_153 0 6 (dk_at dksX4_path_2 0 rfl rfl)
theorem dX4_path_47 : decode cX4_path 47 = .ok (.bipush (-2), 2) := dk_16 254 (dk_at dksX4_path_2 3 rfl rfl)
theorem dX4_path_49 : decode cX4_path 49 = .ok (.ireturn, 1) := dk_172 (dk_at dksX4_path_2 5 rfl rfl)
theorem dX4_path_50 : decode cX4_path 50 = .ok (.aload_n 0, 1) := dk_42 (dk_at dksX4_path_2 6 rfl rfl)
theorem dX4_path_51 : decode cX4_path 51 = .ok (.getfield 7, 3) := dk_180 0 7 (dk_at dksX4_path_2 7 rfl rfl)
theorem dX4_path_54 : decode cX4_path 54 = .ok (.bipush 7, 2) := dk_16 7 (dk_at dksX4_path_2 10 rfl rfl)
theorem dX4_path_56 : decode cX4_path 56 = .ok (.iaload, 1) := dk_46 (dk_at dksX4_path_2 12 rfl rfl)
theorem dX4_path_57 : decode cX4_path 57 = .ok (.bipush 20, 2) := dk_16 20 (dk_at dksX4_path_2 13 rfl rfl)
theorem dX4_path_59 : decode cX4_path 59 = .ok (.if_icmp .ne 6, 3) := dk_160 0 6 (dk_at dksX4_path_2 15 rfl rfl)
theorem dX4_path_62 : decode cX4_path 62 = .ok (.bipush (-3), 2) := dk_16 253 (dk_at dksX4_path_2 18 rfl rfl)
theorem dX4_path_64 : decode cX4_path 64 = .ok (.ireturn, 1) := dk_172 (dk_at dksX4_path_2 20 rfl rfl)
theorem dX4_path_65 : decode cX4_path 65 = .ok (.aload_n 0, 1) := dk_42 (dk_at dksX4_path_2 21 rfl rfl)
theorem dX4_path_66 : decode cX4_path 66 = .ok (.invokevirtual 230, 3) := dk_182 0 230 (dk_at dksX4_path_3 0 rfl rfl)
theorem dX4_path_69 : decode cX4_path 69 = .ok (.aload_n 0, 1) := dk_42 (dk_at dksX4_path_3 3 rfl rfl)
theorem dX4_path_70 : decode cX4_path 70 = .ok (.getfield 7, 3) := dk_180 0 7 (dk_at dksX4_path_3 4 rfl rfl)
theorem dX4_path_73 : decode cX4_path 73 = .ok (.iconst 1, 1) := dk_4 (dk_at dksX4_path_3 7 rfl rfl)
theorem dX4_path_74 : decode cX4_path 74 = .ok (.iload_n 1, 1) := dk_27 (dk_at dksX4_path_3 8 rfl rfl)
theorem dX4_path_75 : decode cX4_path 75 = .ok (.iload_n 2, 1) := dk_28 (dk_at dksX4_path_3 9 rfl rfl)
theorem dX4_path_76 : decode cX4_path 76 = .ok (.iload_n 3, 1) := dk_29 (dk_at dksX4_path_3 10 rfl rfl)
theorem dX4_path_77 : decode cX4_path 77 = .ok (.invokestatic 202, 3) := dk_184 0 202 (dk_at dksX4_path_3 11 rfl rfl)
theorem dX4_path_80 : decode cX4_path 80 = .ok (.istore 4, 2) := dk_54 4 (dk_at dksX4_path_3 14 rfl rfl)
theorem dX4_path_82 : decode cX4_path 82 = .ok (.aload_n 0, 1) := dk_42 (dk_at dksX4_path_3 16 rfl rfl)
theorem dX4_path_83 : decode cX4_path 83 = .ok (.iconst 5, 1) := dk_8 (dk_at dksX4_path_3 17 rfl rfl)
theorem dX4_path_84 : decode cX4_path 84 = .ok (.iload 4, 2) := dk_21 4 (dk_at dksX4_path_3 18 rfl rfl)
theorem dX4_path_86 : decode cX4_path 86 = .ok (.iload_n 3, 1) := dk_29 (dk_at dksX4_path_3 20 rfl rfl)
theorem dX4_path_87 : decode cX4_path 87 = .ok (.invokevirtual 233, 3) := dk_182 0 233 (dk_at dksX4_path_3 21 rfl rfl)
theorem dX4_path_90 : decode cX4_path 90 = .ok (.iload 4, 2) := dk_21 4 (dk_at dksX4_path_4 0 rfl rfl)
theorem dX4_path_92 : decode cX4_path 92 = .ok (.ireturn, 1) := dk_172 (dk_at dksX4_path_4 2 rfl rfl)
abbrev cX4_isSquare : ByteArray := prog_20_method_12_code
def yX4_isSquare : MethodName := ⟨RX4, "isSquare", "(II)Z"⟩
def dkwX4_isSquare_1 : List UInt8 := [4, 100, 184, 0, 54, 153, 0, 7, 4, 167, 0, 4, 3, 172]
abbrev dktX4_isSquare_1 : List UInt8 := dkwX4_isSquare_1 ++ []
def dkwX4_isSquare_0 : List UInt8 := [27, 3, 42, 180, 0, 7, 3, 46, 4, 100, 184, 0, 54, 153, 0, 23, 28, 3, 42, 180, 0, 7, 4, 46]
abbrev dktX4_isSquare_0 : List UInt8 := dkwX4_isSquare_0 ++ dktX4_isSquare_1
theorem dksX4_isSquare_0 : cX4_isSquare.data.toList.drop 0 = dktX4_isSquare_0 := by decide +kernel
theorem dksX4_isSquare_1 : cX4_isSquare.data.toList.drop 24 = dktX4_isSquare_1 := dk_seg dksX4_isSquare_0 24 rfl rfl
theorem dX4_isSquare_0 : decode cX4_isSquare 0 = .ok (.iload_n 1, 1) := dk_27 (dk_at dksX4_isSquare_0 0 rfl rfl)
theorem dX4_isSquare_1 : decode cX4_isSquare 1 = .ok (.iconst 0, 1) := dk_3 (dk_at dksX4_isSquare_0 1 rfl rfl)
theorem dX4_isSquare_2 : decode cX4_isSquare 2 = .ok (.aload_n 0, 1) := dk_42 (dk_at dksX4_isSquare_0 2 rfl rfl)
theorem dX4_isSquare_3 : decode cX4_isSquare 3 = .ok (.getfield 7, 3) := dk_180 0 7 (dk_at dksX4_isSquare_0 3 rfl rfl)
theorem dX4_isSquare_6 : decode cX4_isSquare 6 = .ok (.iconst 0, 1) := dk_3 (dk_at dksX4_isSquare_0 6 rfl rfl)
theorem dX4_isSquare_7 : decode cX4_isSquare 7 = .ok (.iaload, 1) := dk_46 (dk_at dksX4_isSquare_0 7 rfl rfl)
theorem dX4_isSquare_8 : decode cX4_isSquare 8 = .ok (.iconst 1, 1) := dk_4 (dk_at dksX4_isSquare_0 8 rfl rfl)
theorem dX4_isSquare_9 : decode cX4_isSquare 9 = .ok (.isub, 1) := dk_100 (dk_at dksX4_isSquare_0 9 rfl rfl)
theorem dX4_isSquare_10 : decode cX4_isSquare 10 = .ok (.invokestatic 54, 3) := dk_184 0 54 (dk_at dksX4_isSquare_0 10 rfl rfl)
theorem dX4_isSquare_13 : decode cX4_isSquare 13 = .ok (.ifCond .eq 23, 3) := dk_153 0 23 (dk_at dksX4_isSquare_0 13 rfl rfl)
theorem dX4_isSquare_16 : decode cX4_isSquare 16 = .ok (.iload_n 2, 1) := dk_28 (dk_at dksX4_isSquare_0 16 rfl rfl)
theorem dX4_isSquare_17 : decode cX4_isSquare 17 = .ok (.iconst 0, 1) := dk_3 (dk_at dksX4_isSquare_0 17 rfl rfl)
theorem dX4_isSquare_18 : decode cX4_isSquare 18 = .ok (.aload_n 0, 1) := dk_42 (dk_at dksX4_isSquare_0 18 rfl rfl)
theorem dX4_isSquare_19 : decode cX4_isSquare 19 = .ok (.getfield 7, 3) := dk_180 0 7 (dk_at dksX4_isSquare_0 19 rfl rfl)
theorem dX4_isSquare_22 : decode cX4_isSquare 22 = .ok (.iconst 1, 1) := dk_4 (dk_at dksX4_isSquare_0 22 rfl rfl)
theorem dX4_isSquare_23 : decode cX4_isSquare 23 = .ok (.iaload, 1) := dk_46 (dk_at dksX4_isSquare_0 23 rfl rfl)
theorem dX4_isSquare_24 : decode cX4_isSquare 24 = .ok (.iconst 1, 1) := dk_4 (dk_at dksX4_isSquare_1 0 rfl rfl)
theorem dX4_isSquare_25 : decode cX4_isSquare 25 = .ok (.isub, 1) := dk_100 (dk_at dksX4_isSquare_1 1 rfl rfl)
theorem dX4_isSquare_26 : decode cX4_isSquare 26 = .ok (.invokestatic 54, 3) := dk_184 0 54 (dk_at dksX4_isSquare_1 2 rfl rfl)
theorem dX4_isSquare_29 : decode cX4_isSquare 29 = .ok (.ifCond .eq 7, 3) := dk_153 0 7 (dk_at dksX4_isSquare_1 5 rfl rfl)
theorem dX4_isSquare_32 : decode cX4_isSquare 32 = .ok (.iconst 1, 1) := dk_4 (dk_at dksX4_isSquare_1 8 rfl rfl)
theorem dX4_isSquare_33 : decode cX4_isSquare 33 = .ok (.goto 4, 3) := dk_167 0 4 (dk_at dksX4_isSquare_1 9 rfl rfl)
theorem dX4_isSquare_36 : decode cX4_isSquare 36 = .ok (.iconst 0, 1) := dk_3 (dk_at dksX4_isSquare_1 12 rfl rfl)
theorem dX4_isSquare_37 : decode cX4_isSquare 37 = .ok (.ireturn, 1) := dk_172 (dk_at dksX4_isSquare_1 13 rfl rfl)
abbrev cX4_liveAt : ByteArray := prog_20_method_21_code
def yX4_liveAt : MethodName := ⟨RX4, "liveAt", "([III)I"⟩
def dkwX4_liveAt_1 : List UInt8 := [167, 255, 235, 29, 172]
abbrev dktX4_liveAt_1 : List UInt8 := dkwX4_liveAt_1 ++ []
def dkwX4_liveAt_0 : List UInt8 := [3, 62, 42, 29, 184, 0, 73, 153, 0, 13, 42, 29, 27, 28, 184, 0, 77, 154, 0, 9, 132, 3, 1]
abbrev dktX4_liveAt_0 : List UInt8 := dkwX4_liveAt_0 ++ dktX4_liveAt_1
theorem dksX4_liveAt_0 : cX4_liveAt.data.toList.drop 0 = dktX4_liveAt_0 := by decide +kernel
theorem dksX4_liveAt_1 : cX4_liveAt.data.toList.drop 23 = dktX4_liveAt_1 := dk_seg dksX4_liveAt_0 23 rfl rfl
theorem dX4_liveAt_0 : decode cX4_liveAt 0 = .ok (.iconst 0, 1) := dk_3 (dk_at dksX4_liveAt_0 0 rfl rfl)
theorem dX4_liveAt_1 : decode cX4_liveAt 1 = .ok (.istore_n 3, 1) := dk_62 (dk_at dksX4_liveAt_0 1 rfl rfl)
theorem dX4_liveAt_2 : decode cX4_liveAt 2 = .ok (.aload_n 0, 1) := dk_42 (dk_at dksX4_liveAt_0 2 rfl rfl)
theorem dX4_liveAt_3 : decode cX4_liveAt 3 = .ok (.iload_n 3, 1) := dk_29 (dk_at dksX4_liveAt_0 3 rfl rfl)
theorem dX4_liveAt_4 : decode cX4_liveAt 4 = .ok (.invokestatic 73, 3) := dk_184 0 73 (dk_at dksX4_liveAt_0 4 rfl rfl)
theorem dX4_liveAt_7 : decode cX4_liveAt 7 = .ok (.ifCond .eq 13, 3) := dk_153 0 13 (dk_at dksX4_liveAt_0 7 rfl rfl)
theorem dX4_liveAt_10 : decode cX4_liveAt 10 = .ok (.aload_n 0, 1) := dk_42 (dk_at dksX4_liveAt_0 10 rfl rfl)
theorem dX4_liveAt_11 : decode cX4_liveAt 11 = .ok (.iload_n 3, 1) := dk_29 (dk_at dksX4_liveAt_0 11 rfl rfl)
theorem dX4_liveAt_12 : decode cX4_liveAt 12 = .ok (.iload_n 1, 1) := dk_27 (dk_at dksX4_liveAt_0 12 rfl rfl)
theorem dX4_liveAt_13 : decode cX4_liveAt 13 = .ok (.iload_n 2, 1) := dk_28 (dk_at dksX4_liveAt_0 13 rfl rfl)
theorem dX4_liveAt_14 : decode cX4_liveAt 14 = .ok (.invokestatic 77, 3) := dk_184 0 77 (dk_at dksX4_liveAt_0 14 rfl rfl)
theorem dX4_liveAt_17 : decode cX4_liveAt 17 = .ok (.ifCond .ne 9, 3) := dk_154 0 9 (dk_at dksX4_liveAt_0 17 rfl rfl)
theorem dX4_liveAt_20 : decode cX4_liveAt 20 = .ok (.iinc 3 1, 3) := dk_132 3 1 (dk_at dksX4_liveAt_0 20 rfl rfl)
theorem dX4_liveAt_23 : decode cX4_liveAt 23 = .ok (.goto (-21), 3) := dk_167 255 235 (dk_at dksX4_liveAt_1 0 rfl rfl)
theorem dX4_liveAt_26 : decode cX4_liveAt 26 = .ok (.iload_n 3, 1) := dk_29 (dk_at dksX4_liveAt_1 3 rfl rfl)
theorem dX4_liveAt_27 : decode cX4_liveAt 27 = .ok (.ireturn, 1) := dk_172 (dk_at dksX4_liveAt_1 4 rfl rfl)
abbrev cX4_pay : ByteArray := prog_20_method_81_code
def yX4_pay : MethodName := ⟨RX4, "pay", "(II)I"⟩
def dkwX4_pay_4 : List UInt8 := [154, 0, 11, 42, 180, 0, 7, 27, 184, 1, 21, 42, 16, 6, 27, 29, 182, 0, 233, 29, 172]
abbrev dktX4_pay_4 : List UInt8 := dkwX4_pay_4 ++ []
def dkwX4_pay_3 : List UInt8 := [27, 5, 184, 0, 101, 92, 46, 28, 100, 79, 42, 180, 0, 7, 27, 5, 184, 0, 101, 46, 62, 29]
abbrev dktX4_pay_3 : List UInt8 := dkwX4_pay_3 ++ dktX4_pay_4
def dkwX4_pay_2 : List UInt8 := [180, 0, 7, 27, 5, 184, 0, 101, 46, 28, 162, 0, 6, 16, 252, 172, 42, 182, 0, 230, 42, 180, 0, 7]
abbrev dktX4_pay_2 : List UInt8 := dkwX4_pay_2 ++ dktX4_pay_3
def dkwX4_pay_1 : List UInt8 := [180, 0, 7, 27, 184, 0, 108, 154, 0, 28, 42, 180, 0, 7, 27, 184, 0, 117, 154, 0, 17, 42]
abbrev dktX4_pay_1 : List UInt8 := dkwX4_pay_1 ++ dktX4_pay_2
def dkwX4_pay_0 : List UInt8 := [42, 27, 182, 1, 18, 153, 0, 14, 28, 4, 17, 39, 15, 184, 0, 54, 154, 0, 5, 2, 172, 42]
abbrev dktX4_pay_0 : List UInt8 := dkwX4_pay_0 ++ dktX4_pay_1
theorem dksX4_pay_0 : cX4_pay.data.toList.drop 0 = dktX4_pay_0 := by decide +kernel
theorem dksX4_pay_1 : cX4_pay.data.toList.drop 22 = dktX4_pay_1 := dk_seg dksX4_pay_0 22 rfl rfl
theorem dksX4_pay_2 : cX4_pay.data.toList.drop 44 = dktX4_pay_2 := dk_seg dksX4_pay_1 22 rfl rfl
theorem dksX4_pay_3 : cX4_pay.data.toList.drop 68 = dktX4_pay_3 := dk_seg dksX4_pay_2 24 rfl rfl
theorem dksX4_pay_4 : cX4_pay.data.toList.drop 90 = dktX4_pay_4 := dk_seg dksX4_pay_3 22 rfl rfl
theorem dX4_pay_0 : decode cX4_pay 0 = .ok (.aload_n 0, 1) := dk_42 (dk_at dksX4_pay_0 0 rfl rfl)
theorem dX4_pay_1 : decode cX4_pay 1 = .ok (.iload_n 1, 1) := dk_27 (dk_at dksX4_pay_0 1 rfl rfl)
theorem dX4_pay_2 : decode cX4_pay 2 = .ok (.invokevirtual 274, 3) := dk_182 1 18 (dk_at dksX4_pay_0 2 rfl rfl)
theorem dX4_pay_5 : decode cX4_pay 5 = .ok (.ifCond .eq 14, 3) := dk_153 0 14 (dk_at dksX4_pay_0 5 rfl rfl)
theorem dX4_pay_8 : decode cX4_pay 8 = .ok (.iload_n 2, 1) := dk_28 (dk_at dksX4_pay_0 8 rfl rfl)
theorem dX4_pay_9 : decode cX4_pay 9 = .ok (.iconst 1, 1) := dk_4 (dk_at dksX4_pay_0 9 rfl rfl)
theorem dX4_pay_10 : decode cX4_pay 10 = .ok (.sipush 9999, 3) := dk_17 39 15 (dk_at dksX4_pay_0 10 rfl rfl)
theorem dX4_pay_13 : decode cX4_pay 13 = .ok (.invokestatic 54, 3) := dk_184 0 54 (dk_at dksX4_pay_0 13 rfl rfl)
theorem dX4_pay_16 : decode cX4_pay 16 = .ok (.ifCond .ne 5, 3) := dk_154 0 5 (dk_at dksX4_pay_0 16 rfl rfl)
theorem dX4_pay_19 : decode cX4_pay 19 = .ok (.iconst (-1), 1) := dk_2 (dk_at dksX4_pay_0 19 rfl rfl)
theorem dX4_pay_20 : decode cX4_pay 20 = .ok (.ireturn, 1) := dk_172 (dk_at dksX4_pay_0 20 rfl rfl)
theorem dX4_pay_21 : decode cX4_pay 21 = .ok (.aload_n 0, 1) := dk_42 (dk_at dksX4_pay_0 21 rfl rfl)
theorem dX4_pay_22 : decode cX4_pay 22 = .ok (.getfield 7, 3) := dk_180 0 7 (dk_at dksX4_pay_1 0 rfl rfl)
theorem dX4_pay_25 : decode cX4_pay 25 = .ok (.iload_n 1, 1) := dk_27 (dk_at dksX4_pay_1 3 rfl rfl)
theorem dX4_pay_26 : decode cX4_pay 26 = .ok (.invokestatic 108, 3) := dk_184 0 108 (dk_at dksX4_pay_1 4 rfl rfl)
theorem dX4_pay_29 : decode cX4_pay 29 = .ok (.ifCond .ne 28, 3) := dk_154 0 28 (dk_at dksX4_pay_1 7 rfl rfl)
theorem dX4_pay_32 : decode cX4_pay 32 = .ok (.aload_n 0, 1) := dk_42 (dk_at dksX4_pay_1 10 rfl rfl)
theorem dX4_pay_33 : decode cX4_pay 33 = .ok (.getfield 7, 3) := dk_180 0 7 (dk_at dksX4_pay_1 11 rfl rfl)
theorem dX4_pay_36 : decode cX4_pay 36 = .ok (.iload_n 1, 1) := dk_27 (dk_at dksX4_pay_1 14 rfl rfl)
theorem dX4_pay_37 : decode cX4_pay 37 = .ok (.invokestatic 117, 3) := dk_184 0 117 (dk_at dksX4_pay_1 15 rfl rfl)
theorem dX4_pay_40 : decode cX4_pay 40 = .ok (.ifCond .ne 17, 3) := dk_154 0 17 (dk_at dksX4_pay_1 18 rfl rfl)
theorem dX4_pay_43 : decode cX4_pay 43 = .ok (.aload_n 0, 1) := dk_42 (dk_at dksX4_pay_1 21 rfl rfl)
theorem dX4_pay_44 : decode cX4_pay 44 = .ok (.getfield 7, 3) := dk_180 0 7 (dk_at dksX4_pay_2 0 rfl rfl)
theorem dX4_pay_47 : decode cX4_pay 47 = .ok (.iload_n 1, 1) := dk_27 (dk_at dksX4_pay_2 3 rfl rfl)
theorem dX4_pay_48 : decode cX4_pay 48 = .ok (.iconst 2, 1) := dk_5 (dk_at dksX4_pay_2 4 rfl rfl)
theorem dX4_pay_49 : decode cX4_pay 49 = .ok (.invokestatic 101, 3) := dk_184 0 101 (dk_at dksX4_pay_2 5 rfl rfl)
theorem dX4_pay_52 : decode cX4_pay 52 = .ok (.iaload, 1) := dk_46 (dk_at dksX4_pay_2 8 rfl rfl)
theorem dX4_pay_53 : decode cX4_pay 53 = .ok (.iload_n 2, 1) := dk_28 (dk_at dksX4_pay_2 9 rfl rfl)
theorem dX4_pay_54 : decode cX4_pay 54 = .ok (.if_icmp .ge 6, 3) := dk_162 0 6 (dk_at dksX4_pay_2 10 rfl rfl)
theorem dX4_pay_57 : decode cX4_pay 57 = .ok (.bipush (-4), 2) := dk_16 252 (dk_at dksX4_pay_2 13 rfl rfl)
theorem dX4_pay_59 : decode cX4_pay 59 = .ok (.ireturn, 1) := dk_172 (dk_at dksX4_pay_2 15 rfl rfl)
theorem dX4_pay_60 : decode cX4_pay 60 = .ok (.aload_n 0, 1) := dk_42 (dk_at dksX4_pay_2 16 rfl rfl)
theorem dX4_pay_61 : decode cX4_pay 61 = .ok (.invokevirtual 230, 3) := dk_182 0 230 (dk_at dksX4_pay_2 17 rfl rfl)
theorem dX4_pay_64 : decode cX4_pay 64 = .ok (.aload_n 0, 1) := dk_42 (dk_at dksX4_pay_2 20 rfl rfl)
theorem dX4_pay_65 : decode cX4_pay 65 = .ok (.getfield 7, 3) := dk_180 0 7 (dk_at dksX4_pay_2 21 rfl rfl)
theorem dX4_pay_68 : decode cX4_pay 68 = .ok (.iload_n 1, 1) := dk_27 (dk_at dksX4_pay_3 0 rfl rfl)
theorem dX4_pay_69 : decode cX4_pay 69 = .ok (.iconst 2, 1) := dk_5 (dk_at dksX4_pay_3 1 rfl rfl)
theorem dX4_pay_70 : decode cX4_pay 70 = .ok (.invokestatic 101, 3) := dk_184 0 101 (dk_at dksX4_pay_3 2 rfl rfl)
theorem dX4_pay_73 : decode cX4_pay 73 = .ok (.dup2, 1) := dk_92 (dk_at dksX4_pay_3 5 rfl rfl)
theorem dX4_pay_74 : decode cX4_pay 74 = .ok (.iaload, 1) := dk_46 (dk_at dksX4_pay_3 6 rfl rfl)
theorem dX4_pay_75 : decode cX4_pay 75 = .ok (.iload_n 2, 1) := dk_28 (dk_at dksX4_pay_3 7 rfl rfl)
theorem dX4_pay_76 : decode cX4_pay 76 = .ok (.isub, 1) := dk_100 (dk_at dksX4_pay_3 8 rfl rfl)
theorem dX4_pay_77 : decode cX4_pay 77 = .ok (.iastore, 1) := dk_79 (dk_at dksX4_pay_3 9 rfl rfl)
theorem dX4_pay_78 : decode cX4_pay 78 = .ok (.aload_n 0, 1) := dk_42 (dk_at dksX4_pay_3 10 rfl rfl)
theorem dX4_pay_79 : decode cX4_pay 79 = .ok (.getfield 7, 3) := dk_180 0 7 (dk_at dksX4_pay_3 11 rfl rfl)
theorem dX4_pay_82 : decode cX4_pay 82 = .ok (.iload_n 1, 1) := dk_27 (dk_at dksX4_pay_3 14 rfl rfl)
theorem dX4_pay_83 : decode cX4_pay 83 = .ok (.iconst 2, 1) := dk_5 (dk_at dksX4_pay_3 15 rfl rfl)
theorem dX4_pay_84 : decode cX4_pay 84 = .ok (.invokestatic 101, 3) := dk_184 0 101 (dk_at dksX4_pay_3 16 rfl rfl)
theorem dX4_pay_87 : decode cX4_pay 87 = .ok (.iaload, 1) := dk_46 (dk_at dksX4_pay_3 19 rfl rfl)
theorem dX4_pay_88 : decode cX4_pay 88 = .ok (.istore_n 3, 1) := dk_62 (dk_at dksX4_pay_3 20 rfl rfl)
theorem dX4_pay_89 : decode cX4_pay 89 = .ok (.iload_n 3, 1) := dk_29 (dk_at dksX4_pay_3 21 rfl rfl)
theorem dX4_pay_90 : decode cX4_pay 90 = .ok (.ifCond .ne 11, 3) := dk_154 0 11 (dk_at dksX4_pay_4 0 rfl rfl)
theorem dX4_pay_93 : decode cX4_pay 93 = .ok (.aload_n 0, 1) := dk_42 (dk_at dksX4_pay_4 3 rfl rfl)
theorem dX4_pay_94 : decode cX4_pay 94 = .ok (.getfield 7, 3) := dk_180 0 7 (dk_at dksX4_pay_4 4 rfl rfl)
theorem dX4_pay_97 : decode cX4_pay 97 = .ok (.iload_n 1, 1) := dk_27 (dk_at dksX4_pay_4 7 rfl rfl)
theorem dX4_pay_98 : decode cX4_pay 98 = .ok (.invokestatic 277, 3) := dk_184 1 21 (dk_at dksX4_pay_4 8 rfl rfl)
theorem dX4_pay_101 : decode cX4_pay 101 = .ok (.aload_n 0, 1) := dk_42 (dk_at dksX4_pay_4 11 rfl rfl)
theorem dX4_pay_102 : decode cX4_pay 102 = .ok (.bipush 6, 2) := dk_16 6 (dk_at dksX4_pay_4 12 rfl rfl)
theorem dX4_pay_104 : decode cX4_pay 104 = .ok (.iload_n 1, 1) := dk_27 (dk_at dksX4_pay_4 14 rfl rfl)
theorem dX4_pay_105 : decode cX4_pay 105 = .ok (.iload_n 3, 1) := dk_29 (dk_at dksX4_pay_4 15 rfl rfl)
theorem dX4_pay_106 : decode cX4_pay 106 = .ok (.invokevirtual 233, 3) := dk_182 0 233 (dk_at dksX4_pay_4 16 rfl rfl)
theorem dX4_pay_109 : decode cX4_pay 109 = .ok (.iload_n 3, 1) := dk_29 (dk_at dksX4_pay_4 19 rfl rfl)
theorem dX4_pay_110 : decode cX4_pay 110 = .ok (.ireturn, 1) := dk_172 (dk_at dksX4_pay_4 20 rfl rfl)
abbrev cX4_isBurden : ByteArray := prog_20_method_11_code
def yX4_isBurden : MethodName := ⟨RX4, "isBurden", "(I)Z"⟩
def dkwX4_isBurden_0 : List UInt8 := [27, 3, 42, 180, 0, 7, 16, 7, 46, 4, 100, 184, 0, 54, 172]
abbrev dktX4_isBurden_0 : List UInt8 := dkwX4_isBurden_0 ++ []
theorem dksX4_isBurden_0 : cX4_isBurden.data.toList.drop 0 = dktX4_isBurden_0 := by decide +kernel
theorem dX4_isBurden_0 : decode cX4_isBurden 0 = .ok (.iload_n 1, 1) := dk_27 (dk_at dksX4_isBurden_0 0 rfl rfl)
theorem dX4_isBurden_1 : decode cX4_isBurden 1 = .ok (.iconst 0, 1) := dk_3 (dk_at dksX4_isBurden_0 1 rfl rfl)
theorem dX4_isBurden_2 : decode cX4_isBurden 2 = .ok (.aload_n 0, 1) := dk_42 (dk_at dksX4_isBurden_0 2 rfl rfl)
theorem dX4_isBurden_3 : decode cX4_isBurden 3 = .ok (.getfield 7, 3) := dk_180 0 7 (dk_at dksX4_isBurden_0 3 rfl rfl)
theorem dX4_isBurden_6 : decode cX4_isBurden 6 = .ok (.bipush 7, 2) := dk_16 7 (dk_at dksX4_isBurden_0 6 rfl rfl)
theorem dX4_isBurden_8 : decode cX4_isBurden 8 = .ok (.iaload, 1) := dk_46 (dk_at dksX4_isBurden_0 8 rfl rfl)
theorem dX4_isBurden_9 : decode cX4_isBurden 9 = .ok (.iconst 1, 1) := dk_4 (dk_at dksX4_isBurden_0 9 rfl rfl)
theorem dX4_isBurden_10 : decode cX4_isBurden 10 = .ok (.isub, 1) := dk_100 (dk_at dksX4_isBurden_0 10 rfl rfl)
theorem dX4_isBurden_11 : decode cX4_isBurden 11 = .ok (.invokestatic 54, 3) := dk_184 0 54 (dk_at dksX4_isBurden_0 11 rfl rfl)
theorem dX4_isBurden_14 : decode cX4_isBurden 14 = .ok (.ireturn, 1) := dk_172 (dk_at dksX4_isBurden_0 14 rfl rfl)
abbrev cX4_isOver : ByteArray := prog_20_method_45_code
def yX4_isOver : MethodName := ⟨RX4, "isOver", "([II)V"⟩
def dkwX4_isOver_1 : List UInt8 := [3, 79, 177]
abbrev dktX4_isOver_1 : List UInt8 := dkwX4_isOver_1 ++ []
def dkwX4_isOver_0 : List UInt8 := [42, 27, 7, 184, 0, 101, 4, 79, 42, 27, 16, 6, 184, 0, 101, 3, 79, 42, 27, 16, 7, 184, 0, 101]
abbrev dktX4_isOver_0 : List UInt8 := dkwX4_isOver_0 ++ dktX4_isOver_1
theorem dksX4_isOver_0 : cX4_isOver.data.toList.drop 0 = dktX4_isOver_0 := by decide +kernel
theorem dksX4_isOver_1 : cX4_isOver.data.toList.drop 24 = dktX4_isOver_1 := dk_seg dksX4_isOver_0 24 rfl rfl
theorem dX4_isOver_0 : decode cX4_isOver 0 = .ok (.aload_n 0, 1) := dk_42 (dk_at dksX4_isOver_0 0 rfl rfl)
theorem dX4_isOver_1 : decode cX4_isOver 1 = .ok (.iload_n 1, 1) := dk_27 (dk_at dksX4_isOver_0 1 rfl rfl)
theorem dX4_isOver_2 : decode cX4_isOver 2 = .ok (.iconst 4, 1) := dk_7 (dk_at dksX4_isOver_0 2 rfl rfl)
theorem dX4_isOver_3 : decode cX4_isOver 3 = .ok (.invokestatic 101, 3) := dk_184 0 101 (dk_at dksX4_isOver_0 3 rfl rfl)
theorem dX4_isOver_6 : decode cX4_isOver 6 = .ok (.iconst 1, 1) := dk_4 (dk_at dksX4_isOver_0 6 rfl rfl)
theorem dX4_isOver_7 : decode cX4_isOver 7 = .ok (.iastore, 1) := dk_79 (dk_at dksX4_isOver_0 7 rfl rfl)
theorem dX4_isOver_8 : decode cX4_isOver 8 = .ok (.aload_n 0, 1) := dk_42 (dk_at dksX4_isOver_0 8 rfl rfl)
theorem dX4_isOver_9 : decode cX4_isOver 9 = .ok (.iload_n 1, 1) := dk_27 (dk_at dksX4_isOver_0 9 rfl rfl)
theorem dX4_isOver_10 : decode cX4_isOver 10 = .ok (.bipush 6, 2) := dk_16 6 (dk_at dksX4_isOver_0 10 rfl rfl)
theorem dX4_isOver_12 : decode cX4_isOver 12 = .ok (.invokestatic 101, 3) := dk_184 0 101 (dk_at dksX4_isOver_0 12 rfl rfl)
theorem dX4_isOver_15 : decode cX4_isOver 15 = .ok (.iconst 0, 1) := dk_3 (dk_at dksX4_isOver_0 15 rfl rfl)
theorem dX4_isOver_16 : decode cX4_isOver 16 = .ok (.iastore, 1) := dk_79 (dk_at dksX4_isOver_0 16 rfl rfl)
theorem dX4_isOver_17 : decode cX4_isOver 17 = .ok (.aload_n 0, 1) := dk_42 (dk_at dksX4_isOver_0 17 rfl rfl)
theorem dX4_isOver_18 : decode cX4_isOver 18 = .ok (.iload_n 1, 1) := dk_27 (dk_at dksX4_isOver_0 18 rfl rfl)
theorem dX4_isOver_19 : decode cX4_isOver 19 = .ok (.bipush 7, 2) := dk_16 7 (dk_at dksX4_isOver_0 19 rfl rfl)
theorem dX4_isOver_21 : decode cX4_isOver 21 = .ok (.invokestatic 101, 3) := dk_184 0 101 (dk_at dksX4_isOver_0 21 rfl rfl)
theorem dX4_isOver_24 : decode cX4_isOver 24 = .ok (.iconst 0, 1) := dk_3 (dk_at dksX4_isOver_1 0 rfl rfl)
theorem dX4_isOver_25 : decode cX4_isOver 25 = .ok (.iastore, 1) := dk_79 (dk_at dksX4_isOver_1 1 rfl rfl)
theorem dX4_isOver_26 : decode cX4_isOver 26 = .ok (.return_, 1) := dk_177 (dk_at dksX4_isOver_1 2 rfl rfl)
abbrev cX4_free : ByteArray := prog_20_method_82_code
def yX4_free : MethodName := ⟨RX4, "free", "(II)I"⟩
def dkwX4_free_6 : List UInt8 := [172]
abbrev dktX4_free_6 : List UInt8 := dkwX4_free_6 ++ []
def dkwX4_free_5 : List UInt8 := [42, 180, 0, 7, 27, 184, 1, 21, 42, 16, 7, 27, 28, 182, 0, 233, 42, 180, 0, 7, 27, 184, 1, 24]
abbrev dktX4_free_5 : List UInt8 := dkwX4_free_5 ++ dktX4_free_6
def dkwX4_free_4 : List UInt8 := [42, 182, 0, 230, 42, 180, 0, 7, 27, 28, 184, 0, 131, 42, 180, 0, 7, 27, 184, 0, 108, 153, 0, 11]
abbrev dktX4_free_4 : List UInt8 := dkwX4_free_4 ++ dktX4_free_5
def dkwX4_free_3 : List UInt8 := [180, 0, 7, 27, 28, 184, 0, 120, 42, 180, 0, 7, 27, 5, 184, 0, 101, 46, 162, 0, 6, 16, 251, 172]
abbrev dktX4_free_3 : List UInt8 := dkwX4_free_3 ++ dktX4_free_4
def dkwX4_free_2 : List UInt8 := [27, 184, 1, 24, 4, 160, 0, 6, 16, 252, 172, 42, 180, 0, 7, 27, 184, 0, 108, 154, 0, 28, 42]
abbrev dktX4_free_2 : List UInt8 := dkwX4_free_2 ++ dktX4_free_3
def dkwX4_free_1 : List UInt8 := [184, 0, 104, 154, 0, 6, 16, 254, 172, 42, 180, 0, 7, 27, 184, 0, 108, 154, 0, 18, 42, 180, 0, 7]
abbrev dktX4_free_1 : List UInt8 := dkwX4_free_1 ++ dktX4_free_2
def dkwX4_free_0 : List UInt8 := [42, 27, 182, 1, 18, 153, 0, 11, 42, 28, 182, 0, 240, 154, 0, 5, 2, 172, 42, 180, 0, 7, 27, 28]
abbrev dktX4_free_0 : List UInt8 := dkwX4_free_0 ++ dktX4_free_1
theorem dksX4_free_0 : cX4_free.data.toList.drop 0 = dktX4_free_0 := by decide +kernel
theorem dksX4_free_1 : cX4_free.data.toList.drop 24 = dktX4_free_1 := dk_seg dksX4_free_0 24 rfl rfl
theorem dksX4_free_2 : cX4_free.data.toList.drop 48 = dktX4_free_2 := dk_seg dksX4_free_1 24 rfl rfl
theorem dksX4_free_3 : cX4_free.data.toList.drop 71 = dktX4_free_3 := dk_seg dksX4_free_2 23 rfl rfl
theorem dksX4_free_4 : cX4_free.data.toList.drop 95 = dktX4_free_4 := dk_seg dksX4_free_3 24 rfl rfl
theorem dksX4_free_5 : cX4_free.data.toList.drop 119 = dktX4_free_5 := dk_seg dksX4_free_4 24 rfl rfl
theorem dksX4_free_6 : cX4_free.data.toList.drop 143 = dktX4_free_6 := dk_seg dksX4_free_5 24 rfl rfl
theorem dX4_free_0 : decode cX4_free 0 = .ok (.aload_n 0, 1) := dk_42 (dk_at dksX4_free_0 0 rfl rfl)
theorem dX4_free_1 : decode cX4_free 1 = .ok (.iload_n 1, 1) := dk_27 (dk_at dksX4_free_0 1 rfl rfl)
theorem dX4_free_2 : decode cX4_free 2 = .ok (.invokevirtual 274, 3) := dk_182 1 18 (dk_at dksX4_free_0 2 rfl rfl)
theorem dX4_free_5 : decode cX4_free 5 = .ok (.ifCond .eq 11, 3) := dk_153 0 11 (dk_at dksX4_free_0 5 rfl rfl)
theorem dX4_free_8 : decode cX4_free 8 = .ok (.aload_n 0, 1) := dk_42 (dk_at dksX4_free_0 8 rfl rfl)
theorem dX4_free_9 : decode cX4_free 9 = .ok (.iload_n 2, 1) := dk_28 (dk_at dksX4_free_0 9 rfl rfl)
theorem dX4_free_10 : decode cX4_free 10 = .ok (.invokevirtual 240, 3) := dk_182 0 240 (dk_at dksX4_free_0 10 rfl rfl)
theorem dX4_free_13 : decode cX4_free 13 = .ok (.ifCond .ne 5, 3) := dk_154 0 5 (dk_at dksX4_free_0 13 rfl rfl)
theorem dX4_free_16 : decode cX4_free 16 = .ok (.iconst (-1), 1) := dk_2 (dk_at dksX4_free_0 16 rfl rfl)
theorem dX4_free_17 : decode cX4_free 17 = .ok (.ireturn, 1) := dk_172 (dk_at dksX4_free_0 17 rfl rfl)
theorem dX4_free_18 : decode cX4_free 18 = .ok (.aload_n 0, 1) := dk_42 (dk_at dksX4_free_0 18 rfl rfl)
theorem dX4_free_19 : decode cX4_free 19 = .ok (.getfield 7, 3) := dk_180 0 7 (dk_at dksX4_free_0 19 rfl rfl)
theorem dX4_free_22 : decode cX4_free 22 = .ok (.iload_n 1, 1) := dk_27 (dk_at dksX4_free_0 22 rfl rfl)
theorem dX4_free_23 : decode cX4_free 23 = .ok (.iload_n 2, 1) := dk_28 (dk_at dksX4_free_0 23 rfl rfl)
theorem dX4_free_24 : decode cX4_free 24 = .ok (.invokestatic 104, 3) := dk_184 0 104 (dk_at dksX4_free_1 0 rfl rfl)
theorem dX4_free_27 : decode cX4_free 27 = .ok (.ifCond .ne 6, 3) := dk_154 0 6 (dk_at dksX4_free_1 3 rfl rfl)
theorem dX4_free_30 : decode cX4_free 30 = .ok (.bipush (-2), 2) := dk_16 254 (dk_at dksX4_free_1 6 rfl rfl)
theorem dX4_free_32 : decode cX4_free 32 = .ok (.ireturn, 1) := dk_172 (dk_at dksX4_free_1 8 rfl rfl)
theorem dX4_free_33 : decode cX4_free 33 = .ok (.aload_n 0, 1) := dk_42 (dk_at dksX4_free_1 9 rfl rfl)
theorem dX4_free_34 : decode cX4_free 34 = .ok (.getfield 7, 3) := dk_180 0 7 (dk_at dksX4_free_1 10 rfl rfl)
theorem dX4_free_37 : decode cX4_free 37 = .ok (.iload_n 1, 1) := dk_27 (dk_at dksX4_free_1 13 rfl rfl)
theorem dX4_free_38 : decode cX4_free 38 = .ok (.invokestatic 108, 3) := dk_184 0 108 (dk_at dksX4_free_1 14 rfl rfl)
theorem dX4_free_41 : decode cX4_free 41 = .ok (.ifCond .ne 18, 3) := dk_154 0 18 (dk_at dksX4_free_1 17 rfl rfl)
theorem dX4_free_44 : decode cX4_free 44 = .ok (.aload_n 0, 1) := dk_42 (dk_at dksX4_free_1 20 rfl rfl)
theorem dX4_free_45 : decode cX4_free 45 = .ok (.getfield 7, 3) := dk_180 0 7 (dk_at dksX4_free_1 21 rfl rfl)
theorem dX4_free_48 : decode cX4_free 48 = .ok (.iload_n 1, 1) := dk_27 (dk_at dksX4_free_2 0 rfl rfl)
theorem dX4_free_49 : decode cX4_free 49 = .ok (.invokestatic 280, 3) := dk_184 1 24 (dk_at dksX4_free_2 1 rfl rfl)
theorem dX4_free_52 : decode cX4_free 52 = .ok (.iconst 1, 1) := dk_4 (dk_at dksX4_free_2 4 rfl rfl)
theorem dX4_free_53 : decode cX4_free 53 = .ok (.if_icmp .ne 6, 3) := dk_160 0 6 (dk_at dksX4_free_2 5 rfl rfl)
theorem dX4_free_56 : decode cX4_free 56 = .ok (.bipush (-4), 2) := dk_16 252 (dk_at dksX4_free_2 8 rfl rfl)
theorem dX4_free_58 : decode cX4_free 58 = .ok (.ireturn, 1) := dk_172 (dk_at dksX4_free_2 10 rfl rfl)
theorem dX4_free_59 : decode cX4_free 59 = .ok (.aload_n 0, 1) := dk_42 (dk_at dksX4_free_2 11 rfl rfl)
theorem dX4_free_60 : decode cX4_free 60 = .ok (.getfield 7, 3) := dk_180 0 7 (dk_at dksX4_free_2 12 rfl rfl)
theorem dX4_free_63 : decode cX4_free 63 = .ok (.iload_n 1, 1) := dk_27 (dk_at dksX4_free_2 15 rfl rfl)
theorem dX4_free_64 : decode cX4_free 64 = .ok (.invokestatic 108, 3) := dk_184 0 108 (dk_at dksX4_free_2 16 rfl rfl)
theorem dX4_free_67 : decode cX4_free 67 = .ok (.ifCond .ne 28, 3) := dk_154 0 28 (dk_at dksX4_free_2 19 rfl rfl)
theorem dX4_free_70 : decode cX4_free 70 = .ok (.aload_n 0, 1) := dk_42 (dk_at dksX4_free_2 22 rfl rfl)
theorem dX4_free_71 : decode cX4_free 71 = .ok (.getfield 7, 3) := dk_180 0 7 (dk_at dksX4_free_3 0 rfl rfl)
theorem dX4_free_74 : decode cX4_free 74 = .ok (.iload_n 1, 1) := dk_27 (dk_at dksX4_free_3 3 rfl rfl)
theorem dX4_free_75 : decode cX4_free 75 = .ok (.iload_n 2, 1) := dk_28 (dk_at dksX4_free_3 4 rfl rfl)
theorem dX4_free_76 : decode cX4_free 76 = .ok (.invokestatic 120, 3) := dk_184 0 120 (dk_at dksX4_free_3 5 rfl rfl)
theorem dX4_free_79 : decode cX4_free 79 = .ok (.aload_n 0, 1) := dk_42 (dk_at dksX4_free_3 8 rfl rfl)
theorem dX4_free_80 : decode cX4_free 80 = .ok (.getfield 7, 3) := dk_180 0 7 (dk_at dksX4_free_3 9 rfl rfl)
theorem dX4_free_83 : decode cX4_free 83 = .ok (.iload_n 1, 1) := dk_27 (dk_at dksX4_free_3 12 rfl rfl)
theorem dX4_free_84 : decode cX4_free 84 = .ok (.iconst 2, 1) := dk_5 (dk_at dksX4_free_3 13 rfl rfl)
theorem dX4_free_85 : decode cX4_free 85 = .ok (.invokestatic 101, 3) := dk_184 0 101 (dk_at dksX4_free_3 14 rfl rfl)
theorem dX4_free_88 : decode cX4_free 88 = .ok (.iaload, 1) := dk_46 (dk_at dksX4_free_3 17 rfl rfl)
theorem dX4_free_89 : decode cX4_free 89 = .ok (.if_icmp .ge 6, 3) := dk_162 0 6 (dk_at dksX4_free_3 18 rfl rfl)
theorem dX4_free_92 : decode cX4_free 92 = .ok (.bipush (-5), 2) := dk_16 251 (dk_at dksX4_free_3 21 rfl rfl)
theorem dX4_free_94 : decode cX4_free 94 = .ok (.ireturn, 1) := dk_172 (dk_at dksX4_free_3 23 rfl rfl)
theorem dX4_free_95 : decode cX4_free 95 = .ok (.aload_n 0, 1) := dk_42 (dk_at dksX4_free_4 0 rfl rfl)
theorem dX4_free_96 : decode cX4_free 96 = .ok (.invokevirtual 230, 3) := dk_182 0 230 (dk_at dksX4_free_4 1 rfl rfl)
theorem dX4_free_99 : decode cX4_free 99 = .ok (.aload_n 0, 1) := dk_42 (dk_at dksX4_free_4 4 rfl rfl)
theorem dX4_free_100 : decode cX4_free 100 = .ok (.getfield 7, 3) := dk_180 0 7 (dk_at dksX4_free_4 5 rfl rfl)
theorem dX4_free_103 : decode cX4_free 103 = .ok (.iload_n 1, 1) := dk_27 (dk_at dksX4_free_4 8 rfl rfl)
theorem dX4_free_104 : decode cX4_free 104 = .ok (.iload_n 2, 1) := dk_28 (dk_at dksX4_free_4 9 rfl rfl)
theorem dX4_free_105 : decode cX4_free 105 = .ok (.invokestatic 131, 3) := dk_184 0 131 (dk_at dksX4_free_4 10 rfl rfl)
theorem dX4_free_108 : decode cX4_free 108 = .ok (.aload_n 0, 1) := dk_42 (dk_at dksX4_free_4 13 rfl rfl)
theorem dX4_free_109 : decode cX4_free 109 = .ok (.getfield 7, 3) := dk_180 0 7 (dk_at dksX4_free_4 14 rfl rfl)
theorem dX4_free_112 : decode cX4_free 112 = .ok (.iload_n 1, 1) := dk_27 (dk_at dksX4_free_4 17 rfl rfl)
theorem dX4_free_113 : decode cX4_free 113 = .ok (.invokestatic 108, 3) := dk_184 0 108 (dk_at dksX4_free_4 18 rfl rfl)
theorem dX4_free_116 : decode cX4_free 116 = .ok (.ifCond .eq 11, 3) := dk_153 0 11 (dk_at dksX4_free_4 21 rfl rfl)
theorem dX4_free_119 : decode cX4_free 119 = .ok (.aload_n 0, 1) := dk_42 (dk_at dksX4_free_5 0 rfl rfl)
theorem dX4_free_120 : decode cX4_free 120 = .ok (.getfield 7, 3) := dk_180 0 7 (dk_at dksX4_free_5 1 rfl rfl)
theorem dX4_free_123 : decode cX4_free 123 = .ok (.iload_n 1, 1) := dk_27 (dk_at dksX4_free_5 4 rfl rfl)
theorem dX4_free_124 : decode cX4_free 124 = .ok (.invokestatic 277, 3) := dk_184 1 21 (dk_at dksX4_free_5 5 rfl rfl)
theorem dX4_free_127 : decode cX4_free 127 = .ok (.aload_n 0, 1) := dk_42 (dk_at dksX4_free_5 8 rfl rfl)
theorem dX4_free_128 : decode cX4_free 128 = .ok (.bipush 7, 2) := dk_16 7 (dk_at dksX4_free_5 9 rfl rfl)
theorem dX4_free_130 : decode cX4_free 130 = .ok (.iload_n 1, 1) := dk_27 (dk_at dksX4_free_5 11 rfl rfl)
theorem dX4_free_131 : decode cX4_free 131 = .ok (.iload_n 2, 1) := dk_28 (dk_at dksX4_free_5 12 rfl rfl)
theorem dX4_free_132 : decode cX4_free 132 = .ok (.invokevirtual 233, 3) := dk_182 0 233 (dk_at dksX4_free_5 13 rfl rfl)
theorem dX4_free_135 : decode cX4_free 135 = .ok (.aload_n 0, 1) := dk_42 (dk_at dksX4_free_5 16 rfl rfl)
theorem dX4_free_136 : decode cX4_free 136 = .ok (.getfield 7, 3) := dk_180 0 7 (dk_at dksX4_free_5 17 rfl rfl)
theorem dX4_free_139 : decode cX4_free 139 = .ok (.iload_n 1, 1) := dk_27 (dk_at dksX4_free_5 20 rfl rfl)
theorem dX4_free_140 : decode cX4_free 140 = .ok (.invokestatic 280, 3) := dk_184 1 24 (dk_at dksX4_free_5 21 rfl rfl)
theorem dX4_free_143 : decode cX4_free 143 = .ok (.ireturn, 1) := dk_172 (dk_at dksX4_free_6 0 rfl rfl)
abbrev cX4_liesMany : ByteArray := prog_20_method_37_code
def yX4_liesMany : MethodName := ⟨RX4, "liesMany", "([II)I"⟩
def dkwX4_liesMany_1 : List UInt8 := [132, 3, 1, 167, 255, 234, 28, 172]
abbrev dktX4_liesMany_1 : List UInt8 := dkwX4_liesMany_1 ++ []
def dkwX4_liesMany_0 : List UInt8 := [3, 61, 3, 62, 29, 42, 8, 46, 162, 0, 21, 42, 27, 29, 184, 0, 104, 153, 0, 6, 132, 2, 1]
abbrev dktX4_liesMany_0 : List UInt8 := dkwX4_liesMany_0 ++ dktX4_liesMany_1
theorem dksX4_liesMany_0 : cX4_liesMany.data.toList.drop 0 = dktX4_liesMany_0 := by decide +kernel
theorem dksX4_liesMany_1 : cX4_liesMany.data.toList.drop 23 = dktX4_liesMany_1 := dk_seg dksX4_liesMany_0 23 rfl rfl
theorem dX4_liesMany_0 : decode cX4_liesMany 0 = .ok (.iconst 0, 1) := dk_3 (dk_at dksX4_liesMany_0 0 rfl rfl)
theorem dX4_liesMany_1 : decode cX4_liesMany 1 = .ok (.istore_n 2, 1) := dk_61 (dk_at dksX4_liesMany_0 1 rfl rfl)
theorem dX4_liesMany_2 : decode cX4_liesMany 2 = .ok (.iconst 0, 1) := dk_3 (dk_at dksX4_liesMany_0 2 rfl rfl)
theorem dX4_liesMany_3 : decode cX4_liesMany 3 = .ok (.istore_n 3, 1) := dk_62 (dk_at dksX4_liesMany_0 3 rfl rfl)
theorem dX4_liesMany_4 : decode cX4_liesMany 4 = .ok (.iload_n 3, 1) := dk_29 (dk_at dksX4_liesMany_0 4 rfl rfl)
theorem dX4_liesMany_5 : decode cX4_liesMany 5 = .ok (.aload_n 0, 1) := dk_42 (dk_at dksX4_liesMany_0 5 rfl rfl)
theorem dX4_liesMany_6 : decode cX4_liesMany 6 = .ok (.iconst 5, 1) := dk_8 (dk_at dksX4_liesMany_0 6 rfl rfl)
theorem dX4_liesMany_7 : decode cX4_liesMany 7 = .ok (.iaload, 1) := dk_46 (dk_at dksX4_liesMany_0 7 rfl rfl)
theorem dX4_liesMany_8 : decode cX4_liesMany 8 = .ok (.if_icmp .ge 21, 3) := dk_162 0 21 (dk_at dksX4_liesMany_0 8 rfl rfl)
theorem dX4_liesMany_11 : decode cX4_liesMany 11 = .ok (.aload_n 0, 1) := dk_42 (dk_at dksX4_liesMany_0 11 rfl rfl)
theorem dX4_liesMany_12 : decode cX4_liesMany 12 = .ok (.iload_n 1, 1) := dk_27 (dk_at dksX4_liesMany_0 12 rfl rfl)
theorem dX4_liesMany_13 : decode cX4_liesMany 13 = .ok (.iload_n 3, 1) := dk_29 (dk_at dksX4_liesMany_0 13 rfl rfl)
theorem dX4_liesMany_14 : decode cX4_liesMany 14 = .ok (.invokestatic 104, 3) := dk_184 0 104 (dk_at dksX4_liesMany_0 14 rfl rfl)
theorem dX4_liesMany_17 : decode cX4_liesMany 17 = .ok (.ifCond .eq 6, 3) := dk_153 0 6 (dk_at dksX4_liesMany_0 17 rfl rfl)
theorem dX4_liesMany_20 : decode cX4_liesMany 20 = .ok (.iinc 2 1, 3) := dk_132 2 1 (dk_at dksX4_liesMany_0 20 rfl rfl)
theorem dX4_liesMany_23 : decode cX4_liesMany 23 = .ok (.iinc 3 1, 3) := dk_132 3 1 (dk_at dksX4_liesMany_1 0 rfl rfl)
theorem dX4_liesMany_26 : decode cX4_liesMany 26 = .ok (.goto (-22), 3) := dk_167 255 234 (dk_at dksX4_liesMany_1 3 rfl rfl)
theorem dX4_liesMany_29 : decode cX4_liesMany 29 = .ok (.iload_n 2, 1) := dk_28 (dk_at dksX4_liesMany_1 6 rfl rfl)
theorem dX4_liesMany_30 : decode cX4_liesMany 30 = .ok (.ireturn, 1) := dk_172 (dk_at dksX4_liesMany_1 7 rfl rfl)
abbrev cX4_coverOf : ByteArray := prog_20_method_41_code
def yX4_coverOf : MethodName := ⟨RX4, "coverOf", "([III)I"⟩
def dkwX4_coverOf_3 : List UInt8 := [172]
abbrev dktX4_coverOf_3 : List UInt8 := dkwX4_coverOf_3 ++ []
def dkwX4_coverOf_2 : List UInt8 := [46, 184, 0, 111, 100, 54, 5, 21, 5, 158, 0, 8, 29, 21, 5, 96, 62, 132, 4, 1, 167, 255, 194, 29]
abbrev dktX4_coverOf_2 : List UInt8 := dkwX4_coverOf_2 ++ dktX4_coverOf_3
def dkwX4_coverOf_1 : List UInt8 := [184, 0, 104, 154, 0, 6, 167, 0, 35, 42, 21, 4, 184, 0, 114, 42, 21, 4, 42, 27, 6, 184, 0, 101]
abbrev dktX4_coverOf_1 : List UInt8 := dkwX4_coverOf_1 ++ dktX4_coverOf_2
def dkwX4_coverOf_0 : List UInt8 := [3, 62, 3, 54, 4, 21, 4, 42, 8, 46, 162, 0, 60, 21, 4, 28, 159, 0, 48, 42, 27, 21, 4]
abbrev dktX4_coverOf_0 : List UInt8 := dkwX4_coverOf_0 ++ dktX4_coverOf_1
theorem dksX4_coverOf_0 : cX4_coverOf.data.toList.drop 0 = dktX4_coverOf_0 := by decide +kernel
theorem dksX4_coverOf_1 : cX4_coverOf.data.toList.drop 23 = dktX4_coverOf_1 := dk_seg dksX4_coverOf_0 23 rfl rfl
theorem dksX4_coverOf_2 : cX4_coverOf.data.toList.drop 47 = dktX4_coverOf_2 := dk_seg dksX4_coverOf_1 24 rfl rfl
theorem dksX4_coverOf_3 : cX4_coverOf.data.toList.drop 71 = dktX4_coverOf_3 := dk_seg dksX4_coverOf_2 24 rfl rfl
theorem dX4_coverOf_0 : decode cX4_coverOf 0 = .ok (.iconst 0, 1) := dk_3 (dk_at dksX4_coverOf_0 0 rfl rfl)
theorem dX4_coverOf_1 : decode cX4_coverOf 1 = .ok (.istore_n 3, 1) := dk_62 (dk_at dksX4_coverOf_0 1 rfl rfl)
theorem dX4_coverOf_2 : decode cX4_coverOf 2 = .ok (.iconst 0, 1) := dk_3 (dk_at dksX4_coverOf_0 2 rfl rfl)
theorem dX4_coverOf_3 : decode cX4_coverOf 3 = .ok (.istore 4, 2) := dk_54 4 (dk_at dksX4_coverOf_0 3 rfl rfl)
theorem dX4_coverOf_5 : decode cX4_coverOf 5 = .ok (.iload 4, 2) := dk_21 4 (dk_at dksX4_coverOf_0 5 rfl rfl)
theorem dX4_coverOf_7 : decode cX4_coverOf 7 = .ok (.aload_n 0, 1) := dk_42 (dk_at dksX4_coverOf_0 7 rfl rfl)
theorem dX4_coverOf_8 : decode cX4_coverOf 8 = .ok (.iconst 5, 1) := dk_8 (dk_at dksX4_coverOf_0 8 rfl rfl)
theorem dX4_coverOf_9 : decode cX4_coverOf 9 = .ok (.iaload, 1) := dk_46 (dk_at dksX4_coverOf_0 9 rfl rfl)
theorem dX4_coverOf_10 : decode cX4_coverOf 10 = .ok (.if_icmp .ge 60, 3) := dk_162 0 60 (dk_at dksX4_coverOf_0 10 rfl rfl)
theorem dX4_coverOf_13 : decode cX4_coverOf 13 = .ok (.iload 4, 2) := dk_21 4 (dk_at dksX4_coverOf_0 13 rfl rfl)
theorem dX4_coverOf_15 : decode cX4_coverOf 15 = .ok (.iload_n 2, 1) := dk_28 (dk_at dksX4_coverOf_0 15 rfl rfl)
theorem dX4_coverOf_16 : decode cX4_coverOf 16 = .ok (.if_icmp .eq 48, 3) := dk_159 0 48 (dk_at dksX4_coverOf_0 16 rfl rfl)
theorem dX4_coverOf_19 : decode cX4_coverOf 19 = .ok (.aload_n 0, 1) := dk_42 (dk_at dksX4_coverOf_0 19 rfl rfl)
theorem dX4_coverOf_20 : decode cX4_coverOf 20 = .ok (.iload_n 1, 1) := dk_27 (dk_at dksX4_coverOf_0 20 rfl rfl)
theorem dX4_coverOf_21 : decode cX4_coverOf 21 = .ok (.iload 4, 2) := dk_21 4 (dk_at dksX4_coverOf_0 21 rfl rfl)
theorem dX4_coverOf_23 : decode cX4_coverOf 23 = .ok (.invokestatic 104, 3) := dk_184 0 104 (dk_at dksX4_coverOf_1 0 rfl rfl)
theorem dX4_coverOf_26 : decode cX4_coverOf 26 = .ok (.ifCond .ne 6, 3) := dk_154 0 6 (dk_at dksX4_coverOf_1 3 rfl rfl)
theorem dX4_coverOf_29 : decode cX4_coverOf 29 = .ok (.goto 35, 3) := dk_167 0 35 (dk_at dksX4_coverOf_1 6 rfl rfl)
theorem dX4_coverOf_32 : decode cX4_coverOf 32 = .ok (.aload_n 0, 1) := dk_42 (dk_at dksX4_coverOf_1 9 rfl rfl)
theorem dX4_coverOf_33 : decode cX4_coverOf 33 = .ok (.iload 4, 2) := dk_21 4 (dk_at dksX4_coverOf_1 10 rfl rfl)
theorem dX4_coverOf_35 : decode cX4_coverOf 35 = .ok (.invokestatic 114, 3) := dk_184 0 114 (dk_at dksX4_coverOf_1 12 rfl rfl)
theorem dX4_coverOf_38 : decode cX4_coverOf 38 = .ok (.aload_n 0, 1) := dk_42 (dk_at dksX4_coverOf_1 15 rfl rfl)
theorem dX4_coverOf_39 : decode cX4_coverOf 39 = .ok (.iload 4, 2) := dk_21 4 (dk_at dksX4_coverOf_1 16 rfl rfl)
theorem dX4_coverOf_41 : decode cX4_coverOf 41 = .ok (.aload_n 0, 1) := dk_42 (dk_at dksX4_coverOf_1 18 rfl rfl)
theorem dX4_coverOf_42 : decode cX4_coverOf 42 = .ok (.iload_n 1, 1) := dk_27 (dk_at dksX4_coverOf_1 19 rfl rfl)
theorem dX4_coverOf_43 : decode cX4_coverOf 43 = .ok (.iconst 3, 1) := dk_6 (dk_at dksX4_coverOf_1 20 rfl rfl)
theorem dX4_coverOf_44 : decode cX4_coverOf 44 = .ok (.invokestatic 101, 3) := dk_184 0 101 (dk_at dksX4_coverOf_1 21 rfl rfl)
theorem dX4_coverOf_47 : decode cX4_coverOf 47 = .ok (.iaload, 1) := dk_46 (dk_at dksX4_coverOf_2 0 rfl rfl)
theorem dX4_coverOf_48 : decode cX4_coverOf 48 = .ok (.invokestatic 111, 3) := dk_184 0 111 (dk_at dksX4_coverOf_2 1 rfl rfl)
theorem dX4_coverOf_51 : decode cX4_coverOf 51 = .ok (.isub, 1) := dk_100 (dk_at dksX4_coverOf_2 4 rfl rfl)
theorem dX4_coverOf_52 : decode cX4_coverOf 52 = .ok (.istore 5, 2) := dk_54 5 (dk_at dksX4_coverOf_2 5 rfl rfl)
theorem dX4_coverOf_54 : decode cX4_coverOf 54 = .ok (.iload 5, 2) := dk_21 5 (dk_at dksX4_coverOf_2 7 rfl rfl)
theorem dX4_coverOf_56 : decode cX4_coverOf 56 = .ok (.ifCond .le 8, 3) := dk_158 0 8 (dk_at dksX4_coverOf_2 9 rfl rfl)
theorem dX4_coverOf_59 : decode cX4_coverOf 59 = .ok (.iload_n 3, 1) := dk_29 (dk_at dksX4_coverOf_2 12 rfl rfl)
theorem dX4_coverOf_60 : decode cX4_coverOf 60 = .ok (.iload 5, 2) := dk_21 5 (dk_at dksX4_coverOf_2 13 rfl rfl)
theorem dX4_coverOf_62 : decode cX4_coverOf 62 = .ok (.iadd, 1) := dk_96 (dk_at dksX4_coverOf_2 15 rfl rfl)
theorem dX4_coverOf_63 : decode cX4_coverOf 63 = .ok (.istore_n 3, 1) := dk_62 (dk_at dksX4_coverOf_2 16 rfl rfl)
theorem dX4_coverOf_64 : decode cX4_coverOf 64 = .ok (.iinc 4 1, 3) := dk_132 4 1 (dk_at dksX4_coverOf_2 17 rfl rfl)
theorem dX4_coverOf_67 : decode cX4_coverOf 67 = .ok (.goto (-62), 3) := dk_167 255 194 (dk_at dksX4_coverOf_2 20 rfl rfl)
theorem dX4_coverOf_70 : decode cX4_coverOf 70 = .ok (.iload_n 3, 1) := dk_29 (dk_at dksX4_coverOf_2 23 rfl rfl)
theorem dX4_coverOf_71 : decode cX4_coverOf 71 = .ok (.ireturn, 1) := dk_172 (dk_at dksX4_coverOf_3 0 rfl rfl)
abbrev cX4_worth : ByteArray := prog_20_method_19_code
def yX4_worth : MethodName := ⟨RX4, "worth", "([II)I"⟩
def dkwX4_worth_0 : List UInt8 := [42, 27, 184, 0, 69, 42, 5, 46, 104, 172]
abbrev dktX4_worth_0 : List UInt8 := dkwX4_worth_0 ++ []
theorem dksX4_worth_0 : cX4_worth.data.toList.drop 0 = dktX4_worth_0 := by decide +kernel
theorem dX4_worth_0 : decode cX4_worth 0 = .ok (.aload_n 0, 1) := dk_42 (dk_at dksX4_worth_0 0 rfl rfl)
theorem dX4_worth_1 : decode cX4_worth 1 = .ok (.iload_n 1, 1) := dk_27 (dk_at dksX4_worth_0 1 rfl rfl)
theorem dX4_worth_2 : decode cX4_worth 2 = .ok (.invokestatic 69, 3) := dk_184 0 69 (dk_at dksX4_worth_0 2 rfl rfl)
theorem dX4_worth_5 : decode cX4_worth 5 = .ok (.aload_n 0, 1) := dk_42 (dk_at dksX4_worth_0 5 rfl rfl)
theorem dX4_worth_6 : decode cX4_worth 6 = .ok (.iconst 2, 1) := dk_5 (dk_at dksX4_worth_0 6 rfl rfl)
theorem dX4_worth_7 : decode cX4_worth 7 = .ok (.iaload, 1) := dk_46 (dk_at dksX4_worth_0 7 rfl rfl)
theorem dX4_worth_8 : decode cX4_worth 8 = .ok (.imul, 1) := dk_104 (dk_at dksX4_worth_0 8 rfl rfl)
theorem dX4_worth_9 : decode cX4_worth 9 = .ok (.ireturn, 1) := dk_172 (dk_at dksX4_worth_0 9 rfl rfl)
abbrev cX4_area : ByteArray := prog_20_method_18_code
def yX4_area : MethodName := ⟨RX4, "area", "([II)I"⟩
def dkwX4_area_0 : List UInt8 := [42, 27, 5, 184, 0, 66, 46, 42, 27, 6, 184, 0, 66, 46, 104, 172]
abbrev dktX4_area_0 : List UInt8 := dkwX4_area_0 ++ []
theorem dksX4_area_0 : cX4_area.data.toList.drop 0 = dktX4_area_0 := by decide +kernel
theorem dX4_area_0 : decode cX4_area 0 = .ok (.aload_n 0, 1) := dk_42 (dk_at dksX4_area_0 0 rfl rfl)
theorem dX4_area_1 : decode cX4_area 1 = .ok (.iload_n 1, 1) := dk_27 (dk_at dksX4_area_0 1 rfl rfl)
theorem dX4_area_2 : decode cX4_area 2 = .ok (.iconst 2, 1) := dk_5 (dk_at dksX4_area_0 2 rfl rfl)
theorem dX4_area_3 : decode cX4_area 3 = .ok (.invokestatic 66, 3) := dk_184 0 66 (dk_at dksX4_area_0 3 rfl rfl)
theorem dX4_area_6 : decode cX4_area 6 = .ok (.iaload, 1) := dk_46 (dk_at dksX4_area_0 6 rfl rfl)
theorem dX4_area_7 : decode cX4_area 7 = .ok (.aload_n 0, 1) := dk_42 (dk_at dksX4_area_0 7 rfl rfl)
theorem dX4_area_8 : decode cX4_area 8 = .ok (.iload_n 1, 1) := dk_27 (dk_at dksX4_area_0 8 rfl rfl)
theorem dX4_area_9 : decode cX4_area 9 = .ok (.iconst 3, 1) := dk_6 (dk_at dksX4_area_0 9 rfl rfl)
theorem dX4_area_10 : decode cX4_area 10 = .ok (.invokestatic 66, 3) := dk_184 0 66 (dk_at dksX4_area_0 10 rfl rfl)
theorem dX4_area_13 : decode cX4_area 13 = .ok (.iaload, 1) := dk_46 (dk_at dksX4_area_0 13 rfl rfl)
theorem dX4_area_14 : decode cX4_area 14 = .ok (.imul, 1) := dk_104 (dk_at dksX4_area_0 14 rfl rfl)
theorem dX4_area_15 : decode cX4_area 15 = .ok (.ireturn, 1) := dk_172 (dk_at dksX4_area_0 15 rfl rfl)
abbrev cX4_loadAhead : ByteArray := prog_20_method_39_code
def yX4_loadAhead : MethodName := ⟨RX4, "loadAhead", "([III)I"⟩
def dkwX4_loadAhead_2 : List UInt8 := [21, 4, 5, 184, 0, 101, 46, 96, 62, 132, 4, 1, 167, 255, 202, 29, 172]
abbrev dktX4_loadAhead_2 : List UInt8 := dkwX4_loadAhead_2 ++ []
def dkwX4_loadAhead_1 : List UInt8 := [21, 4, 27, 184, 0, 104, 153, 0, 26, 42, 21, 4, 6, 184, 0, 101, 46, 28, 162, 0, 14, 29, 42]
abbrev dktX4_loadAhead_1 : List UInt8 := dkwX4_loadAhead_1 ++ dktX4_loadAhead_2
def dkwX4_loadAhead_0 : List UInt8 := [3, 62, 3, 54, 4, 21, 4, 42, 16, 7, 46, 162, 0, 51, 42, 21, 4, 184, 0, 108, 154, 0, 36, 42]
abbrev dktX4_loadAhead_0 : List UInt8 := dkwX4_loadAhead_0 ++ dktX4_loadAhead_1
theorem dksX4_loadAhead_0 : cX4_loadAhead.data.toList.drop 0 = dktX4_loadAhead_0 := by decide +kernel
theorem dksX4_loadAhead_1 : cX4_loadAhead.data.toList.drop 24 = dktX4_loadAhead_1 := dk_seg dksX4_loadAhead_0 24 rfl rfl
theorem dksX4_loadAhead_2 : cX4_loadAhead.data.toList.drop 47 = dktX4_loadAhead_2 := dk_seg dksX4_loadAhead_1 23 rfl rfl
theorem dX4_loadAhead_0 : decode cX4_loadAhead 0 = .ok (.iconst 0, 1) := dk_3 (dk_at dksX4_loadAhead_0 0 rfl rfl)
theorem dX4_loadAhead_1 : decode cX4_loadAhead 1 = .ok (.istore_n 3, 1) := dk_62 (dk_at dksX4_loadAhead_0 1 rfl rfl)
theorem dX4_loadAhead_2 : decode cX4_loadAhead 2 = .ok (.iconst 0, 1) := dk_3 (dk_at dksX4_loadAhead_0 2 rfl rfl)
theorem dX4_loadAhead_3 : decode cX4_loadAhead 3 = .ok (.istore 4, 2) := dk_54 4 (dk_at dksX4_loadAhead_0 3 rfl rfl)
theorem dX4_loadAhead_5 : decode cX4_loadAhead 5 = .ok (.iload 4, 2) := dk_21 4 (dk_at dksX4_loadAhead_0 5 rfl rfl)
theorem dX4_loadAhead_7 : decode cX4_loadAhead 7 = .ok (.aload_n 0, 1) := dk_42 (dk_at dksX4_loadAhead_0 7 rfl rfl)
theorem dX4_loadAhead_8 : decode cX4_loadAhead 8 = .ok (.bipush 7, 2) := dk_16 7 (dk_at dksX4_loadAhead_0 8 rfl rfl)
theorem dX4_loadAhead_10 : decode cX4_loadAhead 10 = .ok (.iaload, 1) := dk_46 (dk_at dksX4_loadAhead_0 10 rfl rfl)
theorem dX4_loadAhead_11 : decode cX4_loadAhead 11 = .ok (.if_icmp .ge 51, 3) := dk_162 0 51 (dk_at dksX4_loadAhead_0 11 rfl rfl)
theorem dX4_loadAhead_14 : decode cX4_loadAhead 14 = .ok (.aload_n 0, 1) := dk_42 (dk_at dksX4_loadAhead_0 14 rfl rfl)
theorem dX4_loadAhead_15 : decode cX4_loadAhead 15 = .ok (.iload 4, 2) := dk_21 4 (dk_at dksX4_loadAhead_0 15 rfl rfl)
theorem dX4_loadAhead_17 : decode cX4_loadAhead 17 = .ok (.invokestatic 108, 3) := dk_184 0 108 (dk_at dksX4_loadAhead_0 17 rfl rfl)
theorem dX4_loadAhead_20 : decode cX4_loadAhead 20 = .ok (.ifCond .ne 36, 3) := dk_154 0 36 (dk_at dksX4_loadAhead_0 20 rfl rfl)
theorem dX4_loadAhead_23 : decode cX4_loadAhead 23 = .ok (.aload_n 0, 1) := dk_42 (dk_at dksX4_loadAhead_0 23 rfl rfl)
theorem dX4_loadAhead_24 : decode cX4_loadAhead 24 = .ok (.iload 4, 2) := dk_21 4 (dk_at dksX4_loadAhead_1 0 rfl rfl)
theorem dX4_loadAhead_26 : decode cX4_loadAhead 26 = .ok (.iload_n 1, 1) := dk_27 (dk_at dksX4_loadAhead_1 2 rfl rfl)
theorem dX4_loadAhead_27 : decode cX4_loadAhead 27 = .ok (.invokestatic 104, 3) := dk_184 0 104 (dk_at dksX4_loadAhead_1 3 rfl rfl)
theorem dX4_loadAhead_30 : decode cX4_loadAhead 30 = .ok (.ifCond .eq 26, 3) := dk_153 0 26 (dk_at dksX4_loadAhead_1 6 rfl rfl)
theorem dX4_loadAhead_33 : decode cX4_loadAhead 33 = .ok (.aload_n 0, 1) := dk_42 (dk_at dksX4_loadAhead_1 9 rfl rfl)
theorem dX4_loadAhead_34 : decode cX4_loadAhead 34 = .ok (.iload 4, 2) := dk_21 4 (dk_at dksX4_loadAhead_1 10 rfl rfl)
theorem dX4_loadAhead_36 : decode cX4_loadAhead 36 = .ok (.iconst 3, 1) := dk_6 (dk_at dksX4_loadAhead_1 12 rfl rfl)
theorem dX4_loadAhead_37 : decode cX4_loadAhead 37 = .ok (.invokestatic 101, 3) := dk_184 0 101 (dk_at dksX4_loadAhead_1 13 rfl rfl)
theorem dX4_loadAhead_40 : decode cX4_loadAhead 40 = .ok (.iaload, 1) := dk_46 (dk_at dksX4_loadAhead_1 16 rfl rfl)
theorem dX4_loadAhead_41 : decode cX4_loadAhead 41 = .ok (.iload_n 2, 1) := dk_28 (dk_at dksX4_loadAhead_1 17 rfl rfl)
theorem dX4_loadAhead_42 : decode cX4_loadAhead 42 = .ok (.if_icmp .ge 14, 3) := dk_162 0 14 (dk_at dksX4_loadAhead_1 18 rfl rfl)
theorem dX4_loadAhead_45 : decode cX4_loadAhead 45 = .ok (.iload_n 3, 1) := dk_29 (dk_at dksX4_loadAhead_1 21 rfl rfl)
theorem dX4_loadAhead_46 : decode cX4_loadAhead 46 = .ok (.aload_n 0, 1) := dk_42 (dk_at dksX4_loadAhead_1 22 rfl rfl)
theorem dX4_loadAhead_47 : decode cX4_loadAhead 47 = .ok (.iload 4, 2) := dk_21 4 (dk_at dksX4_loadAhead_2 0 rfl rfl)
theorem dX4_loadAhead_49 : decode cX4_loadAhead 49 = .ok (.iconst 2, 1) := dk_5 (dk_at dksX4_loadAhead_2 2 rfl rfl)
theorem dX4_loadAhead_50 : decode cX4_loadAhead 50 = .ok (.invokestatic 101, 3) := dk_184 0 101 (dk_at dksX4_loadAhead_2 3 rfl rfl)
theorem dX4_loadAhead_53 : decode cX4_loadAhead 53 = .ok (.iaload, 1) := dk_46 (dk_at dksX4_loadAhead_2 6 rfl rfl)
theorem dX4_loadAhead_54 : decode cX4_loadAhead 54 = .ok (.iadd, 1) := dk_96 (dk_at dksX4_loadAhead_2 7 rfl rfl)
theorem dX4_loadAhead_55 : decode cX4_loadAhead 55 = .ok (.istore_n 3, 1) := dk_62 (dk_at dksX4_loadAhead_2 8 rfl rfl)
theorem dX4_loadAhead_56 : decode cX4_loadAhead 56 = .ok (.iinc 4 1, 3) := dk_132 4 1 (dk_at dksX4_loadAhead_2 9 rfl rfl)
theorem dX4_loadAhead_59 : decode cX4_loadAhead 59 = .ok (.goto (-54), 3) := dk_167 255 202 (dk_at dksX4_loadAhead_2 12 rfl rfl)
theorem dX4_loadAhead_62 : decode cX4_loadAhead 62 = .ok (.iload_n 3, 1) := dk_29 (dk_at dksX4_loadAhead_2 15 rfl rfl)
theorem dX4_loadAhead_63 : decode cX4_loadAhead 63 = .ok (.ireturn, 1) := dk_172 (dk_at dksX4_loadAhead_2 16 rfl rfl)
abbrev cX4_cede : ByteArray := prog_20_method_84_code
def yX4_cede : MethodName := ⟨RX4, "cede", "(II)I"⟩
def dkwX4_cede_5 : List UInt8 := [182, 0, 233, 21, 4, 172]
abbrev dktX4_cede_5 : List UInt8 := dkwX4_cede_5 ++ []
def dkwX4_cede_4 : List UInt8 := [6, 184, 0, 101, 21, 4, 79, 42, 180, 0, 7, 28, 6, 184, 0, 101, 29, 79, 42, 16, 8, 27, 28]
abbrev dktX4_cede_4 : List UInt8 := dkwX4_cede_4 ++ dktX4_cede_5
def dkwX4_cede_3 : List UInt8 := [182, 1, 27, 153, 0, 9, 29, 21, 4, 164, 0, 6, 16, 252, 172, 42, 182, 0, 230, 42, 180, 0, 7, 27]
abbrev dktX4_cede_3 : List UInt8 := dkwX4_cede_3 ++ dktX4_cede_4
def dkwX4_cede_2 : List UInt8 := [180, 0, 7, 27, 184, 0, 117, 154, 0, 29, 42, 180, 0, 7, 28, 184, 0, 117, 154, 0, 18, 42, 27, 28]
abbrev dktX4_cede_2 : List UInt8 := dkwX4_cede_2 ++ dktX4_cede_3
def dkwX4_cede_1 : List UInt8 := [180, 0, 7, 27, 6, 184, 0, 101, 46, 62, 42, 180, 0, 7, 28, 6, 184, 0, 101, 46, 54, 4, 42]
abbrev dktX4_cede_1 : List UInt8 := dkwX4_cede_1 ++ dktX4_cede_2
def dkwX4_cede_0 : List UInt8 := [42, 27, 182, 1, 18, 153, 0, 16, 42, 28, 182, 1, 18, 153, 0, 8, 27, 28, 160, 0, 5, 2, 172, 42]
abbrev dktX4_cede_0 : List UInt8 := dkwX4_cede_0 ++ dktX4_cede_1
theorem dksX4_cede_0 : cX4_cede.data.toList.drop 0 = dktX4_cede_0 := by decide +kernel
theorem dksX4_cede_1 : cX4_cede.data.toList.drop 24 = dktX4_cede_1 := dk_seg dksX4_cede_0 24 rfl rfl
theorem dksX4_cede_2 : cX4_cede.data.toList.drop 47 = dktX4_cede_2 := dk_seg dksX4_cede_1 23 rfl rfl
theorem dksX4_cede_3 : cX4_cede.data.toList.drop 71 = dktX4_cede_3 := dk_seg dksX4_cede_2 24 rfl rfl
theorem dksX4_cede_4 : cX4_cede.data.toList.drop 95 = dktX4_cede_4 := dk_seg dksX4_cede_3 24 rfl rfl
theorem dksX4_cede_5 : cX4_cede.data.toList.drop 118 = dktX4_cede_5 := dk_seg dksX4_cede_4 23 rfl rfl
theorem dX4_cede_0 : decode cX4_cede 0 = .ok (.aload_n 0, 1) := dk_42 (dk_at dksX4_cede_0 0 rfl rfl)
theorem dX4_cede_1 : decode cX4_cede 1 = .ok (.iload_n 1, 1) := dk_27 (dk_at dksX4_cede_0 1 rfl rfl)
theorem dX4_cede_2 : decode cX4_cede 2 = .ok (.invokevirtual 274, 3) := dk_182 1 18 (dk_at dksX4_cede_0 2 rfl rfl)
theorem dX4_cede_5 : decode cX4_cede 5 = .ok (.ifCond .eq 16, 3) := dk_153 0 16 (dk_at dksX4_cede_0 5 rfl rfl)
theorem dX4_cede_8 : decode cX4_cede 8 = .ok (.aload_n 0, 1) := dk_42 (dk_at dksX4_cede_0 8 rfl rfl)
theorem dX4_cede_9 : decode cX4_cede 9 = .ok (.iload_n 2, 1) := dk_28 (dk_at dksX4_cede_0 9 rfl rfl)
theorem dX4_cede_10 : decode cX4_cede 10 = .ok (.invokevirtual 274, 3) := dk_182 1 18 (dk_at dksX4_cede_0 10 rfl rfl)
theorem dX4_cede_13 : decode cX4_cede 13 = .ok (.ifCond .eq 8, 3) := dk_153 0 8 (dk_at dksX4_cede_0 13 rfl rfl)
theorem dX4_cede_16 : decode cX4_cede 16 = .ok (.iload_n 1, 1) := dk_27 (dk_at dksX4_cede_0 16 rfl rfl)
theorem dX4_cede_17 : decode cX4_cede 17 = .ok (.iload_n 2, 1) := dk_28 (dk_at dksX4_cede_0 17 rfl rfl)
theorem dX4_cede_18 : decode cX4_cede 18 = .ok (.if_icmp .ne 5, 3) := dk_160 0 5 (dk_at dksX4_cede_0 18 rfl rfl)
theorem dX4_cede_21 : decode cX4_cede 21 = .ok (.iconst (-1), 1) := dk_2 (dk_at dksX4_cede_0 21 rfl rfl)
theorem dX4_cede_22 : decode cX4_cede 22 = .ok (.ireturn, 1) := dk_172 (dk_at dksX4_cede_0 22 rfl rfl)
theorem dX4_cede_23 : decode cX4_cede 23 = .ok (.aload_n 0, 1) := dk_42 (dk_at dksX4_cede_0 23 rfl rfl)
theorem dX4_cede_24 : decode cX4_cede 24 = .ok (.getfield 7, 3) := dk_180 0 7 (dk_at dksX4_cede_1 0 rfl rfl)
theorem dX4_cede_27 : decode cX4_cede 27 = .ok (.iload_n 1, 1) := dk_27 (dk_at dksX4_cede_1 3 rfl rfl)
theorem dX4_cede_28 : decode cX4_cede 28 = .ok (.iconst 3, 1) := dk_6 (dk_at dksX4_cede_1 4 rfl rfl)
theorem dX4_cede_29 : decode cX4_cede 29 = .ok (.invokestatic 101, 3) := dk_184 0 101 (dk_at dksX4_cede_1 5 rfl rfl)
theorem dX4_cede_32 : decode cX4_cede 32 = .ok (.iaload, 1) := dk_46 (dk_at dksX4_cede_1 8 rfl rfl)
theorem dX4_cede_33 : decode cX4_cede 33 = .ok (.istore_n 3, 1) := dk_62 (dk_at dksX4_cede_1 9 rfl rfl)
theorem dX4_cede_34 : decode cX4_cede 34 = .ok (.aload_n 0, 1) := dk_42 (dk_at dksX4_cede_1 10 rfl rfl)
theorem dX4_cede_35 : decode cX4_cede 35 = .ok (.getfield 7, 3) := dk_180 0 7 (dk_at dksX4_cede_1 11 rfl rfl)
theorem dX4_cede_38 : decode cX4_cede 38 = .ok (.iload_n 2, 1) := dk_28 (dk_at dksX4_cede_1 14 rfl rfl)
theorem dX4_cede_39 : decode cX4_cede 39 = .ok (.iconst 3, 1) := dk_6 (dk_at dksX4_cede_1 15 rfl rfl)
theorem dX4_cede_40 : decode cX4_cede 40 = .ok (.invokestatic 101, 3) := dk_184 0 101 (dk_at dksX4_cede_1 16 rfl rfl)
theorem dX4_cede_43 : decode cX4_cede 43 = .ok (.iaload, 1) := dk_46 (dk_at dksX4_cede_1 19 rfl rfl)
theorem dX4_cede_44 : decode cX4_cede 44 = .ok (.istore 4, 2) := dk_54 4 (dk_at dksX4_cede_1 20 rfl rfl)
theorem dX4_cede_46 : decode cX4_cede 46 = .ok (.aload_n 0, 1) := dk_42 (dk_at dksX4_cede_1 22 rfl rfl)
theorem dX4_cede_47 : decode cX4_cede 47 = .ok (.getfield 7, 3) := dk_180 0 7 (dk_at dksX4_cede_2 0 rfl rfl)
theorem dX4_cede_50 : decode cX4_cede 50 = .ok (.iload_n 1, 1) := dk_27 (dk_at dksX4_cede_2 3 rfl rfl)
theorem dX4_cede_51 : decode cX4_cede 51 = .ok (.invokestatic 117, 3) := dk_184 0 117 (dk_at dksX4_cede_2 4 rfl rfl)
theorem dX4_cede_54 : decode cX4_cede 54 = .ok (.ifCond .ne 29, 3) := dk_154 0 29 (dk_at dksX4_cede_2 7 rfl rfl)
theorem dX4_cede_57 : decode cX4_cede 57 = .ok (.aload_n 0, 1) := dk_42 (dk_at dksX4_cede_2 10 rfl rfl)
theorem dX4_cede_58 : decode cX4_cede 58 = .ok (.getfield 7, 3) := dk_180 0 7 (dk_at dksX4_cede_2 11 rfl rfl)
theorem dX4_cede_61 : decode cX4_cede 61 = .ok (.iload_n 2, 1) := dk_28 (dk_at dksX4_cede_2 14 rfl rfl)
theorem dX4_cede_62 : decode cX4_cede 62 = .ok (.invokestatic 117, 3) := dk_184 0 117 (dk_at dksX4_cede_2 15 rfl rfl)
theorem dX4_cede_65 : decode cX4_cede 65 = .ok (.ifCond .ne 18, 3) := dk_154 0 18 (dk_at dksX4_cede_2 18 rfl rfl)
theorem dX4_cede_68 : decode cX4_cede 68 = .ok (.aload_n 0, 1) := dk_42 (dk_at dksX4_cede_2 21 rfl rfl)
theorem dX4_cede_69 : decode cX4_cede 69 = .ok (.iload_n 1, 1) := dk_27 (dk_at dksX4_cede_2 22 rfl rfl)
theorem dX4_cede_70 : decode cX4_cede 70 = .ok (.iload_n 2, 1) := dk_28 (dk_at dksX4_cede_2 23 rfl rfl)
theorem dX4_cede_71 : decode cX4_cede 71 = .ok (.invokevirtual 283, 3) := dk_182 1 27 (dk_at dksX4_cede_3 0 rfl rfl)
theorem dX4_cede_74 : decode cX4_cede 74 = .ok (.ifCond .eq 9, 3) := dk_153 0 9 (dk_at dksX4_cede_3 3 rfl rfl)
theorem dX4_cede_77 : decode cX4_cede 77 = .ok (.iload_n 3, 1) := dk_29 (dk_at dksX4_cede_3 6 rfl rfl)
theorem dX4_cede_78 : decode cX4_cede 78 = .ok (.iload 4, 2) := dk_21 4 (dk_at dksX4_cede_3 7 rfl rfl)
theorem dX4_cede_80 : decode cX4_cede 80 = .ok (.if_icmp .le 6, 3) := dk_164 0 6 (dk_at dksX4_cede_3 9 rfl rfl)
theorem dX4_cede_83 : decode cX4_cede 83 = .ok (.bipush (-4), 2) := dk_16 252 (dk_at dksX4_cede_3 12 rfl rfl)
theorem dX4_cede_85 : decode cX4_cede 85 = .ok (.ireturn, 1) := dk_172 (dk_at dksX4_cede_3 14 rfl rfl)
theorem dX4_cede_86 : decode cX4_cede 86 = .ok (.aload_n 0, 1) := dk_42 (dk_at dksX4_cede_3 15 rfl rfl)
theorem dX4_cede_87 : decode cX4_cede 87 = .ok (.invokevirtual 230, 3) := dk_182 0 230 (dk_at dksX4_cede_3 16 rfl rfl)
theorem dX4_cede_90 : decode cX4_cede 90 = .ok (.aload_n 0, 1) := dk_42 (dk_at dksX4_cede_3 19 rfl rfl)
theorem dX4_cede_91 : decode cX4_cede 91 = .ok (.getfield 7, 3) := dk_180 0 7 (dk_at dksX4_cede_3 20 rfl rfl)
theorem dX4_cede_94 : decode cX4_cede 94 = .ok (.iload_n 1, 1) := dk_27 (dk_at dksX4_cede_3 23 rfl rfl)
theorem dX4_cede_95 : decode cX4_cede 95 = .ok (.iconst 3, 1) := dk_6 (dk_at dksX4_cede_4 0 rfl rfl)
theorem dX4_cede_96 : decode cX4_cede 96 = .ok (.invokestatic 101, 3) := dk_184 0 101 (dk_at dksX4_cede_4 1 rfl rfl)
theorem dX4_cede_99 : decode cX4_cede 99 = .ok (.iload 4, 2) := dk_21 4 (dk_at dksX4_cede_4 4 rfl rfl)
theorem dX4_cede_101 : decode cX4_cede 101 = .ok (.iastore, 1) := dk_79 (dk_at dksX4_cede_4 6 rfl rfl)
theorem dX4_cede_102 : decode cX4_cede 102 = .ok (.aload_n 0, 1) := dk_42 (dk_at dksX4_cede_4 7 rfl rfl)
theorem dX4_cede_103 : decode cX4_cede 103 = .ok (.getfield 7, 3) := dk_180 0 7 (dk_at dksX4_cede_4 8 rfl rfl)
theorem dX4_cede_106 : decode cX4_cede 106 = .ok (.iload_n 2, 1) := dk_28 (dk_at dksX4_cede_4 11 rfl rfl)
theorem dX4_cede_107 : decode cX4_cede 107 = .ok (.iconst 3, 1) := dk_6 (dk_at dksX4_cede_4 12 rfl rfl)
theorem dX4_cede_108 : decode cX4_cede 108 = .ok (.invokestatic 101, 3) := dk_184 0 101 (dk_at dksX4_cede_4 13 rfl rfl)
theorem dX4_cede_111 : decode cX4_cede 111 = .ok (.iload_n 3, 1) := dk_29 (dk_at dksX4_cede_4 16 rfl rfl)
theorem dX4_cede_112 : decode cX4_cede 112 = .ok (.iastore, 1) := dk_79 (dk_at dksX4_cede_4 17 rfl rfl)
theorem dX4_cede_113 : decode cX4_cede 113 = .ok (.aload_n 0, 1) := dk_42 (dk_at dksX4_cede_4 18 rfl rfl)
theorem dX4_cede_114 : decode cX4_cede 114 = .ok (.bipush 8, 2) := dk_16 8 (dk_at dksX4_cede_4 19 rfl rfl)
theorem dX4_cede_116 : decode cX4_cede 116 = .ok (.iload_n 1, 1) := dk_27 (dk_at dksX4_cede_4 21 rfl rfl)
theorem dX4_cede_117 : decode cX4_cede 117 = .ok (.iload_n 2, 1) := dk_28 (dk_at dksX4_cede_4 22 rfl rfl)
theorem dX4_cede_118 : decode cX4_cede 118 = .ok (.invokevirtual 233, 3) := dk_182 0 233 (dk_at dksX4_cede_5 0 rfl rfl)
theorem dX4_cede_121 : decode cX4_cede 121 = .ok (.iload 4, 2) := dk_21 4 (dk_at dksX4_cede_5 3 rfl rfl)
theorem dX4_cede_123 : decode cX4_cede 123 = .ok (.ireturn, 1) := dk_172 (dk_at dksX4_cede_5 5 rfl rfl)
abbrev cX4_lieTogether : ByteArray := prog_20_method_83_code
def yX4_lieTogether : MethodName := ⟨RX4, "lieTogether", "(II)Z"⟩
def dkwX4_lieTogether_1 : List UInt8 := [42, 180, 0, 7, 28, 29, 184, 0, 104, 153, 0, 5, 4, 172, 132, 3, 1, 167, 255, 217, 3, 172]
abbrev dktX4_lieTogether_1 : List UInt8 := dkwX4_lieTogether_1 ++ []
def dkwX4_lieTogether_0 : List UInt8 := [3, 62, 29, 42, 180, 0, 7, 8, 46, 162, 0, 35, 42, 180, 0, 7, 27, 29, 184, 0, 104, 153, 0, 17]
abbrev dktX4_lieTogether_0 : List UInt8 := dkwX4_lieTogether_0 ++ dktX4_lieTogether_1
theorem dksX4_lieTogether_0 : cX4_lieTogether.data.toList.drop 0 = dktX4_lieTogether_0 := by decide +kernel
theorem dksX4_lieTogether_1 : cX4_lieTogether.data.toList.drop 24 = dktX4_lieTogether_1 := dk_seg dksX4_lieTogether_0 24 rfl rfl
theorem dX4_lieTogether_0 : decode cX4_lieTogether 0 = .ok (.iconst 0, 1) := dk_3 (dk_at dksX4_lieTogether_0 0 rfl rfl)
theorem dX4_lieTogether_1 : decode cX4_lieTogether 1 = .ok (.istore_n 3, 1) := dk_62 (dk_at dksX4_lieTogether_0 1 rfl rfl)
theorem dX4_lieTogether_2 : decode cX4_lieTogether 2 = .ok (.iload_n 3, 1) := dk_29 (dk_at dksX4_lieTogether_0 2 rfl rfl)
theorem dX4_lieTogether_3 : decode cX4_lieTogether 3 = .ok (.aload_n 0, 1) := dk_42 (dk_at dksX4_lieTogether_0 3 rfl rfl)
theorem dX4_lieTogether_4 : decode cX4_lieTogether 4 = .ok (.getfield 7, 3) := dk_180 0 7 (dk_at dksX4_lieTogether_0 4 rfl rfl)
theorem dX4_lieTogether_7 : decode cX4_lieTogether 7 = .ok (.iconst 5, 1) := dk_8 (dk_at dksX4_lieTogether_0 7 rfl rfl)
theorem dX4_lieTogether_8 : decode cX4_lieTogether 8 = .ok (.iaload, 1) := dk_46 (dk_at dksX4_lieTogether_0 8 rfl rfl)
theorem dX4_lieTogether_9 : decode cX4_lieTogether 9 = .ok (.if_icmp .ge 35, 3) := dk_162 0 35 (dk_at dksX4_lieTogether_0 9 rfl rfl)
theorem dX4_lieTogether_12 : decode cX4_lieTogether 12 = .ok (.aload_n 0, 1) := dk_42 (dk_at dksX4_lieTogether_0 12 rfl rfl)
theorem dX4_lieTogether_13 : decode cX4_lieTogether 13 = .ok (.getfield 7, 3) := dk_180 0 7 (dk_at dksX4_lieTogether_0 13 rfl rfl)
theorem dX4_lieTogether_16 : decode cX4_lieTogether 16 = .ok (.iload_n 1, 1) := dk_27 (dk_at dksX4_lieTogether_0 16 rfl rfl)
theorem dX4_lieTogether_17 : decode cX4_lieTogether 17 = .ok (.iload_n 3, 1) := dk_29 (dk_at dksX4_lieTogether_0 17 rfl rfl)
theorem dX4_lieTogether_18 : decode cX4_lieTogether 18 = .ok (.invokestatic 104, 3) := dk_184 0 104 (dk_at dksX4_lieTogether_0 18 rfl rfl)
theorem dX4_lieTogether_21 : decode cX4_lieTogether 21 = .ok (.ifCond .eq 17, 3) := dk_153 0 17 (dk_at dksX4_lieTogether_0 21 rfl rfl)
theorem dX4_lieTogether_24 : decode cX4_lieTogether 24 = .ok (.aload_n 0, 1) := dk_42 (dk_at dksX4_lieTogether_1 0 rfl rfl)
theorem dX4_lieTogether_25 : decode cX4_lieTogether 25 = .ok (.getfield 7, 3) := dk_180 0 7 (dk_at dksX4_lieTogether_1 1 rfl rfl)
theorem dX4_lieTogether_28 : decode cX4_lieTogether 28 = .ok (.iload_n 2, 1) := dk_28 (dk_at dksX4_lieTogether_1 4 rfl rfl)
theorem dX4_lieTogether_29 : decode cX4_lieTogether 29 = .ok (.iload_n 3, 1) := dk_29 (dk_at dksX4_lieTogether_1 5 rfl rfl)
theorem dX4_lieTogether_30 : decode cX4_lieTogether 30 = .ok (.invokestatic 104, 3) := dk_184 0 104 (dk_at dksX4_lieTogether_1 6 rfl rfl)
theorem dX4_lieTogether_33 : decode cX4_lieTogether 33 = .ok (.ifCond .eq 5, 3) := dk_153 0 5 (dk_at dksX4_lieTogether_1 9 rfl rfl)
theorem dX4_lieTogether_36 : decode cX4_lieTogether 36 = .ok (.iconst 1, 1) := dk_4 (dk_at dksX4_lieTogether_1 12 rfl rfl)
theorem dX4_lieTogether_37 : decode cX4_lieTogether 37 = .ok (.ireturn, 1) := dk_172 (dk_at dksX4_lieTogether_1 13 rfl rfl)
theorem dX4_lieTogether_38 : decode cX4_lieTogether 38 = .ok (.iinc 3 1, 3) := dk_132 3 1 (dk_at dksX4_lieTogether_1 14 rfl rfl)
theorem dX4_lieTogether_41 : decode cX4_lieTogether 41 = .ok (.goto (-39), 3) := dk_167 255 217 (dk_at dksX4_lieTogether_1 17 rfl rfl)
theorem dX4_lieTogether_44 : decode cX4_lieTogether 44 = .ok (.iconst 0, 1) := dk_3 (dk_at dksX4_lieTogether_1 20 rfl rfl)
theorem dX4_lieTogether_45 : decode cX4_lieTogether 45 = .ok (.ireturn, 1) := dk_172 (dk_at dksX4_lieTogether_1 21 rfl rfl)
abbrev cX4_bar : ByteArray := prog_20_method_86_code
def yX4_bar : MethodName := ⟨RX4, "bar", "(II)I"⟩
def dkwX4_bar_3 : List UInt8 := [182, 0, 233, 42, 182, 1, 30, 172]
abbrev dktX4_bar_3 : List UInt8 := dkwX4_bar_3 ++ []
def dkwX4_bar_2 : List UInt8 := [16, 254, 172, 42, 182, 0, 230, 42, 180, 0, 7, 27, 16, 7, 184, 0, 66, 28, 79, 42, 16, 9, 27, 28]
abbrev dktX4_bar_2 : List UInt8 := dkwX4_bar_2 ++ dktX4_bar_3
def dkwX4_bar_1 : List UInt8 := [184, 0, 73, 154, 0, 6, 16, 252, 172, 42, 180, 0, 7, 27, 16, 7, 184, 0, 66, 46, 28, 160, 0, 6]
abbrev dktX4_bar_1 : List UInt8 := dkwX4_bar_1 ++ dktX4_bar_2
def dkwX4_bar_0 : List UInt8 := [42, 27, 182, 0, 240, 153, 0, 12, 28, 3, 4, 184, 0, 54, 154, 0, 5, 2, 172, 42, 180, 0, 7, 27]
abbrev dktX4_bar_0 : List UInt8 := dkwX4_bar_0 ++ dktX4_bar_1
theorem dksX4_bar_0 : cX4_bar.data.toList.drop 0 = dktX4_bar_0 := by decide +kernel
theorem dksX4_bar_1 : cX4_bar.data.toList.drop 24 = dktX4_bar_1 := dk_seg dksX4_bar_0 24 rfl rfl
theorem dksX4_bar_2 : cX4_bar.data.toList.drop 48 = dktX4_bar_2 := dk_seg dksX4_bar_1 24 rfl rfl
theorem dksX4_bar_3 : cX4_bar.data.toList.drop 72 = dktX4_bar_3 := dk_seg dksX4_bar_2 24 rfl rfl
theorem dX4_bar_0 : decode cX4_bar 0 = .ok (.aload_n 0, 1) := dk_42 (dk_at dksX4_bar_0 0 rfl rfl)
theorem dX4_bar_1 : decode cX4_bar 1 = .ok (.iload_n 1, 1) := dk_27 (dk_at dksX4_bar_0 1 rfl rfl)
theorem dX4_bar_2 : decode cX4_bar 2 = .ok (.invokevirtual 240, 3) := dk_182 0 240 (dk_at dksX4_bar_0 2 rfl rfl)
theorem dX4_bar_5 : decode cX4_bar 5 = .ok (.ifCond .eq 12, 3) := dk_153 0 12 (dk_at dksX4_bar_0 5 rfl rfl)
theorem dX4_bar_8 : decode cX4_bar 8 = .ok (.iload_n 2, 1) := dk_28 (dk_at dksX4_bar_0 8 rfl rfl)
theorem dX4_bar_9 : decode cX4_bar 9 = .ok (.iconst 0, 1) := dk_3 (dk_at dksX4_bar_0 9 rfl rfl)
theorem dX4_bar_10 : decode cX4_bar 10 = .ok (.iconst 1, 1) := dk_4 (dk_at dksX4_bar_0 10 rfl rfl)
theorem dX4_bar_11 : decode cX4_bar 11 = .ok (.invokestatic 54, 3) := dk_184 0 54 (dk_at dksX4_bar_0 11 rfl rfl)
theorem dX4_bar_14 : decode cX4_bar 14 = .ok (.ifCond .ne 5, 3) := dk_154 0 5 (dk_at dksX4_bar_0 14 rfl rfl)
theorem dX4_bar_17 : decode cX4_bar 17 = .ok (.iconst (-1), 1) := dk_2 (dk_at dksX4_bar_0 17 rfl rfl)
theorem dX4_bar_18 : decode cX4_bar 18 = .ok (.ireturn, 1) := dk_172 (dk_at dksX4_bar_0 18 rfl rfl)
theorem dX4_bar_19 : decode cX4_bar 19 = .ok (.aload_n 0, 1) := dk_42 (dk_at dksX4_bar_0 19 rfl rfl)
theorem dX4_bar_20 : decode cX4_bar 20 = .ok (.getfield 7, 3) := dk_180 0 7 (dk_at dksX4_bar_0 20 rfl rfl)
theorem dX4_bar_23 : decode cX4_bar 23 = .ok (.iload_n 1, 1) := dk_27 (dk_at dksX4_bar_0 23 rfl rfl)
theorem dX4_bar_24 : decode cX4_bar 24 = .ok (.invokestatic 73, 3) := dk_184 0 73 (dk_at dksX4_bar_1 0 rfl rfl)
theorem dX4_bar_27 : decode cX4_bar 27 = .ok (.ifCond .ne 6, 3) := dk_154 0 6 (dk_at dksX4_bar_1 3 rfl rfl)
theorem dX4_bar_30 : decode cX4_bar 30 = .ok (.bipush (-4), 2) := dk_16 252 (dk_at dksX4_bar_1 6 rfl rfl)
theorem dX4_bar_32 : decode cX4_bar 32 = .ok (.ireturn, 1) := dk_172 (dk_at dksX4_bar_1 8 rfl rfl)
theorem dX4_bar_33 : decode cX4_bar 33 = .ok (.aload_n 0, 1) := dk_42 (dk_at dksX4_bar_1 9 rfl rfl)
theorem dX4_bar_34 : decode cX4_bar 34 = .ok (.getfield 7, 3) := dk_180 0 7 (dk_at dksX4_bar_1 10 rfl rfl)
theorem dX4_bar_37 : decode cX4_bar 37 = .ok (.iload_n 1, 1) := dk_27 (dk_at dksX4_bar_1 13 rfl rfl)
theorem dX4_bar_38 : decode cX4_bar 38 = .ok (.bipush 7, 2) := dk_16 7 (dk_at dksX4_bar_1 14 rfl rfl)
theorem dX4_bar_40 : decode cX4_bar 40 = .ok (.invokestatic 66, 3) := dk_184 0 66 (dk_at dksX4_bar_1 16 rfl rfl)
theorem dX4_bar_43 : decode cX4_bar 43 = .ok (.iaload, 1) := dk_46 (dk_at dksX4_bar_1 19 rfl rfl)
theorem dX4_bar_44 : decode cX4_bar 44 = .ok (.iload_n 2, 1) := dk_28 (dk_at dksX4_bar_1 20 rfl rfl)
theorem dX4_bar_45 : decode cX4_bar 45 = .ok (.if_icmp .ne 6, 3) := dk_160 0 6 (dk_at dksX4_bar_1 21 rfl rfl)
theorem dX4_bar_48 : decode cX4_bar 48 = .ok (.bipush (-2), 2) := dk_16 254 (dk_at dksX4_bar_2 0 rfl rfl)
theorem dX4_bar_50 : decode cX4_bar 50 = .ok (.ireturn, 1) := dk_172 (dk_at dksX4_bar_2 2 rfl rfl)
theorem dX4_bar_51 : decode cX4_bar 51 = .ok (.aload_n 0, 1) := dk_42 (dk_at dksX4_bar_2 3 rfl rfl)
theorem dX4_bar_52 : decode cX4_bar 52 = .ok (.invokevirtual 230, 3) := dk_182 0 230 (dk_at dksX4_bar_2 4 rfl rfl)
theorem dX4_bar_55 : decode cX4_bar 55 = .ok (.aload_n 0, 1) := dk_42 (dk_at dksX4_bar_2 7 rfl rfl)
theorem dX4_bar_56 : decode cX4_bar 56 = .ok (.getfield 7, 3) := dk_180 0 7 (dk_at dksX4_bar_2 8 rfl rfl)
theorem dX4_bar_59 : decode cX4_bar 59 = .ok (.iload_n 1, 1) := dk_27 (dk_at dksX4_bar_2 11 rfl rfl)
theorem dX4_bar_60 : decode cX4_bar 60 = .ok (.bipush 7, 2) := dk_16 7 (dk_at dksX4_bar_2 12 rfl rfl)
theorem dX4_bar_62 : decode cX4_bar 62 = .ok (.invokestatic 66, 3) := dk_184 0 66 (dk_at dksX4_bar_2 14 rfl rfl)
theorem dX4_bar_65 : decode cX4_bar 65 = .ok (.iload_n 2, 1) := dk_28 (dk_at dksX4_bar_2 17 rfl rfl)
theorem dX4_bar_66 : decode cX4_bar 66 = .ok (.iastore, 1) := dk_79 (dk_at dksX4_bar_2 18 rfl rfl)
theorem dX4_bar_67 : decode cX4_bar 67 = .ok (.aload_n 0, 1) := dk_42 (dk_at dksX4_bar_2 19 rfl rfl)
theorem dX4_bar_68 : decode cX4_bar 68 = .ok (.bipush 9, 2) := dk_16 9 (dk_at dksX4_bar_2 20 rfl rfl)
theorem dX4_bar_70 : decode cX4_bar 70 = .ok (.iload_n 1, 1) := dk_27 (dk_at dksX4_bar_2 22 rfl rfl)
theorem dX4_bar_71 : decode cX4_bar 71 = .ok (.iload_n 2, 1) := dk_28 (dk_at dksX4_bar_2 23 rfl rfl)
theorem dX4_bar_72 : decode cX4_bar 72 = .ok (.invokevirtual 233, 3) := dk_182 0 233 (dk_at dksX4_bar_3 0 rfl rfl)
theorem dX4_bar_75 : decode cX4_bar 75 = .ok (.aload_n 0, 1) := dk_42 (dk_at dksX4_bar_3 3 rfl rfl)
theorem dX4_bar_76 : decode cX4_bar 76 = .ok (.invokevirtual 286, 3) := dk_182 1 30 (dk_at dksX4_bar_3 4 rfl rfl)
theorem dX4_bar_79 : decode cX4_bar 79 = .ok (.ireturn, 1) := dk_172 (dk_at dksX4_bar_3 7 rfl rfl)
abbrev cX4_barredMany : ByteArray := prog_20_method_85_code
def yX4_barredMany : MethodName := ⟨RX4, "barredMany", "()I"⟩
def dkwX4_barredMany_2 : List UInt8 := [172]
abbrev dktX4_barredMany_2 : List UInt8 := dkwX4_barredMany_2 ++ []
def dkwX4_barredMany_1 : List UInt8 := [153, 0, 17, 42, 180, 0, 7, 28, 184, 0, 243, 153, 0, 6, 132, 1, 1, 132, 2, 1, 167, 255, 218, 27]
abbrev dktX4_barredMany_1 : List UInt8 := dkwX4_barredMany_1 ++ dktX4_barredMany_2
def dkwX4_barredMany_0 : List UInt8 := [3, 60, 3, 61, 28, 42, 180, 0, 7, 8, 46, 162, 0, 34, 42, 180, 0, 7, 28, 184, 0, 73]
abbrev dktX4_barredMany_0 : List UInt8 := dkwX4_barredMany_0 ++ dktX4_barredMany_1
theorem dksX4_barredMany_0 : cX4_barredMany.data.toList.drop 0 = dktX4_barredMany_0 := by decide +kernel
theorem dksX4_barredMany_1 : cX4_barredMany.data.toList.drop 22 = dktX4_barredMany_1 := dk_seg dksX4_barredMany_0 22 rfl rfl
theorem dksX4_barredMany_2 : cX4_barredMany.data.toList.drop 46 = dktX4_barredMany_2 := dk_seg dksX4_barredMany_1 24 rfl rfl
theorem dX4_barredMany_0 : decode cX4_barredMany 0 = .ok (.iconst 0, 1) := dk_3 (dk_at dksX4_barredMany_0 0 rfl rfl)
theorem dX4_barredMany_1 : decode cX4_barredMany 1 = .ok (.istore_n 1, 1) := dk_60 (dk_at dksX4_barredMany_0 1 rfl rfl)
theorem dX4_barredMany_2 : decode cX4_barredMany 2 = .ok (.iconst 0, 1) := dk_3 (dk_at dksX4_barredMany_0 2 rfl rfl)
theorem dX4_barredMany_3 : decode cX4_barredMany 3 = .ok (.istore_n 2, 1) := dk_61 (dk_at dksX4_barredMany_0 3 rfl rfl)
theorem dX4_barredMany_4 : decode cX4_barredMany 4 = .ok (.iload_n 2, 1) := dk_28 (dk_at dksX4_barredMany_0 4 rfl rfl)
theorem dX4_barredMany_5 : decode cX4_barredMany 5 = .ok (.aload_n 0, 1) := dk_42 (dk_at dksX4_barredMany_0 5 rfl rfl)
theorem dX4_barredMany_6 : decode cX4_barredMany 6 = .ok (.getfield 7, 3) := dk_180 0 7 (dk_at dksX4_barredMany_0 6 rfl rfl)
theorem dX4_barredMany_9 : decode cX4_barredMany 9 = .ok (.iconst 5, 1) := dk_8 (dk_at dksX4_barredMany_0 9 rfl rfl)
theorem dX4_barredMany_10 : decode cX4_barredMany 10 = .ok (.iaload, 1) := dk_46 (dk_at dksX4_barredMany_0 10 rfl rfl)
theorem dX4_barredMany_11 : decode cX4_barredMany 11 = .ok (.if_icmp .ge 34, 3) := dk_162 0 34 (dk_at dksX4_barredMany_0 11 rfl rfl)
theorem dX4_barredMany_14 : decode cX4_barredMany 14 = .ok (.aload_n 0, 1) := dk_42 (dk_at dksX4_barredMany_0 14 rfl rfl)
theorem dX4_barredMany_15 : decode cX4_barredMany 15 = .ok (.getfield 7, 3) := dk_180 0 7 (dk_at dksX4_barredMany_0 15 rfl rfl)
theorem dX4_barredMany_18 : decode cX4_barredMany 18 = .ok (.iload_n 2, 1) := dk_28 (dk_at dksX4_barredMany_0 18 rfl rfl)
theorem dX4_barredMany_19 : decode cX4_barredMany 19 = .ok (.invokestatic 73, 3) := dk_184 0 73 (dk_at dksX4_barredMany_0 19 rfl rfl)
theorem dX4_barredMany_22 : decode cX4_barredMany 22 = .ok (.ifCond .eq 17, 3) := dk_153 0 17 (dk_at dksX4_barredMany_1 0 rfl rfl)
theorem dX4_barredMany_25 : decode cX4_barredMany 25 = .ok (.aload_n 0, 1) := dk_42 (dk_at dksX4_barredMany_1 3 rfl rfl)
theorem dX4_barredMany_26 : decode cX4_barredMany 26 = .ok (.getfield 7, 3) := dk_180 0 7 (dk_at dksX4_barredMany_1 4 rfl rfl)
theorem dX4_barredMany_29 : decode cX4_barredMany 29 = .ok (.iload_n 2, 1) := dk_28 (dk_at dksX4_barredMany_1 7 rfl rfl)
theorem dX4_barredMany_30 : decode cX4_barredMany 30 = .ok (.invokestatic 243, 3) := dk_184 0 243 (dk_at dksX4_barredMany_1 8 rfl rfl)
theorem dX4_barredMany_33 : decode cX4_barredMany 33 = .ok (.ifCond .eq 6, 3) := dk_153 0 6 (dk_at dksX4_barredMany_1 11 rfl rfl)
theorem dX4_barredMany_36 : decode cX4_barredMany 36 = .ok (.iinc 1 1, 3) := dk_132 1 1 (dk_at dksX4_barredMany_1 14 rfl rfl)
theorem dX4_barredMany_39 : decode cX4_barredMany 39 = .ok (.iinc 2 1, 3) := dk_132 2 1 (dk_at dksX4_barredMany_1 17 rfl rfl)
theorem dX4_barredMany_42 : decode cX4_barredMany 42 = .ok (.goto (-38), 3) := dk_167 255 218 (dk_at dksX4_barredMany_1 20 rfl rfl)
theorem dX4_barredMany_45 : decode cX4_barredMany 45 = .ok (.iload_n 1, 1) := dk_27 (dk_at dksX4_barredMany_1 23 rfl rfl)
theorem dX4_barredMany_46 : decode cX4_barredMany 46 = .ok (.ireturn, 1) := dk_172 (dk_at dksX4_barredMany_2 0 rfl rfl)
abbrev cX4_days : ByteArray := prog_20_method_87_code
def yX4_days : MethodName := ⟨RX4, "days", "(I)I"⟩
def dkwX4_days_2 : List UInt8 := [42, 180, 0, 7, 6, 46, 182, 0, 233, 42, 180, 0, 7, 6, 46, 172]
abbrev dktX4_days_2 : List UInt8 := dkwX4_days_2 ++ []
def dkwX4_days_1 : List UInt8 := [164, 0, 6, 16, 253, 172, 42, 182, 0, 230, 42, 180, 0, 7, 6, 92, 46, 27, 96, 79, 42, 16, 10, 27]
abbrev dktX4_days_1 : List UInt8 := dkwX4_days_1 ++ dktX4_days_2
def dkwX4_days_0 : List UInt8 := [27, 4, 17, 3, 232, 184, 0, 54, 154, 0, 5, 2, 172, 42, 180, 0, 7, 6, 46, 27, 96, 17, 39, 15]
abbrev dktX4_days_0 : List UInt8 := dkwX4_days_0 ++ dktX4_days_1
theorem dksX4_days_0 : cX4_days.data.toList.drop 0 = dktX4_days_0 := by decide +kernel
theorem dksX4_days_1 : cX4_days.data.toList.drop 24 = dktX4_days_1 := dk_seg dksX4_days_0 24 rfl rfl
theorem dksX4_days_2 : cX4_days.data.toList.drop 48 = dktX4_days_2 := dk_seg dksX4_days_1 24 rfl rfl
theorem dX4_days_0 : decode cX4_days 0 = .ok (.iload_n 1, 1) := dk_27 (dk_at dksX4_days_0 0 rfl rfl)
theorem dX4_days_1 : decode cX4_days 1 = .ok (.iconst 1, 1) := dk_4 (dk_at dksX4_days_0 1 rfl rfl)
theorem dX4_days_2 : decode cX4_days 2 = .ok (.sipush 1000, 3) := dk_17 3 232 (dk_at dksX4_days_0 2 rfl rfl)
theorem dX4_days_5 : decode cX4_days 5 = .ok (.invokestatic 54, 3) := dk_184 0 54 (dk_at dksX4_days_0 5 rfl rfl)
theorem dX4_days_8 : decode cX4_days 8 = .ok (.ifCond .ne 5, 3) := dk_154 0 5 (dk_at dksX4_days_0 8 rfl rfl)
theorem dX4_days_11 : decode cX4_days 11 = .ok (.iconst (-1), 1) := dk_2 (dk_at dksX4_days_0 11 rfl rfl)
theorem dX4_days_12 : decode cX4_days 12 = .ok (.ireturn, 1) := dk_172 (dk_at dksX4_days_0 12 rfl rfl)
theorem dX4_days_13 : decode cX4_days 13 = .ok (.aload_n 0, 1) := dk_42 (dk_at dksX4_days_0 13 rfl rfl)
theorem dX4_days_14 : decode cX4_days 14 = .ok (.getfield 7, 3) := dk_180 0 7 (dk_at dksX4_days_0 14 rfl rfl)
theorem dX4_days_17 : decode cX4_days 17 = .ok (.iconst 3, 1) := dk_6 (dk_at dksX4_days_0 17 rfl rfl)
theorem dX4_days_18 : decode cX4_days 18 = .ok (.iaload, 1) := dk_46 (dk_at dksX4_days_0 18 rfl rfl)
theorem dX4_days_19 : decode cX4_days 19 = .ok (.iload_n 1, 1) := dk_27 (dk_at dksX4_days_0 19 rfl rfl)
theorem dX4_days_20 : decode cX4_days 20 = .ok (.iadd, 1) := dk_96 (dk_at dksX4_days_0 20 rfl rfl)
theorem dX4_days_21 : decode cX4_days 21 = .ok (.sipush 9999, 3) := dk_17 39 15 (dk_at dksX4_days_0 21 rfl rfl)
theorem dX4_days_24 : decode cX4_days 24 = .ok (.if_icmp .le 6, 3) := dk_164 0 6 (dk_at dksX4_days_1 0 rfl rfl)
theorem dX4_days_27 : decode cX4_days 27 = .ok (.bipush (-3), 2) := dk_16 253 (dk_at dksX4_days_1 3 rfl rfl)
theorem dX4_days_29 : decode cX4_days 29 = .ok (.ireturn, 1) := dk_172 (dk_at dksX4_days_1 5 rfl rfl)
theorem dX4_days_30 : decode cX4_days 30 = .ok (.aload_n 0, 1) := dk_42 (dk_at dksX4_days_1 6 rfl rfl)
theorem dX4_days_31 : decode cX4_days 31 = .ok (.invokevirtual 230, 3) := dk_182 0 230 (dk_at dksX4_days_1 7 rfl rfl)
theorem dX4_days_34 : decode cX4_days 34 = .ok (.aload_n 0, 1) := dk_42 (dk_at dksX4_days_1 10 rfl rfl)
theorem dX4_days_35 : decode cX4_days 35 = .ok (.getfield 7, 3) := dk_180 0 7 (dk_at dksX4_days_1 11 rfl rfl)
theorem dX4_days_38 : decode cX4_days 38 = .ok (.iconst 3, 1) := dk_6 (dk_at dksX4_days_1 14 rfl rfl)
theorem dX4_days_39 : decode cX4_days 39 = .ok (.dup2, 1) := dk_92 (dk_at dksX4_days_1 15 rfl rfl)
theorem dX4_days_40 : decode cX4_days 40 = .ok (.iaload, 1) := dk_46 (dk_at dksX4_days_1 16 rfl rfl)
theorem dX4_days_41 : decode cX4_days 41 = .ok (.iload_n 1, 1) := dk_27 (dk_at dksX4_days_1 17 rfl rfl)
theorem dX4_days_42 : decode cX4_days 42 = .ok (.iadd, 1) := dk_96 (dk_at dksX4_days_1 18 rfl rfl)
theorem dX4_days_43 : decode cX4_days 43 = .ok (.iastore, 1) := dk_79 (dk_at dksX4_days_1 19 rfl rfl)
theorem dX4_days_44 : decode cX4_days 44 = .ok (.aload_n 0, 1) := dk_42 (dk_at dksX4_days_1 20 rfl rfl)
theorem dX4_days_45 : decode cX4_days 45 = .ok (.bipush 10, 2) := dk_16 10 (dk_at dksX4_days_1 21 rfl rfl)
theorem dX4_days_47 : decode cX4_days 47 = .ok (.iload_n 1, 1) := dk_27 (dk_at dksX4_days_1 23 rfl rfl)
theorem dX4_days_48 : decode cX4_days 48 = .ok (.aload_n 0, 1) := dk_42 (dk_at dksX4_days_2 0 rfl rfl)
theorem dX4_days_49 : decode cX4_days 49 = .ok (.getfield 7, 3) := dk_180 0 7 (dk_at dksX4_days_2 1 rfl rfl)
theorem dX4_days_52 : decode cX4_days 52 = .ok (.iconst 3, 1) := dk_6 (dk_at dksX4_days_2 4 rfl rfl)
theorem dX4_days_53 : decode cX4_days 53 = .ok (.iaload, 1) := dk_46 (dk_at dksX4_days_2 5 rfl rfl)
theorem dX4_days_54 : decode cX4_days 54 = .ok (.invokevirtual 233, 3) := dk_182 0 233 (dk_at dksX4_days_2 6 rfl rfl)
theorem dX4_days_57 : decode cX4_days 57 = .ok (.aload_n 0, 1) := dk_42 (dk_at dksX4_days_2 9 rfl rfl)
theorem dX4_days_58 : decode cX4_days 58 = .ok (.getfield 7, 3) := dk_180 0 7 (dk_at dksX4_days_2 10 rfl rfl)
theorem dX4_days_61 : decode cX4_days 61 = .ok (.iconst 3, 1) := dk_6 (dk_at dksX4_days_2 13 rfl rfl)
theorem dX4_days_62 : decode cX4_days 62 = .ok (.iaload, 1) := dk_46 (dk_at dksX4_days_2 14 rfl rfl)
theorem dX4_days_63 : decode cX4_days 63 = .ok (.ireturn, 1) := dk_172 (dk_at dksX4_days_2 15 rfl rfl)
abbrev cX4_price : ByteArray := prog_20_method_88_code
def yX4_price : MethodName := ⟨RX4, "price", "(I)I"⟩
def dkwX4_price_1 : List UInt8 := [16, 254, 172, 42, 182, 0, 230, 42, 180, 0, 7, 5, 27, 79, 42, 16, 11, 27, 28, 182, 0, 233, 28, 172]
abbrev dktX4_price_1 : List UInt8 := dkwX4_price_1 ++ []
def dkwX4_price_0 : List UInt8 := [27, 4, 16, 99, 184, 0, 54, 154, 0, 5, 2, 172, 42, 180, 0, 7, 5, 46, 61, 28, 27, 160, 0, 6]
abbrev dktX4_price_0 : List UInt8 := dkwX4_price_0 ++ dktX4_price_1
theorem dksX4_price_0 : cX4_price.data.toList.drop 0 = dktX4_price_0 := by decide +kernel
theorem dksX4_price_1 : cX4_price.data.toList.drop 24 = dktX4_price_1 := dk_seg dksX4_price_0 24 rfl rfl
theorem dX4_price_0 : decode cX4_price 0 = .ok (.iload_n 1, 1) := dk_27 (dk_at dksX4_price_0 0 rfl rfl)
theorem dX4_price_1 : decode cX4_price 1 = .ok (.iconst 1, 1) := dk_4 (dk_at dksX4_price_0 1 rfl rfl)
theorem dX4_price_2 : decode cX4_price 2 = .ok (.bipush 99, 2) := dk_16 99 (dk_at dksX4_price_0 2 rfl rfl)
theorem dX4_price_4 : decode cX4_price 4 = .ok (.invokestatic 54, 3) := dk_184 0 54 (dk_at dksX4_price_0 4 rfl rfl)
theorem dX4_price_7 : decode cX4_price 7 = .ok (.ifCond .ne 5, 3) := dk_154 0 5 (dk_at dksX4_price_0 7 rfl rfl)
theorem dX4_price_10 : decode cX4_price 10 = .ok (.iconst (-1), 1) := dk_2 (dk_at dksX4_price_0 10 rfl rfl)
theorem dX4_price_11 : decode cX4_price 11 = .ok (.ireturn, 1) := dk_172 (dk_at dksX4_price_0 11 rfl rfl)
theorem dX4_price_12 : decode cX4_price 12 = .ok (.aload_n 0, 1) := dk_42 (dk_at dksX4_price_0 12 rfl rfl)
theorem dX4_price_13 : decode cX4_price 13 = .ok (.getfield 7, 3) := dk_180 0 7 (dk_at dksX4_price_0 13 rfl rfl)
theorem dX4_price_16 : decode cX4_price 16 = .ok (.iconst 2, 1) := dk_5 (dk_at dksX4_price_0 16 rfl rfl)
theorem dX4_price_17 : decode cX4_price 17 = .ok (.iaload, 1) := dk_46 (dk_at dksX4_price_0 17 rfl rfl)
theorem dX4_price_18 : decode cX4_price 18 = .ok (.istore_n 2, 1) := dk_61 (dk_at dksX4_price_0 18 rfl rfl)
theorem dX4_price_19 : decode cX4_price 19 = .ok (.iload_n 2, 1) := dk_28 (dk_at dksX4_price_0 19 rfl rfl)
theorem dX4_price_20 : decode cX4_price 20 = .ok (.iload_n 1, 1) := dk_27 (dk_at dksX4_price_0 20 rfl rfl)
theorem dX4_price_21 : decode cX4_price 21 = .ok (.if_icmp .ne 6, 3) := dk_160 0 6 (dk_at dksX4_price_0 21 rfl rfl)
theorem dX4_price_24 : decode cX4_price 24 = .ok (.bipush (-2), 2) := dk_16 254 (dk_at dksX4_price_1 0 rfl rfl)
theorem dX4_price_26 : decode cX4_price 26 = .ok (.ireturn, 1) := dk_172 (dk_at dksX4_price_1 2 rfl rfl)
theorem dX4_price_27 : decode cX4_price 27 = .ok (.aload_n 0, 1) := dk_42 (dk_at dksX4_price_1 3 rfl rfl)
theorem dX4_price_28 : decode cX4_price 28 = .ok (.invokevirtual 230, 3) := dk_182 0 230 (dk_at dksX4_price_1 4 rfl rfl)
theorem dX4_price_31 : decode cX4_price 31 = .ok (.aload_n 0, 1) := dk_42 (dk_at dksX4_price_1 7 rfl rfl)
theorem dX4_price_32 : decode cX4_price 32 = .ok (.getfield 7, 3) := dk_180 0 7 (dk_at dksX4_price_1 8 rfl rfl)
theorem dX4_price_35 : decode cX4_price 35 = .ok (.iconst 2, 1) := dk_5 (dk_at dksX4_price_1 11 rfl rfl)
theorem dX4_price_36 : decode cX4_price 36 = .ok (.iload_n 1, 1) := dk_27 (dk_at dksX4_price_1 12 rfl rfl)
theorem dX4_price_37 : decode cX4_price 37 = .ok (.iastore, 1) := dk_79 (dk_at dksX4_price_1 13 rfl rfl)
theorem dX4_price_38 : decode cX4_price 38 = .ok (.aload_n 0, 1) := dk_42 (dk_at dksX4_price_1 14 rfl rfl)
theorem dX4_price_39 : decode cX4_price 39 = .ok (.bipush 11, 2) := dk_16 11 (dk_at dksX4_price_1 15 rfl rfl)
theorem dX4_price_41 : decode cX4_price 41 = .ok (.iload_n 1, 1) := dk_27 (dk_at dksX4_price_1 17 rfl rfl)
theorem dX4_price_42 : decode cX4_price 42 = .ok (.iload_n 2, 1) := dk_28 (dk_at dksX4_price_1 18 rfl rfl)
theorem dX4_price_43 : decode cX4_price 43 = .ok (.invokevirtual 233, 3) := dk_182 0 233 (dk_at dksX4_price_1 19 rfl rfl)
theorem dX4_price_46 : decode cX4_price 46 = .ok (.iload_n 2, 1) := dk_28 (dk_at dksX4_price_1 22 rfl rfl)
theorem dX4_price_47 : decode cX4_price 47 = .ok (.ireturn, 1) := dk_172 (dk_at dksX4_price_1 23 rfl rfl)
abbrev cX4_keep : ByteArray := prog_20_method_89_code
def yX4_keep : MethodName := ⟨RX4, "keep", "(I)I"⟩
def dkwX4_keep_1 : List UInt8 := [104, 184, 0, 50, 42, 180, 0, 25, 27, 4, 84, 42, 180, 0, 7, 8, 46, 172]
abbrev dktX4_keep_1 : List UInt8 := dkwX4_keep_1 ++ []
def dkwX4_keep_0 : List UInt8 := [27, 3, 4, 184, 0, 54, 154, 0, 5, 2, 172, 42, 180, 0, 7, 3, 42, 180, 0, 22, 17, 4, 151, 27]
abbrev dktX4_keep_0 : List UInt8 := dkwX4_keep_0 ++ dktX4_keep_1
theorem dksX4_keep_0 : cX4_keep.data.toList.drop 0 = dktX4_keep_0 := by decide +kernel
theorem dksX4_keep_1 : cX4_keep.data.toList.drop 24 = dktX4_keep_1 := dk_seg dksX4_keep_0 24 rfl rfl
theorem dX4_keep_0 : decode cX4_keep 0 = .ok (.iload_n 1, 1) := dk_27 (dk_at dksX4_keep_0 0 rfl rfl)
theorem dX4_keep_1 : decode cX4_keep 1 = .ok (.iconst 0, 1) := dk_3 (dk_at dksX4_keep_0 1 rfl rfl)
theorem dX4_keep_2 : decode cX4_keep 2 = .ok (.iconst 1, 1) := dk_4 (dk_at dksX4_keep_0 2 rfl rfl)
theorem dX4_keep_3 : decode cX4_keep 3 = .ok (.invokestatic 54, 3) := dk_184 0 54 (dk_at dksX4_keep_0 3 rfl rfl)
theorem dX4_keep_6 : decode cX4_keep 6 = .ok (.ifCond .ne 5, 3) := dk_154 0 5 (dk_at dksX4_keep_0 6 rfl rfl)
theorem dX4_keep_9 : decode cX4_keep 9 = .ok (.iconst (-1), 1) := dk_2 (dk_at dksX4_keep_0 9 rfl rfl)
theorem dX4_keep_10 : decode cX4_keep 10 = .ok (.ireturn, 1) := dk_172 (dk_at dksX4_keep_0 10 rfl rfl)
theorem dX4_keep_11 : decode cX4_keep 11 = .ok (.aload_n 0, 1) := dk_42 (dk_at dksX4_keep_0 11 rfl rfl)
theorem dX4_keep_12 : decode cX4_keep 12 = .ok (.getfield 7, 3) := dk_180 0 7 (dk_at dksX4_keep_0 12 rfl rfl)
theorem dX4_keep_15 : decode cX4_keep 15 = .ok (.iconst 0, 1) := dk_3 (dk_at dksX4_keep_0 15 rfl rfl)
theorem dX4_keep_16 : decode cX4_keep 16 = .ok (.aload_n 0, 1) := dk_42 (dk_at dksX4_keep_0 16 rfl rfl)
theorem dX4_keep_17 : decode cX4_keep 17 = .ok (.getfield 22, 3) := dk_180 0 22 (dk_at dksX4_keep_0 17 rfl rfl)
theorem dX4_keep_20 : decode cX4_keep 20 = .ok (.sipush 1175, 3) := dk_17 4 151 (dk_at dksX4_keep_0 20 rfl rfl)
theorem dX4_keep_23 : decode cX4_keep 23 = .ok (.iload_n 1, 1) := dk_27 (dk_at dksX4_keep_0 23 rfl rfl)
theorem dX4_keep_24 : decode cX4_keep 24 = .ok (.imul, 1) := dk_104 (dk_at dksX4_keep_1 0 rfl rfl)
theorem dX4_keep_25 : decode cX4_keep 25 = .ok (.invokestatic 50, 3) := dk_184 0 50 (dk_at dksX4_keep_1 1 rfl rfl)
theorem dX4_keep_28 : decode cX4_keep 28 = .ok (.aload_n 0, 1) := dk_42 (dk_at dksX4_keep_1 4 rfl rfl)
theorem dX4_keep_29 : decode cX4_keep 29 = .ok (.getfield 25, 3) := dk_180 0 25 (dk_at dksX4_keep_1 5 rfl rfl)
theorem dX4_keep_32 : decode cX4_keep 32 = .ok (.iload_n 1, 1) := dk_27 (dk_at dksX4_keep_1 8 rfl rfl)
theorem dX4_keep_33 : decode cX4_keep 33 = .ok (.iconst 1, 1) := dk_4 (dk_at dksX4_keep_1 9 rfl rfl)
theorem dX4_keep_34 : decode cX4_keep 34 = .ok (.bastore, 1) := dk_84 (dk_at dksX4_keep_1 10 rfl rfl)
theorem dX4_keep_35 : decode cX4_keep 35 = .ok (.aload_n 0, 1) := dk_42 (dk_at dksX4_keep_1 11 rfl rfl)
theorem dX4_keep_36 : decode cX4_keep 36 = .ok (.getfield 7, 3) := dk_180 0 7 (dk_at dksX4_keep_1 12 rfl rfl)
theorem dX4_keep_39 : decode cX4_keep 39 = .ok (.iconst 5, 1) := dk_8 (dk_at dksX4_keep_1 15 rfl rfl)
theorem dX4_keep_40 : decode cX4_keep 40 = .ok (.iaload, 1) := dk_46 (dk_at dksX4_keep_1 16 rfl rfl)
theorem dX4_keep_41 : decode cX4_keep 41 = .ok (.ireturn, 1) := dk_172 (dk_at dksX4_keep_1 17 rfl rfl)
abbrev cX4_restore : ByteArray := prog_20_method_90_code
def yX4_restore : MethodName := ⟨RX4, "restore", "(I)I"⟩
def dkwX4_restore_2 : List UInt8 := [8, 46, 172]
abbrev dktX4_restore_2 : List UInt8 := dkwX4_restore_2 ++ []
def dkwX4_restore_1 : List UInt8 := [182, 0, 230, 42, 180, 0, 22, 17, 4, 151, 27, 104, 42, 180, 0, 7, 3, 184, 0, 50, 42, 180, 0, 7]
abbrev dktX4_restore_1 : List UInt8 := dkwX4_restore_1 ++ dktX4_restore_2
def dkwX4_restore_0 : List UInt8 := [27, 3, 4, 184, 0, 54, 154, 0, 5, 2, 172, 42, 180, 0, 25, 27, 51, 154, 0, 6, 16, 254, 172, 42]
abbrev dktX4_restore_0 : List UInt8 := dkwX4_restore_0 ++ dktX4_restore_1
theorem dksX4_restore_0 : cX4_restore.data.toList.drop 0 = dktX4_restore_0 := by decide +kernel
theorem dksX4_restore_1 : cX4_restore.data.toList.drop 24 = dktX4_restore_1 := dk_seg dksX4_restore_0 24 rfl rfl
theorem dksX4_restore_2 : cX4_restore.data.toList.drop 48 = dktX4_restore_2 := dk_seg dksX4_restore_1 24 rfl rfl
theorem dX4_restore_0 : decode cX4_restore 0 = .ok (.iload_n 1, 1) := dk_27 (dk_at dksX4_restore_0 0 rfl rfl)
theorem dX4_restore_1 : decode cX4_restore 1 = .ok (.iconst 0, 1) := dk_3 (dk_at dksX4_restore_0 1 rfl rfl)
theorem dX4_restore_2 : decode cX4_restore 2 = .ok (.iconst 1, 1) := dk_4 (dk_at dksX4_restore_0 2 rfl rfl)
theorem dX4_restore_3 : decode cX4_restore 3 = .ok (.invokestatic 54, 3) := dk_184 0 54 (dk_at dksX4_restore_0 3 rfl rfl)
theorem dX4_restore_6 : decode cX4_restore 6 = .ok (.ifCond .ne 5, 3) := dk_154 0 5 (dk_at dksX4_restore_0 6 rfl rfl)
theorem dX4_restore_9 : decode cX4_restore 9 = .ok (.iconst (-1), 1) := dk_2 (dk_at dksX4_restore_0 9 rfl rfl)
theorem dX4_restore_10 : decode cX4_restore 10 = .ok (.ireturn, 1) := dk_172 (dk_at dksX4_restore_0 10 rfl rfl)
theorem dX4_restore_11 : decode cX4_restore 11 = .ok (.aload_n 0, 1) := dk_42 (dk_at dksX4_restore_0 11 rfl rfl)
theorem dX4_restore_12 : decode cX4_restore 12 = .ok (.getfield 25, 3) := dk_180 0 25 (dk_at dksX4_restore_0 12 rfl rfl)
theorem dX4_restore_15 : decode cX4_restore 15 = .ok (.iload_n 1, 1) := dk_27 (dk_at dksX4_restore_0 15 rfl rfl)
theorem dX4_restore_16 : decode cX4_restore 16 = .ok (.baload, 1) := dk_51 (dk_at dksX4_restore_0 16 rfl rfl)
theorem dX4_restore_17 : decode cX4_restore 17 = .ok (.ifCond .ne 6, 3) := dk_154 0 6 (dk_at dksX4_restore_0 17 rfl rfl)
theorem dX4_restore_20 : decode cX4_restore 20 = .ok (.bipush (-2), 2) := dk_16 254 (dk_at dksX4_restore_0 20 rfl rfl)
theorem dX4_restore_22 : decode cX4_restore 22 = .ok (.ireturn, 1) := dk_172 (dk_at dksX4_restore_0 22 rfl rfl)
theorem dX4_restore_23 : decode cX4_restore 23 = .ok (.aload_n 0, 1) := dk_42 (dk_at dksX4_restore_0 23 rfl rfl)
theorem dX4_restore_24 : decode cX4_restore 24 = .ok (.invokevirtual 230, 3) := dk_182 0 230 (dk_at dksX4_restore_1 0 rfl rfl)
theorem dX4_restore_27 : decode cX4_restore 27 = .ok (.aload_n 0, 1) := dk_42 (dk_at dksX4_restore_1 3 rfl rfl)
theorem dX4_restore_28 : decode cX4_restore 28 = .ok (.getfield 22, 3) := dk_180 0 22 (dk_at dksX4_restore_1 4 rfl rfl)
theorem dX4_restore_31 : decode cX4_restore 31 = .ok (.sipush 1175, 3) := dk_17 4 151 (dk_at dksX4_restore_1 7 rfl rfl)
theorem dX4_restore_34 : decode cX4_restore 34 = .ok (.iload_n 1, 1) := dk_27 (dk_at dksX4_restore_1 10 rfl rfl)
theorem dX4_restore_35 : decode cX4_restore 35 = .ok (.imul, 1) := dk_104 (dk_at dksX4_restore_1 11 rfl rfl)
theorem dX4_restore_36 : decode cX4_restore 36 = .ok (.aload_n 0, 1) := dk_42 (dk_at dksX4_restore_1 12 rfl rfl)
theorem dX4_restore_37 : decode cX4_restore 37 = .ok (.getfield 7, 3) := dk_180 0 7 (dk_at dksX4_restore_1 13 rfl rfl)
theorem dX4_restore_40 : decode cX4_restore 40 = .ok (.iconst 0, 1) := dk_3 (dk_at dksX4_restore_1 16 rfl rfl)
theorem dX4_restore_41 : decode cX4_restore 41 = .ok (.invokestatic 50, 3) := dk_184 0 50 (dk_at dksX4_restore_1 17 rfl rfl)
theorem dX4_restore_44 : decode cX4_restore 44 = .ok (.aload_n 0, 1) := dk_42 (dk_at dksX4_restore_1 20 rfl rfl)
theorem dX4_restore_45 : decode cX4_restore 45 = .ok (.getfield 7, 3) := dk_180 0 7 (dk_at dksX4_restore_1 21 rfl rfl)
theorem dX4_restore_48 : decode cX4_restore 48 = .ok (.iconst 5, 1) := dk_8 (dk_at dksX4_restore_2 0 rfl rfl)
theorem dX4_restore_49 : decode cX4_restore 49 = .ok (.iaload, 1) := dk_46 (dk_at dksX4_restore_2 1 rfl rfl)
theorem dX4_restore_50 : decode cX4_restore 50 = .ok (.ireturn, 1) := dk_172 (dk_at dksX4_restore_2 2 rfl rfl)
abbrev cX4_undo : ByteArray := prog_20_method_91_code
def yX4_undo : MethodName := ⟨RX4, "undo", "()I"⟩
def dkwX4_undo_1 : List UInt8 := [17, 4, 151, 42, 180, 0, 224, 104, 42, 180, 0, 7, 3, 184, 0, 50, 42, 180, 0, 224, 172]
abbrev dktX4_undo_1 : List UInt8 := dkwX4_undo_1 ++ []
def dkwX4_undo_0 : List UInt8 := [42, 180, 0, 224, 154, 0, 5, 2, 172, 42, 89, 180, 0, 224, 4, 100, 181, 0, 224, 42, 180, 0, 19]
abbrev dktX4_undo_0 : List UInt8 := dkwX4_undo_0 ++ dktX4_undo_1
theorem dksX4_undo_0 : cX4_undo.data.toList.drop 0 = dktX4_undo_0 := by decide +kernel
theorem dksX4_undo_1 : cX4_undo.data.toList.drop 23 = dktX4_undo_1 := dk_seg dksX4_undo_0 23 rfl rfl
theorem dX4_undo_0 : decode cX4_undo 0 = .ok (.aload_n 0, 1) := dk_42 (dk_at dksX4_undo_0 0 rfl rfl)
theorem dX4_undo_1 : decode cX4_undo 1 = .ok (.getfield 224, 3) := dk_180 0 224 (dk_at dksX4_undo_0 1 rfl rfl)
theorem dX4_undo_4 : decode cX4_undo 4 = .ok (.ifCond .ne 5, 3) := dk_154 0 5 (dk_at dksX4_undo_0 4 rfl rfl)
theorem dX4_undo_7 : decode cX4_undo 7 = .ok (.iconst (-1), 1) := dk_2 (dk_at dksX4_undo_0 7 rfl rfl)
theorem dX4_undo_8 : decode cX4_undo 8 = .ok (.ireturn, 1) := dk_172 (dk_at dksX4_undo_0 8 rfl rfl)
theorem dX4_undo_9 : decode cX4_undo 9 = .ok (.aload_n 0, 1) := dk_42 (dk_at dksX4_undo_0 9 rfl rfl)
theorem dX4_undo_10 : decode cX4_undo 10 = .ok (.dup, 1) := dk_89 (dk_at dksX4_undo_0 10 rfl rfl)
theorem dX4_undo_11 : decode cX4_undo 11 = .ok (.getfield 224, 3) := dk_180 0 224 (dk_at dksX4_undo_0 11 rfl rfl)
theorem dX4_undo_14 : decode cX4_undo 14 = .ok (.iconst 1, 1) := dk_4 (dk_at dksX4_undo_0 14 rfl rfl)
theorem dX4_undo_15 : decode cX4_undo 15 = .ok (.isub, 1) := dk_100 (dk_at dksX4_undo_0 15 rfl rfl)
theorem dX4_undo_16 : decode cX4_undo 16 = .ok (.putfield 224, 3) := dk_181 0 224 (dk_at dksX4_undo_0 16 rfl rfl)
theorem dX4_undo_19 : decode cX4_undo 19 = .ok (.aload_n 0, 1) := dk_42 (dk_at dksX4_undo_0 19 rfl rfl)
theorem dX4_undo_20 : decode cX4_undo 20 = .ok (.getfield 19, 3) := dk_180 0 19 (dk_at dksX4_undo_0 20 rfl rfl)
theorem dX4_undo_23 : decode cX4_undo 23 = .ok (.sipush 1175, 3) := dk_17 4 151 (dk_at dksX4_undo_1 0 rfl rfl)
theorem dX4_undo_26 : decode cX4_undo 26 = .ok (.aload_n 0, 1) := dk_42 (dk_at dksX4_undo_1 3 rfl rfl)
theorem dX4_undo_27 : decode cX4_undo 27 = .ok (.getfield 224, 3) := dk_180 0 224 (dk_at dksX4_undo_1 4 rfl rfl)
theorem dX4_undo_30 : decode cX4_undo 30 = .ok (.imul, 1) := dk_104 (dk_at dksX4_undo_1 7 rfl rfl)
theorem dX4_undo_31 : decode cX4_undo 31 = .ok (.aload_n 0, 1) := dk_42 (dk_at dksX4_undo_1 8 rfl rfl)
theorem dX4_undo_32 : decode cX4_undo 32 = .ok (.getfield 7, 3) := dk_180 0 7 (dk_at dksX4_undo_1 9 rfl rfl)
theorem dX4_undo_35 : decode cX4_undo 35 = .ok (.iconst 0, 1) := dk_3 (dk_at dksX4_undo_1 12 rfl rfl)
theorem dX4_undo_36 : decode cX4_undo 36 = .ok (.invokestatic 50, 3) := dk_184 0 50 (dk_at dksX4_undo_1 13 rfl rfl)
theorem dX4_undo_39 : decode cX4_undo 39 = .ok (.aload_n 0, 1) := dk_42 (dk_at dksX4_undo_1 16 rfl rfl)
theorem dX4_undo_40 : decode cX4_undo 40 = .ok (.getfield 224, 3) := dk_180 0 224 (dk_at dksX4_undo_1 17 rfl rfl)
theorem dX4_undo_43 : decode cX4_undo 43 = .ok (.ireturn, 1) := dk_172 (dk_at dksX4_undo_1 20 rfl rfl)
abbrev cX4_value : ByteArray := prog_20_method_97_code
def yX4_value : MethodName := ⟨RX4, "value", "(I)I"⟩
def dkwX4_value_5 : List UInt8 := [180, 0, 224, 172, 2, 172]
abbrev dktX4_value_5 : List UInt8 := dkwX4_value_5 ++ []
def dkwX4_value_4 : List UInt8 := [180, 0, 7, 184, 1, 48, 172, 42, 182, 1, 52, 172, 42, 180, 0, 7, 17, 4, 30, 46, 172, 42]
abbrev dktX4_value_4 : List UInt8 := dkwX4_value_4 ++ dktX4_value_5
def dkwX4_value_3 : List UInt8 := [172, 42, 180, 0, 7, 16, 7, 46, 172, 42, 182, 1, 42, 172, 42, 16, 254, 182, 1, 45, 172, 42]
abbrev dktX4_value_3 : List UInt8 := dkwX4_value_3 ++ dktX4_value_4
def dkwX4_value_2 : List UInt8 := [42, 180, 0, 7, 27, 46, 172, 42, 182, 1, 39, 172, 42, 182, 1, 30, 172, 42, 180, 0, 7, 16, 6, 46]
abbrev dktX4_value_2 : List UInt8 := dkwX4_value_2 ++ dktX4_value_3
def dkwX4_value_1 : List UInt8 := [170, 0, 0, 0, 0, 0, 151, 0, 0, 0, 0, 0, 0, 0, 15, 0, 0, 0, 79, 0, 0, 0, 79, 0, 0, 0, 79, 0, 0, 0, 79, 0, 0, 0, 79, 0, 0, 0, 79, 0, 0, 0, 86, 0, 0, 0, 91, 0, 0, 0, 96, 0, 0, 0, 104, 0, 0, 0, 112, 0, 0, 0, 117, 0, 0, 0, 124, 0, 0, 0, 132, 0, 0, 0, 137, 0, 0, 0, 146]
abbrev dktX4_value_1 : List UInt8 := dkwX4_value_1 ++ dktX4_value_2
def dkwX4_value_0 : List UInt8 := [27]
abbrev dktX4_value_0 : List UInt8 := dkwX4_value_0 ++ dktX4_value_1
theorem dksX4_value_0 : cX4_value.data.toList.drop 0 = dktX4_value_0 := by decide +kernel
theorem dksX4_value_1 : cX4_value.data.toList.drop 1 = dktX4_value_1 := dk_seg dksX4_value_0 1 rfl rfl
theorem dksX4_value_2 : cX4_value.data.toList.drop 80 = dktX4_value_2 := dk_seg dksX4_value_1 79 rfl rfl
theorem dksX4_value_3 : cX4_value.data.toList.drop 104 = dktX4_value_3 := dk_seg dksX4_value_2 24 rfl rfl
theorem dksX4_value_4 : cX4_value.data.toList.drop 126 = dktX4_value_4 := dk_seg dksX4_value_3 22 rfl rfl
theorem dksX4_value_5 : cX4_value.data.toList.drop 148 = dktX4_value_5 := dk_seg dksX4_value_4 22 rfl rfl
theorem dX4_value_0 : decode cX4_value 0 = .ok (.iload_n 1, 1) := dk_27 (dk_at dksX4_value_0 0 rfl rfl)
theorem dX4_value_1 : decode cX4_value 1 = .ok (.tableswitch 151 0 15 #[79, 79, 79, 79, 79, 79, 86, 91, 96, 104, 112, 117, 124, 132, 137, 146], 79) := by decide +kernel
theorem dX4_value_80 : decode cX4_value 80 = .ok (.aload_n 0, 1) := dk_42 (dk_at dksX4_value_2 0 rfl rfl)
theorem dX4_value_81 : decode cX4_value 81 = .ok (.getfield 7, 3) := dk_180 0 7 (dk_at dksX4_value_2 1 rfl rfl)
theorem dX4_value_84 : decode cX4_value 84 = .ok (.iload_n 1, 1) := dk_27 (dk_at dksX4_value_2 4 rfl rfl)
theorem dX4_value_85 : decode cX4_value 85 = .ok (.iaload, 1) := dk_46 (dk_at dksX4_value_2 5 rfl rfl)
theorem dX4_value_86 : decode cX4_value 86 = .ok (.ireturn, 1) := dk_172 (dk_at dksX4_value_2 6 rfl rfl)
theorem dX4_value_87 : decode cX4_value 87 = .ok (.aload_n 0, 1) := dk_42 (dk_at dksX4_value_2 7 rfl rfl)
theorem dX4_value_88 : decode cX4_value 88 = .ok (.invokevirtual 295, 3) := dk_182 1 39 (dk_at dksX4_value_2 8 rfl rfl)
theorem dX4_value_91 : decode cX4_value 91 = .ok (.ireturn, 1) := dk_172 (dk_at dksX4_value_2 11 rfl rfl)
theorem dX4_value_92 : decode cX4_value 92 = .ok (.aload_n 0, 1) := dk_42 (dk_at dksX4_value_2 12 rfl rfl)
theorem dX4_value_93 : decode cX4_value 93 = .ok (.invokevirtual 286, 3) := dk_182 1 30 (dk_at dksX4_value_2 13 rfl rfl)
theorem dX4_value_96 : decode cX4_value 96 = .ok (.ireturn, 1) := dk_172 (dk_at dksX4_value_2 16 rfl rfl)
theorem dX4_value_97 : decode cX4_value 97 = .ok (.aload_n 0, 1) := dk_42 (dk_at dksX4_value_2 17 rfl rfl)
theorem dX4_value_98 : decode cX4_value 98 = .ok (.getfield 7, 3) := dk_180 0 7 (dk_at dksX4_value_2 18 rfl rfl)
theorem dX4_value_101 : decode cX4_value 101 = .ok (.bipush 6, 2) := dk_16 6 (dk_at dksX4_value_2 21 rfl rfl)
theorem dX4_value_103 : decode cX4_value 103 = .ok (.iaload, 1) := dk_46 (dk_at dksX4_value_2 23 rfl rfl)
theorem dX4_value_104 : decode cX4_value 104 = .ok (.ireturn, 1) := dk_172 (dk_at dksX4_value_3 0 rfl rfl)
theorem dX4_value_105 : decode cX4_value 105 = .ok (.aload_n 0, 1) := dk_42 (dk_at dksX4_value_3 1 rfl rfl)
theorem dX4_value_106 : decode cX4_value 106 = .ok (.getfield 7, 3) := dk_180 0 7 (dk_at dksX4_value_3 2 rfl rfl)
theorem dX4_value_109 : decode cX4_value 109 = .ok (.bipush 7, 2) := dk_16 7 (dk_at dksX4_value_3 5 rfl rfl)
theorem dX4_value_111 : decode cX4_value 111 = .ok (.iaload, 1) := dk_46 (dk_at dksX4_value_3 7 rfl rfl)
theorem dX4_value_112 : decode cX4_value 112 = .ok (.ireturn, 1) := dk_172 (dk_at dksX4_value_3 8 rfl rfl)
theorem dX4_value_113 : decode cX4_value 113 = .ok (.aload_n 0, 1) := dk_42 (dk_at dksX4_value_3 9 rfl rfl)
theorem dX4_value_114 : decode cX4_value 114 = .ok (.invokevirtual 298, 3) := dk_182 1 42 (dk_at dksX4_value_3 10 rfl rfl)
theorem dX4_value_117 : decode cX4_value 117 = .ok (.ireturn, 1) := dk_172 (dk_at dksX4_value_3 13 rfl rfl)
theorem dX4_value_118 : decode cX4_value 118 = .ok (.aload_n 0, 1) := dk_42 (dk_at dksX4_value_3 14 rfl rfl)
theorem dX4_value_119 : decode cX4_value 119 = .ok (.bipush (-2), 2) := dk_16 254 (dk_at dksX4_value_3 15 rfl rfl)
theorem dX4_value_121 : decode cX4_value 121 = .ok (.invokevirtual 301, 3) := dk_182 1 45 (dk_at dksX4_value_3 17 rfl rfl)
theorem dX4_value_124 : decode cX4_value 124 = .ok (.ireturn, 1) := dk_172 (dk_at dksX4_value_3 20 rfl rfl)
theorem dX4_value_125 : decode cX4_value 125 = .ok (.aload_n 0, 1) := dk_42 (dk_at dksX4_value_3 21 rfl rfl)
theorem dX4_value_126 : decode cX4_value 126 = .ok (.getfield 7, 3) := dk_180 0 7 (dk_at dksX4_value_4 0 rfl rfl)
theorem dX4_value_129 : decode cX4_value 129 = .ok (.invokestatic 304, 3) := dk_184 1 48 (dk_at dksX4_value_4 3 rfl rfl)
theorem dX4_value_132 : decode cX4_value 132 = .ok (.ireturn, 1) := dk_172 (dk_at dksX4_value_4 6 rfl rfl)
theorem dX4_value_133 : decode cX4_value 133 = .ok (.aload_n 0, 1) := dk_42 (dk_at dksX4_value_4 7 rfl rfl)
theorem dX4_value_134 : decode cX4_value 134 = .ok (.invokevirtual 308, 3) := dk_182 1 52 (dk_at dksX4_value_4 8 rfl rfl)
theorem dX4_value_137 : decode cX4_value 137 = .ok (.ireturn, 1) := dk_172 (dk_at dksX4_value_4 11 rfl rfl)
theorem dX4_value_138 : decode cX4_value 138 = .ok (.aload_n 0, 1) := dk_42 (dk_at dksX4_value_4 12 rfl rfl)
theorem dX4_value_139 : decode cX4_value 139 = .ok (.getfield 7, 3) := dk_180 0 7 (dk_at dksX4_value_4 13 rfl rfl)
theorem dX4_value_142 : decode cX4_value 142 = .ok (.sipush 1054, 3) := dk_17 4 30 (dk_at dksX4_value_4 16 rfl rfl)
theorem dX4_value_145 : decode cX4_value 145 = .ok (.iaload, 1) := dk_46 (dk_at dksX4_value_4 19 rfl rfl)
theorem dX4_value_146 : decode cX4_value 146 = .ok (.ireturn, 1) := dk_172 (dk_at dksX4_value_4 20 rfl rfl)
theorem dX4_value_147 : decode cX4_value 147 = .ok (.aload_n 0, 1) := dk_42 (dk_at dksX4_value_4 21 rfl rfl)
theorem dX4_value_148 : decode cX4_value 148 = .ok (.getfield 224, 3) := dk_180 0 224 (dk_at dksX4_value_5 0 rfl rfl)
theorem dX4_value_151 : decode cX4_value 151 = .ok (.ireturn, 1) := dk_172 (dk_at dksX4_value_5 3 rfl rfl)
theorem dX4_value_152 : decode cX4_value 152 = .ok (.iconst (-1), 1) := dk_2 (dk_at dksX4_value_5 4 rfl rfl)
theorem dX4_value_153 : decode cX4_value 153 = .ok (.ireturn, 1) := dk_172 (dk_at dksX4_value_5 5 rfl rfl)
abbrev cX4_liveMany : ByteArray := prog_20_method_92_code
def yX4_liveMany : MethodName := ⟨RX4, "liveMany", "()I"⟩
def dkwX4_liveMany_1 : List UInt8 := [153, 0, 6, 132, 1, 1, 132, 2, 1, 167, 255, 229, 27, 172]
abbrev dktX4_liveMany_1 : List UInt8 := dkwX4_liveMany_1 ++ []
def dkwX4_liveMany_0 : List UInt8 := [3, 60, 3, 61, 28, 42, 180, 0, 7, 8, 46, 162, 0, 23, 42, 180, 0, 7, 28, 184, 0, 73]
abbrev dktX4_liveMany_0 : List UInt8 := dkwX4_liveMany_0 ++ dktX4_liveMany_1
theorem dksX4_liveMany_0 : cX4_liveMany.data.toList.drop 0 = dktX4_liveMany_0 := by decide +kernel
theorem dksX4_liveMany_1 : cX4_liveMany.data.toList.drop 22 = dktX4_liveMany_1 := dk_seg dksX4_liveMany_0 22 rfl rfl
theorem dX4_liveMany_0 : decode cX4_liveMany 0 = .ok (.iconst 0, 1) := dk_3 (dk_at dksX4_liveMany_0 0 rfl rfl)
theorem dX4_liveMany_1 : decode cX4_liveMany 1 = .ok (.istore_n 1, 1) := dk_60 (dk_at dksX4_liveMany_0 1 rfl rfl)
theorem dX4_liveMany_2 : decode cX4_liveMany 2 = .ok (.iconst 0, 1) := dk_3 (dk_at dksX4_liveMany_0 2 rfl rfl)
theorem dX4_liveMany_3 : decode cX4_liveMany 3 = .ok (.istore_n 2, 1) := dk_61 (dk_at dksX4_liveMany_0 3 rfl rfl)
theorem dX4_liveMany_4 : decode cX4_liveMany 4 = .ok (.iload_n 2, 1) := dk_28 (dk_at dksX4_liveMany_0 4 rfl rfl)
theorem dX4_liveMany_5 : decode cX4_liveMany 5 = .ok (.aload_n 0, 1) := dk_42 (dk_at dksX4_liveMany_0 5 rfl rfl)
theorem dX4_liveMany_6 : decode cX4_liveMany 6 = .ok (.getfield 7, 3) := dk_180 0 7 (dk_at dksX4_liveMany_0 6 rfl rfl)
theorem dX4_liveMany_9 : decode cX4_liveMany 9 = .ok (.iconst 5, 1) := dk_8 (dk_at dksX4_liveMany_0 9 rfl rfl)
theorem dX4_liveMany_10 : decode cX4_liveMany 10 = .ok (.iaload, 1) := dk_46 (dk_at dksX4_liveMany_0 10 rfl rfl)
theorem dX4_liveMany_11 : decode cX4_liveMany 11 = .ok (.if_icmp .ge 23, 3) := dk_162 0 23 (dk_at dksX4_liveMany_0 11 rfl rfl)
theorem dX4_liveMany_14 : decode cX4_liveMany 14 = .ok (.aload_n 0, 1) := dk_42 (dk_at dksX4_liveMany_0 14 rfl rfl)
theorem dX4_liveMany_15 : decode cX4_liveMany 15 = .ok (.getfield 7, 3) := dk_180 0 7 (dk_at dksX4_liveMany_0 15 rfl rfl)
theorem dX4_liveMany_18 : decode cX4_liveMany 18 = .ok (.iload_n 2, 1) := dk_28 (dk_at dksX4_liveMany_0 18 rfl rfl)
theorem dX4_liveMany_19 : decode cX4_liveMany 19 = .ok (.invokestatic 73, 3) := dk_184 0 73 (dk_at dksX4_liveMany_0 19 rfl rfl)
theorem dX4_liveMany_22 : decode cX4_liveMany 22 = .ok (.ifCond .eq 6, 3) := dk_153 0 6 (dk_at dksX4_liveMany_1 0 rfl rfl)
theorem dX4_liveMany_25 : decode cX4_liveMany 25 = .ok (.iinc 1 1, 3) := dk_132 1 1 (dk_at dksX4_liveMany_1 3 rfl rfl)
theorem dX4_liveMany_28 : decode cX4_liveMany 28 = .ok (.iinc 2 1, 3) := dk_132 2 1 (dk_at dksX4_liveMany_1 6 rfl rfl)
theorem dX4_liveMany_31 : decode cX4_liveMany 31 = .ok (.goto (-27), 3) := dk_167 255 229 (dk_at dksX4_liveMany_1 9 rfl rfl)
theorem dX4_liveMany_34 : decode cX4_liveMany 34 = .ok (.iload_n 1, 1) := dk_27 (dk_at dksX4_liveMany_1 12 rfl rfl)
theorem dX4_liveMany_35 : decode cX4_liveMany 35 = .ok (.ireturn, 1) := dk_172 (dk_at dksX4_liveMany_1 13 rfl rfl)
abbrev cX4_openBurdens : ByteArray := prog_20_method_93_code
def yX4_openBurdens : MethodName := ⟨RX4, "openBurdens", "()I"⟩
def dkwX4_openBurdens_1 : List UInt8 := [154, 0, 6, 132, 1, 1, 132, 2, 1, 167, 255, 228, 27, 172]
abbrev dktX4_openBurdens_1 : List UInt8 := dkwX4_openBurdens_1 ++ []
def dkwX4_openBurdens_0 : List UInt8 := [3, 60, 3, 61, 28, 42, 180, 0, 7, 16, 7, 46, 162, 0, 23, 42, 180, 0, 7, 28, 184, 0, 117]
abbrev dktX4_openBurdens_0 : List UInt8 := dkwX4_openBurdens_0 ++ dktX4_openBurdens_1
theorem dksX4_openBurdens_0 : cX4_openBurdens.data.toList.drop 0 = dktX4_openBurdens_0 := by decide +kernel
theorem dksX4_openBurdens_1 : cX4_openBurdens.data.toList.drop 23 = dktX4_openBurdens_1 := dk_seg dksX4_openBurdens_0 23 rfl rfl
theorem dX4_openBurdens_0 : decode cX4_openBurdens 0 = .ok (.iconst 0, 1) := dk_3 (dk_at dksX4_openBurdens_0 0 rfl rfl)
theorem dX4_openBurdens_1 : decode cX4_openBurdens 1 = .ok (.istore_n 1, 1) := dk_60 (dk_at dksX4_openBurdens_0 1 rfl rfl)
theorem dX4_openBurdens_2 : decode cX4_openBurdens 2 = .ok (.iconst 0, 1) := dk_3 (dk_at dksX4_openBurdens_0 2 rfl rfl)
theorem dX4_openBurdens_3 : decode cX4_openBurdens 3 = .ok (.istore_n 2, 1) := dk_61 (dk_at dksX4_openBurdens_0 3 rfl rfl)
theorem dX4_openBurdens_4 : decode cX4_openBurdens 4 = .ok (.iload_n 2, 1) := dk_28 (dk_at dksX4_openBurdens_0 4 rfl rfl)
theorem dX4_openBurdens_5 : decode cX4_openBurdens 5 = .ok (.aload_n 0, 1) := dk_42 (dk_at dksX4_openBurdens_0 5 rfl rfl)
theorem dX4_openBurdens_6 : decode cX4_openBurdens 6 = .ok (.getfield 7, 3) := dk_180 0 7 (dk_at dksX4_openBurdens_0 6 rfl rfl)
theorem dX4_openBurdens_9 : decode cX4_openBurdens 9 = .ok (.bipush 7, 2) := dk_16 7 (dk_at dksX4_openBurdens_0 9 rfl rfl)
theorem dX4_openBurdens_11 : decode cX4_openBurdens 11 = .ok (.iaload, 1) := dk_46 (dk_at dksX4_openBurdens_0 11 rfl rfl)
theorem dX4_openBurdens_12 : decode cX4_openBurdens 12 = .ok (.if_icmp .ge 23, 3) := dk_162 0 23 (dk_at dksX4_openBurdens_0 12 rfl rfl)
theorem dX4_openBurdens_15 : decode cX4_openBurdens 15 = .ok (.aload_n 0, 1) := dk_42 (dk_at dksX4_openBurdens_0 15 rfl rfl)
theorem dX4_openBurdens_16 : decode cX4_openBurdens 16 = .ok (.getfield 7, 3) := dk_180 0 7 (dk_at dksX4_openBurdens_0 16 rfl rfl)
theorem dX4_openBurdens_19 : decode cX4_openBurdens 19 = .ok (.iload_n 2, 1) := dk_28 (dk_at dksX4_openBurdens_0 19 rfl rfl)
theorem dX4_openBurdens_20 : decode cX4_openBurdens 20 = .ok (.invokestatic 117, 3) := dk_184 0 117 (dk_at dksX4_openBurdens_0 20 rfl rfl)
theorem dX4_openBurdens_23 : decode cX4_openBurdens 23 = .ok (.ifCond .ne 6, 3) := dk_154 0 6 (dk_at dksX4_openBurdens_1 0 rfl rfl)
theorem dX4_openBurdens_26 : decode cX4_openBurdens 26 = .ok (.iinc 1 1, 3) := dk_132 1 1 (dk_at dksX4_openBurdens_1 3 rfl rfl)
theorem dX4_openBurdens_29 : decode cX4_openBurdens 29 = .ok (.iinc 2 1, 3) := dk_132 2 1 (dk_at dksX4_openBurdens_1 6 rfl rfl)
theorem dX4_openBurdens_32 : decode cX4_openBurdens 32 = .ok (.goto (-28), 3) := dk_167 255 228 (dk_at dksX4_openBurdens_1 9 rfl rfl)
theorem dX4_openBurdens_35 : decode cX4_openBurdens 35 = .ok (.iload_n 1, 1) := dk_27 (dk_at dksX4_openBurdens_1 12 rfl rfl)
theorem dX4_openBurdens_36 : decode cX4_openBurdens 36 = .ok (.ireturn, 1) := dk_172 (dk_at dksX4_openBurdens_1 13 rfl rfl)
abbrev cX4_amounts : ByteArray := prog_20_method_94_code
def yX4_amounts : MethodName := ⟨RX4, "amounts", "(I)I"⟩
def dkwX4_amounts_2 : List UInt8 := [180, 0, 7, 29, 5, 184, 0, 101, 46, 96, 61, 132, 3, 1, 167, 255, 200, 28, 172]
abbrev dktX4_amounts_2 : List UInt8 := dkwX4_amounts_2 ++ []
def dkwX4_amounts_1 : List UInt8 := [154, 0, 34, 27, 155, 0, 17, 42, 180, 0, 7, 29, 4, 184, 0, 101, 46, 27, 160, 0, 16, 28, 42]
abbrev dktX4_amounts_1 : List UInt8 := dkwX4_amounts_1 ++ dktX4_amounts_2
def dkwX4_amounts_0 : List UInt8 := [3, 61, 3, 62, 29, 42, 180, 0, 7, 16, 7, 46, 162, 0, 51, 42, 180, 0, 7, 29, 184, 0, 108]
abbrev dktX4_amounts_0 : List UInt8 := dkwX4_amounts_0 ++ dktX4_amounts_1
theorem dksX4_amounts_0 : cX4_amounts.data.toList.drop 0 = dktX4_amounts_0 := by decide +kernel
theorem dksX4_amounts_1 : cX4_amounts.data.toList.drop 23 = dktX4_amounts_1 := dk_seg dksX4_amounts_0 23 rfl rfl
theorem dksX4_amounts_2 : cX4_amounts.data.toList.drop 46 = dktX4_amounts_2 := dk_seg dksX4_amounts_1 23 rfl rfl
theorem dX4_amounts_0 : decode cX4_amounts 0 = .ok (.iconst 0, 1) := dk_3 (dk_at dksX4_amounts_0 0 rfl rfl)
theorem dX4_amounts_1 : decode cX4_amounts 1 = .ok (.istore_n 2, 1) := dk_61 (dk_at dksX4_amounts_0 1 rfl rfl)
theorem dX4_amounts_2 : decode cX4_amounts 2 = .ok (.iconst 0, 1) := dk_3 (dk_at dksX4_amounts_0 2 rfl rfl)
theorem dX4_amounts_3 : decode cX4_amounts 3 = .ok (.istore_n 3, 1) := dk_62 (dk_at dksX4_amounts_0 3 rfl rfl)
theorem dX4_amounts_4 : decode cX4_amounts 4 = .ok (.iload_n 3, 1) := dk_29 (dk_at dksX4_amounts_0 4 rfl rfl)
theorem dX4_amounts_5 : decode cX4_amounts 5 = .ok (.aload_n 0, 1) := dk_42 (dk_at dksX4_amounts_0 5 rfl rfl)
theorem dX4_amounts_6 : decode cX4_amounts 6 = .ok (.getfield 7, 3) := dk_180 0 7 (dk_at dksX4_amounts_0 6 rfl rfl)
theorem dX4_amounts_9 : decode cX4_amounts 9 = .ok (.bipush 7, 2) := dk_16 7 (dk_at dksX4_amounts_0 9 rfl rfl)
theorem dX4_amounts_11 : decode cX4_amounts 11 = .ok (.iaload, 1) := dk_46 (dk_at dksX4_amounts_0 11 rfl rfl)
theorem dX4_amounts_12 : decode cX4_amounts 12 = .ok (.if_icmp .ge 51, 3) := dk_162 0 51 (dk_at dksX4_amounts_0 12 rfl rfl)
theorem dX4_amounts_15 : decode cX4_amounts 15 = .ok (.aload_n 0, 1) := dk_42 (dk_at dksX4_amounts_0 15 rfl rfl)
theorem dX4_amounts_16 : decode cX4_amounts 16 = .ok (.getfield 7, 3) := dk_180 0 7 (dk_at dksX4_amounts_0 16 rfl rfl)
theorem dX4_amounts_19 : decode cX4_amounts 19 = .ok (.iload_n 3, 1) := dk_29 (dk_at dksX4_amounts_0 19 rfl rfl)
theorem dX4_amounts_20 : decode cX4_amounts 20 = .ok (.invokestatic 108, 3) := dk_184 0 108 (dk_at dksX4_amounts_0 20 rfl rfl)
theorem dX4_amounts_23 : decode cX4_amounts 23 = .ok (.ifCond .ne 34, 3) := dk_154 0 34 (dk_at dksX4_amounts_1 0 rfl rfl)
theorem dX4_amounts_26 : decode cX4_amounts 26 = .ok (.iload_n 1, 1) := dk_27 (dk_at dksX4_amounts_1 3 rfl rfl)
theorem dX4_amounts_27 : decode cX4_amounts 27 = .ok (.ifCond .lt 17, 3) := dk_155 0 17 (dk_at dksX4_amounts_1 4 rfl rfl)
theorem dX4_amounts_30 : decode cX4_amounts 30 = .ok (.aload_n 0, 1) := dk_42 (dk_at dksX4_amounts_1 7 rfl rfl)
theorem dX4_amounts_31 : decode cX4_amounts 31 = .ok (.getfield 7, 3) := dk_180 0 7 (dk_at dksX4_amounts_1 8 rfl rfl)
theorem dX4_amounts_34 : decode cX4_amounts 34 = .ok (.iload_n 3, 1) := dk_29 (dk_at dksX4_amounts_1 11 rfl rfl)
theorem dX4_amounts_35 : decode cX4_amounts 35 = .ok (.iconst 1, 1) := dk_4 (dk_at dksX4_amounts_1 12 rfl rfl)
theorem dX4_amounts_36 : decode cX4_amounts 36 = .ok (.invokestatic 101, 3) := dk_184 0 101 (dk_at dksX4_amounts_1 13 rfl rfl)
theorem dX4_amounts_39 : decode cX4_amounts 39 = .ok (.iaload, 1) := dk_46 (dk_at dksX4_amounts_1 16 rfl rfl)
theorem dX4_amounts_40 : decode cX4_amounts 40 = .ok (.iload_n 1, 1) := dk_27 (dk_at dksX4_amounts_1 17 rfl rfl)
theorem dX4_amounts_41 : decode cX4_amounts 41 = .ok (.if_icmp .ne 16, 3) := dk_160 0 16 (dk_at dksX4_amounts_1 18 rfl rfl)
theorem dX4_amounts_44 : decode cX4_amounts 44 = .ok (.iload_n 2, 1) := dk_28 (dk_at dksX4_amounts_1 21 rfl rfl)
theorem dX4_amounts_45 : decode cX4_amounts 45 = .ok (.aload_n 0, 1) := dk_42 (dk_at dksX4_amounts_1 22 rfl rfl)
theorem dX4_amounts_46 : decode cX4_amounts 46 = .ok (.getfield 7, 3) := dk_180 0 7 (dk_at dksX4_amounts_2 0 rfl rfl)
theorem dX4_amounts_49 : decode cX4_amounts 49 = .ok (.iload_n 3, 1) := dk_29 (dk_at dksX4_amounts_2 3 rfl rfl)
theorem dX4_amounts_50 : decode cX4_amounts 50 = .ok (.iconst 2, 1) := dk_5 (dk_at dksX4_amounts_2 4 rfl rfl)
theorem dX4_amounts_51 : decode cX4_amounts 51 = .ok (.invokestatic 101, 3) := dk_184 0 101 (dk_at dksX4_amounts_2 5 rfl rfl)
theorem dX4_amounts_54 : decode cX4_amounts 54 = .ok (.iaload, 1) := dk_46 (dk_at dksX4_amounts_2 8 rfl rfl)
theorem dX4_amounts_55 : decode cX4_amounts 55 = .ok (.iadd, 1) := dk_96 (dk_at dksX4_amounts_2 9 rfl rfl)
theorem dX4_amounts_56 : decode cX4_amounts 56 = .ok (.istore_n 2, 1) := dk_61 (dk_at dksX4_amounts_2 10 rfl rfl)
theorem dX4_amounts_57 : decode cX4_amounts 57 = .ok (.iinc 3 1, 3) := dk_132 3 1 (dk_at dksX4_amounts_2 11 rfl rfl)
theorem dX4_amounts_60 : decode cX4_amounts 60 = .ok (.goto (-56), 3) := dk_167 255 200 (dk_at dksX4_amounts_2 14 rfl rfl)
theorem dX4_amounts_63 : decode cX4_amounts 63 = .ok (.iload_n 2, 1) := dk_28 (dk_at dksX4_amounts_2 17 rfl rfl)
theorem dX4_amounts_64 : decode cX4_amounts 64 = .ok (.ireturn, 1) := dk_172 (dk_at dksX4_amounts_2 18 rfl rfl)
abbrev cX4_unsf : ByteArray := prog_20_method_42_code
def yX4_unsf : MethodName := zk_nmOf 2375
def dkwX4_unsf_2 : List UInt8 := [132, 1, 1, 132, 2, 1, 167, 255, 209, 27, 172]
abbrev dktX4_unsf_2 : List UInt8 := dkwX4_unsf_2 ++ []
def dkwX4_unsf_1 : List UInt8 := [184, 0, 117, 154, 0, 23, 42, 28, 16, 254, 184, 0, 120, 42, 28, 5, 184, 0, 101, 46, 162, 0, 6]
abbrev dktX4_unsf_1 : List UInt8 := dkwX4_unsf_1 ++ dktX4_unsf_2
def dkwX4_unsf_0 : List UInt8 := [3, 60, 3, 61, 28, 42, 16, 7, 46, 162, 0, 45, 42, 28, 184, 0, 108, 154, 0, 31, 42, 28]
abbrev dktX4_unsf_0 : List UInt8 := dkwX4_unsf_0 ++ dktX4_unsf_1
theorem dksX4_unsf_0 : cX4_unsf.data.toList.drop 0 = dktX4_unsf_0 := by decide +kernel
theorem dksX4_unsf_1 : cX4_unsf.data.toList.drop 22 = dktX4_unsf_1 := dk_seg dksX4_unsf_0 22 rfl rfl
theorem dksX4_unsf_2 : cX4_unsf.data.toList.drop 45 = dktX4_unsf_2 := dk_seg dksX4_unsf_1 23 rfl rfl
theorem dX4_unsf_0 : decode cX4_unsf 0 = .ok (.iconst 0, 1) := dk_3 (dk_at dksX4_unsf_0 0 rfl rfl)
theorem dX4_unsf_1 : decode cX4_unsf 1 = .ok (.istore_n 1, 1) := dk_60 (dk_at dksX4_unsf_0 1 rfl rfl)
theorem dX4_unsf_2 : decode cX4_unsf 2 = .ok (.iconst 0, 1) := dk_3 (dk_at dksX4_unsf_0 2 rfl rfl)
theorem dX4_unsf_3 : decode cX4_unsf 3 = .ok (.istore_n 2, 1) := dk_61 (dk_at dksX4_unsf_0 3 rfl rfl)
theorem dX4_unsf_4 : decode cX4_unsf 4 = .ok (.iload_n 2, 1) := dk_28 (dk_at dksX4_unsf_0 4 rfl rfl)
theorem dX4_unsf_5 : decode cX4_unsf 5 = .ok (.aload_n 0, 1) := dk_42 (dk_at dksX4_unsf_0 5 rfl rfl)
theorem dX4_unsf_6 : decode cX4_unsf 6 = .ok (.bipush 7, 2) := dk_16 7 (dk_at dksX4_unsf_0 6 rfl rfl)
theorem dX4_unsf_8 : decode cX4_unsf 8 = .ok (.iaload, 1) := dk_46 (dk_at dksX4_unsf_0 8 rfl rfl)
theorem dX4_unsf_9 : decode cX4_unsf 9 = .ok (.if_icmp .ge 45, 3) := dk_162 0 45 (dk_at dksX4_unsf_0 9 rfl rfl)
theorem dX4_unsf_12 : decode cX4_unsf 12 = .ok (.aload_n 0, 1) := dk_42 (dk_at dksX4_unsf_0 12 rfl rfl)
theorem dX4_unsf_13 : decode cX4_unsf 13 = .ok (.iload_n 2, 1) := dk_28 (dk_at dksX4_unsf_0 13 rfl rfl)
theorem dX4_unsf_14 : decode cX4_unsf 14 = .ok (.invokestatic 108, 3) := dk_184 0 108 (dk_at dksX4_unsf_0 14 rfl rfl)
theorem dX4_unsf_17 : decode cX4_unsf 17 = .ok (.ifCond .ne 31, 3) := dk_154 0 31 (dk_at dksX4_unsf_0 17 rfl rfl)
theorem dX4_unsf_20 : decode cX4_unsf 20 = .ok (.aload_n 0, 1) := dk_42 (dk_at dksX4_unsf_0 20 rfl rfl)
theorem dX4_unsf_21 : decode cX4_unsf 21 = .ok (.iload_n 2, 1) := dk_28 (dk_at dksX4_unsf_0 21 rfl rfl)
theorem dX4_unsf_22 : decode cX4_unsf 22 = .ok (.invokestatic 117, 3) := dk_184 0 117 (dk_at dksX4_unsf_1 0 rfl rfl)
theorem dX4_unsf_25 : decode cX4_unsf 25 = .ok (.ifCond .ne 23, 3) := dk_154 0 23 (dk_at dksX4_unsf_1 3 rfl rfl)
theorem dX4_unsf_28 : decode cX4_unsf 28 = .ok (.aload_n 0, 1) := dk_42 (dk_at dksX4_unsf_1 6 rfl rfl)
theorem dX4_unsf_29 : decode cX4_unsf 29 = .ok (.iload_n 2, 1) := dk_28 (dk_at dksX4_unsf_1 7 rfl rfl)
theorem dX4_unsf_30 : decode cX4_unsf 30 = .ok (.bipush (-2), 2) := dk_16 254 (dk_at dksX4_unsf_1 8 rfl rfl)
theorem dX4_unsf_32 : decode cX4_unsf 32 = .ok (.invokestatic 120, 3) := dk_184 0 120 (dk_at dksX4_unsf_1 10 rfl rfl)
theorem dX4_unsf_35 : decode cX4_unsf 35 = .ok (.aload_n 0, 1) := dk_42 (dk_at dksX4_unsf_1 13 rfl rfl)
theorem dX4_unsf_36 : decode cX4_unsf 36 = .ok (.iload_n 2, 1) := dk_28 (dk_at dksX4_unsf_1 14 rfl rfl)
theorem dX4_unsf_37 : decode cX4_unsf 37 = .ok (.iconst 2, 1) := dk_5 (dk_at dksX4_unsf_1 15 rfl rfl)
theorem dX4_unsf_38 : decode cX4_unsf 38 = .ok (.invokestatic 101, 3) := dk_184 0 101 (dk_at dksX4_unsf_1 16 rfl rfl)
theorem dX4_unsf_41 : decode cX4_unsf 41 = .ok (.iaload, 1) := dk_46 (dk_at dksX4_unsf_1 19 rfl rfl)
theorem dX4_unsf_42 : decode cX4_unsf 42 = .ok (.if_icmp .ge 6, 3) := dk_162 0 6 (dk_at dksX4_unsf_1 20 rfl rfl)
theorem dX4_unsf_45 : decode cX4_unsf 45 = .ok (.iinc 1 1, 3) := dk_132 1 1 (dk_at dksX4_unsf_2 0 rfl rfl)
theorem dX4_unsf_48 : decode cX4_unsf 48 = .ok (.iinc 2 1, 3) := dk_132 2 1 (dk_at dksX4_unsf_2 3 rfl rfl)
theorem dX4_unsf_51 : decode cX4_unsf 51 = .ok (.goto (-47), 3) := dk_167 255 209 (dk_at dksX4_unsf_2 6 rfl rfl)
theorem dX4_unsf_54 : decode cX4_unsf 54 = .ok (.iload_n 1, 1) := dk_27 (dk_at dksX4_unsf_2 9 rfl rfl)
theorem dX4_unsf_55 : decode cX4_unsf 55 = .ok (.ireturn, 1) := dk_172 (dk_at dksX4_unsf_2 10 rfl rfl)
abbrev cX4_neighbourPairs : ByteArray := prog_20_method_96_code
def yX4_neighbourPairs : MethodName := ⟨RX4, "neighbourPairs", "()I"⟩
def dkwX4_neighbourPairs_1 : List UInt8 := [153, 0, 11, 27, 42, 28, 182, 1, 36, 96, 60, 132, 2, 1, 167, 255, 224, 27, 5, 108, 172]
abbrev dktX4_neighbourPairs_1 : List UInt8 := dkwX4_neighbourPairs_1 ++ []
def dkwX4_neighbourPairs_0 : List UInt8 := [3, 60, 3, 61, 28, 42, 180, 0, 7, 8, 46, 162, 0, 28, 42, 180, 0, 7, 28, 184, 0, 73]
abbrev dktX4_neighbourPairs_0 : List UInt8 := dkwX4_neighbourPairs_0 ++ dktX4_neighbourPairs_1
theorem dksX4_neighbourPairs_0 : cX4_neighbourPairs.data.toList.drop 0 = dktX4_neighbourPairs_0 := by decide +kernel
theorem dksX4_neighbourPairs_1 : cX4_neighbourPairs.data.toList.drop 22 = dktX4_neighbourPairs_1 := dk_seg dksX4_neighbourPairs_0 22 rfl rfl
theorem dX4_neighbourPairs_0 : decode cX4_neighbourPairs 0 = .ok (.iconst 0, 1) := dk_3 (dk_at dksX4_neighbourPairs_0 0 rfl rfl)
theorem dX4_neighbourPairs_1 : decode cX4_neighbourPairs 1 = .ok (.istore_n 1, 1) := dk_60 (dk_at dksX4_neighbourPairs_0 1 rfl rfl)
theorem dX4_neighbourPairs_2 : decode cX4_neighbourPairs 2 = .ok (.iconst 0, 1) := dk_3 (dk_at dksX4_neighbourPairs_0 2 rfl rfl)
theorem dX4_neighbourPairs_3 : decode cX4_neighbourPairs 3 = .ok (.istore_n 2, 1) := dk_61 (dk_at dksX4_neighbourPairs_0 3 rfl rfl)
theorem dX4_neighbourPairs_4 : decode cX4_neighbourPairs 4 = .ok (.iload_n 2, 1) := dk_28 (dk_at dksX4_neighbourPairs_0 4 rfl rfl)
theorem dX4_neighbourPairs_5 : decode cX4_neighbourPairs 5 = .ok (.aload_n 0, 1) := dk_42 (dk_at dksX4_neighbourPairs_0 5 rfl rfl)
theorem dX4_neighbourPairs_6 : decode cX4_neighbourPairs 6 = .ok (.getfield 7, 3) := dk_180 0 7 (dk_at dksX4_neighbourPairs_0 6 rfl rfl)
theorem dX4_neighbourPairs_9 : decode cX4_neighbourPairs 9 = .ok (.iconst 5, 1) := dk_8 (dk_at dksX4_neighbourPairs_0 9 rfl rfl)
theorem dX4_neighbourPairs_10 : decode cX4_neighbourPairs 10 = .ok (.iaload, 1) := dk_46 (dk_at dksX4_neighbourPairs_0 10 rfl rfl)
theorem dX4_neighbourPairs_11 : decode cX4_neighbourPairs 11 = .ok (.if_icmp .ge 28, 3) := dk_162 0 28 (dk_at dksX4_neighbourPairs_0 11 rfl rfl)
theorem dX4_neighbourPairs_14 : decode cX4_neighbourPairs 14 = .ok (.aload_n 0, 1) := dk_42 (dk_at dksX4_neighbourPairs_0 14 rfl rfl)
theorem dX4_neighbourPairs_15 : decode cX4_neighbourPairs 15 = .ok (.getfield 7, 3) := dk_180 0 7 (dk_at dksX4_neighbourPairs_0 15 rfl rfl)
theorem dX4_neighbourPairs_18 : decode cX4_neighbourPairs 18 = .ok (.iload_n 2, 1) := dk_28 (dk_at dksX4_neighbourPairs_0 18 rfl rfl)
theorem dX4_neighbourPairs_19 : decode cX4_neighbourPairs 19 = .ok (.invokestatic 73, 3) := dk_184 0 73 (dk_at dksX4_neighbourPairs_0 19 rfl rfl)
theorem dX4_neighbourPairs_22 : decode cX4_neighbourPairs 22 = .ok (.ifCond .eq 11, 3) := dk_153 0 11 (dk_at dksX4_neighbourPairs_1 0 rfl rfl)
theorem dX4_neighbourPairs_25 : decode cX4_neighbourPairs 25 = .ok (.iload_n 1, 1) := dk_27 (dk_at dksX4_neighbourPairs_1 3 rfl rfl)
theorem dX4_neighbourPairs_26 : decode cX4_neighbourPairs 26 = .ok (.aload_n 0, 1) := dk_42 (dk_at dksX4_neighbourPairs_1 4 rfl rfl)
theorem dX4_neighbourPairs_27 : decode cX4_neighbourPairs 27 = .ok (.iload_n 2, 1) := dk_28 (dk_at dksX4_neighbourPairs_1 5 rfl rfl)
theorem dX4_neighbourPairs_28 : decode cX4_neighbourPairs 28 = .ok (.invokevirtual 292, 3) := dk_182 1 36 (dk_at dksX4_neighbourPairs_1 6 rfl rfl)
theorem dX4_neighbourPairs_31 : decode cX4_neighbourPairs 31 = .ok (.iadd, 1) := dk_96 (dk_at dksX4_neighbourPairs_1 9 rfl rfl)
theorem dX4_neighbourPairs_32 : decode cX4_neighbourPairs 32 = .ok (.istore_n 1, 1) := dk_60 (dk_at dksX4_neighbourPairs_1 10 rfl rfl)
theorem dX4_neighbourPairs_33 : decode cX4_neighbourPairs 33 = .ok (.iinc 2 1, 3) := dk_132 2 1 (dk_at dksX4_neighbourPairs_1 11 rfl rfl)
theorem dX4_neighbourPairs_36 : decode cX4_neighbourPairs 36 = .ok (.goto (-32), 3) := dk_167 255 224 (dk_at dksX4_neighbourPairs_1 14 rfl rfl)
theorem dX4_neighbourPairs_39 : decode cX4_neighbourPairs 39 = .ok (.iload_n 1, 1) := dk_27 (dk_at dksX4_neighbourPairs_1 17 rfl rfl)
theorem dX4_neighbourPairs_40 : decode cX4_neighbourPairs 40 = .ok (.iconst 2, 1) := dk_5 (dk_at dksX4_neighbourPairs_1 18 rfl rfl)
theorem dX4_neighbourPairs_41 : decode cX4_neighbourPairs 41 = .ok (.idiv, 1) := dk_108 (dk_at dksX4_neighbourPairs_1 19 rfl rfl)
theorem dX4_neighbourPairs_42 : decode cX4_neighbourPairs 42 = .ok (.ireturn, 1) := dk_172 (dk_at dksX4_neighbourPairs_1 20 rfl rfl)
abbrev cX4_neighbours : ByteArray := prog_20_method_95_code
def yX4_neighbours : MethodName := ⟨RX4, "neighbours", "(I)I"⟩
def dkwX4_neighbours_1 : List UInt8 := [153, 0, 6, 132, 2, 1, 132, 3, 1, 167, 255, 228, 28, 172]
abbrev dktX4_neighbours_1 : List UInt8 := dkwX4_neighbours_1 ++ []
def dkwX4_neighbours_0 : List UInt8 := [3, 61, 3, 62, 29, 42, 180, 0, 7, 8, 46, 162, 0, 24, 42, 180, 0, 7, 27, 29, 184, 1, 33]
abbrev dktX4_neighbours_0 : List UInt8 := dkwX4_neighbours_0 ++ dktX4_neighbours_1
theorem dksX4_neighbours_0 : cX4_neighbours.data.toList.drop 0 = dktX4_neighbours_0 := by decide +kernel
theorem dksX4_neighbours_1 : cX4_neighbours.data.toList.drop 23 = dktX4_neighbours_1 := dk_seg dksX4_neighbours_0 23 rfl rfl
theorem dX4_neighbours_0 : decode cX4_neighbours 0 = .ok (.iconst 0, 1) := dk_3 (dk_at dksX4_neighbours_0 0 rfl rfl)
theorem dX4_neighbours_1 : decode cX4_neighbours 1 = .ok (.istore_n 2, 1) := dk_61 (dk_at dksX4_neighbours_0 1 rfl rfl)
theorem dX4_neighbours_2 : decode cX4_neighbours 2 = .ok (.iconst 0, 1) := dk_3 (dk_at dksX4_neighbours_0 2 rfl rfl)
theorem dX4_neighbours_3 : decode cX4_neighbours 3 = .ok (.istore_n 3, 1) := dk_62 (dk_at dksX4_neighbours_0 3 rfl rfl)
theorem dX4_neighbours_4 : decode cX4_neighbours 4 = .ok (.iload_n 3, 1) := dk_29 (dk_at dksX4_neighbours_0 4 rfl rfl)
theorem dX4_neighbours_5 : decode cX4_neighbours 5 = .ok (.aload_n 0, 1) := dk_42 (dk_at dksX4_neighbours_0 5 rfl rfl)
theorem dX4_neighbours_6 : decode cX4_neighbours 6 = .ok (.getfield 7, 3) := dk_180 0 7 (dk_at dksX4_neighbours_0 6 rfl rfl)
theorem dX4_neighbours_9 : decode cX4_neighbours 9 = .ok (.iconst 5, 1) := dk_8 (dk_at dksX4_neighbours_0 9 rfl rfl)
theorem dX4_neighbours_10 : decode cX4_neighbours 10 = .ok (.iaload, 1) := dk_46 (dk_at dksX4_neighbours_0 10 rfl rfl)
theorem dX4_neighbours_11 : decode cX4_neighbours 11 = .ok (.if_icmp .ge 24, 3) := dk_162 0 24 (dk_at dksX4_neighbours_0 11 rfl rfl)
theorem dX4_neighbours_14 : decode cX4_neighbours 14 = .ok (.aload_n 0, 1) := dk_42 (dk_at dksX4_neighbours_0 14 rfl rfl)
theorem dX4_neighbours_15 : decode cX4_neighbours 15 = .ok (.getfield 7, 3) := dk_180 0 7 (dk_at dksX4_neighbours_0 15 rfl rfl)
theorem dX4_neighbours_18 : decode cX4_neighbours 18 = .ok (.iload_n 1, 1) := dk_27 (dk_at dksX4_neighbours_0 18 rfl rfl)
theorem dX4_neighbours_19 : decode cX4_neighbours 19 = .ok (.iload_n 3, 1) := dk_29 (dk_at dksX4_neighbours_0 19 rfl rfl)
theorem dX4_neighbours_20 : decode cX4_neighbours 20 = .ok (.invokestatic 289, 3) := dk_184 1 33 (dk_at dksX4_neighbours_0 20 rfl rfl)
theorem dX4_neighbours_23 : decode cX4_neighbours 23 = .ok (.ifCond .eq 6, 3) := dk_153 0 6 (dk_at dksX4_neighbours_1 0 rfl rfl)
theorem dX4_neighbours_26 : decode cX4_neighbours 26 = .ok (.iinc 2 1, 3) := dk_132 2 1 (dk_at dksX4_neighbours_1 3 rfl rfl)
theorem dX4_neighbours_29 : decode cX4_neighbours 29 = .ok (.iinc 3 1, 3) := dk_132 3 1 (dk_at dksX4_neighbours_1 6 rfl rfl)
theorem dX4_neighbours_32 : decode cX4_neighbours 32 = .ok (.goto (-28), 3) := dk_167 255 228 (dk_at dksX4_neighbours_1 9 rfl rfl)
theorem dX4_neighbours_35 : decode cX4_neighbours 35 = .ok (.iload_n 2, 1) := dk_28 (dk_at dksX4_neighbours_1 12 rfl rfl)
theorem dX4_neighbours_36 : decode cX4_neighbours 36 = .ok (.ireturn, 1) := dk_172 (dk_at dksX4_neighbours_1 13 rfl rfl)
abbrev cX4_areNeighbours : ByteArray := prog_20_method_24_code
def yX4_areNeighbours : MethodName := ⟨RX4, "areNeighbours", "([III)Z"⟩
def dkwX4_areNeighbours_1 : List UInt8 := [167, 0, 4, 3, 172]
abbrev dktX4_areNeighbours_1 : List UInt8 := dkwX4_areNeighbours_1 ++ []
def dkwX4_areNeighbours_0 : List UInt8 := [27, 28, 159, 0, 24, 42, 28, 184, 0, 73, 153, 0, 16, 42, 27, 28, 184, 0, 85, 158, 0, 7, 4]
abbrev dktX4_areNeighbours_0 : List UInt8 := dkwX4_areNeighbours_0 ++ dktX4_areNeighbours_1
theorem dksX4_areNeighbours_0 : cX4_areNeighbours.data.toList.drop 0 = dktX4_areNeighbours_0 := by decide +kernel
theorem dksX4_areNeighbours_1 : cX4_areNeighbours.data.toList.drop 23 = dktX4_areNeighbours_1 := dk_seg dksX4_areNeighbours_0 23 rfl rfl
theorem dX4_areNeighbours_0 : decode cX4_areNeighbours 0 = .ok (.iload_n 1, 1) := dk_27 (dk_at dksX4_areNeighbours_0 0 rfl rfl)
theorem dX4_areNeighbours_1 : decode cX4_areNeighbours 1 = .ok (.iload_n 2, 1) := dk_28 (dk_at dksX4_areNeighbours_0 1 rfl rfl)
theorem dX4_areNeighbours_2 : decode cX4_areNeighbours 2 = .ok (.if_icmp .eq 24, 3) := dk_159 0 24 (dk_at dksX4_areNeighbours_0 2 rfl rfl)
theorem dX4_areNeighbours_5 : decode cX4_areNeighbours 5 = .ok (.aload_n 0, 1) := dk_42 (dk_at dksX4_areNeighbours_0 5 rfl rfl)
theorem dX4_areNeighbours_6 : decode cX4_areNeighbours 6 = .ok (.iload_n 2, 1) := dk_28 (dk_at dksX4_areNeighbours_0 6 rfl rfl)
theorem dX4_areNeighbours_7 : decode cX4_areNeighbours 7 = .ok (.invokestatic 73, 3) := dk_184 0 73 (dk_at dksX4_areNeighbours_0 7 rfl rfl)
theorem dX4_areNeighbours_10 : decode cX4_areNeighbours 10 = .ok (.ifCond .eq 16, 3) := dk_153 0 16 (dk_at dksX4_areNeighbours_0 10 rfl rfl)
theorem dX4_areNeighbours_13 : decode cX4_areNeighbours 13 = .ok (.aload_n 0, 1) := dk_42 (dk_at dksX4_areNeighbours_0 13 rfl rfl)
theorem dX4_areNeighbours_14 : decode cX4_areNeighbours 14 = .ok (.iload_n 1, 1) := dk_27 (dk_at dksX4_areNeighbours_0 14 rfl rfl)
theorem dX4_areNeighbours_15 : decode cX4_areNeighbours 15 = .ok (.iload_n 2, 1) := dk_28 (dk_at dksX4_areNeighbours_0 15 rfl rfl)
theorem dX4_areNeighbours_16 : decode cX4_areNeighbours 16 = .ok (.invokestatic 85, 3) := dk_184 0 85 (dk_at dksX4_areNeighbours_0 16 rfl rfl)
theorem dX4_areNeighbours_19 : decode cX4_areNeighbours 19 = .ok (.ifCond .le 7, 3) := dk_158 0 7 (dk_at dksX4_areNeighbours_0 19 rfl rfl)
theorem dX4_areNeighbours_22 : decode cX4_areNeighbours 22 = .ok (.iconst 1, 1) := dk_4 (dk_at dksX4_areNeighbours_0 22 rfl rfl)
theorem dX4_areNeighbours_23 : decode cX4_areNeighbours 23 = .ok (.goto 4, 3) := dk_167 0 4 (dk_at dksX4_areNeighbours_1 0 rfl rfl)
theorem dX4_areNeighbours_26 : decode cX4_areNeighbours 26 = .ok (.iconst 0, 1) := dk_3 (dk_at dksX4_areNeighbours_1 3 rfl rfl)
theorem dX4_areNeighbours_27 : decode cX4_areNeighbours 27 = .ok (.ireturn, 1) := dk_172 (dk_at dksX4_areNeighbours_1 4 rfl rfl)
abbrev cX4_parcel : ByteArray := prog_20_method_100_code
def yX4_parcel : MethodName := ⟨RX4, "parcel", "(II)I"⟩
def dkwX4_parcel_6 : List UInt8 := [172, 42, 27, 182, 1, 36, 172, 2, 172]
abbrev dktX4_parcel_6 : List UInt8 := dkwX4_parcel_6 ++ []
def dkwX4_parcel_5 : List UInt8 := [172, 42, 180, 0, 7, 27, 184, 1, 58, 172, 42, 180, 0, 7, 27, 184, 0, 114, 172, 42, 27, 182, 1, 61]
abbrev dktX4_parcel_5 : List UInt8 := dkwX4_parcel_5 ++ dktX4_parcel_6
def dkwX4_parcel_4 : List UInt8 := [16, 6, 184, 0, 66, 46, 172, 42, 180, 0, 7, 27, 16, 7, 184, 0, 66, 46, 172, 42, 27, 182, 1, 55]
abbrev dktX4_parcel_4 : List UInt8 := dkwX4_parcel_4 ++ dktX4_parcel_5
def dkwX4_parcel_3 : List UInt8 := [27, 7, 184, 0, 66, 46, 172, 42, 180, 0, 7, 27, 8, 184, 0, 66, 46, 172, 42, 180, 0, 7, 27]
abbrev dktX4_parcel_3 : List UInt8 := dkwX4_parcel_3 ++ dktX4_parcel_4
def dkwX4_parcel_2 : List UInt8 := [42, 180, 0, 7, 27, 28, 184, 0, 66, 46, 172, 42, 180, 0, 7, 27, 184, 0, 69, 172, 42, 180, 0, 7]
abbrev dktX4_parcel_2 : List UInt8 := dkwX4_parcel_2 ++ dktX4_parcel_3
def dkwX4_parcel_1 : List UInt8 := [170, 0, 0, 0, 171, 0, 0, 0, 0, 0, 0, 0, 13, 0, 0, 0, 69, 0, 0, 0, 69, 0, 0, 0, 69, 0, 0, 0, 69, 0, 0, 0, 80, 0, 0, 0, 89, 0, 0, 0, 100, 0, 0, 0, 111, 0, 0, 0, 123, 0, 0, 0, 135, 0, 0, 0, 141, 0, 0, 0, 150, 0, 0, 0, 159, 0, 0, 0, 165]
abbrev dktX4_parcel_1 : List UInt8 := dkwX4_parcel_1 ++ dktX4_parcel_2
def dkwX4_parcel_0 : List UInt8 := [42, 27, 182, 0, 240, 154, 0, 5, 2, 172, 28]
abbrev dktX4_parcel_0 : List UInt8 := dkwX4_parcel_0 ++ dktX4_parcel_1
theorem dksX4_parcel_0 : cX4_parcel.data.toList.drop 0 = dktX4_parcel_0 := by decide +kernel
theorem dksX4_parcel_1 : cX4_parcel.data.toList.drop 11 = dktX4_parcel_1 := dk_seg dksX4_parcel_0 11 rfl rfl
theorem dksX4_parcel_2 : cX4_parcel.data.toList.drop 80 = dktX4_parcel_2 := dk_seg dksX4_parcel_1 69 rfl rfl
theorem dksX4_parcel_3 : cX4_parcel.data.toList.drop 104 = dktX4_parcel_3 := dk_seg dksX4_parcel_2 24 rfl rfl
theorem dksX4_parcel_4 : cX4_parcel.data.toList.drop 127 = dktX4_parcel_4 := dk_seg dksX4_parcel_3 23 rfl rfl
theorem dksX4_parcel_5 : cX4_parcel.data.toList.drop 151 = dktX4_parcel_5 := dk_seg dksX4_parcel_4 24 rfl rfl
theorem dksX4_parcel_6 : cX4_parcel.data.toList.drop 175 = dktX4_parcel_6 := dk_seg dksX4_parcel_5 24 rfl rfl
theorem dX4_parcel_0 : decode cX4_parcel 0 = .ok (.aload_n 0, 1) := dk_42 (dk_at dksX4_parcel_0 0 rfl rfl)
theorem dX4_parcel_1 : decode cX4_parcel 1 = .ok (.iload_n 1, 1) := dk_27 (dk_at dksX4_parcel_0 1 rfl rfl)
theorem dX4_parcel_2 : decode cX4_parcel 2 = .ok (.invokevirtual 240, 3) := dk_182 0 240 (dk_at dksX4_parcel_0 2 rfl rfl)
theorem dX4_parcel_5 : decode cX4_parcel 5 = .ok (.ifCond .ne 5, 3) := dk_154 0 5 (dk_at dksX4_parcel_0 5 rfl rfl)
theorem dX4_parcel_8 : decode cX4_parcel 8 = .ok (.iconst (-1), 1) := dk_2 (dk_at dksX4_parcel_0 8 rfl rfl)
theorem dX4_parcel_9 : decode cX4_parcel 9 = .ok (.ireturn, 1) := dk_172 (dk_at dksX4_parcel_0 9 rfl rfl)
theorem dX4_parcel_10 : decode cX4_parcel 10 = .ok (.iload_n 2, 1) := dk_28 (dk_at dksX4_parcel_0 10 rfl rfl)
theorem dX4_parcel_11 : decode cX4_parcel 11 = .ok (.tableswitch 171 0 13 #[69, 69, 69, 69, 80, 89, 100, 111, 123, 135, 141, 150, 159, 165], 69) := by decide +kernel
theorem dX4_parcel_80 : decode cX4_parcel 80 = .ok (.aload_n 0, 1) := dk_42 (dk_at dksX4_parcel_2 0 rfl rfl)
theorem dX4_parcel_81 : decode cX4_parcel 81 = .ok (.getfield 7, 3) := dk_180 0 7 (dk_at dksX4_parcel_2 1 rfl rfl)
theorem dX4_parcel_84 : decode cX4_parcel 84 = .ok (.iload_n 1, 1) := dk_27 (dk_at dksX4_parcel_2 4 rfl rfl)
theorem dX4_parcel_85 : decode cX4_parcel 85 = .ok (.iload_n 2, 1) := dk_28 (dk_at dksX4_parcel_2 5 rfl rfl)
theorem dX4_parcel_86 : decode cX4_parcel 86 = .ok (.invokestatic 66, 3) := dk_184 0 66 (dk_at dksX4_parcel_2 6 rfl rfl)
theorem dX4_parcel_89 : decode cX4_parcel 89 = .ok (.iaload, 1) := dk_46 (dk_at dksX4_parcel_2 9 rfl rfl)
theorem dX4_parcel_90 : decode cX4_parcel 90 = .ok (.ireturn, 1) := dk_172 (dk_at dksX4_parcel_2 10 rfl rfl)
theorem dX4_parcel_91 : decode cX4_parcel 91 = .ok (.aload_n 0, 1) := dk_42 (dk_at dksX4_parcel_2 11 rfl rfl)
theorem dX4_parcel_92 : decode cX4_parcel 92 = .ok (.getfield 7, 3) := dk_180 0 7 (dk_at dksX4_parcel_2 12 rfl rfl)
theorem dX4_parcel_95 : decode cX4_parcel 95 = .ok (.iload_n 1, 1) := dk_27 (dk_at dksX4_parcel_2 15 rfl rfl)
theorem dX4_parcel_96 : decode cX4_parcel 96 = .ok (.invokestatic 69, 3) := dk_184 0 69 (dk_at dksX4_parcel_2 16 rfl rfl)
theorem dX4_parcel_99 : decode cX4_parcel 99 = .ok (.ireturn, 1) := dk_172 (dk_at dksX4_parcel_2 19 rfl rfl)
theorem dX4_parcel_100 : decode cX4_parcel 100 = .ok (.aload_n 0, 1) := dk_42 (dk_at dksX4_parcel_2 20 rfl rfl)
theorem dX4_parcel_101 : decode cX4_parcel 101 = .ok (.getfield 7, 3) := dk_180 0 7 (dk_at dksX4_parcel_2 21 rfl rfl)
theorem dX4_parcel_104 : decode cX4_parcel 104 = .ok (.iload_n 1, 1) := dk_27 (dk_at dksX4_parcel_3 0 rfl rfl)
theorem dX4_parcel_105 : decode cX4_parcel 105 = .ok (.iconst 4, 1) := dk_7 (dk_at dksX4_parcel_3 1 rfl rfl)
theorem dX4_parcel_106 : decode cX4_parcel 106 = .ok (.invokestatic 66, 3) := dk_184 0 66 (dk_at dksX4_parcel_3 2 rfl rfl)
theorem dX4_parcel_109 : decode cX4_parcel 109 = .ok (.iaload, 1) := dk_46 (dk_at dksX4_parcel_3 5 rfl rfl)
theorem dX4_parcel_110 : decode cX4_parcel 110 = .ok (.ireturn, 1) := dk_172 (dk_at dksX4_parcel_3 6 rfl rfl)
theorem dX4_parcel_111 : decode cX4_parcel 111 = .ok (.aload_n 0, 1) := dk_42 (dk_at dksX4_parcel_3 7 rfl rfl)
theorem dX4_parcel_112 : decode cX4_parcel 112 = .ok (.getfield 7, 3) := dk_180 0 7 (dk_at dksX4_parcel_3 8 rfl rfl)
theorem dX4_parcel_115 : decode cX4_parcel 115 = .ok (.iload_n 1, 1) := dk_27 (dk_at dksX4_parcel_3 11 rfl rfl)
theorem dX4_parcel_116 : decode cX4_parcel 116 = .ok (.iconst 5, 1) := dk_8 (dk_at dksX4_parcel_3 12 rfl rfl)
theorem dX4_parcel_117 : decode cX4_parcel 117 = .ok (.invokestatic 66, 3) := dk_184 0 66 (dk_at dksX4_parcel_3 13 rfl rfl)
theorem dX4_parcel_120 : decode cX4_parcel 120 = .ok (.iaload, 1) := dk_46 (dk_at dksX4_parcel_3 16 rfl rfl)
theorem dX4_parcel_121 : decode cX4_parcel 121 = .ok (.ireturn, 1) := dk_172 (dk_at dksX4_parcel_3 17 rfl rfl)
theorem dX4_parcel_122 : decode cX4_parcel 122 = .ok (.aload_n 0, 1) := dk_42 (dk_at dksX4_parcel_3 18 rfl rfl)
theorem dX4_parcel_123 : decode cX4_parcel 123 = .ok (.getfield 7, 3) := dk_180 0 7 (dk_at dksX4_parcel_3 19 rfl rfl)
theorem dX4_parcel_126 : decode cX4_parcel 126 = .ok (.iload_n 1, 1) := dk_27 (dk_at dksX4_parcel_3 22 rfl rfl)
theorem dX4_parcel_127 : decode cX4_parcel 127 = .ok (.bipush 6, 2) := dk_16 6 (dk_at dksX4_parcel_4 0 rfl rfl)
theorem dX4_parcel_129 : decode cX4_parcel 129 = .ok (.invokestatic 66, 3) := dk_184 0 66 (dk_at dksX4_parcel_4 2 rfl rfl)
theorem dX4_parcel_132 : decode cX4_parcel 132 = .ok (.iaload, 1) := dk_46 (dk_at dksX4_parcel_4 5 rfl rfl)
theorem dX4_parcel_133 : decode cX4_parcel 133 = .ok (.ireturn, 1) := dk_172 (dk_at dksX4_parcel_4 6 rfl rfl)
theorem dX4_parcel_134 : decode cX4_parcel 134 = .ok (.aload_n 0, 1) := dk_42 (dk_at dksX4_parcel_4 7 rfl rfl)
theorem dX4_parcel_135 : decode cX4_parcel 135 = .ok (.getfield 7, 3) := dk_180 0 7 (dk_at dksX4_parcel_4 8 rfl rfl)
theorem dX4_parcel_138 : decode cX4_parcel 138 = .ok (.iload_n 1, 1) := dk_27 (dk_at dksX4_parcel_4 11 rfl rfl)
theorem dX4_parcel_139 : decode cX4_parcel 139 = .ok (.bipush 7, 2) := dk_16 7 (dk_at dksX4_parcel_4 12 rfl rfl)
theorem dX4_parcel_141 : decode cX4_parcel 141 = .ok (.invokestatic 66, 3) := dk_184 0 66 (dk_at dksX4_parcel_4 14 rfl rfl)
theorem dX4_parcel_144 : decode cX4_parcel 144 = .ok (.iaload, 1) := dk_46 (dk_at dksX4_parcel_4 17 rfl rfl)
theorem dX4_parcel_145 : decode cX4_parcel 145 = .ok (.ireturn, 1) := dk_172 (dk_at dksX4_parcel_4 18 rfl rfl)
theorem dX4_parcel_146 : decode cX4_parcel 146 = .ok (.aload_n 0, 1) := dk_42 (dk_at dksX4_parcel_4 19 rfl rfl)
theorem dX4_parcel_147 : decode cX4_parcel 147 = .ok (.iload_n 1, 1) := dk_27 (dk_at dksX4_parcel_4 20 rfl rfl)
theorem dX4_parcel_148 : decode cX4_parcel 148 = .ok (.invokevirtual 311, 3) := dk_182 1 55 (dk_at dksX4_parcel_4 21 rfl rfl)
theorem dX4_parcel_151 : decode cX4_parcel 151 = .ok (.ireturn, 1) := dk_172 (dk_at dksX4_parcel_5 0 rfl rfl)
theorem dX4_parcel_152 : decode cX4_parcel 152 = .ok (.aload_n 0, 1) := dk_42 (dk_at dksX4_parcel_5 1 rfl rfl)
theorem dX4_parcel_153 : decode cX4_parcel 153 = .ok (.getfield 7, 3) := dk_180 0 7 (dk_at dksX4_parcel_5 2 rfl rfl)
theorem dX4_parcel_156 : decode cX4_parcel 156 = .ok (.iload_n 1, 1) := dk_27 (dk_at dksX4_parcel_5 5 rfl rfl)
theorem dX4_parcel_157 : decode cX4_parcel 157 = .ok (.invokestatic 314, 3) := dk_184 1 58 (dk_at dksX4_parcel_5 6 rfl rfl)
theorem dX4_parcel_160 : decode cX4_parcel 160 = .ok (.ireturn, 1) := dk_172 (dk_at dksX4_parcel_5 9 rfl rfl)
theorem dX4_parcel_161 : decode cX4_parcel 161 = .ok (.aload_n 0, 1) := dk_42 (dk_at dksX4_parcel_5 10 rfl rfl)
theorem dX4_parcel_162 : decode cX4_parcel 162 = .ok (.getfield 7, 3) := dk_180 0 7 (dk_at dksX4_parcel_5 11 rfl rfl)
theorem dX4_parcel_165 : decode cX4_parcel 165 = .ok (.iload_n 1, 1) := dk_27 (dk_at dksX4_parcel_5 14 rfl rfl)
theorem dX4_parcel_166 : decode cX4_parcel 166 = .ok (.invokestatic 114, 3) := dk_184 0 114 (dk_at dksX4_parcel_5 15 rfl rfl)
theorem dX4_parcel_169 : decode cX4_parcel 169 = .ok (.ireturn, 1) := dk_172 (dk_at dksX4_parcel_5 18 rfl rfl)
theorem dX4_parcel_170 : decode cX4_parcel 170 = .ok (.aload_n 0, 1) := dk_42 (dk_at dksX4_parcel_5 19 rfl rfl)
theorem dX4_parcel_171 : decode cX4_parcel 171 = .ok (.iload_n 1, 1) := dk_27 (dk_at dksX4_parcel_5 20 rfl rfl)
theorem dX4_parcel_172 : decode cX4_parcel 172 = .ok (.invokevirtual 317, 3) := dk_182 1 61 (dk_at dksX4_parcel_5 21 rfl rfl)
theorem dX4_parcel_175 : decode cX4_parcel 175 = .ok (.ireturn, 1) := dk_172 (dk_at dksX4_parcel_6 0 rfl rfl)
theorem dX4_parcel_176 : decode cX4_parcel 176 = .ok (.aload_n 0, 1) := dk_42 (dk_at dksX4_parcel_6 1 rfl rfl)
theorem dX4_parcel_177 : decode cX4_parcel 177 = .ok (.iload_n 1, 1) := dk_27 (dk_at dksX4_parcel_6 2 rfl rfl)
theorem dX4_parcel_178 : decode cX4_parcel 178 = .ok (.invokevirtual 292, 3) := dk_182 1 36 (dk_at dksX4_parcel_6 3 rfl rfl)
theorem dX4_parcel_181 : decode cX4_parcel 181 = .ok (.ireturn, 1) := dk_172 (dk_at dksX4_parcel_6 6 rfl rfl)
theorem dX4_parcel_182 : decode cX4_parcel 182 = .ok (.iconst (-1), 1) := dk_2 (dk_at dksX4_parcel_6 7 rfl rfl)
theorem dX4_parcel_183 : decode cX4_parcel 183 = .ok (.ireturn, 1) := dk_172 (dk_at dksX4_parcel_6 8 rfl rfl)
abbrev cX4_burdensOn : ByteArray := prog_20_method_98_code
def yX4_burdensOn : MethodName := ⟨RX4, "burdensOn", "(I)I"⟩
def dkwX4_burdensOn_1 : List UInt8 := [153, 0, 6, 132, 2, 1, 132, 3, 1, 167, 255, 227, 28, 172]
abbrev dktX4_burdensOn_1 : List UInt8 := dkwX4_burdensOn_1 ++ []
def dkwX4_burdensOn_0 : List UInt8 := [3, 61, 3, 62, 29, 42, 180, 0, 7, 16, 7, 46, 162, 0, 24, 42, 180, 0, 7, 29, 27, 184, 0, 104]
abbrev dktX4_burdensOn_0 : List UInt8 := dkwX4_burdensOn_0 ++ dktX4_burdensOn_1
theorem dksX4_burdensOn_0 : cX4_burdensOn.data.toList.drop 0 = dktX4_burdensOn_0 := by decide +kernel
theorem dksX4_burdensOn_1 : cX4_burdensOn.data.toList.drop 24 = dktX4_burdensOn_1 := dk_seg dksX4_burdensOn_0 24 rfl rfl
theorem dX4_burdensOn_0 : decode cX4_burdensOn 0 = .ok (.iconst 0, 1) := dk_3 (dk_at dksX4_burdensOn_0 0 rfl rfl)
theorem dX4_burdensOn_1 : decode cX4_burdensOn 1 = .ok (.istore_n 2, 1) := dk_61 (dk_at dksX4_burdensOn_0 1 rfl rfl)
theorem dX4_burdensOn_2 : decode cX4_burdensOn 2 = .ok (.iconst 0, 1) := dk_3 (dk_at dksX4_burdensOn_0 2 rfl rfl)
theorem dX4_burdensOn_3 : decode cX4_burdensOn 3 = .ok (.istore_n 3, 1) := dk_62 (dk_at dksX4_burdensOn_0 3 rfl rfl)
theorem dX4_burdensOn_4 : decode cX4_burdensOn 4 = .ok (.iload_n 3, 1) := dk_29 (dk_at dksX4_burdensOn_0 4 rfl rfl)
theorem dX4_burdensOn_5 : decode cX4_burdensOn 5 = .ok (.aload_n 0, 1) := dk_42 (dk_at dksX4_burdensOn_0 5 rfl rfl)
theorem dX4_burdensOn_6 : decode cX4_burdensOn 6 = .ok (.getfield 7, 3) := dk_180 0 7 (dk_at dksX4_burdensOn_0 6 rfl rfl)
theorem dX4_burdensOn_9 : decode cX4_burdensOn 9 = .ok (.bipush 7, 2) := dk_16 7 (dk_at dksX4_burdensOn_0 9 rfl rfl)
theorem dX4_burdensOn_11 : decode cX4_burdensOn 11 = .ok (.iaload, 1) := dk_46 (dk_at dksX4_burdensOn_0 11 rfl rfl)
theorem dX4_burdensOn_12 : decode cX4_burdensOn 12 = .ok (.if_icmp .ge 24, 3) := dk_162 0 24 (dk_at dksX4_burdensOn_0 12 rfl rfl)
theorem dX4_burdensOn_15 : decode cX4_burdensOn 15 = .ok (.aload_n 0, 1) := dk_42 (dk_at dksX4_burdensOn_0 15 rfl rfl)
theorem dX4_burdensOn_16 : decode cX4_burdensOn 16 = .ok (.getfield 7, 3) := dk_180 0 7 (dk_at dksX4_burdensOn_0 16 rfl rfl)
theorem dX4_burdensOn_19 : decode cX4_burdensOn 19 = .ok (.iload_n 3, 1) := dk_29 (dk_at dksX4_burdensOn_0 19 rfl rfl)
theorem dX4_burdensOn_20 : decode cX4_burdensOn 20 = .ok (.iload_n 1, 1) := dk_27 (dk_at dksX4_burdensOn_0 20 rfl rfl)
theorem dX4_burdensOn_21 : decode cX4_burdensOn 21 = .ok (.invokestatic 104, 3) := dk_184 0 104 (dk_at dksX4_burdensOn_0 21 rfl rfl)
theorem dX4_burdensOn_24 : decode cX4_burdensOn 24 = .ok (.ifCond .eq 6, 3) := dk_153 0 6 (dk_at dksX4_burdensOn_1 0 rfl rfl)
theorem dX4_burdensOn_27 : decode cX4_burdensOn 27 = .ok (.iinc 2 1, 3) := dk_132 2 1 (dk_at dksX4_burdensOn_1 3 rfl rfl)
theorem dX4_burdensOn_30 : decode cX4_burdensOn 30 = .ok (.iinc 3 1, 3) := dk_132 3 1 (dk_at dksX4_burdensOn_1 6 rfl rfl)
theorem dX4_burdensOn_33 : decode cX4_burdensOn 33 = .ok (.goto (-29), 3) := dk_167 255 227 (dk_at dksX4_burdensOn_1 9 rfl rfl)
theorem dX4_burdensOn_36 : decode cX4_burdensOn 36 = .ok (.iload_n 2, 1) := dk_28 (dk_at dksX4_burdensOn_1 12 rfl rfl)
theorem dX4_burdensOn_37 : decode cX4_burdensOn 37 = .ok (.ireturn, 1) := dk_172 (dk_at dksX4_burdensOn_1 13 rfl rfl)
abbrev cX4_load0 : ByteArray := prog_20_method_40_code
def yX4_load0 : MethodName := ⟨RX4, "load0", "([II)I"⟩
def dkwX4_load0_0 : List UInt8 := [42, 27, 16, 20, 184, 0, 111, 172]
abbrev dktX4_load0_0 : List UInt8 := dkwX4_load0_0 ++ []
theorem dksX4_load0_0 : cX4_load0.data.toList.drop 0 = dktX4_load0_0 := by decide +kernel
theorem dX4_load0_0 : decode cX4_load0 0 = .ok (.aload_n 0, 1) := dk_42 (dk_at dksX4_load0_0 0 rfl rfl)
theorem dX4_load0_1 : decode cX4_load0 1 = .ok (.iload_n 1, 1) := dk_27 (dk_at dksX4_load0_0 1 rfl rfl)
theorem dX4_load0_2 : decode cX4_load0 2 = .ok (.bipush 20, 2) := dk_16 20 (dk_at dksX4_load0_0 2 rfl rfl)
theorem dX4_load0_4 : decode cX4_load0 4 = .ok (.invokestatic 111, 3) := dk_184 0 111 (dk_at dksX4_load0_0 4 rfl rfl)
theorem dX4_load0_7 : decode cX4_load0 7 = .ok (.ireturn, 1) := dk_172 (dk_at dksX4_load0_0 7 rfl rfl)
abbrev cX4_sharers : ByteArray := prog_20_method_99_code
def yX4_sharers : MethodName := ⟨RX4, "sharers", "(I)I"⟩
def dkwX4_sharers_1 : List UInt8 := [158, 0, 6, 132, 2, 1, 132, 3, 1, 167, 255, 228, 28, 172]
abbrev dktX4_sharers_1 : List UInt8 := dkwX4_sharers_1 ++ []
def dkwX4_sharers_0 : List UInt8 := [3, 61, 3, 62, 29, 42, 180, 0, 7, 7, 46, 162, 0, 24, 42, 180, 0, 7, 27, 29, 184, 0, 92]
abbrev dktX4_sharers_0 : List UInt8 := dkwX4_sharers_0 ++ dktX4_sharers_1
theorem dksX4_sharers_0 : cX4_sharers.data.toList.drop 0 = dktX4_sharers_0 := by decide +kernel
theorem dksX4_sharers_1 : cX4_sharers.data.toList.drop 23 = dktX4_sharers_1 := dk_seg dksX4_sharers_0 23 rfl rfl
theorem dX4_sharers_0 : decode cX4_sharers 0 = .ok (.iconst 0, 1) := dk_3 (dk_at dksX4_sharers_0 0 rfl rfl)
theorem dX4_sharers_1 : decode cX4_sharers 1 = .ok (.istore_n 2, 1) := dk_61 (dk_at dksX4_sharers_0 1 rfl rfl)
theorem dX4_sharers_2 : decode cX4_sharers 2 = .ok (.iconst 0, 1) := dk_3 (dk_at dksX4_sharers_0 2 rfl rfl)
theorem dX4_sharers_3 : decode cX4_sharers 3 = .ok (.istore_n 3, 1) := dk_62 (dk_at dksX4_sharers_0 3 rfl rfl)
theorem dX4_sharers_4 : decode cX4_sharers 4 = .ok (.iload_n 3, 1) := dk_29 (dk_at dksX4_sharers_0 4 rfl rfl)
theorem dX4_sharers_5 : decode cX4_sharers 5 = .ok (.aload_n 0, 1) := dk_42 (dk_at dksX4_sharers_0 5 rfl rfl)
theorem dX4_sharers_6 : decode cX4_sharers 6 = .ok (.getfield 7, 3) := dk_180 0 7 (dk_at dksX4_sharers_0 6 rfl rfl)
theorem dX4_sharers_9 : decode cX4_sharers 9 = .ok (.iconst 4, 1) := dk_7 (dk_at dksX4_sharers_0 9 rfl rfl)
theorem dX4_sharers_10 : decode cX4_sharers 10 = .ok (.iaload, 1) := dk_46 (dk_at dksX4_sharers_0 10 rfl rfl)
theorem dX4_sharers_11 : decode cX4_sharers 11 = .ok (.if_icmp .ge 24, 3) := dk_162 0 24 (dk_at dksX4_sharers_0 11 rfl rfl)
theorem dX4_sharers_14 : decode cX4_sharers 14 = .ok (.aload_n 0, 1) := dk_42 (dk_at dksX4_sharers_0 14 rfl rfl)
theorem dX4_sharers_15 : decode cX4_sharers 15 = .ok (.getfield 7, 3) := dk_180 0 7 (dk_at dksX4_sharers_0 15 rfl rfl)
theorem dX4_sharers_18 : decode cX4_sharers 18 = .ok (.iload_n 1, 1) := dk_27 (dk_at dksX4_sharers_0 18 rfl rfl)
theorem dX4_sharers_19 : decode cX4_sharers 19 = .ok (.iload_n 3, 1) := dk_29 (dk_at dksX4_sharers_0 19 rfl rfl)
theorem dX4_sharers_20 : decode cX4_sharers 20 = .ok (.invokestatic 92, 3) := dk_184 0 92 (dk_at dksX4_sharers_0 20 rfl rfl)
theorem dX4_sharers_23 : decode cX4_sharers 23 = .ok (.ifCond .le 6, 3) := dk_158 0 6 (dk_at dksX4_sharers_1 0 rfl rfl)
theorem dX4_sharers_26 : decode cX4_sharers 26 = .ok (.iinc 2 1, 3) := dk_132 2 1 (dk_at dksX4_sharers_1 3 rfl rfl)
theorem dX4_sharers_29 : decode cX4_sharers 29 = .ok (.iinc 3 1, 3) := dk_132 3 1 (dk_at dksX4_sharers_1 6 rfl rfl)
theorem dX4_sharers_32 : decode cX4_sharers 32 = .ok (.goto (-28), 3) := dk_167 255 228 (dk_at dksX4_sharers_1 9 rfl rfl)
theorem dX4_sharers_35 : decode cX4_sharers 35 = .ok (.iload_n 2, 1) := dk_28 (dk_at dksX4_sharers_1 12 rfl rfl)
theorem dX4_sharers_36 : decode cX4_sharers 36 = .ok (.ireturn, 1) := dk_172 (dk_at dksX4_sharers_1 13 rfl rfl)
abbrev cX4_parent : ByteArray := prog_20_method_101_code
def yX4_parent : MethodName := ⟨RX4, "parent", "(II)I"⟩
def dkwX4_parent_2 : List UInt8 := [46, 167, 0, 5, 16, 254, 172]
abbrev dktX4_parent_2 : List UInt8 := dkwX4_parent_2 ++ []
def dkwX4_parent_1 : List UInt8 := [16, 8, 184, 0, 66, 46, 167, 0, 24, 28, 4, 160, 0, 17, 42, 180, 0, 7, 27, 16, 9, 184, 0, 66]
abbrev dktX4_parent_1 : List UInt8 := dkwX4_parent_1 ++ dktX4_parent_2
def dkwX4_parent_0 : List UInt8 := [42, 27, 182, 0, 240, 153, 0, 7, 28, 156, 0, 5, 2, 172, 28, 154, 0, 17, 42, 180, 0, 7, 27]
abbrev dktX4_parent_0 : List UInt8 := dkwX4_parent_0 ++ dktX4_parent_1
theorem dksX4_parent_0 : cX4_parent.data.toList.drop 0 = dktX4_parent_0 := by decide +kernel
theorem dksX4_parent_1 : cX4_parent.data.toList.drop 23 = dktX4_parent_1 := dk_seg dksX4_parent_0 23 rfl rfl
theorem dksX4_parent_2 : cX4_parent.data.toList.drop 47 = dktX4_parent_2 := dk_seg dksX4_parent_1 24 rfl rfl
theorem dX4_parent_0 : decode cX4_parent 0 = .ok (.aload_n 0, 1) := dk_42 (dk_at dksX4_parent_0 0 rfl rfl)
theorem dX4_parent_1 : decode cX4_parent 1 = .ok (.iload_n 1, 1) := dk_27 (dk_at dksX4_parent_0 1 rfl rfl)
theorem dX4_parent_2 : decode cX4_parent 2 = .ok (.invokevirtual 240, 3) := dk_182 0 240 (dk_at dksX4_parent_0 2 rfl rfl)
theorem dX4_parent_5 : decode cX4_parent 5 = .ok (.ifCond .eq 7, 3) := dk_153 0 7 (dk_at dksX4_parent_0 5 rfl rfl)
theorem dX4_parent_8 : decode cX4_parent 8 = .ok (.iload_n 2, 1) := dk_28 (dk_at dksX4_parent_0 8 rfl rfl)
theorem dX4_parent_9 : decode cX4_parent 9 = .ok (.ifCond .ge 5, 3) := dk_156 0 5 (dk_at dksX4_parent_0 9 rfl rfl)
theorem dX4_parent_12 : decode cX4_parent 12 = .ok (.iconst (-1), 1) := dk_2 (dk_at dksX4_parent_0 12 rfl rfl)
theorem dX4_parent_13 : decode cX4_parent 13 = .ok (.ireturn, 1) := dk_172 (dk_at dksX4_parent_0 13 rfl rfl)
theorem dX4_parent_14 : decode cX4_parent 14 = .ok (.iload_n 2, 1) := dk_28 (dk_at dksX4_parent_0 14 rfl rfl)
theorem dX4_parent_15 : decode cX4_parent 15 = .ok (.ifCond .ne 17, 3) := dk_154 0 17 (dk_at dksX4_parent_0 15 rfl rfl)
theorem dX4_parent_18 : decode cX4_parent 18 = .ok (.aload_n 0, 1) := dk_42 (dk_at dksX4_parent_0 18 rfl rfl)
theorem dX4_parent_19 : decode cX4_parent 19 = .ok (.getfield 7, 3) := dk_180 0 7 (dk_at dksX4_parent_0 19 rfl rfl)
theorem dX4_parent_22 : decode cX4_parent 22 = .ok (.iload_n 1, 1) := dk_27 (dk_at dksX4_parent_0 22 rfl rfl)
theorem dX4_parent_23 : decode cX4_parent 23 = .ok (.bipush 8, 2) := dk_16 8 (dk_at dksX4_parent_1 0 rfl rfl)
theorem dX4_parent_25 : decode cX4_parent 25 = .ok (.invokestatic 66, 3) := dk_184 0 66 (dk_at dksX4_parent_1 2 rfl rfl)
theorem dX4_parent_28 : decode cX4_parent 28 = .ok (.iaload, 1) := dk_46 (dk_at dksX4_parent_1 5 rfl rfl)
theorem dX4_parent_29 : decode cX4_parent 29 = .ok (.goto 24, 3) := dk_167 0 24 (dk_at dksX4_parent_1 6 rfl rfl)
theorem dX4_parent_32 : decode cX4_parent 32 = .ok (.iload_n 2, 1) := dk_28 (dk_at dksX4_parent_1 9 rfl rfl)
theorem dX4_parent_33 : decode cX4_parent 33 = .ok (.iconst 1, 1) := dk_4 (dk_at dksX4_parent_1 10 rfl rfl)
theorem dX4_parent_34 : decode cX4_parent 34 = .ok (.if_icmp .ne 17, 3) := dk_160 0 17 (dk_at dksX4_parent_1 11 rfl rfl)
theorem dX4_parent_37 : decode cX4_parent 37 = .ok (.aload_n 0, 1) := dk_42 (dk_at dksX4_parent_1 14 rfl rfl)
theorem dX4_parent_38 : decode cX4_parent 38 = .ok (.getfield 7, 3) := dk_180 0 7 (dk_at dksX4_parent_1 15 rfl rfl)
theorem dX4_parent_41 : decode cX4_parent 41 = .ok (.iload_n 1, 1) := dk_27 (dk_at dksX4_parent_1 18 rfl rfl)
theorem dX4_parent_42 : decode cX4_parent 42 = .ok (.bipush 9, 2) := dk_16 9 (dk_at dksX4_parent_1 19 rfl rfl)
theorem dX4_parent_44 : decode cX4_parent 44 = .ok (.invokestatic 66, 3) := dk_184 0 66 (dk_at dksX4_parent_1 21 rfl rfl)
theorem dX4_parent_47 : decode cX4_parent 47 = .ok (.iaload, 1) := dk_46 (dk_at dksX4_parent_2 0 rfl rfl)
theorem dX4_parent_48 : decode cX4_parent 48 = .ok (.goto 5, 3) := dk_167 0 5 (dk_at dksX4_parent_2 1 rfl rfl)
theorem dX4_parent_51 : decode cX4_parent 51 = .ok (.bipush (-2), 2) := dk_16 254 (dk_at dksX4_parent_2 4 rfl rfl)
theorem dX4_parent_53 : decode cX4_parent 53 = .ok (.ireturn, 1) := dk_172 (dk_at dksX4_parent_2 6 rfl rfl)
abbrev cX4_child : ByteArray := prog_20_method_103_code
def yX4_child : MethodName := ⟨RX4, "child", "(II)I"⟩
def dkwX4_child_2 : List UInt8 := [154, 0, 6, 21, 4, 172, 132, 3, 255, 132, 4, 1, 167, 255, 219, 16, 254, 172]
abbrev dktX4_child_2 : List UInt8 := dkwX4_child_2 ++ []
def dkwX4_child_1 : List UInt8 := [180, 0, 7, 8, 46, 162, 0, 32, 42, 21, 4, 27, 182, 1, 64, 154, 0, 6, 167, 0, 13, 29]
abbrev dktX4_child_1 : List UInt8 := dkwX4_child_1 ++ dktX4_child_2
def dkwX4_child_0 : List UInt8 := [42, 27, 182, 0, 240, 153, 0, 7, 28, 156, 0, 5, 2, 172, 28, 62, 27, 4, 96, 54, 4, 21, 4, 42]
abbrev dktX4_child_0 : List UInt8 := dkwX4_child_0 ++ dktX4_child_1
theorem dksX4_child_0 : cX4_child.data.toList.drop 0 = dktX4_child_0 := by decide +kernel
theorem dksX4_child_1 : cX4_child.data.toList.drop 24 = dktX4_child_1 := dk_seg dksX4_child_0 24 rfl rfl
theorem dksX4_child_2 : cX4_child.data.toList.drop 46 = dktX4_child_2 := dk_seg dksX4_child_1 22 rfl rfl
theorem dX4_child_0 : decode cX4_child 0 = .ok (.aload_n 0, 1) := dk_42 (dk_at dksX4_child_0 0 rfl rfl)
theorem dX4_child_1 : decode cX4_child 1 = .ok (.iload_n 1, 1) := dk_27 (dk_at dksX4_child_0 1 rfl rfl)
theorem dX4_child_2 : decode cX4_child 2 = .ok (.invokevirtual 240, 3) := dk_182 0 240 (dk_at dksX4_child_0 2 rfl rfl)
theorem dX4_child_5 : decode cX4_child 5 = .ok (.ifCond .eq 7, 3) := dk_153 0 7 (dk_at dksX4_child_0 5 rfl rfl)
theorem dX4_child_8 : decode cX4_child 8 = .ok (.iload_n 2, 1) := dk_28 (dk_at dksX4_child_0 8 rfl rfl)
theorem dX4_child_9 : decode cX4_child 9 = .ok (.ifCond .ge 5, 3) := dk_156 0 5 (dk_at dksX4_child_0 9 rfl rfl)
theorem dX4_child_12 : decode cX4_child 12 = .ok (.iconst (-1), 1) := dk_2 (dk_at dksX4_child_0 12 rfl rfl)
theorem dX4_child_13 : decode cX4_child 13 = .ok (.ireturn, 1) := dk_172 (dk_at dksX4_child_0 13 rfl rfl)
theorem dX4_child_14 : decode cX4_child 14 = .ok (.iload_n 2, 1) := dk_28 (dk_at dksX4_child_0 14 rfl rfl)
theorem dX4_child_15 : decode cX4_child 15 = .ok (.istore_n 3, 1) := dk_62 (dk_at dksX4_child_0 15 rfl rfl)
theorem dX4_child_16 : decode cX4_child 16 = .ok (.iload_n 1, 1) := dk_27 (dk_at dksX4_child_0 16 rfl rfl)
theorem dX4_child_17 : decode cX4_child 17 = .ok (.iconst 1, 1) := dk_4 (dk_at dksX4_child_0 17 rfl rfl)
theorem dX4_child_18 : decode cX4_child 18 = .ok (.iadd, 1) := dk_96 (dk_at dksX4_child_0 18 rfl rfl)
theorem dX4_child_19 : decode cX4_child 19 = .ok (.istore 4, 2) := dk_54 4 (dk_at dksX4_child_0 19 rfl rfl)
theorem dX4_child_21 : decode cX4_child 21 = .ok (.iload 4, 2) := dk_21 4 (dk_at dksX4_child_0 21 rfl rfl)
theorem dX4_child_23 : decode cX4_child 23 = .ok (.aload_n 0, 1) := dk_42 (dk_at dksX4_child_0 23 rfl rfl)
theorem dX4_child_24 : decode cX4_child 24 = .ok (.getfield 7, 3) := dk_180 0 7 (dk_at dksX4_child_1 0 rfl rfl)
theorem dX4_child_27 : decode cX4_child 27 = .ok (.iconst 5, 1) := dk_8 (dk_at dksX4_child_1 3 rfl rfl)
theorem dX4_child_28 : decode cX4_child 28 = .ok (.iaload, 1) := dk_46 (dk_at dksX4_child_1 4 rfl rfl)
theorem dX4_child_29 : decode cX4_child 29 = .ok (.if_icmp .ge 32, 3) := dk_162 0 32 (dk_at dksX4_child_1 5 rfl rfl)
theorem dX4_child_32 : decode cX4_child 32 = .ok (.aload_n 0, 1) := dk_42 (dk_at dksX4_child_1 8 rfl rfl)
theorem dX4_child_33 : decode cX4_child 33 = .ok (.iload 4, 2) := dk_21 4 (dk_at dksX4_child_1 9 rfl rfl)
theorem dX4_child_35 : decode cX4_child 35 = .ok (.iload_n 1, 1) := dk_27 (dk_at dksX4_child_1 11 rfl rfl)
theorem dX4_child_36 : decode cX4_child 36 = .ok (.invokevirtual 320, 3) := dk_182 1 64 (dk_at dksX4_child_1 12 rfl rfl)
theorem dX4_child_39 : decode cX4_child 39 = .ok (.ifCond .ne 6, 3) := dk_154 0 6 (dk_at dksX4_child_1 15 rfl rfl)
theorem dX4_child_42 : decode cX4_child 42 = .ok (.goto 13, 3) := dk_167 0 13 (dk_at dksX4_child_1 18 rfl rfl)
theorem dX4_child_45 : decode cX4_child 45 = .ok (.iload_n 3, 1) := dk_29 (dk_at dksX4_child_1 21 rfl rfl)
theorem dX4_child_46 : decode cX4_child 46 = .ok (.ifCond .ne 6, 3) := dk_154 0 6 (dk_at dksX4_child_2 0 rfl rfl)
theorem dX4_child_49 : decode cX4_child 49 = .ok (.iload 4, 2) := dk_21 4 (dk_at dksX4_child_2 3 rfl rfl)
theorem dX4_child_51 : decode cX4_child 51 = .ok (.ireturn, 1) := dk_172 (dk_at dksX4_child_2 5 rfl rfl)
theorem dX4_child_52 : decode cX4_child 52 = .ok (.iinc 3 (-1), 3) := dk_132 3 255 (dk_at dksX4_child_2 6 rfl rfl)
theorem dX4_child_55 : decode cX4_child 55 = .ok (.iinc 4 1, 3) := dk_132 4 1 (dk_at dksX4_child_2 9 rfl rfl)
theorem dX4_child_58 : decode cX4_child 58 = .ok (.goto (-37), 3) := dk_167 255 219 (dk_at dksX4_child_2 12 rfl rfl)
theorem dX4_child_61 : decode cX4_child 61 = .ok (.bipush (-2), 2) := dk_16 254 (dk_at dksX4_child_2 15 rfl rfl)
theorem dX4_child_63 : decode cX4_child 63 = .ok (.ireturn, 1) := dk_172 (dk_at dksX4_child_2 17 rfl rfl)
abbrev cX4_isMadeOf : ByteArray := prog_20_method_102_code
def yX4_isMadeOf : MethodName := ⟨RX4, "isMadeOf", "(II)Z"⟩
def dkwX4_isMadeOf_1 : List UInt8 := [184, 0, 66, 46, 28, 160, 0, 7, 4, 167, 0, 4, 3, 172]
abbrev dktX4_isMadeOf_1 : List UInt8 := dkwX4_isMadeOf_1 ++ []
def dkwX4_isMadeOf_0 : List UInt8 := [42, 180, 0, 7, 27, 16, 8, 184, 0, 66, 46, 28, 159, 0, 18, 42, 180, 0, 7, 27, 16, 9]
abbrev dktX4_isMadeOf_0 : List UInt8 := dkwX4_isMadeOf_0 ++ dktX4_isMadeOf_1
theorem dksX4_isMadeOf_0 : cX4_isMadeOf.data.toList.drop 0 = dktX4_isMadeOf_0 := by decide +kernel
theorem dksX4_isMadeOf_1 : cX4_isMadeOf.data.toList.drop 22 = dktX4_isMadeOf_1 := dk_seg dksX4_isMadeOf_0 22 rfl rfl
theorem dX4_isMadeOf_0 : decode cX4_isMadeOf 0 = .ok (.aload_n 0, 1) := dk_42 (dk_at dksX4_isMadeOf_0 0 rfl rfl)
theorem dX4_isMadeOf_1 : decode cX4_isMadeOf 1 = .ok (.getfield 7, 3) := dk_180 0 7 (dk_at dksX4_isMadeOf_0 1 rfl rfl)
theorem dX4_isMadeOf_4 : decode cX4_isMadeOf 4 = .ok (.iload_n 1, 1) := dk_27 (dk_at dksX4_isMadeOf_0 4 rfl rfl)
theorem dX4_isMadeOf_5 : decode cX4_isMadeOf 5 = .ok (.bipush 8, 2) := dk_16 8 (dk_at dksX4_isMadeOf_0 5 rfl rfl)
theorem dX4_isMadeOf_7 : decode cX4_isMadeOf 7 = .ok (.invokestatic 66, 3) := dk_184 0 66 (dk_at dksX4_isMadeOf_0 7 rfl rfl)
theorem dX4_isMadeOf_10 : decode cX4_isMadeOf 10 = .ok (.iaload, 1) := dk_46 (dk_at dksX4_isMadeOf_0 10 rfl rfl)
theorem dX4_isMadeOf_11 : decode cX4_isMadeOf 11 = .ok (.iload_n 2, 1) := dk_28 (dk_at dksX4_isMadeOf_0 11 rfl rfl)
theorem dX4_isMadeOf_12 : decode cX4_isMadeOf 12 = .ok (.if_icmp .eq 18, 3) := dk_159 0 18 (dk_at dksX4_isMadeOf_0 12 rfl rfl)
theorem dX4_isMadeOf_15 : decode cX4_isMadeOf 15 = .ok (.aload_n 0, 1) := dk_42 (dk_at dksX4_isMadeOf_0 15 rfl rfl)
theorem dX4_isMadeOf_16 : decode cX4_isMadeOf 16 = .ok (.getfield 7, 3) := dk_180 0 7 (dk_at dksX4_isMadeOf_0 16 rfl rfl)
theorem dX4_isMadeOf_19 : decode cX4_isMadeOf 19 = .ok (.iload_n 1, 1) := dk_27 (dk_at dksX4_isMadeOf_0 19 rfl rfl)
theorem dX4_isMadeOf_20 : decode cX4_isMadeOf 20 = .ok (.bipush 9, 2) := dk_16 9 (dk_at dksX4_isMadeOf_0 20 rfl rfl)
theorem dX4_isMadeOf_22 : decode cX4_isMadeOf 22 = .ok (.invokestatic 66, 3) := dk_184 0 66 (dk_at dksX4_isMadeOf_1 0 rfl rfl)
theorem dX4_isMadeOf_25 : decode cX4_isMadeOf 25 = .ok (.iaload, 1) := dk_46 (dk_at dksX4_isMadeOf_1 3 rfl rfl)
theorem dX4_isMadeOf_26 : decode cX4_isMadeOf 26 = .ok (.iload_n 2, 1) := dk_28 (dk_at dksX4_isMadeOf_1 4 rfl rfl)
theorem dX4_isMadeOf_27 : decode cX4_isMadeOf 27 = .ok (.if_icmp .ne 7, 3) := dk_160 0 7 (dk_at dksX4_isMadeOf_1 5 rfl rfl)
theorem dX4_isMadeOf_30 : decode cX4_isMadeOf 30 = .ok (.iconst 1, 1) := dk_4 (dk_at dksX4_isMadeOf_1 8 rfl rfl)
theorem dX4_isMadeOf_31 : decode cX4_isMadeOf 31 = .ok (.goto 4, 3) := dk_167 0 4 (dk_at dksX4_isMadeOf_1 9 rfl rfl)
theorem dX4_isMadeOf_34 : decode cX4_isMadeOf 34 = .ok (.iconst 0, 1) := dk_3 (dk_at dksX4_isMadeOf_1 12 rfl rfl)
theorem dX4_isMadeOf_35 : decode cX4_isMadeOf 35 = .ok (.ireturn, 1) := dk_172 (dk_at dksX4_isMadeOf_1 13 rfl rfl)
abbrev cX4_steps : ByteArray := prog_20_method_105_code
def yX4_steps : MethodName := ⟨RX4, "steps", "(II)I"⟩
def dkwX4_steps_5 : List UInt8 := [180, 0, 36, 28, 46, 172]
abbrev dktX4_steps_5 : List UInt8 := dkwX4_steps_5 ++ []
def dkwX4_steps_4 : List UInt8 := [16, 9, 184, 0, 66, 46, 42, 180, 0, 36, 29, 46, 4, 96, 182, 1, 67, 132, 3, 255, 167, 255, 190, 42]
abbrev dktX4_steps_4 : List UInt8 := dkwX4_steps_4 ++ dktX4_steps_5
def dkwX4_steps_3 : List UInt8 := [29, 16, 8, 184, 0, 66, 46, 42, 180, 0, 36, 29, 46, 4, 96, 182, 1, 67, 42, 42, 180, 0, 7, 29]
abbrev dktX4_steps_3 : List UInt8 := dkwX4_steps_3 ++ dktX4_steps_4
def dkwX4_steps_2 : List UInt8 := [27, 62, 29, 28, 164, 0, 67, 42, 180, 0, 36, 29, 46, 156, 0, 6, 167, 0, 49, 42, 42, 180, 0, 7]
abbrev dktX4_steps_2 : List UInt8 := dkwX4_steps_2 ++ dktX4_steps_3
def dkwX4_steps_1 : List UInt8 := [162, 0, 17, 42, 180, 0, 36, 29, 16, 254, 79, 132, 3, 1, 167, 255, 239, 42, 180, 0, 36, 27, 3, 79]
abbrev dktX4_steps_1 : List UInt8 := dkwX4_steps_1 ++ dktX4_steps_2
def dkwX4_steps_0 : List UInt8 := [42, 27, 182, 0, 240, 153, 0, 11, 42, 28, 182, 0, 240, 154, 0, 5, 2, 172, 3, 62, 29, 16, 40]
abbrev dktX4_steps_0 : List UInt8 := dkwX4_steps_0 ++ dktX4_steps_1
theorem dksX4_steps_0 : cX4_steps.data.toList.drop 0 = dktX4_steps_0 := by decide +kernel
theorem dksX4_steps_1 : cX4_steps.data.toList.drop 23 = dktX4_steps_1 := dk_seg dksX4_steps_0 23 rfl rfl
theorem dksX4_steps_2 : cX4_steps.data.toList.drop 47 = dktX4_steps_2 := dk_seg dksX4_steps_1 24 rfl rfl
theorem dksX4_steps_3 : cX4_steps.data.toList.drop 71 = dktX4_steps_3 := dk_seg dksX4_steps_2 24 rfl rfl
theorem dksX4_steps_4 : cX4_steps.data.toList.drop 95 = dktX4_steps_4 := dk_seg dksX4_steps_3 24 rfl rfl
theorem dksX4_steps_5 : cX4_steps.data.toList.drop 119 = dktX4_steps_5 := dk_seg dksX4_steps_4 24 rfl rfl
theorem dX4_steps_0 : decode cX4_steps 0 = .ok (.aload_n 0, 1) := dk_42 (dk_at dksX4_steps_0 0 rfl rfl)
theorem dX4_steps_1 : decode cX4_steps 1 = .ok (.iload_n 1, 1) := dk_27 (dk_at dksX4_steps_0 1 rfl rfl)
theorem dX4_steps_2 : decode cX4_steps 2 = .ok (.invokevirtual 240, 3) := dk_182 0 240 (dk_at dksX4_steps_0 2 rfl rfl)
theorem dX4_steps_5 : decode cX4_steps 5 = .ok (.ifCond .eq 11, 3) := dk_153 0 11 (dk_at dksX4_steps_0 5 rfl rfl)
theorem dX4_steps_8 : decode cX4_steps 8 = .ok (.aload_n 0, 1) := dk_42 (dk_at dksX4_steps_0 8 rfl rfl)
theorem dX4_steps_9 : decode cX4_steps 9 = .ok (.iload_n 2, 1) := dk_28 (dk_at dksX4_steps_0 9 rfl rfl)
theorem dX4_steps_10 : decode cX4_steps 10 = .ok (.invokevirtual 240, 3) := dk_182 0 240 (dk_at dksX4_steps_0 10 rfl rfl)
theorem dX4_steps_13 : decode cX4_steps 13 = .ok (.ifCond .ne 5, 3) := dk_154 0 5 (dk_at dksX4_steps_0 13 rfl rfl)
theorem dX4_steps_16 : decode cX4_steps 16 = .ok (.iconst (-1), 1) := dk_2 (dk_at dksX4_steps_0 16 rfl rfl)
theorem dX4_steps_17 : decode cX4_steps 17 = .ok (.ireturn, 1) := dk_172 (dk_at dksX4_steps_0 17 rfl rfl)
theorem dX4_steps_18 : decode cX4_steps 18 = .ok (.iconst 0, 1) := dk_3 (dk_at dksX4_steps_0 18 rfl rfl)
theorem dX4_steps_19 : decode cX4_steps 19 = .ok (.istore_n 3, 1) := dk_62 (dk_at dksX4_steps_0 19 rfl rfl)
theorem dX4_steps_20 : decode cX4_steps 20 = .ok (.iload_n 3, 1) := dk_29 (dk_at dksX4_steps_0 20 rfl rfl)
theorem dX4_steps_21 : decode cX4_steps 21 = .ok (.bipush 40, 2) := dk_16 40 (dk_at dksX4_steps_0 21 rfl rfl)
theorem dX4_steps_23 : decode cX4_steps 23 = .ok (.if_icmp .ge 17, 3) := dk_162 0 17 (dk_at dksX4_steps_1 0 rfl rfl)
theorem dX4_steps_26 : decode cX4_steps 26 = .ok (.aload_n 0, 1) := dk_42 (dk_at dksX4_steps_1 3 rfl rfl)
theorem dX4_steps_27 : decode cX4_steps 27 = .ok (.getfield 36, 3) := dk_180 0 36 (dk_at dksX4_steps_1 4 rfl rfl)
theorem dX4_steps_30 : decode cX4_steps 30 = .ok (.iload_n 3, 1) := dk_29 (dk_at dksX4_steps_1 7 rfl rfl)
theorem dX4_steps_31 : decode cX4_steps 31 = .ok (.bipush (-2), 2) := dk_16 254 (dk_at dksX4_steps_1 8 rfl rfl)
theorem dX4_steps_33 : decode cX4_steps 33 = .ok (.iastore, 1) := dk_79 (dk_at dksX4_steps_1 10 rfl rfl)
theorem dX4_steps_34 : decode cX4_steps 34 = .ok (.iinc 3 1, 3) := dk_132 3 1 (dk_at dksX4_steps_1 11 rfl rfl)
theorem dX4_steps_37 : decode cX4_steps 37 = .ok (.goto (-17), 3) := dk_167 255 239 (dk_at dksX4_steps_1 14 rfl rfl)
theorem dX4_steps_40 : decode cX4_steps 40 = .ok (.aload_n 0, 1) := dk_42 (dk_at dksX4_steps_1 17 rfl rfl)
theorem dX4_steps_41 : decode cX4_steps 41 = .ok (.getfield 36, 3) := dk_180 0 36 (dk_at dksX4_steps_1 18 rfl rfl)
theorem dX4_steps_44 : decode cX4_steps 44 = .ok (.iload_n 1, 1) := dk_27 (dk_at dksX4_steps_1 21 rfl rfl)
theorem dX4_steps_45 : decode cX4_steps 45 = .ok (.iconst 0, 1) := dk_3 (dk_at dksX4_steps_1 22 rfl rfl)
theorem dX4_steps_46 : decode cX4_steps 46 = .ok (.iastore, 1) := dk_79 (dk_at dksX4_steps_1 23 rfl rfl)
theorem dX4_steps_47 : decode cX4_steps 47 = .ok (.iload_n 1, 1) := dk_27 (dk_at dksX4_steps_2 0 rfl rfl)
theorem dX4_steps_48 : decode cX4_steps 48 = .ok (.istore_n 3, 1) := dk_62 (dk_at dksX4_steps_2 1 rfl rfl)
theorem dX4_steps_49 : decode cX4_steps 49 = .ok (.iload_n 3, 1) := dk_29 (dk_at dksX4_steps_2 2 rfl rfl)
theorem dX4_steps_50 : decode cX4_steps 50 = .ok (.iload_n 2, 1) := dk_28 (dk_at dksX4_steps_2 3 rfl rfl)
theorem dX4_steps_51 : decode cX4_steps 51 = .ok (.if_icmp .le 67, 3) := dk_164 0 67 (dk_at dksX4_steps_2 4 rfl rfl)
theorem dX4_steps_54 : decode cX4_steps 54 = .ok (.aload_n 0, 1) := dk_42 (dk_at dksX4_steps_2 7 rfl rfl)
theorem dX4_steps_55 : decode cX4_steps 55 = .ok (.getfield 36, 3) := dk_180 0 36 (dk_at dksX4_steps_2 8 rfl rfl)
theorem dX4_steps_58 : decode cX4_steps 58 = .ok (.iload_n 3, 1) := dk_29 (dk_at dksX4_steps_2 11 rfl rfl)
theorem dX4_steps_59 : decode cX4_steps 59 = .ok (.iaload, 1) := dk_46 (dk_at dksX4_steps_2 12 rfl rfl)
theorem dX4_steps_60 : decode cX4_steps 60 = .ok (.ifCond .ge 6, 3) := dk_156 0 6 (dk_at dksX4_steps_2 13 rfl rfl)
theorem dX4_steps_63 : decode cX4_steps 63 = .ok (.goto 49, 3) := dk_167 0 49 (dk_at dksX4_steps_2 16 rfl rfl)
theorem dX4_steps_66 : decode cX4_steps 66 = .ok (.aload_n 0, 1) := dk_42 (dk_at dksX4_steps_2 19 rfl rfl)
theorem dX4_steps_67 : decode cX4_steps 67 = .ok (.aload_n 0, 1) := dk_42 (dk_at dksX4_steps_2 20 rfl rfl)
theorem dX4_steps_68 : decode cX4_steps 68 = .ok (.getfield 7, 3) := dk_180 0 7 (dk_at dksX4_steps_2 21 rfl rfl)
theorem dX4_steps_71 : decode cX4_steps 71 = .ok (.iload_n 3, 1) := dk_29 (dk_at dksX4_steps_3 0 rfl rfl)
theorem dX4_steps_72 : decode cX4_steps 72 = .ok (.bipush 8, 2) := dk_16 8 (dk_at dksX4_steps_3 1 rfl rfl)
theorem dX4_steps_74 : decode cX4_steps 74 = .ok (.invokestatic 66, 3) := dk_184 0 66 (dk_at dksX4_steps_3 3 rfl rfl)
theorem dX4_steps_77 : decode cX4_steps 77 = .ok (.iaload, 1) := dk_46 (dk_at dksX4_steps_3 6 rfl rfl)
theorem dX4_steps_78 : decode cX4_steps 78 = .ok (.aload_n 0, 1) := dk_42 (dk_at dksX4_steps_3 7 rfl rfl)
theorem dX4_steps_79 : decode cX4_steps 79 = .ok (.getfield 36, 3) := dk_180 0 36 (dk_at dksX4_steps_3 8 rfl rfl)
theorem dX4_steps_82 : decode cX4_steps 82 = .ok (.iload_n 3, 1) := dk_29 (dk_at dksX4_steps_3 11 rfl rfl)
theorem dX4_steps_83 : decode cX4_steps 83 = .ok (.iaload, 1) := dk_46 (dk_at dksX4_steps_3 12 rfl rfl)
theorem dX4_steps_84 : decode cX4_steps 84 = .ok (.iconst 1, 1) := dk_4 (dk_at dksX4_steps_3 13 rfl rfl)
theorem dX4_steps_85 : decode cX4_steps 85 = .ok (.iadd, 1) := dk_96 (dk_at dksX4_steps_3 14 rfl rfl)
theorem dX4_steps_86 : decode cX4_steps 86 = .ok (.invokevirtual 323, 3) := dk_182 1 67 (dk_at dksX4_steps_3 15 rfl rfl)
theorem dX4_steps_89 : decode cX4_steps 89 = .ok (.aload_n 0, 1) := dk_42 (dk_at dksX4_steps_3 18 rfl rfl)
theorem dX4_steps_90 : decode cX4_steps 90 = .ok (.aload_n 0, 1) := dk_42 (dk_at dksX4_steps_3 19 rfl rfl)
theorem dX4_steps_91 : decode cX4_steps 91 = .ok (.getfield 7, 3) := dk_180 0 7 (dk_at dksX4_steps_3 20 rfl rfl)
theorem dX4_steps_94 : decode cX4_steps 94 = .ok (.iload_n 3, 1) := dk_29 (dk_at dksX4_steps_3 23 rfl rfl)
theorem dX4_steps_95 : decode cX4_steps 95 = .ok (.bipush 9, 2) := dk_16 9 (dk_at dksX4_steps_4 0 rfl rfl)
theorem dX4_steps_97 : decode cX4_steps 97 = .ok (.invokestatic 66, 3) := dk_184 0 66 (dk_at dksX4_steps_4 2 rfl rfl)
theorem dX4_steps_100 : decode cX4_steps 100 = .ok (.iaload, 1) := dk_46 (dk_at dksX4_steps_4 5 rfl rfl)
theorem dX4_steps_101 : decode cX4_steps 101 = .ok (.aload_n 0, 1) := dk_42 (dk_at dksX4_steps_4 6 rfl rfl)
theorem dX4_steps_102 : decode cX4_steps 102 = .ok (.getfield 36, 3) := dk_180 0 36 (dk_at dksX4_steps_4 7 rfl rfl)
theorem dX4_steps_105 : decode cX4_steps 105 = .ok (.iload_n 3, 1) := dk_29 (dk_at dksX4_steps_4 10 rfl rfl)
theorem dX4_steps_106 : decode cX4_steps 106 = .ok (.iaload, 1) := dk_46 (dk_at dksX4_steps_4 11 rfl rfl)
theorem dX4_steps_107 : decode cX4_steps 107 = .ok (.iconst 1, 1) := dk_4 (dk_at dksX4_steps_4 12 rfl rfl)
theorem dX4_steps_108 : decode cX4_steps 108 = .ok (.iadd, 1) := dk_96 (dk_at dksX4_steps_4 13 rfl rfl)
theorem dX4_steps_109 : decode cX4_steps 109 = .ok (.invokevirtual 323, 3) := dk_182 1 67 (dk_at dksX4_steps_4 14 rfl rfl)
theorem dX4_steps_112 : decode cX4_steps 112 = .ok (.iinc 3 (-1), 3) := dk_132 3 255 (dk_at dksX4_steps_4 17 rfl rfl)
theorem dX4_steps_115 : decode cX4_steps 115 = .ok (.goto (-66), 3) := dk_167 255 190 (dk_at dksX4_steps_4 20 rfl rfl)
theorem dX4_steps_118 : decode cX4_steps 118 = .ok (.aload_n 0, 1) := dk_42 (dk_at dksX4_steps_4 23 rfl rfl)
theorem dX4_steps_119 : decode cX4_steps 119 = .ok (.getfield 36, 3) := dk_180 0 36 (dk_at dksX4_steps_5 0 rfl rfl)
theorem dX4_steps_122 : decode cX4_steps 122 = .ok (.iload_n 2, 1) := dk_28 (dk_at dksX4_steps_5 3 rfl rfl)
theorem dX4_steps_123 : decode cX4_steps 123 = .ok (.iaload, 1) := dk_46 (dk_at dksX4_steps_5 4 rfl rfl)
theorem dX4_steps_124 : decode cX4_steps 124 = .ok (.ireturn, 1) := dk_172 (dk_at dksX4_steps_5 5 rfl rfl)
abbrev cX4_comesTo : ByteArray := prog_20_method_104_code
def yX4_comesTo : MethodName := ⟨RX4, "comesTo", "(II)V"⟩
def dkwX4_comesTo_1 : List UInt8 := [180, 0, 36, 27, 28, 79, 177]
abbrev dktX4_comesTo_1 : List UInt8 := dkwX4_comesTo_1 ++ []
def dkwX4_comesTo_0 : List UInt8 := [27, 155, 0, 29, 42, 180, 0, 36, 27, 46, 155, 0, 13, 42, 180, 0, 36, 27, 46, 28, 164, 0, 10, 42]
abbrev dktX4_comesTo_0 : List UInt8 := dkwX4_comesTo_0 ++ dktX4_comesTo_1
theorem dksX4_comesTo_0 : cX4_comesTo.data.toList.drop 0 = dktX4_comesTo_0 := by decide +kernel
theorem dksX4_comesTo_1 : cX4_comesTo.data.toList.drop 24 = dktX4_comesTo_1 := dk_seg dksX4_comesTo_0 24 rfl rfl
theorem dX4_comesTo_0 : decode cX4_comesTo 0 = .ok (.iload_n 1, 1) := dk_27 (dk_at dksX4_comesTo_0 0 rfl rfl)
theorem dX4_comesTo_1 : decode cX4_comesTo 1 = .ok (.ifCond .lt 29, 3) := dk_155 0 29 (dk_at dksX4_comesTo_0 1 rfl rfl)
theorem dX4_comesTo_4 : decode cX4_comesTo 4 = .ok (.aload_n 0, 1) := dk_42 (dk_at dksX4_comesTo_0 4 rfl rfl)
theorem dX4_comesTo_5 : decode cX4_comesTo 5 = .ok (.getfield 36, 3) := dk_180 0 36 (dk_at dksX4_comesTo_0 5 rfl rfl)
theorem dX4_comesTo_8 : decode cX4_comesTo 8 = .ok (.iload_n 1, 1) := dk_27 (dk_at dksX4_comesTo_0 8 rfl rfl)
theorem dX4_comesTo_9 : decode cX4_comesTo 9 = .ok (.iaload, 1) := dk_46 (dk_at dksX4_comesTo_0 9 rfl rfl)
theorem dX4_comesTo_10 : decode cX4_comesTo 10 = .ok (.ifCond .lt 13, 3) := dk_155 0 13 (dk_at dksX4_comesTo_0 10 rfl rfl)
theorem dX4_comesTo_13 : decode cX4_comesTo 13 = .ok (.aload_n 0, 1) := dk_42 (dk_at dksX4_comesTo_0 13 rfl rfl)
theorem dX4_comesTo_14 : decode cX4_comesTo 14 = .ok (.getfield 36, 3) := dk_180 0 36 (dk_at dksX4_comesTo_0 14 rfl rfl)
theorem dX4_comesTo_17 : decode cX4_comesTo 17 = .ok (.iload_n 1, 1) := dk_27 (dk_at dksX4_comesTo_0 17 rfl rfl)
theorem dX4_comesTo_18 : decode cX4_comesTo 18 = .ok (.iaload, 1) := dk_46 (dk_at dksX4_comesTo_0 18 rfl rfl)
theorem dX4_comesTo_19 : decode cX4_comesTo 19 = .ok (.iload_n 2, 1) := dk_28 (dk_at dksX4_comesTo_0 19 rfl rfl)
theorem dX4_comesTo_20 : decode cX4_comesTo 20 = .ok (.if_icmp .le 10, 3) := dk_164 0 10 (dk_at dksX4_comesTo_0 20 rfl rfl)
theorem dX4_comesTo_23 : decode cX4_comesTo 23 = .ok (.aload_n 0, 1) := dk_42 (dk_at dksX4_comesTo_0 23 rfl rfl)
theorem dX4_comesTo_24 : decode cX4_comesTo 24 = .ok (.getfield 36, 3) := dk_180 0 36 (dk_at dksX4_comesTo_1 0 rfl rfl)
theorem dX4_comesTo_27 : decode cX4_comesTo 27 = .ok (.iload_n 1, 1) := dk_27 (dk_at dksX4_comesTo_1 3 rfl rfl)
theorem dX4_comesTo_28 : decode cX4_comesTo 28 = .ok (.iload_n 2, 1) := dk_28 (dk_at dksX4_comesTo_1 4 rfl rfl)
theorem dX4_comesTo_29 : decode cX4_comesTo 29 = .ok (.iastore, 1) := dk_79 (dk_at dksX4_comesTo_1 5 rfl rfl)
theorem dX4_comesTo_30 : decode cX4_comesTo 30 = .ok (.return_, 1) := dk_177 (dk_at dksX4_comesTo_1 6 rfl rfl)
abbrev cX4_share : ByteArray := prog_20_method_106_code
def yX4_share : MethodName := ⟨RX4, "share", "(II)I"⟩
def dkwX4_share_1 : List UInt8 := [184, 0, 92, 167, 0, 4, 2, 172]
abbrev dktX4_share_1 : List UInt8 := dkwX4_share_1 ++ []
def dkwX4_share_0 : List UInt8 := [42, 27, 182, 0, 240, 153, 0, 23, 42, 28, 182, 0, 237, 153, 0, 15, 42, 180, 0, 7, 27, 28]
abbrev dktX4_share_0 : List UInt8 := dkwX4_share_0 ++ dktX4_share_1
theorem dksX4_share_0 : cX4_share.data.toList.drop 0 = dktX4_share_0 := by decide +kernel
theorem dksX4_share_1 : cX4_share.data.toList.drop 22 = dktX4_share_1 := dk_seg dksX4_share_0 22 rfl rfl
theorem dX4_share_0 : decode cX4_share 0 = .ok (.aload_n 0, 1) := dk_42 (dk_at dksX4_share_0 0 rfl rfl)
theorem dX4_share_1 : decode cX4_share 1 = .ok (.iload_n 1, 1) := dk_27 (dk_at dksX4_share_0 1 rfl rfl)
theorem dX4_share_2 : decode cX4_share 2 = .ok (.invokevirtual 240, 3) := dk_182 0 240 (dk_at dksX4_share_0 2 rfl rfl)
theorem dX4_share_5 : decode cX4_share 5 = .ok (.ifCond .eq 23, 3) := dk_153 0 23 (dk_at dksX4_share_0 5 rfl rfl)
theorem dX4_share_8 : decode cX4_share 8 = .ok (.aload_n 0, 1) := dk_42 (dk_at dksX4_share_0 8 rfl rfl)
theorem dX4_share_9 : decode cX4_share 9 = .ok (.iload_n 2, 1) := dk_28 (dk_at dksX4_share_0 9 rfl rfl)
theorem dX4_share_10 : decode cX4_share 10 = .ok (.invokevirtual 237, 3) := dk_182 0 237 (dk_at dksX4_share_0 10 rfl rfl)
theorem dX4_share_13 : decode cX4_share 13 = .ok (.ifCond .eq 15, 3) := dk_153 0 15 (dk_at dksX4_share_0 13 rfl rfl)
theorem dX4_share_16 : decode cX4_share 16 = .ok (.aload_n 0, 1) := dk_42 (dk_at dksX4_share_0 16 rfl rfl)
theorem dX4_share_17 : decode cX4_share 17 = .ok (.getfield 7, 3) := dk_180 0 7 (dk_at dksX4_share_0 17 rfl rfl)
theorem dX4_share_20 : decode cX4_share 20 = .ok (.iload_n 1, 1) := dk_27 (dk_at dksX4_share_0 20 rfl rfl)
theorem dX4_share_21 : decode cX4_share 21 = .ok (.iload_n 2, 1) := dk_28 (dk_at dksX4_share_0 21 rfl rfl)
theorem dX4_share_22 : decode cX4_share 22 = .ok (.invokestatic 92, 3) := dk_184 0 92 (dk_at dksX4_share_1 0 rfl rfl)
theorem dX4_share_25 : decode cX4_share 25 = .ok (.goto 4, 3) := dk_167 0 4 (dk_at dksX4_share_1 3 rfl rfl)
theorem dX4_share_28 : decode cX4_share 28 = .ok (.iconst (-1), 1) := dk_2 (dk_at dksX4_share_1 6 rfl rfl)
theorem dX4_share_29 : decode cX4_share 29 = .ok (.ireturn, 1) := dk_172 (dk_at dksX4_share_1 7 rfl rfl)
abbrev cX4_shareOn : ByteArray := prog_20_method_107_code
def yX4_shareOn : MethodName := ⟨RX4, "shareOn", "(III)I"⟩
def dkwX4_shareOn_2 : List UInt8 := [167, 0, 16, 42, 180, 0, 7, 21, 4, 5, 28, 96, 184, 0, 62, 46, 172]
abbrev dktX4_shareOn_2 : List UInt8 := dkwX4_shareOn_2 ++ []
def dkwX4_shareOn_1 : List UInt8 := [154, 0, 5, 2, 172, 42, 180, 0, 7, 27, 29, 184, 0, 89, 54, 4, 21, 4, 156, 0, 8, 16, 254]
abbrev dktX4_shareOn_1 : List UInt8 := dkwX4_shareOn_1 ++ dktX4_shareOn_2
def dkwX4_shareOn_0 : List UInt8 := [42, 27, 182, 0, 240, 153, 0, 22, 42, 28, 182, 0, 237, 153, 0, 14, 29, 3, 17, 39, 15, 184, 0, 54]
abbrev dktX4_shareOn_0 : List UInt8 := dkwX4_shareOn_0 ++ dktX4_shareOn_1
theorem dksX4_shareOn_0 : cX4_shareOn.data.toList.drop 0 = dktX4_shareOn_0 := by decide +kernel
theorem dksX4_shareOn_1 : cX4_shareOn.data.toList.drop 24 = dktX4_shareOn_1 := dk_seg dksX4_shareOn_0 24 rfl rfl
theorem dksX4_shareOn_2 : cX4_shareOn.data.toList.drop 47 = dktX4_shareOn_2 := dk_seg dksX4_shareOn_1 23 rfl rfl
theorem dX4_shareOn_0 : decode cX4_shareOn 0 = .ok (.aload_n 0, 1) := dk_42 (dk_at dksX4_shareOn_0 0 rfl rfl)
theorem dX4_shareOn_1 : decode cX4_shareOn 1 = .ok (.iload_n 1, 1) := dk_27 (dk_at dksX4_shareOn_0 1 rfl rfl)
theorem dX4_shareOn_2 : decode cX4_shareOn 2 = .ok (.invokevirtual 240, 3) := dk_182 0 240 (dk_at dksX4_shareOn_0 2 rfl rfl)
theorem dX4_shareOn_5 : decode cX4_shareOn 5 = .ok (.ifCond .eq 22, 3) := dk_153 0 22 (dk_at dksX4_shareOn_0 5 rfl rfl)
theorem dX4_shareOn_8 : decode cX4_shareOn 8 = .ok (.aload_n 0, 1) := dk_42 (dk_at dksX4_shareOn_0 8 rfl rfl)
theorem dX4_shareOn_9 : decode cX4_shareOn 9 = .ok (.iload_n 2, 1) := dk_28 (dk_at dksX4_shareOn_0 9 rfl rfl)
theorem dX4_shareOn_10 : decode cX4_shareOn 10 = .ok (.invokevirtual 237, 3) := dk_182 0 237 (dk_at dksX4_shareOn_0 10 rfl rfl)
theorem dX4_shareOn_13 : decode cX4_shareOn 13 = .ok (.ifCond .eq 14, 3) := dk_153 0 14 (dk_at dksX4_shareOn_0 13 rfl rfl)
theorem dX4_shareOn_16 : decode cX4_shareOn 16 = .ok (.iload_n 3, 1) := dk_29 (dk_at dksX4_shareOn_0 16 rfl rfl)
theorem dX4_shareOn_17 : decode cX4_shareOn 17 = .ok (.iconst 0, 1) := dk_3 (dk_at dksX4_shareOn_0 17 rfl rfl)
theorem dX4_shareOn_18 : decode cX4_shareOn 18 = .ok (.sipush 9999, 3) := dk_17 39 15 (dk_at dksX4_shareOn_0 18 rfl rfl)
theorem dX4_shareOn_21 : decode cX4_shareOn 21 = .ok (.invokestatic 54, 3) := dk_184 0 54 (dk_at dksX4_shareOn_0 21 rfl rfl)
theorem dX4_shareOn_24 : decode cX4_shareOn 24 = .ok (.ifCond .ne 5, 3) := dk_154 0 5 (dk_at dksX4_shareOn_1 0 rfl rfl)
theorem dX4_shareOn_27 : decode cX4_shareOn 27 = .ok (.iconst (-1), 1) := dk_2 (dk_at dksX4_shareOn_1 3 rfl rfl)
theorem dX4_shareOn_28 : decode cX4_shareOn 28 = .ok (.ireturn, 1) := dk_172 (dk_at dksX4_shareOn_1 4 rfl rfl)
theorem dX4_shareOn_29 : decode cX4_shareOn 29 = .ok (.aload_n 0, 1) := dk_42 (dk_at dksX4_shareOn_1 5 rfl rfl)
theorem dX4_shareOn_30 : decode cX4_shareOn 30 = .ok (.getfield 7, 3) := dk_180 0 7 (dk_at dksX4_shareOn_1 6 rfl rfl)
theorem dX4_shareOn_33 : decode cX4_shareOn 33 = .ok (.iload_n 1, 1) := dk_27 (dk_at dksX4_shareOn_1 9 rfl rfl)
theorem dX4_shareOn_34 : decode cX4_shareOn 34 = .ok (.iload_n 3, 1) := dk_29 (dk_at dksX4_shareOn_1 10 rfl rfl)
theorem dX4_shareOn_35 : decode cX4_shareOn 35 = .ok (.invokestatic 89, 3) := dk_184 0 89 (dk_at dksX4_shareOn_1 11 rfl rfl)
theorem dX4_shareOn_38 : decode cX4_shareOn 38 = .ok (.istore 4, 2) := dk_54 4 (dk_at dksX4_shareOn_1 14 rfl rfl)
theorem dX4_shareOn_40 : decode cX4_shareOn 40 = .ok (.iload 4, 2) := dk_21 4 (dk_at dksX4_shareOn_1 16 rfl rfl)
theorem dX4_shareOn_42 : decode cX4_shareOn 42 = .ok (.ifCond .ge 8, 3) := dk_156 0 8 (dk_at dksX4_shareOn_1 18 rfl rfl)
theorem dX4_shareOn_45 : decode cX4_shareOn 45 = .ok (.bipush (-2), 2) := dk_16 254 (dk_at dksX4_shareOn_1 21 rfl rfl)
theorem dX4_shareOn_47 : decode cX4_shareOn 47 = .ok (.goto 16, 3) := dk_167 0 16 (dk_at dksX4_shareOn_2 0 rfl rfl)
theorem dX4_shareOn_50 : decode cX4_shareOn 50 = .ok (.aload_n 0, 1) := dk_42 (dk_at dksX4_shareOn_2 3 rfl rfl)
theorem dX4_shareOn_51 : decode cX4_shareOn 51 = .ok (.getfield 7, 3) := dk_180 0 7 (dk_at dksX4_shareOn_2 4 rfl rfl)
theorem dX4_shareOn_54 : decode cX4_shareOn 54 = .ok (.iload 4, 2) := dk_21 4 (dk_at dksX4_shareOn_2 7 rfl rfl)
theorem dX4_shareOn_56 : decode cX4_shareOn 56 = .ok (.iconst 2, 1) := dk_5 (dk_at dksX4_shareOn_2 9 rfl rfl)
theorem dX4_shareOn_57 : decode cX4_shareOn 57 = .ok (.iload_n 2, 1) := dk_28 (dk_at dksX4_shareOn_2 10 rfl rfl)
theorem dX4_shareOn_58 : decode cX4_shareOn 58 = .ok (.iadd, 1) := dk_96 (dk_at dksX4_shareOn_2 11 rfl rfl)
theorem dX4_shareOn_59 : decode cX4_shareOn 59 = .ok (.invokestatic 62, 3) := dk_184 0 62 (dk_at dksX4_shareOn_2 12 rfl rfl)
theorem dX4_shareOn_62 : decode cX4_shareOn 62 = .ok (.iaload, 1) := dk_46 (dk_at dksX4_shareOn_2 15 rfl rfl)
theorem dX4_shareOn_63 : decode cX4_shareOn 63 = .ok (.ireturn, 1) := dk_172 (dk_at dksX4_shareOn_2 16 rfl rfl)
abbrev cX4_at : ByteArray := prog_20_method_108_code
def yX4_at : MethodName := ⟨RX4, "at", "(II)I"⟩
def dkwX4_at_0 : List UInt8 := [42, 27, 28, 182, 1, 12, 153, 0, 15, 42, 180, 0, 7, 27, 28, 184, 1, 15, 167, 0, 4, 2, 172]
abbrev dktX4_at_0 : List UInt8 := dkwX4_at_0 ++ []
theorem dksX4_at_0 : cX4_at.data.toList.drop 0 = dktX4_at_0 := by decide +kernel
theorem dX4_at_0 : decode cX4_at 0 = .ok (.aload_n 0, 1) := dk_42 (dk_at dksX4_at_0 0 rfl rfl)
theorem dX4_at_1 : decode cX4_at 1 = .ok (.iload_n 1, 1) := dk_27 (dk_at dksX4_at_0 1 rfl rfl)
theorem dX4_at_2 : decode cX4_at 2 = .ok (.iload_n 2, 1) := dk_28 (dk_at dksX4_at_0 2 rfl rfl)
theorem dX4_at_3 : decode cX4_at 3 = .ok (.invokevirtual 268, 3) := dk_182 1 12 (dk_at dksX4_at_0 3 rfl rfl)
theorem dX4_at_6 : decode cX4_at 6 = .ok (.ifCond .eq 15, 3) := dk_153 0 15 (dk_at dksX4_at_0 6 rfl rfl)
theorem dX4_at_9 : decode cX4_at 9 = .ok (.aload_n 0, 1) := dk_42 (dk_at dksX4_at_0 9 rfl rfl)
theorem dX4_at_10 : decode cX4_at 10 = .ok (.getfield 7, 3) := dk_180 0 7 (dk_at dksX4_at_0 10 rfl rfl)
theorem dX4_at_13 : decode cX4_at 13 = .ok (.iload_n 1, 1) := dk_27 (dk_at dksX4_at_0 13 rfl rfl)
theorem dX4_at_14 : decode cX4_at 14 = .ok (.iload_n 2, 1) := dk_28 (dk_at dksX4_at_0 14 rfl rfl)
theorem dX4_at_15 : decode cX4_at 15 = .ok (.invokestatic 271, 3) := dk_184 1 15 (dk_at dksX4_at_0 15 rfl rfl)
theorem dX4_at_18 : decode cX4_at 18 = .ok (.goto 4, 3) := dk_167 0 4 (dk_at dksX4_at_0 18 rfl rfl)
theorem dX4_at_21 : decode cX4_at 21 = .ok (.iconst (-1), 1) := dk_2 (dk_at dksX4_at_0 21 rfl rfl)
theorem dX4_at_22 : decode cX4_at 22 = .ok (.ireturn, 1) := dk_172 (dk_at dksX4_at_0 22 rfl rfl)
abbrev cX4_atDay : ByteArray := prog_20_method_109_code
def yX4_atDay : MethodName := ⟨RX4, "atDay", "(III)I"⟩
def dkwX4_atDay_2 : List UInt8 := [180, 0, 7, 21, 4, 8, 184, 0, 66, 46, 29, 164, 0, 9, 132, 4, 255, 167, 255, 224, 21, 4, 172]
abbrev dktX4_atDay_2 : List UInt8 := dkwX4_atDay_2 ++ []
def dkwX4_atDay_1 : List UInt8 := [180, 0, 7, 8, 46, 4, 100, 54, 4, 42, 180, 0, 7, 21, 4, 27, 28, 184, 0, 77, 153, 0, 18, 42]
abbrev dktX4_atDay_1 : List UInt8 := dkwX4_atDay_1 ++ dktX4_atDay_2
def dkwX4_atDay_0 : List UInt8 := [42, 27, 28, 182, 1, 12, 153, 0, 14, 29, 3, 17, 39, 15, 184, 0, 54, 154, 0, 5, 2, 172, 42]
abbrev dktX4_atDay_0 : List UInt8 := dkwX4_atDay_0 ++ dktX4_atDay_1
theorem dksX4_atDay_0 : cX4_atDay.data.toList.drop 0 = dktX4_atDay_0 := by decide +kernel
theorem dksX4_atDay_1 : cX4_atDay.data.toList.drop 23 = dktX4_atDay_1 := dk_seg dksX4_atDay_0 23 rfl rfl
theorem dksX4_atDay_2 : cX4_atDay.data.toList.drop 47 = dktX4_atDay_2 := dk_seg dksX4_atDay_1 24 rfl rfl
theorem dX4_atDay_0 : decode cX4_atDay 0 = .ok (.aload_n 0, 1) := dk_42 (dk_at dksX4_atDay_0 0 rfl rfl)
theorem dX4_atDay_1 : decode cX4_atDay 1 = .ok (.iload_n 1, 1) := dk_27 (dk_at dksX4_atDay_0 1 rfl rfl)
theorem dX4_atDay_2 : decode cX4_atDay 2 = .ok (.iload_n 2, 1) := dk_28 (dk_at dksX4_atDay_0 2 rfl rfl)
theorem dX4_atDay_3 : decode cX4_atDay 3 = .ok (.invokevirtual 268, 3) := dk_182 1 12 (dk_at dksX4_atDay_0 3 rfl rfl)
theorem dX4_atDay_6 : decode cX4_atDay 6 = .ok (.ifCond .eq 14, 3) := dk_153 0 14 (dk_at dksX4_atDay_0 6 rfl rfl)
theorem dX4_atDay_9 : decode cX4_atDay 9 = .ok (.iload_n 3, 1) := dk_29 (dk_at dksX4_atDay_0 9 rfl rfl)
theorem dX4_atDay_10 : decode cX4_atDay 10 = .ok (.iconst 0, 1) := dk_3 (dk_at dksX4_atDay_0 10 rfl rfl)
theorem dX4_atDay_11 : decode cX4_atDay 11 = .ok (.sipush 9999, 3) := dk_17 39 15 (dk_at dksX4_atDay_0 11 rfl rfl)
theorem dX4_atDay_14 : decode cX4_atDay 14 = .ok (.invokestatic 54, 3) := dk_184 0 54 (dk_at dksX4_atDay_0 14 rfl rfl)
theorem dX4_atDay_17 : decode cX4_atDay 17 = .ok (.ifCond .ne 5, 3) := dk_154 0 5 (dk_at dksX4_atDay_0 17 rfl rfl)
theorem dX4_atDay_20 : decode cX4_atDay 20 = .ok (.iconst (-1), 1) := dk_2 (dk_at dksX4_atDay_0 20 rfl rfl)
theorem dX4_atDay_21 : decode cX4_atDay 21 = .ok (.ireturn, 1) := dk_172 (dk_at dksX4_atDay_0 21 rfl rfl)
theorem dX4_atDay_22 : decode cX4_atDay 22 = .ok (.aload_n 0, 1) := dk_42 (dk_at dksX4_atDay_0 22 rfl rfl)
theorem dX4_atDay_23 : decode cX4_atDay 23 = .ok (.getfield 7, 3) := dk_180 0 7 (dk_at dksX4_atDay_1 0 rfl rfl)
theorem dX4_atDay_26 : decode cX4_atDay 26 = .ok (.iconst 5, 1) := dk_8 (dk_at dksX4_atDay_1 3 rfl rfl)
theorem dX4_atDay_27 : decode cX4_atDay 27 = .ok (.iaload, 1) := dk_46 (dk_at dksX4_atDay_1 4 rfl rfl)
theorem dX4_atDay_28 : decode cX4_atDay 28 = .ok (.iconst 1, 1) := dk_4 (dk_at dksX4_atDay_1 5 rfl rfl)
theorem dX4_atDay_29 : decode cX4_atDay 29 = .ok (.isub, 1) := dk_100 (dk_at dksX4_atDay_1 6 rfl rfl)
theorem dX4_atDay_30 : decode cX4_atDay 30 = .ok (.istore 4, 2) := dk_54 4 (dk_at dksX4_atDay_1 7 rfl rfl)
theorem dX4_atDay_32 : decode cX4_atDay 32 = .ok (.aload_n 0, 1) := dk_42 (dk_at dksX4_atDay_1 9 rfl rfl)
theorem dX4_atDay_33 : decode cX4_atDay 33 = .ok (.getfield 7, 3) := dk_180 0 7 (dk_at dksX4_atDay_1 10 rfl rfl)
theorem dX4_atDay_36 : decode cX4_atDay 36 = .ok (.iload 4, 2) := dk_21 4 (dk_at dksX4_atDay_1 13 rfl rfl)
theorem dX4_atDay_38 : decode cX4_atDay 38 = .ok (.iload_n 1, 1) := dk_27 (dk_at dksX4_atDay_1 15 rfl rfl)
theorem dX4_atDay_39 : decode cX4_atDay 39 = .ok (.iload_n 2, 1) := dk_28 (dk_at dksX4_atDay_1 16 rfl rfl)
theorem dX4_atDay_40 : decode cX4_atDay 40 = .ok (.invokestatic 77, 3) := dk_184 0 77 (dk_at dksX4_atDay_1 17 rfl rfl)
theorem dX4_atDay_43 : decode cX4_atDay 43 = .ok (.ifCond .eq 18, 3) := dk_153 0 18 (dk_at dksX4_atDay_1 20 rfl rfl)
theorem dX4_atDay_46 : decode cX4_atDay 46 = .ok (.aload_n 0, 1) := dk_42 (dk_at dksX4_atDay_1 23 rfl rfl)
theorem dX4_atDay_47 : decode cX4_atDay 47 = .ok (.getfield 7, 3) := dk_180 0 7 (dk_at dksX4_atDay_2 0 rfl rfl)
theorem dX4_atDay_50 : decode cX4_atDay 50 = .ok (.iload 4, 2) := dk_21 4 (dk_at dksX4_atDay_2 3 rfl rfl)
theorem dX4_atDay_52 : decode cX4_atDay 52 = .ok (.iconst 5, 1) := dk_8 (dk_at dksX4_atDay_2 5 rfl rfl)
theorem dX4_atDay_53 : decode cX4_atDay 53 = .ok (.invokestatic 66, 3) := dk_184 0 66 (dk_at dksX4_atDay_2 6 rfl rfl)
theorem dX4_atDay_56 : decode cX4_atDay 56 = .ok (.iaload, 1) := dk_46 (dk_at dksX4_atDay_2 9 rfl rfl)
theorem dX4_atDay_57 : decode cX4_atDay 57 = .ok (.iload_n 3, 1) := dk_29 (dk_at dksX4_atDay_2 10 rfl rfl)
theorem dX4_atDay_58 : decode cX4_atDay 58 = .ok (.if_icmp .le 9, 3) := dk_164 0 9 (dk_at dksX4_atDay_2 11 rfl rfl)
theorem dX4_atDay_61 : decode cX4_atDay 61 = .ok (.iinc 4 (-1), 3) := dk_132 4 255 (dk_at dksX4_atDay_2 14 rfl rfl)
theorem dX4_atDay_64 : decode cX4_atDay 64 = .ok (.goto (-32), 3) := dk_167 255 224 (dk_at dksX4_atDay_2 17 rfl rfl)
theorem dX4_atDay_67 : decode cX4_atDay 67 = .ok (.iload 4, 2) := dk_21 4 (dk_at dksX4_atDay_2 20 rfl rfl)
theorem dX4_atDay_69 : decode cX4_atDay 69 = .ok (.ireturn, 1) := dk_172 (dk_at dksX4_atDay_2 22 rfl rfl)
abbrev cX4_neighbour : ByteArray := prog_20_method_110_code
def yX4_neighbour : MethodName := ⟨RX4, "neighbour", "(II)I"⟩
def dkwX4_neighbour_2 : List UInt8 := [29, 154, 0, 6, 21, 4, 172, 132, 3, 255, 132, 4, 1, 167, 255, 216, 16, 254, 172]
abbrev dktX4_neighbour_2 : List UInt8 := dkwX4_neighbour_2 ++ []
def dkwX4_neighbour_1 : List UInt8 := [180, 0, 7, 8, 46, 162, 0, 35, 42, 180, 0, 7, 27, 21, 4, 184, 1, 33, 154, 0, 6, 167, 0, 13]
abbrev dktX4_neighbour_1 : List UInt8 := dkwX4_neighbour_1 ++ dktX4_neighbour_2
def dkwX4_neighbour_0 : List UInt8 := [42, 27, 182, 0, 240, 153, 0, 7, 28, 156, 0, 5, 2, 172, 28, 62, 3, 54, 4, 21, 4, 42]
abbrev dktX4_neighbour_0 : List UInt8 := dkwX4_neighbour_0 ++ dktX4_neighbour_1
theorem dksX4_neighbour_0 : cX4_neighbour.data.toList.drop 0 = dktX4_neighbour_0 := by decide +kernel
theorem dksX4_neighbour_1 : cX4_neighbour.data.toList.drop 22 = dktX4_neighbour_1 := dk_seg dksX4_neighbour_0 22 rfl rfl
theorem dksX4_neighbour_2 : cX4_neighbour.data.toList.drop 46 = dktX4_neighbour_2 := dk_seg dksX4_neighbour_1 24 rfl rfl
theorem dX4_neighbour_0 : decode cX4_neighbour 0 = .ok (.aload_n 0, 1) := dk_42 (dk_at dksX4_neighbour_0 0 rfl rfl)
theorem dX4_neighbour_1 : decode cX4_neighbour 1 = .ok (.iload_n 1, 1) := dk_27 (dk_at dksX4_neighbour_0 1 rfl rfl)
theorem dX4_neighbour_2 : decode cX4_neighbour 2 = .ok (.invokevirtual 240, 3) := dk_182 0 240 (dk_at dksX4_neighbour_0 2 rfl rfl)
theorem dX4_neighbour_5 : decode cX4_neighbour 5 = .ok (.ifCond .eq 7, 3) := dk_153 0 7 (dk_at dksX4_neighbour_0 5 rfl rfl)
theorem dX4_neighbour_8 : decode cX4_neighbour 8 = .ok (.iload_n 2, 1) := dk_28 (dk_at dksX4_neighbour_0 8 rfl rfl)
theorem dX4_neighbour_9 : decode cX4_neighbour 9 = .ok (.ifCond .ge 5, 3) := dk_156 0 5 (dk_at dksX4_neighbour_0 9 rfl rfl)
theorem dX4_neighbour_12 : decode cX4_neighbour 12 = .ok (.iconst (-1), 1) := dk_2 (dk_at dksX4_neighbour_0 12 rfl rfl)
theorem dX4_neighbour_13 : decode cX4_neighbour 13 = .ok (.ireturn, 1) := dk_172 (dk_at dksX4_neighbour_0 13 rfl rfl)
theorem dX4_neighbour_14 : decode cX4_neighbour 14 = .ok (.iload_n 2, 1) := dk_28 (dk_at dksX4_neighbour_0 14 rfl rfl)
theorem dX4_neighbour_15 : decode cX4_neighbour 15 = .ok (.istore_n 3, 1) := dk_62 (dk_at dksX4_neighbour_0 15 rfl rfl)
theorem dX4_neighbour_16 : decode cX4_neighbour 16 = .ok (.iconst 0, 1) := dk_3 (dk_at dksX4_neighbour_0 16 rfl rfl)
theorem dX4_neighbour_17 : decode cX4_neighbour 17 = .ok (.istore 4, 2) := dk_54 4 (dk_at dksX4_neighbour_0 17 rfl rfl)
theorem dX4_neighbour_19 : decode cX4_neighbour 19 = .ok (.iload 4, 2) := dk_21 4 (dk_at dksX4_neighbour_0 19 rfl rfl)
theorem dX4_neighbour_21 : decode cX4_neighbour 21 = .ok (.aload_n 0, 1) := dk_42 (dk_at dksX4_neighbour_0 21 rfl rfl)
theorem dX4_neighbour_22 : decode cX4_neighbour 22 = .ok (.getfield 7, 3) := dk_180 0 7 (dk_at dksX4_neighbour_1 0 rfl rfl)
theorem dX4_neighbour_25 : decode cX4_neighbour 25 = .ok (.iconst 5, 1) := dk_8 (dk_at dksX4_neighbour_1 3 rfl rfl)
theorem dX4_neighbour_26 : decode cX4_neighbour 26 = .ok (.iaload, 1) := dk_46 (dk_at dksX4_neighbour_1 4 rfl rfl)
theorem dX4_neighbour_27 : decode cX4_neighbour 27 = .ok (.if_icmp .ge 35, 3) := dk_162 0 35 (dk_at dksX4_neighbour_1 5 rfl rfl)
theorem dX4_neighbour_30 : decode cX4_neighbour 30 = .ok (.aload_n 0, 1) := dk_42 (dk_at dksX4_neighbour_1 8 rfl rfl)
theorem dX4_neighbour_31 : decode cX4_neighbour 31 = .ok (.getfield 7, 3) := dk_180 0 7 (dk_at dksX4_neighbour_1 9 rfl rfl)
theorem dX4_neighbour_34 : decode cX4_neighbour 34 = .ok (.iload_n 1, 1) := dk_27 (dk_at dksX4_neighbour_1 12 rfl rfl)
theorem dX4_neighbour_35 : decode cX4_neighbour 35 = .ok (.iload 4, 2) := dk_21 4 (dk_at dksX4_neighbour_1 13 rfl rfl)
theorem dX4_neighbour_37 : decode cX4_neighbour 37 = .ok (.invokestatic 289, 3) := dk_184 1 33 (dk_at dksX4_neighbour_1 15 rfl rfl)
theorem dX4_neighbour_40 : decode cX4_neighbour 40 = .ok (.ifCond .ne 6, 3) := dk_154 0 6 (dk_at dksX4_neighbour_1 18 rfl rfl)
theorem dX4_neighbour_43 : decode cX4_neighbour 43 = .ok (.goto 13, 3) := dk_167 0 13 (dk_at dksX4_neighbour_1 21 rfl rfl)
theorem dX4_neighbour_46 : decode cX4_neighbour 46 = .ok (.iload_n 3, 1) := dk_29 (dk_at dksX4_neighbour_2 0 rfl rfl)
theorem dX4_neighbour_47 : decode cX4_neighbour 47 = .ok (.ifCond .ne 6, 3) := dk_154 0 6 (dk_at dksX4_neighbour_2 1 rfl rfl)
theorem dX4_neighbour_50 : decode cX4_neighbour 50 = .ok (.iload 4, 2) := dk_21 4 (dk_at dksX4_neighbour_2 4 rfl rfl)
theorem dX4_neighbour_52 : decode cX4_neighbour 52 = .ok (.ireturn, 1) := dk_172 (dk_at dksX4_neighbour_2 6 rfl rfl)
theorem dX4_neighbour_53 : decode cX4_neighbour 53 = .ok (.iinc 3 (-1), 3) := dk_132 3 255 (dk_at dksX4_neighbour_2 7 rfl rfl)
theorem dX4_neighbour_56 : decode cX4_neighbour 56 = .ok (.iinc 4 1, 3) := dk_132 4 1 (dk_at dksX4_neighbour_2 10 rfl rfl)
theorem dX4_neighbour_59 : decode cX4_neighbour 59 = .ok (.goto (-40), 3) := dk_167 255 216 (dk_at dksX4_neighbour_2 13 rfl rfl)
theorem dX4_neighbour_62 : decode cX4_neighbour 62 = .ok (.bipush (-2), 2) := dk_16 254 (dk_at dksX4_neighbour_2 16 rfl rfl)
theorem dX4_neighbour_64 : decode cX4_neighbour 64 = .ok (.ireturn, 1) := dk_172 (dk_at dksX4_neighbour_2 18 rfl rfl)
abbrev cX4_edge : ByteArray := prog_20_method_111_code
def yX4_edge : MethodName := ⟨RX4, "edge", "(II)I"⟩
def dkwX4_edge_1 : List UInt8 := [184, 0, 85, 167, 0, 4, 2, 172]
abbrev dktX4_edge_1 : List UInt8 := dkwX4_edge_1 ++ []
def dkwX4_edge_0 : List UInt8 := [42, 27, 182, 0, 240, 153, 0, 23, 42, 28, 182, 0, 240, 153, 0, 15, 42, 180, 0, 7, 27, 28]
abbrev dktX4_edge_0 : List UInt8 := dkwX4_edge_0 ++ dktX4_edge_1
theorem dksX4_edge_0 : cX4_edge.data.toList.drop 0 = dktX4_edge_0 := by decide +kernel
theorem dksX4_edge_1 : cX4_edge.data.toList.drop 22 = dktX4_edge_1 := dk_seg dksX4_edge_0 22 rfl rfl
theorem dX4_edge_0 : decode cX4_edge 0 = .ok (.aload_n 0, 1) := dk_42 (dk_at dksX4_edge_0 0 rfl rfl)
theorem dX4_edge_1 : decode cX4_edge 1 = .ok (.iload_n 1, 1) := dk_27 (dk_at dksX4_edge_0 1 rfl rfl)
theorem dX4_edge_2 : decode cX4_edge 2 = .ok (.invokevirtual 240, 3) := dk_182 0 240 (dk_at dksX4_edge_0 2 rfl rfl)
theorem dX4_edge_5 : decode cX4_edge 5 = .ok (.ifCond .eq 23, 3) := dk_153 0 23 (dk_at dksX4_edge_0 5 rfl rfl)
theorem dX4_edge_8 : decode cX4_edge 8 = .ok (.aload_n 0, 1) := dk_42 (dk_at dksX4_edge_0 8 rfl rfl)
theorem dX4_edge_9 : decode cX4_edge 9 = .ok (.iload_n 2, 1) := dk_28 (dk_at dksX4_edge_0 9 rfl rfl)
theorem dX4_edge_10 : decode cX4_edge 10 = .ok (.invokevirtual 240, 3) := dk_182 0 240 (dk_at dksX4_edge_0 10 rfl rfl)
theorem dX4_edge_13 : decode cX4_edge 13 = .ok (.ifCond .eq 15, 3) := dk_153 0 15 (dk_at dksX4_edge_0 13 rfl rfl)
theorem dX4_edge_16 : decode cX4_edge 16 = .ok (.aload_n 0, 1) := dk_42 (dk_at dksX4_edge_0 16 rfl rfl)
theorem dX4_edge_17 : decode cX4_edge 17 = .ok (.getfield 7, 3) := dk_180 0 7 (dk_at dksX4_edge_0 17 rfl rfl)
theorem dX4_edge_20 : decode cX4_edge 20 = .ok (.iload_n 1, 1) := dk_27 (dk_at dksX4_edge_0 20 rfl rfl)
theorem dX4_edge_21 : decode cX4_edge 21 = .ok (.iload_n 2, 1) := dk_28 (dk_at dksX4_edge_0 21 rfl rfl)
theorem dX4_edge_22 : decode cX4_edge 22 = .ok (.invokestatic 85, 3) := dk_184 0 85 (dk_at dksX4_edge_1 0 rfl rfl)
theorem dX4_edge_25 : decode cX4_edge 25 = .ok (.goto 4, 3) := dk_167 0 4 (dk_at dksX4_edge_1 3 rfl rfl)
theorem dX4_edge_28 : decode cX4_edge 28 = .ok (.iconst (-1), 1) := dk_2 (dk_at dksX4_edge_1 6 rfl rfl)
theorem dX4_edge_29 : decode cX4_edge 29 = .ok (.ireturn, 1) := dk_172 (dk_at dksX4_edge_1 7 rfl rfl)
abbrev cX4_letter : ByteArray := prog_20_method_114_code
def yX4_letter : MethodName := ⟨RX4, "letter", "(II)I"⟩
def dkwX4_letter_2 : List UInt8 := [172]
abbrev dktX4_letter_2 : List UInt8 := dkwX4_letter_2 ++ []
def dkwX4_letter_1 : List UInt8 := [184, 1, 71, 162, 0, 19, 42, 180, 0, 7, 16, 8, 27, 96, 46, 28, 184, 1, 74, 167, 0, 5, 16, 254]
abbrev dktX4_letter_1 : List UInt8 := dkwX4_letter_1 ++ dktX4_letter_2
def dkwX4_letter_0 : List UInt8 := [42, 27, 182, 0, 237, 153, 0, 7, 28, 156, 0, 5, 2, 172, 28, 42, 180, 0, 7, 16, 8, 27, 96, 46]
abbrev dktX4_letter_0 : List UInt8 := dkwX4_letter_0 ++ dktX4_letter_1
theorem dksX4_letter_0 : cX4_letter.data.toList.drop 0 = dktX4_letter_0 := by decide +kernel
theorem dksX4_letter_1 : cX4_letter.data.toList.drop 24 = dktX4_letter_1 := dk_seg dksX4_letter_0 24 rfl rfl
theorem dksX4_letter_2 : cX4_letter.data.toList.drop 48 = dktX4_letter_2 := dk_seg dksX4_letter_1 24 rfl rfl
theorem dX4_letter_0 : decode cX4_letter 0 = .ok (.aload_n 0, 1) := dk_42 (dk_at dksX4_letter_0 0 rfl rfl)
theorem dX4_letter_1 : decode cX4_letter 1 = .ok (.iload_n 1, 1) := dk_27 (dk_at dksX4_letter_0 1 rfl rfl)
theorem dX4_letter_2 : decode cX4_letter 2 = .ok (.invokevirtual 237, 3) := dk_182 0 237 (dk_at dksX4_letter_0 2 rfl rfl)
theorem dX4_letter_5 : decode cX4_letter 5 = .ok (.ifCond .eq 7, 3) := dk_153 0 7 (dk_at dksX4_letter_0 5 rfl rfl)
theorem dX4_letter_8 : decode cX4_letter 8 = .ok (.iload_n 2, 1) := dk_28 (dk_at dksX4_letter_0 8 rfl rfl)
theorem dX4_letter_9 : decode cX4_letter 9 = .ok (.ifCond .ge 5, 3) := dk_156 0 5 (dk_at dksX4_letter_0 9 rfl rfl)
theorem dX4_letter_12 : decode cX4_letter 12 = .ok (.iconst (-1), 1) := dk_2 (dk_at dksX4_letter_0 12 rfl rfl)
theorem dX4_letter_13 : decode cX4_letter 13 = .ok (.ireturn, 1) := dk_172 (dk_at dksX4_letter_0 13 rfl rfl)
theorem dX4_letter_14 : decode cX4_letter 14 = .ok (.iload_n 2, 1) := dk_28 (dk_at dksX4_letter_0 14 rfl rfl)
theorem dX4_letter_15 : decode cX4_letter 15 = .ok (.aload_n 0, 1) := dk_42 (dk_at dksX4_letter_0 15 rfl rfl)
theorem dX4_letter_16 : decode cX4_letter 16 = .ok (.getfield 7, 3) := dk_180 0 7 (dk_at dksX4_letter_0 16 rfl rfl)
theorem dX4_letter_19 : decode cX4_letter 19 = .ok (.bipush 8, 2) := dk_16 8 (dk_at dksX4_letter_0 19 rfl rfl)
theorem dX4_letter_21 : decode cX4_letter 21 = .ok (.iload_n 1, 1) := dk_27 (dk_at dksX4_letter_0 21 rfl rfl)
theorem dX4_letter_22 : decode cX4_letter 22 = .ok (.iadd, 1) := dk_96 (dk_at dksX4_letter_0 22 rfl rfl)
theorem dX4_letter_23 : decode cX4_letter 23 = .ok (.iaload, 1) := dk_46 (dk_at dksX4_letter_0 23 rfl rfl)
theorem dX4_letter_24 : decode cX4_letter 24 = .ok (.invokestatic 327, 3) := dk_184 1 71 (dk_at dksX4_letter_1 0 rfl rfl)
theorem dX4_letter_27 : decode cX4_letter 27 = .ok (.if_icmp .ge 19, 3) := dk_162 0 19 (dk_at dksX4_letter_1 3 rfl rfl)
theorem dX4_letter_30 : decode cX4_letter 30 = .ok (.aload_n 0, 1) := dk_42 (dk_at dksX4_letter_1 6 rfl rfl)
theorem dX4_letter_31 : decode cX4_letter 31 = .ok (.getfield 7, 3) := dk_180 0 7 (dk_at dksX4_letter_1 7 rfl rfl)
theorem dX4_letter_34 : decode cX4_letter 34 = .ok (.bipush 8, 2) := dk_16 8 (dk_at dksX4_letter_1 10 rfl rfl)
theorem dX4_letter_36 : decode cX4_letter 36 = .ok (.iload_n 1, 1) := dk_27 (dk_at dksX4_letter_1 12 rfl rfl)
theorem dX4_letter_37 : decode cX4_letter 37 = .ok (.iadd, 1) := dk_96 (dk_at dksX4_letter_1 13 rfl rfl)
theorem dX4_letter_38 : decode cX4_letter 38 = .ok (.iaload, 1) := dk_46 (dk_at dksX4_letter_1 14 rfl rfl)
theorem dX4_letter_39 : decode cX4_letter 39 = .ok (.iload_n 2, 1) := dk_28 (dk_at dksX4_letter_1 15 rfl rfl)
theorem dX4_letter_40 : decode cX4_letter 40 = .ok (.invokestatic 330, 3) := dk_184 1 74 (dk_at dksX4_letter_1 16 rfl rfl)
theorem dX4_letter_43 : decode cX4_letter 43 = .ok (.goto 5, 3) := dk_167 0 5 (dk_at dksX4_letter_1 19 rfl rfl)
theorem dX4_letter_46 : decode cX4_letter 46 = .ok (.bipush (-2), 2) := dk_16 254 (dk_at dksX4_letter_1 22 rfl rfl)
theorem dX4_letter_48 : decode cX4_letter 48 = .ok (.ireturn, 1) := dk_172 (dk_at dksX4_letter_2 0 rfl rfl)
abbrev cX4_nameSize : ByteArray := prog_20_method_112_code
def yX4_nameSize : MethodName := ⟨RX4, "nameSize", "(I)I"⟩
def dkwX4_nameSize_0 : List UInt8 := [3, 60, 26, 61, 28, 158, 0, 14, 132, 1, 1, 28, 16, 27, 108, 61, 167, 255, 244, 27, 172]
abbrev dktX4_nameSize_0 : List UInt8 := dkwX4_nameSize_0 ++ []
theorem dksX4_nameSize_0 : cX4_nameSize.data.toList.drop 0 = dktX4_nameSize_0 := by decide +kernel
theorem dX4_nameSize_0 : decode cX4_nameSize 0 = .ok (.iconst 0, 1) := dk_3 (dk_at dksX4_nameSize_0 0 rfl rfl)
theorem dX4_nameSize_1 : decode cX4_nameSize 1 = .ok (.istore_n 1, 1) := dk_60 (dk_at dksX4_nameSize_0 1 rfl rfl)
theorem dX4_nameSize_2 : decode cX4_nameSize 2 = .ok (.iload_n 0, 1) := dk_26 (dk_at dksX4_nameSize_0 2 rfl rfl)
theorem dX4_nameSize_3 : decode cX4_nameSize 3 = .ok (.istore_n 2, 1) := dk_61 (dk_at dksX4_nameSize_0 3 rfl rfl)
theorem dX4_nameSize_4 : decode cX4_nameSize 4 = .ok (.iload_n 2, 1) := dk_28 (dk_at dksX4_nameSize_0 4 rfl rfl)
theorem dX4_nameSize_5 : decode cX4_nameSize 5 = .ok (.ifCond .le 14, 3) := dk_158 0 14 (dk_at dksX4_nameSize_0 5 rfl rfl)
theorem dX4_nameSize_8 : decode cX4_nameSize 8 = .ok (.iinc 1 1, 3) := dk_132 1 1 (dk_at dksX4_nameSize_0 8 rfl rfl)
theorem dX4_nameSize_11 : decode cX4_nameSize 11 = .ok (.iload_n 2, 1) := dk_28 (dk_at dksX4_nameSize_0 11 rfl rfl)
theorem dX4_nameSize_12 : decode cX4_nameSize 12 = .ok (.bipush 27, 2) := dk_16 27 (dk_at dksX4_nameSize_0 12 rfl rfl)
theorem dX4_nameSize_14 : decode cX4_nameSize 14 = .ok (.idiv, 1) := dk_108 (dk_at dksX4_nameSize_0 14 rfl rfl)
theorem dX4_nameSize_15 : decode cX4_nameSize 15 = .ok (.istore_n 2, 1) := dk_61 (dk_at dksX4_nameSize_0 15 rfl rfl)
theorem dX4_nameSize_16 : decode cX4_nameSize 16 = .ok (.goto (-12), 3) := dk_167 255 244 (dk_at dksX4_nameSize_0 16 rfl rfl)
theorem dX4_nameSize_19 : decode cX4_nameSize 19 = .ok (.iload_n 1, 1) := dk_27 (dk_at dksX4_nameSize_0 19 rfl rfl)
theorem dX4_nameSize_20 : decode cX4_nameSize 20 = .ok (.ireturn, 1) := dk_172 (dk_at dksX4_nameSize_0 20 rfl rfl)
abbrev cX4_letterOf : ByteArray := prog_20_method_113_code
def yX4_letterOf : MethodName := ⟨RX4, "letterOf", "(II)I"⟩
def dkwX4_letterOf_1 : List UInt8 := [167, 255, 243, 28, 16, 27, 112, 172]
abbrev dktX4_letterOf_1 : List UInt8 := dkwX4_letterOf_1 ++ []
def dkwX4_letterOf_0 : List UInt8 := [26, 61, 26, 184, 1, 71, 4, 100, 62, 29, 27, 164, 0, 14, 28, 16, 27, 108, 61, 132, 3, 255]
abbrev dktX4_letterOf_0 : List UInt8 := dkwX4_letterOf_0 ++ dktX4_letterOf_1
theorem dksX4_letterOf_0 : cX4_letterOf.data.toList.drop 0 = dktX4_letterOf_0 := by decide +kernel
theorem dksX4_letterOf_1 : cX4_letterOf.data.toList.drop 22 = dktX4_letterOf_1 := dk_seg dksX4_letterOf_0 22 rfl rfl
theorem dX4_letterOf_0 : decode cX4_letterOf 0 = .ok (.iload_n 0, 1) := dk_26 (dk_at dksX4_letterOf_0 0 rfl rfl)
theorem dX4_letterOf_1 : decode cX4_letterOf 1 = .ok (.istore_n 2, 1) := dk_61 (dk_at dksX4_letterOf_0 1 rfl rfl)
theorem dX4_letterOf_2 : decode cX4_letterOf 2 = .ok (.iload_n 0, 1) := dk_26 (dk_at dksX4_letterOf_0 2 rfl rfl)
theorem dX4_letterOf_3 : decode cX4_letterOf 3 = .ok (.invokestatic 327, 3) := dk_184 1 71 (dk_at dksX4_letterOf_0 3 rfl rfl)
theorem dX4_letterOf_6 : decode cX4_letterOf 6 = .ok (.iconst 1, 1) := dk_4 (dk_at dksX4_letterOf_0 6 rfl rfl)
theorem dX4_letterOf_7 : decode cX4_letterOf 7 = .ok (.isub, 1) := dk_100 (dk_at dksX4_letterOf_0 7 rfl rfl)
theorem dX4_letterOf_8 : decode cX4_letterOf 8 = .ok (.istore_n 3, 1) := dk_62 (dk_at dksX4_letterOf_0 8 rfl rfl)
theorem dX4_letterOf_9 : decode cX4_letterOf 9 = .ok (.iload_n 3, 1) := dk_29 (dk_at dksX4_letterOf_0 9 rfl rfl)
theorem dX4_letterOf_10 : decode cX4_letterOf 10 = .ok (.iload_n 1, 1) := dk_27 (dk_at dksX4_letterOf_0 10 rfl rfl)
theorem dX4_letterOf_11 : decode cX4_letterOf 11 = .ok (.if_icmp .le 14, 3) := dk_164 0 14 (dk_at dksX4_letterOf_0 11 rfl rfl)
theorem dX4_letterOf_14 : decode cX4_letterOf 14 = .ok (.iload_n 2, 1) := dk_28 (dk_at dksX4_letterOf_0 14 rfl rfl)
theorem dX4_letterOf_15 : decode cX4_letterOf 15 = .ok (.bipush 27, 2) := dk_16 27 (dk_at dksX4_letterOf_0 15 rfl rfl)
theorem dX4_letterOf_17 : decode cX4_letterOf 17 = .ok (.idiv, 1) := dk_108 (dk_at dksX4_letterOf_0 17 rfl rfl)
theorem dX4_letterOf_18 : decode cX4_letterOf 18 = .ok (.istore_n 2, 1) := dk_61 (dk_at dksX4_letterOf_0 18 rfl rfl)
theorem dX4_letterOf_19 : decode cX4_letterOf 19 = .ok (.iinc 3 (-1), 3) := dk_132 3 255 (dk_at dksX4_letterOf_0 19 rfl rfl)
theorem dX4_letterOf_22 : decode cX4_letterOf 22 = .ok (.goto (-13), 3) := dk_167 255 243 (dk_at dksX4_letterOf_1 0 rfl rfl)
theorem dX4_letterOf_25 : decode cX4_letterOf 25 = .ok (.iload_n 2, 1) := dk_28 (dk_at dksX4_letterOf_1 3 rfl rfl)
theorem dX4_letterOf_26 : decode cX4_letterOf 26 = .ok (.bipush 27, 2) := dk_16 27 (dk_at dksX4_letterOf_1 4 rfl rfl)
theorem dX4_letterOf_28 : decode cX4_letterOf 28 = .ok (.irem, 1) := dk_112 (dk_at dksX4_letterOf_1 6 rfl rfl)
theorem dX4_letterOf_29 : decode cX4_letterOf 29 = .ok (.ireturn, 1) := dk_172 (dk_at dksX4_letterOf_1 7 rfl rfl)
abbrev cX4_owned : ByteArray := prog_20_method_116_code
def yX4_owned : MethodName := ⟨RX4, "owned", "(II)I"⟩
def dkwX4_owned_1 : List UInt8 := [42, 27, 182, 1, 45, 167, 0, 9, 42, 27, 28, 182, 1, 77, 172]
abbrev dktX4_owned_1 : List UInt8 := dkwX4_owned_1 ++ []
def dkwX4_owned_0 : List UInt8 := [42, 27, 182, 0, 237, 153, 0, 12, 28, 3, 6, 184, 0, 54, 154, 0, 5, 2, 172, 28, 6, 160, 0, 11]
abbrev dktX4_owned_0 : List UInt8 := dkwX4_owned_0 ++ dktX4_owned_1
theorem dksX4_owned_0 : cX4_owned.data.toList.drop 0 = dktX4_owned_0 := by decide +kernel
theorem dksX4_owned_1 : cX4_owned.data.toList.drop 24 = dktX4_owned_1 := dk_seg dksX4_owned_0 24 rfl rfl
theorem dX4_owned_0 : decode cX4_owned 0 = .ok (.aload_n 0, 1) := dk_42 (dk_at dksX4_owned_0 0 rfl rfl)
theorem dX4_owned_1 : decode cX4_owned 1 = .ok (.iload_n 1, 1) := dk_27 (dk_at dksX4_owned_0 1 rfl rfl)
theorem dX4_owned_2 : decode cX4_owned 2 = .ok (.invokevirtual 237, 3) := dk_182 0 237 (dk_at dksX4_owned_0 2 rfl rfl)
theorem dX4_owned_5 : decode cX4_owned 5 = .ok (.ifCond .eq 12, 3) := dk_153 0 12 (dk_at dksX4_owned_0 5 rfl rfl)
theorem dX4_owned_8 : decode cX4_owned 8 = .ok (.iload_n 2, 1) := dk_28 (dk_at dksX4_owned_0 8 rfl rfl)
theorem dX4_owned_9 : decode cX4_owned 9 = .ok (.iconst 0, 1) := dk_3 (dk_at dksX4_owned_0 9 rfl rfl)
theorem dX4_owned_10 : decode cX4_owned 10 = .ok (.iconst 3, 1) := dk_6 (dk_at dksX4_owned_0 10 rfl rfl)
theorem dX4_owned_11 : decode cX4_owned 11 = .ok (.invokestatic 54, 3) := dk_184 0 54 (dk_at dksX4_owned_0 11 rfl rfl)
theorem dX4_owned_14 : decode cX4_owned 14 = .ok (.ifCond .ne 5, 3) := dk_154 0 5 (dk_at dksX4_owned_0 14 rfl rfl)
theorem dX4_owned_17 : decode cX4_owned 17 = .ok (.iconst (-1), 1) := dk_2 (dk_at dksX4_owned_0 17 rfl rfl)
theorem dX4_owned_18 : decode cX4_owned 18 = .ok (.ireturn, 1) := dk_172 (dk_at dksX4_owned_0 18 rfl rfl)
theorem dX4_owned_19 : decode cX4_owned 19 = .ok (.iload_n 2, 1) := dk_28 (dk_at dksX4_owned_0 19 rfl rfl)
theorem dX4_owned_20 : decode cX4_owned 20 = .ok (.iconst 3, 1) := dk_6 (dk_at dksX4_owned_0 20 rfl rfl)
theorem dX4_owned_21 : decode cX4_owned 21 = .ok (.if_icmp .ne 11, 3) := dk_160 0 11 (dk_at dksX4_owned_0 21 rfl rfl)
theorem dX4_owned_24 : decode cX4_owned 24 = .ok (.aload_n 0, 1) := dk_42 (dk_at dksX4_owned_1 0 rfl rfl)
theorem dX4_owned_25 : decode cX4_owned 25 = .ok (.iload_n 1, 1) := dk_27 (dk_at dksX4_owned_1 1 rfl rfl)
theorem dX4_owned_26 : decode cX4_owned 26 = .ok (.invokevirtual 301, 3) := dk_182 1 45 (dk_at dksX4_owned_1 2 rfl rfl)
theorem dX4_owned_29 : decode cX4_owned 29 = .ok (.goto 9, 3) := dk_167 0 9 (dk_at dksX4_owned_1 5 rfl rfl)
theorem dX4_owned_32 : decode cX4_owned 32 = .ok (.aload_n 0, 1) := dk_42 (dk_at dksX4_owned_1 8 rfl rfl)
theorem dX4_owned_33 : decode cX4_owned 33 = .ok (.iload_n 1, 1) := dk_27 (dk_at dksX4_owned_1 9 rfl rfl)
theorem dX4_owned_34 : decode cX4_owned 34 = .ok (.iload_n 2, 1) := dk_28 (dk_at dksX4_owned_1 10 rfl rfl)
theorem dX4_owned_35 : decode cX4_owned 35 = .ok (.invokevirtual 333, 3) := dk_182 1 77 (dk_at dksX4_owned_1 11 rfl rfl)
theorem dX4_owned_38 : decode cX4_owned 38 = .ok (.ireturn, 1) := dk_172 (dk_at dksX4_owned_1 14 rfl rfl)
abbrev cX4_ownedOf : ByteArray := prog_20_method_115_code
def yX4_ownedOf : MethodName := ⟨RX4, "ownedOf", "(II)I"⟩
def dkwX4_ownedOf_4 : List UInt8 := [172]
abbrev dktX4_ownedOf_4 : List UInt8 := dkwX4_ownedOf_4 ++ []
def dkwX4_ownedOf_3 : List UInt8 := [158, 0, 17, 28, 153, 0, 10, 21, 5, 16, 12, 160, 0, 6, 132, 3, 1, 132, 4, 1, 167, 255, 173, 29]
abbrev dktX4_ownedOf_3 : List UInt8 := dkwX4_ownedOf_3 ++ dktX4_ownedOf_4
def dkwX4_ownedOf_2 : List UInt8 := [160, 0, 21, 29, 42, 180, 0, 7, 21, 4, 184, 0, 69, 21, 5, 104, 96, 62, 167, 0, 22, 21, 5]
abbrev dktX4_ownedOf_2 : List UInt8 := dkwX4_ownedOf_2 ++ dktX4_ownedOf_3
def dkwX4_ownedOf_1 : List UInt8 := [184, 0, 73, 154, 0, 6, 167, 0, 57, 42, 180, 0, 7, 21, 4, 27, 184, 0, 92, 54, 5, 28, 4]
abbrev dktX4_ownedOf_1 : List UInt8 := dkwX4_ownedOf_1 ++ dktX4_ownedOf_2
def dkwX4_ownedOf_0 : List UInt8 := [3, 62, 3, 54, 4, 21, 4, 42, 180, 0, 7, 8, 46, 162, 0, 78, 42, 180, 0, 7, 21, 4]
abbrev dktX4_ownedOf_0 : List UInt8 := dkwX4_ownedOf_0 ++ dktX4_ownedOf_1
theorem dksX4_ownedOf_0 : cX4_ownedOf.data.toList.drop 0 = dktX4_ownedOf_0 := by decide +kernel
theorem dksX4_ownedOf_1 : cX4_ownedOf.data.toList.drop 22 = dktX4_ownedOf_1 := dk_seg dksX4_ownedOf_0 22 rfl rfl
theorem dksX4_ownedOf_2 : cX4_ownedOf.data.toList.drop 45 = dktX4_ownedOf_2 := dk_seg dksX4_ownedOf_1 23 rfl rfl
theorem dksX4_ownedOf_3 : cX4_ownedOf.data.toList.drop 68 = dktX4_ownedOf_3 := dk_seg dksX4_ownedOf_2 23 rfl rfl
theorem dksX4_ownedOf_4 : cX4_ownedOf.data.toList.drop 92 = dktX4_ownedOf_4 := dk_seg dksX4_ownedOf_3 24 rfl rfl
theorem dX4_ownedOf_0 : decode cX4_ownedOf 0 = .ok (.iconst 0, 1) := dk_3 (dk_at dksX4_ownedOf_0 0 rfl rfl)
theorem dX4_ownedOf_1 : decode cX4_ownedOf 1 = .ok (.istore_n 3, 1) := dk_62 (dk_at dksX4_ownedOf_0 1 rfl rfl)
theorem dX4_ownedOf_2 : decode cX4_ownedOf 2 = .ok (.iconst 0, 1) := dk_3 (dk_at dksX4_ownedOf_0 2 rfl rfl)
theorem dX4_ownedOf_3 : decode cX4_ownedOf 3 = .ok (.istore 4, 2) := dk_54 4 (dk_at dksX4_ownedOf_0 3 rfl rfl)
theorem dX4_ownedOf_5 : decode cX4_ownedOf 5 = .ok (.iload 4, 2) := dk_21 4 (dk_at dksX4_ownedOf_0 5 rfl rfl)
theorem dX4_ownedOf_7 : decode cX4_ownedOf 7 = .ok (.aload_n 0, 1) := dk_42 (dk_at dksX4_ownedOf_0 7 rfl rfl)
theorem dX4_ownedOf_8 : decode cX4_ownedOf 8 = .ok (.getfield 7, 3) := dk_180 0 7 (dk_at dksX4_ownedOf_0 8 rfl rfl)
theorem dX4_ownedOf_11 : decode cX4_ownedOf 11 = .ok (.iconst 5, 1) := dk_8 (dk_at dksX4_ownedOf_0 11 rfl rfl)
theorem dX4_ownedOf_12 : decode cX4_ownedOf 12 = .ok (.iaload, 1) := dk_46 (dk_at dksX4_ownedOf_0 12 rfl rfl)
theorem dX4_ownedOf_13 : decode cX4_ownedOf 13 = .ok (.if_icmp .ge 78, 3) := dk_162 0 78 (dk_at dksX4_ownedOf_0 13 rfl rfl)
theorem dX4_ownedOf_16 : decode cX4_ownedOf 16 = .ok (.aload_n 0, 1) := dk_42 (dk_at dksX4_ownedOf_0 16 rfl rfl)
theorem dX4_ownedOf_17 : decode cX4_ownedOf 17 = .ok (.getfield 7, 3) := dk_180 0 7 (dk_at dksX4_ownedOf_0 17 rfl rfl)
theorem dX4_ownedOf_20 : decode cX4_ownedOf 20 = .ok (.iload 4, 2) := dk_21 4 (dk_at dksX4_ownedOf_0 20 rfl rfl)
theorem dX4_ownedOf_22 : decode cX4_ownedOf 22 = .ok (.invokestatic 73, 3) := dk_184 0 73 (dk_at dksX4_ownedOf_1 0 rfl rfl)
theorem dX4_ownedOf_25 : decode cX4_ownedOf 25 = .ok (.ifCond .ne 6, 3) := dk_154 0 6 (dk_at dksX4_ownedOf_1 3 rfl rfl)
theorem dX4_ownedOf_28 : decode cX4_ownedOf 28 = .ok (.goto 57, 3) := dk_167 0 57 (dk_at dksX4_ownedOf_1 6 rfl rfl)
theorem dX4_ownedOf_31 : decode cX4_ownedOf 31 = .ok (.aload_n 0, 1) := dk_42 (dk_at dksX4_ownedOf_1 9 rfl rfl)
theorem dX4_ownedOf_32 : decode cX4_ownedOf 32 = .ok (.getfield 7, 3) := dk_180 0 7 (dk_at dksX4_ownedOf_1 10 rfl rfl)
theorem dX4_ownedOf_35 : decode cX4_ownedOf 35 = .ok (.iload 4, 2) := dk_21 4 (dk_at dksX4_ownedOf_1 13 rfl rfl)
theorem dX4_ownedOf_37 : decode cX4_ownedOf 37 = .ok (.iload_n 1, 1) := dk_27 (dk_at dksX4_ownedOf_1 15 rfl rfl)
theorem dX4_ownedOf_38 : decode cX4_ownedOf 38 = .ok (.invokestatic 92, 3) := dk_184 0 92 (dk_at dksX4_ownedOf_1 16 rfl rfl)
theorem dX4_ownedOf_41 : decode cX4_ownedOf 41 = .ok (.istore 5, 2) := dk_54 5 (dk_at dksX4_ownedOf_1 19 rfl rfl)
theorem dX4_ownedOf_43 : decode cX4_ownedOf 43 = .ok (.iload_n 2, 1) := dk_28 (dk_at dksX4_ownedOf_1 21 rfl rfl)
theorem dX4_ownedOf_44 : decode cX4_ownedOf 44 = .ok (.iconst 1, 1) := dk_4 (dk_at dksX4_ownedOf_1 22 rfl rfl)
theorem dX4_ownedOf_45 : decode cX4_ownedOf 45 = .ok (.if_icmp .ne 21, 3) := dk_160 0 21 (dk_at dksX4_ownedOf_2 0 rfl rfl)
theorem dX4_ownedOf_48 : decode cX4_ownedOf 48 = .ok (.iload_n 3, 1) := dk_29 (dk_at dksX4_ownedOf_2 3 rfl rfl)
theorem dX4_ownedOf_49 : decode cX4_ownedOf 49 = .ok (.aload_n 0, 1) := dk_42 (dk_at dksX4_ownedOf_2 4 rfl rfl)
theorem dX4_ownedOf_50 : decode cX4_ownedOf 50 = .ok (.getfield 7, 3) := dk_180 0 7 (dk_at dksX4_ownedOf_2 5 rfl rfl)
theorem dX4_ownedOf_53 : decode cX4_ownedOf 53 = .ok (.iload 4, 2) := dk_21 4 (dk_at dksX4_ownedOf_2 8 rfl rfl)
theorem dX4_ownedOf_55 : decode cX4_ownedOf 55 = .ok (.invokestatic 69, 3) := dk_184 0 69 (dk_at dksX4_ownedOf_2 10 rfl rfl)
theorem dX4_ownedOf_58 : decode cX4_ownedOf 58 = .ok (.iload 5, 2) := dk_21 5 (dk_at dksX4_ownedOf_2 13 rfl rfl)
theorem dX4_ownedOf_60 : decode cX4_ownedOf 60 = .ok (.imul, 1) := dk_104 (dk_at dksX4_ownedOf_2 15 rfl rfl)
theorem dX4_ownedOf_61 : decode cX4_ownedOf 61 = .ok (.iadd, 1) := dk_96 (dk_at dksX4_ownedOf_2 16 rfl rfl)
theorem dX4_ownedOf_62 : decode cX4_ownedOf 62 = .ok (.istore_n 3, 1) := dk_62 (dk_at dksX4_ownedOf_2 17 rfl rfl)
theorem dX4_ownedOf_63 : decode cX4_ownedOf 63 = .ok (.goto 22, 3) := dk_167 0 22 (dk_at dksX4_ownedOf_2 18 rfl rfl)
theorem dX4_ownedOf_66 : decode cX4_ownedOf 66 = .ok (.iload 5, 2) := dk_21 5 (dk_at dksX4_ownedOf_2 21 rfl rfl)
theorem dX4_ownedOf_68 : decode cX4_ownedOf 68 = .ok (.ifCond .le 17, 3) := dk_158 0 17 (dk_at dksX4_ownedOf_3 0 rfl rfl)
theorem dX4_ownedOf_71 : decode cX4_ownedOf 71 = .ok (.iload_n 2, 1) := dk_28 (dk_at dksX4_ownedOf_3 3 rfl rfl)
theorem dX4_ownedOf_72 : decode cX4_ownedOf 72 = .ok (.ifCond .eq 10, 3) := dk_153 0 10 (dk_at dksX4_ownedOf_3 4 rfl rfl)
theorem dX4_ownedOf_75 : decode cX4_ownedOf 75 = .ok (.iload 5, 2) := dk_21 5 (dk_at dksX4_ownedOf_3 7 rfl rfl)
theorem dX4_ownedOf_77 : decode cX4_ownedOf 77 = .ok (.bipush 12, 2) := dk_16 12 (dk_at dksX4_ownedOf_3 9 rfl rfl)
theorem dX4_ownedOf_79 : decode cX4_ownedOf 79 = .ok (.if_icmp .ne 6, 3) := dk_160 0 6 (dk_at dksX4_ownedOf_3 11 rfl rfl)
theorem dX4_ownedOf_82 : decode cX4_ownedOf 82 = .ok (.iinc 3 1, 3) := dk_132 3 1 (dk_at dksX4_ownedOf_3 14 rfl rfl)
theorem dX4_ownedOf_85 : decode cX4_ownedOf 85 = .ok (.iinc 4 1, 3) := dk_132 4 1 (dk_at dksX4_ownedOf_3 17 rfl rfl)
theorem dX4_ownedOf_88 : decode cX4_ownedOf 88 = .ok (.goto (-83), 3) := dk_167 255 173 (dk_at dksX4_ownedOf_3 20 rfl rfl)
theorem dX4_ownedOf_91 : decode cX4_ownedOf 91 = .ok (.iload_n 3, 1) := dk_29 (dk_at dksX4_ownedOf_3 23 rfl rfl)
theorem dX4_ownedOf_92 : decode cX4_ownedOf 92 = .ok (.ireturn, 1) := dk_172 (dk_at dksX4_ownedOf_4 0 rfl rfl)
abbrev cX4_richest : ByteArray := prog_20_method_117_code
def yX4_richest : MethodName := ⟨RX4, "richest", "()I"⟩
def dkwX4_richest_1 : List UInt8 := [182, 1, 77, 164, 0, 5, 28, 60, 132, 2, 1, 167, 255, 226, 27, 172]
abbrev dktX4_richest_1 : List UInt8 := dkwX4_richest_1 ++ []
def dkwX4_richest_0 : List UInt8 := [3, 60, 4, 61, 28, 42, 180, 0, 7, 7, 46, 162, 0, 26, 42, 28, 4, 182, 1, 77, 42, 27, 4]
abbrev dktX4_richest_0 : List UInt8 := dkwX4_richest_0 ++ dktX4_richest_1
theorem dksX4_richest_0 : cX4_richest.data.toList.drop 0 = dktX4_richest_0 := by decide +kernel
theorem dksX4_richest_1 : cX4_richest.data.toList.drop 23 = dktX4_richest_1 := dk_seg dksX4_richest_0 23 rfl rfl
theorem dX4_richest_0 : decode cX4_richest 0 = .ok (.iconst 0, 1) := dk_3 (dk_at dksX4_richest_0 0 rfl rfl)
theorem dX4_richest_1 : decode cX4_richest 1 = .ok (.istore_n 1, 1) := dk_60 (dk_at dksX4_richest_0 1 rfl rfl)
theorem dX4_richest_2 : decode cX4_richest 2 = .ok (.iconst 1, 1) := dk_4 (dk_at dksX4_richest_0 2 rfl rfl)
theorem dX4_richest_3 : decode cX4_richest 3 = .ok (.istore_n 2, 1) := dk_61 (dk_at dksX4_richest_0 3 rfl rfl)
theorem dX4_richest_4 : decode cX4_richest 4 = .ok (.iload_n 2, 1) := dk_28 (dk_at dksX4_richest_0 4 rfl rfl)
theorem dX4_richest_5 : decode cX4_richest 5 = .ok (.aload_n 0, 1) := dk_42 (dk_at dksX4_richest_0 5 rfl rfl)
theorem dX4_richest_6 : decode cX4_richest 6 = .ok (.getfield 7, 3) := dk_180 0 7 (dk_at dksX4_richest_0 6 rfl rfl)
theorem dX4_richest_9 : decode cX4_richest 9 = .ok (.iconst 4, 1) := dk_7 (dk_at dksX4_richest_0 9 rfl rfl)
theorem dX4_richest_10 : decode cX4_richest 10 = .ok (.iaload, 1) := dk_46 (dk_at dksX4_richest_0 10 rfl rfl)
theorem dX4_richest_11 : decode cX4_richest 11 = .ok (.if_icmp .ge 26, 3) := dk_162 0 26 (dk_at dksX4_richest_0 11 rfl rfl)
theorem dX4_richest_14 : decode cX4_richest 14 = .ok (.aload_n 0, 1) := dk_42 (dk_at dksX4_richest_0 14 rfl rfl)
theorem dX4_richest_15 : decode cX4_richest 15 = .ok (.iload_n 2, 1) := dk_28 (dk_at dksX4_richest_0 15 rfl rfl)
theorem dX4_richest_16 : decode cX4_richest 16 = .ok (.iconst 1, 1) := dk_4 (dk_at dksX4_richest_0 16 rfl rfl)
theorem dX4_richest_17 : decode cX4_richest 17 = .ok (.invokevirtual 333, 3) := dk_182 1 77 (dk_at dksX4_richest_0 17 rfl rfl)
theorem dX4_richest_20 : decode cX4_richest 20 = .ok (.aload_n 0, 1) := dk_42 (dk_at dksX4_richest_0 20 rfl rfl)
theorem dX4_richest_21 : decode cX4_richest 21 = .ok (.iload_n 1, 1) := dk_27 (dk_at dksX4_richest_0 21 rfl rfl)
theorem dX4_richest_22 : decode cX4_richest 22 = .ok (.iconst 1, 1) := dk_4 (dk_at dksX4_richest_0 22 rfl rfl)
theorem dX4_richest_23 : decode cX4_richest 23 = .ok (.invokevirtual 333, 3) := dk_182 1 77 (dk_at dksX4_richest_1 0 rfl rfl)
theorem dX4_richest_26 : decode cX4_richest 26 = .ok (.if_icmp .le 5, 3) := dk_164 0 5 (dk_at dksX4_richest_1 3 rfl rfl)
theorem dX4_richest_29 : decode cX4_richest 29 = .ok (.iload_n 2, 1) := dk_28 (dk_at dksX4_richest_1 6 rfl rfl)
theorem dX4_richest_30 : decode cX4_richest 30 = .ok (.istore_n 1, 1) := dk_60 (dk_at dksX4_richest_1 7 rfl rfl)
theorem dX4_richest_31 : decode cX4_richest 31 = .ok (.iinc 2 1, 3) := dk_132 2 1 (dk_at dksX4_richest_1 8 rfl rfl)
theorem dX4_richest_34 : decode cX4_richest 34 = .ok (.goto (-30), 3) := dk_167 255 226 (dk_at dksX4_richest_1 11 rfl rfl)
theorem dX4_richest_37 : decode cX4_richest 37 = .ok (.iload_n 1, 1) := dk_27 (dk_at dksX4_richest_1 14 rfl rfl)
theorem dX4_richest_38 : decode cX4_richest 38 = .ok (.ireturn, 1) := dk_172 (dk_at dksX4_richest_1 15 rfl rfl)
abbrev cX4_burden : ByteArray := prog_20_method_118_code
def yX4_burden : MethodName := ⟨RX4, "burden", "(II)I"⟩
def dkwX4_burden_4 : List UInt8 := [180, 0, 7, 27, 8, 184, 0, 101, 46, 172, 2, 172]
abbrev dktX4_burden_4 : List UInt8 := dkwX4_burden_4 ++ []
def dkwX4_burden_3 : List UInt8 := [27, 184, 0, 108, 153, 0, 8, 16, 254, 167, 0, 13, 42, 180, 0, 7, 27, 16, 254, 184, 0, 120, 172, 42]
abbrev dktX4_burden_3 : List UInt8 := dkwX4_burden_3 ++ dktX4_burden_4
def dkwX4_burden_2 : List UInt8 := [42, 180, 0, 7, 27, 28, 184, 0, 101, 46, 172, 42, 180, 0, 7, 27, 184, 1, 24, 172, 42, 180, 0, 7]
abbrev dktX4_burden_2 : List UInt8 := dkwX4_burden_2 ++ dktX4_burden_3
def dkwX4_burden_1 : List UInt8 := [170, 0, 0, 0, 103, 0, 0, 0, 0, 0, 0, 0, 7, 0, 0, 0, 45, 0, 0, 0, 45, 0, 0, 0, 45, 0, 0, 0, 45, 0, 0, 0, 45, 0, 0, 0, 56, 0, 0, 0, 65, 0, 0, 0, 92]
abbrev dktX4_burden_1 : List UInt8 := dkwX4_burden_1 ++ dktX4_burden_2
def dkwX4_burden_0 : List UInt8 := [42, 27, 182, 1, 18, 154, 0, 5, 2, 172, 28]
abbrev dktX4_burden_0 : List UInt8 := dkwX4_burden_0 ++ dktX4_burden_1
theorem dksX4_burden_0 : cX4_burden.data.toList.drop 0 = dktX4_burden_0 := by decide +kernel
theorem dksX4_burden_1 : cX4_burden.data.toList.drop 11 = dktX4_burden_1 := dk_seg dksX4_burden_0 11 rfl rfl
theorem dksX4_burden_2 : cX4_burden.data.toList.drop 56 = dktX4_burden_2 := dk_seg dksX4_burden_1 45 rfl rfl
theorem dksX4_burden_3 : cX4_burden.data.toList.drop 80 = dktX4_burden_3 := dk_seg dksX4_burden_2 24 rfl rfl
theorem dksX4_burden_4 : cX4_burden.data.toList.drop 104 = dktX4_burden_4 := dk_seg dksX4_burden_3 24 rfl rfl
theorem dX4_burden_0 : decode cX4_burden 0 = .ok (.aload_n 0, 1) := dk_42 (dk_at dksX4_burden_0 0 rfl rfl)
theorem dX4_burden_1 : decode cX4_burden 1 = .ok (.iload_n 1, 1) := dk_27 (dk_at dksX4_burden_0 1 rfl rfl)
theorem dX4_burden_2 : decode cX4_burden 2 = .ok (.invokevirtual 274, 3) := dk_182 1 18 (dk_at dksX4_burden_0 2 rfl rfl)
theorem dX4_burden_5 : decode cX4_burden 5 = .ok (.ifCond .ne 5, 3) := dk_154 0 5 (dk_at dksX4_burden_0 5 rfl rfl)
theorem dX4_burden_8 : decode cX4_burden 8 = .ok (.iconst (-1), 1) := dk_2 (dk_at dksX4_burden_0 8 rfl rfl)
theorem dX4_burden_9 : decode cX4_burden 9 = .ok (.ireturn, 1) := dk_172 (dk_at dksX4_burden_0 9 rfl rfl)
theorem dX4_burden_10 : decode cX4_burden 10 = .ok (.iload_n 2, 1) := dk_28 (dk_at dksX4_burden_0 10 rfl rfl)
theorem dX4_burden_11 : decode cX4_burden 11 = .ok (.tableswitch 103 0 7 #[45, 45, 45, 45, 45, 56, 65, 92], 45) := by decide +kernel
theorem dX4_burden_56 : decode cX4_burden 56 = .ok (.aload_n 0, 1) := dk_42 (dk_at dksX4_burden_2 0 rfl rfl)
theorem dX4_burden_57 : decode cX4_burden 57 = .ok (.getfield 7, 3) := dk_180 0 7 (dk_at dksX4_burden_2 1 rfl rfl)
theorem dX4_burden_60 : decode cX4_burden 60 = .ok (.iload_n 1, 1) := dk_27 (dk_at dksX4_burden_2 4 rfl rfl)
theorem dX4_burden_61 : decode cX4_burden 61 = .ok (.iload_n 2, 1) := dk_28 (dk_at dksX4_burden_2 5 rfl rfl)
theorem dX4_burden_62 : decode cX4_burden 62 = .ok (.invokestatic 101, 3) := dk_184 0 101 (dk_at dksX4_burden_2 6 rfl rfl)
theorem dX4_burden_65 : decode cX4_burden 65 = .ok (.iaload, 1) := dk_46 (dk_at dksX4_burden_2 9 rfl rfl)
theorem dX4_burden_66 : decode cX4_burden 66 = .ok (.ireturn, 1) := dk_172 (dk_at dksX4_burden_2 10 rfl rfl)
theorem dX4_burden_67 : decode cX4_burden 67 = .ok (.aload_n 0, 1) := dk_42 (dk_at dksX4_burden_2 11 rfl rfl)
theorem dX4_burden_68 : decode cX4_burden 68 = .ok (.getfield 7, 3) := dk_180 0 7 (dk_at dksX4_burden_2 12 rfl rfl)
theorem dX4_burden_71 : decode cX4_burden 71 = .ok (.iload_n 1, 1) := dk_27 (dk_at dksX4_burden_2 15 rfl rfl)
theorem dX4_burden_72 : decode cX4_burden 72 = .ok (.invokestatic 280, 3) := dk_184 1 24 (dk_at dksX4_burden_2 16 rfl rfl)
theorem dX4_burden_75 : decode cX4_burden 75 = .ok (.ireturn, 1) := dk_172 (dk_at dksX4_burden_2 19 rfl rfl)
theorem dX4_burden_76 : decode cX4_burden 76 = .ok (.aload_n 0, 1) := dk_42 (dk_at dksX4_burden_2 20 rfl rfl)
theorem dX4_burden_77 : decode cX4_burden 77 = .ok (.getfield 7, 3) := dk_180 0 7 (dk_at dksX4_burden_2 21 rfl rfl)
theorem dX4_burden_80 : decode cX4_burden 80 = .ok (.iload_n 1, 1) := dk_27 (dk_at dksX4_burden_3 0 rfl rfl)
theorem dX4_burden_81 : decode cX4_burden 81 = .ok (.invokestatic 108, 3) := dk_184 0 108 (dk_at dksX4_burden_3 1 rfl rfl)
theorem dX4_burden_84 : decode cX4_burden 84 = .ok (.ifCond .eq 8, 3) := dk_153 0 8 (dk_at dksX4_burden_3 4 rfl rfl)
theorem dX4_burden_87 : decode cX4_burden 87 = .ok (.bipush (-2), 2) := dk_16 254 (dk_at dksX4_burden_3 7 rfl rfl)
theorem dX4_burden_89 : decode cX4_burden 89 = .ok (.goto 13, 3) := dk_167 0 13 (dk_at dksX4_burden_3 9 rfl rfl)
theorem dX4_burden_92 : decode cX4_burden 92 = .ok (.aload_n 0, 1) := dk_42 (dk_at dksX4_burden_3 12 rfl rfl)
theorem dX4_burden_93 : decode cX4_burden 93 = .ok (.getfield 7, 3) := dk_180 0 7 (dk_at dksX4_burden_3 13 rfl rfl)
theorem dX4_burden_96 : decode cX4_burden 96 = .ok (.iload_n 1, 1) := dk_27 (dk_at dksX4_burden_3 16 rfl rfl)
theorem dX4_burden_97 : decode cX4_burden 97 = .ok (.bipush (-2), 2) := dk_16 254 (dk_at dksX4_burden_3 17 rfl rfl)
theorem dX4_burden_99 : decode cX4_burden 99 = .ok (.invokestatic 120, 3) := dk_184 0 120 (dk_at dksX4_burden_3 19 rfl rfl)
theorem dX4_burden_102 : decode cX4_burden 102 = .ok (.ireturn, 1) := dk_172 (dk_at dksX4_burden_3 22 rfl rfl)
theorem dX4_burden_103 : decode cX4_burden 103 = .ok (.aload_n 0, 1) := dk_42 (dk_at dksX4_burden_3 23 rfl rfl)
theorem dX4_burden_104 : decode cX4_burden 104 = .ok (.getfield 7, 3) := dk_180 0 7 (dk_at dksX4_burden_4 0 rfl rfl)
theorem dX4_burden_107 : decode cX4_burden 107 = .ok (.iload_n 1, 1) := dk_27 (dk_at dksX4_burden_4 3 rfl rfl)
theorem dX4_burden_108 : decode cX4_burden 108 = .ok (.iconst 5, 1) := dk_8 (dk_at dksX4_burden_4 4 rfl rfl)
theorem dX4_burden_109 : decode cX4_burden 109 = .ok (.invokestatic 101, 3) := dk_184 0 101 (dk_at dksX4_burden_4 5 rfl rfl)
theorem dX4_burden_112 : decode cX4_burden 112 = .ok (.iaload, 1) := dk_46 (dk_at dksX4_burden_4 8 rfl rfl)
theorem dX4_burden_113 : decode cX4_burden 113 = .ok (.ireturn, 1) := dk_172 (dk_at dksX4_burden_4 9 rfl rfl)
theorem dX4_burden_114 : decode cX4_burden 114 = .ok (.iconst (-1), 1) := dk_2 (dk_at dksX4_burden_4 10 rfl rfl)
theorem dX4_burden_115 : decode cX4_burden 115 = .ok (.ireturn, 1) := dk_172 (dk_at dksX4_burden_4 11 rfl rfl)
abbrev cX4_burdenOf : ByteArray := prog_20_method_120_code
def yX4_burdenOf : MethodName := ⟨RX4, "burdenOf", "(II)I"⟩
def dkwX4_burdenOf_0 : List UInt8 := [42, 27, 182, 0, 240, 153, 0, 16, 28, 155, 0, 12, 42, 27, 28, 182, 1, 83, 167, 0, 4, 2, 172]
abbrev dktX4_burdenOf_0 : List UInt8 := dkwX4_burdenOf_0 ++ []
theorem dksX4_burdenOf_0 : cX4_burdenOf.data.toList.drop 0 = dktX4_burdenOf_0 := by decide +kernel
theorem dX4_burdenOf_0 : decode cX4_burdenOf 0 = .ok (.aload_n 0, 1) := dk_42 (dk_at dksX4_burdenOf_0 0 rfl rfl)
theorem dX4_burdenOf_1 : decode cX4_burdenOf 1 = .ok (.iload_n 1, 1) := dk_27 (dk_at dksX4_burdenOf_0 1 rfl rfl)
theorem dX4_burdenOf_2 : decode cX4_burdenOf 2 = .ok (.invokevirtual 240, 3) := dk_182 0 240 (dk_at dksX4_burdenOf_0 2 rfl rfl)
theorem dX4_burdenOf_5 : decode cX4_burdenOf 5 = .ok (.ifCond .eq 16, 3) := dk_153 0 16 (dk_at dksX4_burdenOf_0 5 rfl rfl)
theorem dX4_burdenOf_8 : decode cX4_burdenOf 8 = .ok (.iload_n 2, 1) := dk_28 (dk_at dksX4_burdenOf_0 8 rfl rfl)
theorem dX4_burdenOf_9 : decode cX4_burdenOf 9 = .ok (.ifCond .lt 12, 3) := dk_155 0 12 (dk_at dksX4_burdenOf_0 9 rfl rfl)
theorem dX4_burdenOf_12 : decode cX4_burdenOf 12 = .ok (.aload_n 0, 1) := dk_42 (dk_at dksX4_burdenOf_0 12 rfl rfl)
theorem dX4_burdenOf_13 : decode cX4_burdenOf 13 = .ok (.iload_n 1, 1) := dk_27 (dk_at dksX4_burdenOf_0 13 rfl rfl)
theorem dX4_burdenOf_14 : decode cX4_burdenOf 14 = .ok (.iload_n 2, 1) := dk_28 (dk_at dksX4_burdenOf_0 14 rfl rfl)
theorem dX4_burdenOf_15 : decode cX4_burdenOf 15 = .ok (.invokevirtual 339, 3) := dk_182 1 83 (dk_at dksX4_burdenOf_0 15 rfl rfl)
theorem dX4_burdenOf_18 : decode cX4_burdenOf 18 = .ok (.goto 4, 3) := dk_167 0 4 (dk_at dksX4_burdenOf_0 18 rfl rfl)
theorem dX4_burdenOf_21 : decode cX4_burdenOf 21 = .ok (.iconst (-1), 1) := dk_2 (dk_at dksX4_burdenOf_0 21 rfl rfl)
theorem dX4_burdenOf_22 : decode cX4_burdenOf 22 = .ok (.ireturn, 1) := dk_172 (dk_at dksX4_burdenOf_0 22 rfl rfl)
abbrev cX4_ranked : ByteArray := prog_20_method_119_code
def yX4_ranked : MethodName := ⟨RX4, "ranked", "(II)I"⟩
def dkwX4_ranked_2 : List UInt8 := [16, 254, 172]
abbrev dktX4_ranked_2 : List UInt8 := dkwX4_ranked_2 ++ []
def dkwX4_ranked_1 : List UInt8 := [153, 0, 18, 42, 180, 0, 7, 29, 27, 184, 1, 80, 28, 160, 0, 5, 29, 172, 132, 3, 1, 167, 255, 215]
abbrev dktX4_ranked_1 : List UInt8 := dkwX4_ranked_1 ++ dktX4_ranked_2
def dkwX4_ranked_0 : List UInt8 := [3, 62, 29, 42, 180, 0, 7, 16, 7, 46, 162, 0, 36, 42, 180, 0, 7, 29, 27, 184, 0, 104]
abbrev dktX4_ranked_0 : List UInt8 := dkwX4_ranked_0 ++ dktX4_ranked_1
theorem dksX4_ranked_0 : cX4_ranked.data.toList.drop 0 = dktX4_ranked_0 := by decide +kernel
theorem dksX4_ranked_1 : cX4_ranked.data.toList.drop 22 = dktX4_ranked_1 := dk_seg dksX4_ranked_0 22 rfl rfl
theorem dksX4_ranked_2 : cX4_ranked.data.toList.drop 46 = dktX4_ranked_2 := dk_seg dksX4_ranked_1 24 rfl rfl
theorem dX4_ranked_0 : decode cX4_ranked 0 = .ok (.iconst 0, 1) := dk_3 (dk_at dksX4_ranked_0 0 rfl rfl)
theorem dX4_ranked_1 : decode cX4_ranked 1 = .ok (.istore_n 3, 1) := dk_62 (dk_at dksX4_ranked_0 1 rfl rfl)
theorem dX4_ranked_2 : decode cX4_ranked 2 = .ok (.iload_n 3, 1) := dk_29 (dk_at dksX4_ranked_0 2 rfl rfl)
theorem dX4_ranked_3 : decode cX4_ranked 3 = .ok (.aload_n 0, 1) := dk_42 (dk_at dksX4_ranked_0 3 rfl rfl)
theorem dX4_ranked_4 : decode cX4_ranked 4 = .ok (.getfield 7, 3) := dk_180 0 7 (dk_at dksX4_ranked_0 4 rfl rfl)
theorem dX4_ranked_7 : decode cX4_ranked 7 = .ok (.bipush 7, 2) := dk_16 7 (dk_at dksX4_ranked_0 7 rfl rfl)
theorem dX4_ranked_9 : decode cX4_ranked 9 = .ok (.iaload, 1) := dk_46 (dk_at dksX4_ranked_0 9 rfl rfl)
theorem dX4_ranked_10 : decode cX4_ranked 10 = .ok (.if_icmp .ge 36, 3) := dk_162 0 36 (dk_at dksX4_ranked_0 10 rfl rfl)
theorem dX4_ranked_13 : decode cX4_ranked 13 = .ok (.aload_n 0, 1) := dk_42 (dk_at dksX4_ranked_0 13 rfl rfl)
theorem dX4_ranked_14 : decode cX4_ranked 14 = .ok (.getfield 7, 3) := dk_180 0 7 (dk_at dksX4_ranked_0 14 rfl rfl)
theorem dX4_ranked_17 : decode cX4_ranked 17 = .ok (.iload_n 3, 1) := dk_29 (dk_at dksX4_ranked_0 17 rfl rfl)
theorem dX4_ranked_18 : decode cX4_ranked 18 = .ok (.iload_n 1, 1) := dk_27 (dk_at dksX4_ranked_0 18 rfl rfl)
theorem dX4_ranked_19 : decode cX4_ranked 19 = .ok (.invokestatic 104, 3) := dk_184 0 104 (dk_at dksX4_ranked_0 19 rfl rfl)
theorem dX4_ranked_22 : decode cX4_ranked 22 = .ok (.ifCond .eq 18, 3) := dk_153 0 18 (dk_at dksX4_ranked_1 0 rfl rfl)
theorem dX4_ranked_25 : decode cX4_ranked 25 = .ok (.aload_n 0, 1) := dk_42 (dk_at dksX4_ranked_1 3 rfl rfl)
theorem dX4_ranked_26 : decode cX4_ranked 26 = .ok (.getfield 7, 3) := dk_180 0 7 (dk_at dksX4_ranked_1 4 rfl rfl)
theorem dX4_ranked_29 : decode cX4_ranked 29 = .ok (.iload_n 3, 1) := dk_29 (dk_at dksX4_ranked_1 7 rfl rfl)
theorem dX4_ranked_30 : decode cX4_ranked 30 = .ok (.iload_n 1, 1) := dk_27 (dk_at dksX4_ranked_1 8 rfl rfl)
theorem dX4_ranked_31 : decode cX4_ranked 31 = .ok (.invokestatic 336, 3) := dk_184 1 80 (dk_at dksX4_ranked_1 9 rfl rfl)
theorem dX4_ranked_34 : decode cX4_ranked 34 = .ok (.iload_n 2, 1) := dk_28 (dk_at dksX4_ranked_1 12 rfl rfl)
theorem dX4_ranked_35 : decode cX4_ranked 35 = .ok (.if_icmp .ne 5, 3) := dk_160 0 5 (dk_at dksX4_ranked_1 13 rfl rfl)
theorem dX4_ranked_38 : decode cX4_ranked 38 = .ok (.iload_n 3, 1) := dk_29 (dk_at dksX4_ranked_1 16 rfl rfl)
theorem dX4_ranked_39 : decode cX4_ranked 39 = .ok (.ireturn, 1) := dk_172 (dk_at dksX4_ranked_1 17 rfl rfl)
theorem dX4_ranked_40 : decode cX4_ranked 40 = .ok (.iinc 3 1, 3) := dk_132 3 1 (dk_at dksX4_ranked_1 18 rfl rfl)
theorem dX4_ranked_43 : decode cX4_ranked 43 = .ok (.goto (-41), 3) := dk_167 255 215 (dk_at dksX4_ranked_1 21 rfl rfl)
theorem dX4_ranked_46 : decode cX4_ranked 46 = .ok (.bipush (-2), 2) := dk_16 254 (dk_at dksX4_ranked_2 0 rfl rfl)
theorem dX4_ranked_48 : decode cX4_ranked 48 = .ok (.ireturn, 1) := dk_172 (dk_at dksX4_ranked_2 2 rfl rfl)
abbrev cX4_rankOf : ByteArray := prog_20_method_38_code
def yX4_rankOf : MethodName := ⟨RX4, "rankOf", "([III)I"⟩
def dkwX4_rankOf_2 : List UInt8 := [167, 255, 213, 29, 172]
abbrev dktX4_rankOf_2 : List UInt8 := dkwX4_rankOf_2 ++ []
def dkwX4_rankOf_1 : List UInt8 := [42, 21, 4, 6, 184, 0, 101, 46, 42, 27, 6, 184, 0, 101, 46, 162, 0, 6, 132, 3, 1, 132, 4, 1]
abbrev dktX4_rankOf_1 : List UInt8 := dkwX4_rankOf_1 ++ dktX4_rankOf_2
def dkwX4_rankOf_0 : List UInt8 := [3, 62, 3, 54, 4, 21, 4, 42, 16, 7, 46, 162, 0, 40, 42, 21, 4, 28, 184, 0, 104, 153, 0, 24]
abbrev dktX4_rankOf_0 : List UInt8 := dkwX4_rankOf_0 ++ dktX4_rankOf_1
theorem dksX4_rankOf_0 : cX4_rankOf.data.toList.drop 0 = dktX4_rankOf_0 := by decide +kernel
theorem dksX4_rankOf_1 : cX4_rankOf.data.toList.drop 24 = dktX4_rankOf_1 := dk_seg dksX4_rankOf_0 24 rfl rfl
theorem dksX4_rankOf_2 : cX4_rankOf.data.toList.drop 48 = dktX4_rankOf_2 := dk_seg dksX4_rankOf_1 24 rfl rfl
theorem dX4_rankOf_0 : decode cX4_rankOf 0 = .ok (.iconst 0, 1) := dk_3 (dk_at dksX4_rankOf_0 0 rfl rfl)
theorem dX4_rankOf_1 : decode cX4_rankOf 1 = .ok (.istore_n 3, 1) := dk_62 (dk_at dksX4_rankOf_0 1 rfl rfl)
theorem dX4_rankOf_2 : decode cX4_rankOf 2 = .ok (.iconst 0, 1) := dk_3 (dk_at dksX4_rankOf_0 2 rfl rfl)
theorem dX4_rankOf_3 : decode cX4_rankOf 3 = .ok (.istore 4, 2) := dk_54 4 (dk_at dksX4_rankOf_0 3 rfl rfl)
theorem dX4_rankOf_5 : decode cX4_rankOf 5 = .ok (.iload 4, 2) := dk_21 4 (dk_at dksX4_rankOf_0 5 rfl rfl)
theorem dX4_rankOf_7 : decode cX4_rankOf 7 = .ok (.aload_n 0, 1) := dk_42 (dk_at dksX4_rankOf_0 7 rfl rfl)
theorem dX4_rankOf_8 : decode cX4_rankOf 8 = .ok (.bipush 7, 2) := dk_16 7 (dk_at dksX4_rankOf_0 8 rfl rfl)
theorem dX4_rankOf_10 : decode cX4_rankOf 10 = .ok (.iaload, 1) := dk_46 (dk_at dksX4_rankOf_0 10 rfl rfl)
theorem dX4_rankOf_11 : decode cX4_rankOf 11 = .ok (.if_icmp .ge 40, 3) := dk_162 0 40 (dk_at dksX4_rankOf_0 11 rfl rfl)
theorem dX4_rankOf_14 : decode cX4_rankOf 14 = .ok (.aload_n 0, 1) := dk_42 (dk_at dksX4_rankOf_0 14 rfl rfl)
theorem dX4_rankOf_15 : decode cX4_rankOf 15 = .ok (.iload 4, 2) := dk_21 4 (dk_at dksX4_rankOf_0 15 rfl rfl)
theorem dX4_rankOf_17 : decode cX4_rankOf 17 = .ok (.iload_n 2, 1) := dk_28 (dk_at dksX4_rankOf_0 17 rfl rfl)
theorem dX4_rankOf_18 : decode cX4_rankOf 18 = .ok (.invokestatic 104, 3) := dk_184 0 104 (dk_at dksX4_rankOf_0 18 rfl rfl)
theorem dX4_rankOf_21 : decode cX4_rankOf 21 = .ok (.ifCond .eq 24, 3) := dk_153 0 24 (dk_at dksX4_rankOf_0 21 rfl rfl)
theorem dX4_rankOf_24 : decode cX4_rankOf 24 = .ok (.aload_n 0, 1) := dk_42 (dk_at dksX4_rankOf_1 0 rfl rfl)
theorem dX4_rankOf_25 : decode cX4_rankOf 25 = .ok (.iload 4, 2) := dk_21 4 (dk_at dksX4_rankOf_1 1 rfl rfl)
theorem dX4_rankOf_27 : decode cX4_rankOf 27 = .ok (.iconst 3, 1) := dk_6 (dk_at dksX4_rankOf_1 3 rfl rfl)
theorem dX4_rankOf_28 : decode cX4_rankOf 28 = .ok (.invokestatic 101, 3) := dk_184 0 101 (dk_at dksX4_rankOf_1 4 rfl rfl)
theorem dX4_rankOf_31 : decode cX4_rankOf 31 = .ok (.iaload, 1) := dk_46 (dk_at dksX4_rankOf_1 7 rfl rfl)
theorem dX4_rankOf_32 : decode cX4_rankOf 32 = .ok (.aload_n 0, 1) := dk_42 (dk_at dksX4_rankOf_1 8 rfl rfl)
theorem dX4_rankOf_33 : decode cX4_rankOf 33 = .ok (.iload_n 1, 1) := dk_27 (dk_at dksX4_rankOf_1 9 rfl rfl)
theorem dX4_rankOf_34 : decode cX4_rankOf 34 = .ok (.iconst 3, 1) := dk_6 (dk_at dksX4_rankOf_1 10 rfl rfl)
theorem dX4_rankOf_35 : decode cX4_rankOf 35 = .ok (.invokestatic 101, 3) := dk_184 0 101 (dk_at dksX4_rankOf_1 11 rfl rfl)
theorem dX4_rankOf_38 : decode cX4_rankOf 38 = .ok (.iaload, 1) := dk_46 (dk_at dksX4_rankOf_1 14 rfl rfl)
theorem dX4_rankOf_39 : decode cX4_rankOf 39 = .ok (.if_icmp .ge 6, 3) := dk_162 0 6 (dk_at dksX4_rankOf_1 15 rfl rfl)
theorem dX4_rankOf_42 : decode cX4_rankOf 42 = .ok (.iinc 3 1, 3) := dk_132 3 1 (dk_at dksX4_rankOf_1 18 rfl rfl)
theorem dX4_rankOf_45 : decode cX4_rankOf 45 = .ok (.iinc 4 1, 3) := dk_132 4 1 (dk_at dksX4_rankOf_1 21 rfl rfl)
theorem dX4_rankOf_48 : decode cX4_rankOf 48 = .ok (.goto (-43), 3) := dk_167 255 213 (dk_at dksX4_rankOf_2 0 rfl rfl)
theorem dX4_rankOf_51 : decode cX4_rankOf 51 = .ok (.iload_n 3, 1) := dk_29 (dk_at dksX4_rankOf_2 3 rfl rfl)
theorem dX4_rankOf_52 : decode cX4_rankOf 52 = .ok (.ireturn, 1) := dk_172 (dk_at dksX4_rankOf_2 4 rfl rfl)
abbrev cX4_lies : ByteArray := prog_20_method_121_code
def yX4_lies : MethodName := ⟨RX4, "lies", "(II)I"⟩
def dkwX4_lies_2 : List UInt8 := [29, 154, 0, 6, 21, 4, 172, 132, 3, 255, 132, 4, 1, 167, 255, 216, 16, 254, 172]
abbrev dktX4_lies_2 : List UInt8 := dkwX4_lies_2 ++ []
def dkwX4_lies_1 : List UInt8 := [180, 0, 7, 8, 46, 162, 0, 35, 42, 180, 0, 7, 27, 21, 4, 184, 0, 104, 154, 0, 6, 167, 0, 13]
abbrev dktX4_lies_1 : List UInt8 := dkwX4_lies_1 ++ dktX4_lies_2
def dkwX4_lies_0 : List UInt8 := [42, 27, 182, 1, 18, 153, 0, 7, 28, 156, 0, 5, 2, 172, 28, 62, 3, 54, 4, 21, 4, 42]
abbrev dktX4_lies_0 : List UInt8 := dkwX4_lies_0 ++ dktX4_lies_1
theorem dksX4_lies_0 : cX4_lies.data.toList.drop 0 = dktX4_lies_0 := by decide +kernel
theorem dksX4_lies_1 : cX4_lies.data.toList.drop 22 = dktX4_lies_1 := dk_seg dksX4_lies_0 22 rfl rfl
theorem dksX4_lies_2 : cX4_lies.data.toList.drop 46 = dktX4_lies_2 := dk_seg dksX4_lies_1 24 rfl rfl
theorem dX4_lies_0 : decode cX4_lies 0 = .ok (.aload_n 0, 1) := dk_42 (dk_at dksX4_lies_0 0 rfl rfl)
theorem dX4_lies_1 : decode cX4_lies 1 = .ok (.iload_n 1, 1) := dk_27 (dk_at dksX4_lies_0 1 rfl rfl)
theorem dX4_lies_2 : decode cX4_lies 2 = .ok (.invokevirtual 274, 3) := dk_182 1 18 (dk_at dksX4_lies_0 2 rfl rfl)
theorem dX4_lies_5 : decode cX4_lies 5 = .ok (.ifCond .eq 7, 3) := dk_153 0 7 (dk_at dksX4_lies_0 5 rfl rfl)
theorem dX4_lies_8 : decode cX4_lies 8 = .ok (.iload_n 2, 1) := dk_28 (dk_at dksX4_lies_0 8 rfl rfl)
theorem dX4_lies_9 : decode cX4_lies 9 = .ok (.ifCond .ge 5, 3) := dk_156 0 5 (dk_at dksX4_lies_0 9 rfl rfl)
theorem dX4_lies_12 : decode cX4_lies 12 = .ok (.iconst (-1), 1) := dk_2 (dk_at dksX4_lies_0 12 rfl rfl)
theorem dX4_lies_13 : decode cX4_lies 13 = .ok (.ireturn, 1) := dk_172 (dk_at dksX4_lies_0 13 rfl rfl)
theorem dX4_lies_14 : decode cX4_lies 14 = .ok (.iload_n 2, 1) := dk_28 (dk_at dksX4_lies_0 14 rfl rfl)
theorem dX4_lies_15 : decode cX4_lies 15 = .ok (.istore_n 3, 1) := dk_62 (dk_at dksX4_lies_0 15 rfl rfl)
theorem dX4_lies_16 : decode cX4_lies 16 = .ok (.iconst 0, 1) := dk_3 (dk_at dksX4_lies_0 16 rfl rfl)
theorem dX4_lies_17 : decode cX4_lies 17 = .ok (.istore 4, 2) := dk_54 4 (dk_at dksX4_lies_0 17 rfl rfl)
theorem dX4_lies_19 : decode cX4_lies 19 = .ok (.iload 4, 2) := dk_21 4 (dk_at dksX4_lies_0 19 rfl rfl)
theorem dX4_lies_21 : decode cX4_lies 21 = .ok (.aload_n 0, 1) := dk_42 (dk_at dksX4_lies_0 21 rfl rfl)
theorem dX4_lies_22 : decode cX4_lies 22 = .ok (.getfield 7, 3) := dk_180 0 7 (dk_at dksX4_lies_1 0 rfl rfl)
theorem dX4_lies_25 : decode cX4_lies 25 = .ok (.iconst 5, 1) := dk_8 (dk_at dksX4_lies_1 3 rfl rfl)
theorem dX4_lies_26 : decode cX4_lies 26 = .ok (.iaload, 1) := dk_46 (dk_at dksX4_lies_1 4 rfl rfl)
theorem dX4_lies_27 : decode cX4_lies 27 = .ok (.if_icmp .ge 35, 3) := dk_162 0 35 (dk_at dksX4_lies_1 5 rfl rfl)
theorem dX4_lies_30 : decode cX4_lies 30 = .ok (.aload_n 0, 1) := dk_42 (dk_at dksX4_lies_1 8 rfl rfl)
theorem dX4_lies_31 : decode cX4_lies 31 = .ok (.getfield 7, 3) := dk_180 0 7 (dk_at dksX4_lies_1 9 rfl rfl)
theorem dX4_lies_34 : decode cX4_lies 34 = .ok (.iload_n 1, 1) := dk_27 (dk_at dksX4_lies_1 12 rfl rfl)
theorem dX4_lies_35 : decode cX4_lies 35 = .ok (.iload 4, 2) := dk_21 4 (dk_at dksX4_lies_1 13 rfl rfl)
theorem dX4_lies_37 : decode cX4_lies 37 = .ok (.invokestatic 104, 3) := dk_184 0 104 (dk_at dksX4_lies_1 15 rfl rfl)
theorem dX4_lies_40 : decode cX4_lies 40 = .ok (.ifCond .ne 6, 3) := dk_154 0 6 (dk_at dksX4_lies_1 18 rfl rfl)
theorem dX4_lies_43 : decode cX4_lies 43 = .ok (.goto 13, 3) := dk_167 0 13 (dk_at dksX4_lies_1 21 rfl rfl)
theorem dX4_lies_46 : decode cX4_lies 46 = .ok (.iload_n 3, 1) := dk_29 (dk_at dksX4_lies_2 0 rfl rfl)
theorem dX4_lies_47 : decode cX4_lies 47 = .ok (.ifCond .ne 6, 3) := dk_154 0 6 (dk_at dksX4_lies_2 1 rfl rfl)
theorem dX4_lies_50 : decode cX4_lies 50 = .ok (.iload 4, 2) := dk_21 4 (dk_at dksX4_lies_2 4 rfl rfl)
theorem dX4_lies_52 : decode cX4_lies 52 = .ok (.ireturn, 1) := dk_172 (dk_at dksX4_lies_2 6 rfl rfl)
theorem dX4_lies_53 : decode cX4_lies 53 = .ok (.iinc 3 (-1), 3) := dk_132 3 255 (dk_at dksX4_lies_2 7 rfl rfl)
theorem dX4_lies_56 : decode cX4_lies 56 = .ok (.iinc 4 1, 3) := dk_132 4 1 (dk_at dksX4_lies_2 10 rfl rfl)
theorem dX4_lies_59 : decode cX4_lies 59 = .ok (.goto (-40), 3) := dk_167 255 216 (dk_at dksX4_lies_2 13 rfl rfl)
theorem dX4_lies_62 : decode cX4_lies 62 = .ok (.bipush (-2), 2) := dk_16 254 (dk_at dksX4_lies_2 16 rfl rfl)
theorem dX4_lies_64 : decode cX4_lies 64 = .ok (.ireturn, 1) := dk_172 (dk_at dksX4_lies_2 18 rfl rfl)
abbrev cX4_rank : ByteArray := prog_20_method_122_code
def yX4_rank : MethodName := ⟨RX4, "rank", "(II)I"⟩
def dkwX4_rank_1 : List UInt8 := [184, 0, 104, 153, 0, 15, 42, 180, 0, 7, 27, 28, 184, 1, 80, 167, 0, 5, 16, 254, 172]
abbrev dktX4_rank_1 : List UInt8 := dkwX4_rank_1 ++ []
def dkwX4_rank_0 : List UInt8 := [42, 27, 182, 1, 18, 153, 0, 11, 42, 28, 182, 0, 240, 154, 0, 5, 2, 172, 42, 180, 0, 7, 27, 28]
abbrev dktX4_rank_0 : List UInt8 := dkwX4_rank_0 ++ dktX4_rank_1
theorem dksX4_rank_0 : cX4_rank.data.toList.drop 0 = dktX4_rank_0 := by decide +kernel
theorem dksX4_rank_1 : cX4_rank.data.toList.drop 24 = dktX4_rank_1 := dk_seg dksX4_rank_0 24 rfl rfl
theorem dX4_rank_0 : decode cX4_rank 0 = .ok (.aload_n 0, 1) := dk_42 (dk_at dksX4_rank_0 0 rfl rfl)
theorem dX4_rank_1 : decode cX4_rank 1 = .ok (.iload_n 1, 1) := dk_27 (dk_at dksX4_rank_0 1 rfl rfl)
theorem dX4_rank_2 : decode cX4_rank 2 = .ok (.invokevirtual 274, 3) := dk_182 1 18 (dk_at dksX4_rank_0 2 rfl rfl)
theorem dX4_rank_5 : decode cX4_rank 5 = .ok (.ifCond .eq 11, 3) := dk_153 0 11 (dk_at dksX4_rank_0 5 rfl rfl)
theorem dX4_rank_8 : decode cX4_rank 8 = .ok (.aload_n 0, 1) := dk_42 (dk_at dksX4_rank_0 8 rfl rfl)
theorem dX4_rank_9 : decode cX4_rank 9 = .ok (.iload_n 2, 1) := dk_28 (dk_at dksX4_rank_0 9 rfl rfl)
theorem dX4_rank_10 : decode cX4_rank 10 = .ok (.invokevirtual 240, 3) := dk_182 0 240 (dk_at dksX4_rank_0 10 rfl rfl)
theorem dX4_rank_13 : decode cX4_rank 13 = .ok (.ifCond .ne 5, 3) := dk_154 0 5 (dk_at dksX4_rank_0 13 rfl rfl)
theorem dX4_rank_16 : decode cX4_rank 16 = .ok (.iconst (-1), 1) := dk_2 (dk_at dksX4_rank_0 16 rfl rfl)
theorem dX4_rank_17 : decode cX4_rank 17 = .ok (.ireturn, 1) := dk_172 (dk_at dksX4_rank_0 17 rfl rfl)
theorem dX4_rank_18 : decode cX4_rank 18 = .ok (.aload_n 0, 1) := dk_42 (dk_at dksX4_rank_0 18 rfl rfl)
theorem dX4_rank_19 : decode cX4_rank 19 = .ok (.getfield 7, 3) := dk_180 0 7 (dk_at dksX4_rank_0 19 rfl rfl)
theorem dX4_rank_22 : decode cX4_rank 22 = .ok (.iload_n 1, 1) := dk_27 (dk_at dksX4_rank_0 22 rfl rfl)
theorem dX4_rank_23 : decode cX4_rank 23 = .ok (.iload_n 2, 1) := dk_28 (dk_at dksX4_rank_0 23 rfl rfl)
theorem dX4_rank_24 : decode cX4_rank 24 = .ok (.invokestatic 104, 3) := dk_184 0 104 (dk_at dksX4_rank_1 0 rfl rfl)
theorem dX4_rank_27 : decode cX4_rank 27 = .ok (.ifCond .eq 15, 3) := dk_153 0 15 (dk_at dksX4_rank_1 3 rfl rfl)
theorem dX4_rank_30 : decode cX4_rank 30 = .ok (.aload_n 0, 1) := dk_42 (dk_at dksX4_rank_1 6 rfl rfl)
theorem dX4_rank_31 : decode cX4_rank 31 = .ok (.getfield 7, 3) := dk_180 0 7 (dk_at dksX4_rank_1 7 rfl rfl)
theorem dX4_rank_34 : decode cX4_rank 34 = .ok (.iload_n 1, 1) := dk_27 (dk_at dksX4_rank_1 10 rfl rfl)
theorem dX4_rank_35 : decode cX4_rank 35 = .ok (.iload_n 2, 1) := dk_28 (dk_at dksX4_rank_1 11 rfl rfl)
theorem dX4_rank_36 : decode cX4_rank 36 = .ok (.invokestatic 336, 3) := dk_184 1 80 (dk_at dksX4_rank_1 12 rfl rfl)
theorem dX4_rank_39 : decode cX4_rank 39 = .ok (.goto 5, 3) := dk_167 0 5 (dk_at dksX4_rank_1 15 rfl rfl)
theorem dX4_rank_42 : decode cX4_rank 42 = .ok (.bipush (-2), 2) := dk_16 254 (dk_at dksX4_rank_1 18 rfl rfl)
theorem dX4_rank_44 : decode cX4_rank 44 = .ok (.ireturn, 1) := dk_172 (dk_at dksX4_rank_1 20 rfl rfl)
abbrev cX4_whyNot : ByteArray := prog_20_method_123_code
def yX4_whyNot : MethodName := ⟨RX4, "whyNot", "(II)I"⟩
def dkwX4_whyNot_0 : List UInt8 := [42, 27, 28, 182, 1, 2, 153, 0, 12, 42, 27, 28, 182, 1, 6, 167, 0, 4, 2, 172]
abbrev dktX4_whyNot_0 : List UInt8 := dkwX4_whyNot_0 ++ []
theorem dksX4_whyNot_0 : cX4_whyNot.data.toList.drop 0 = dktX4_whyNot_0 := by decide +kernel
theorem dX4_whyNot_0 : decode cX4_whyNot 0 = .ok (.aload_n 0, 1) := dk_42 (dk_at dksX4_whyNot_0 0 rfl rfl)
theorem dX4_whyNot_1 : decode cX4_whyNot 1 = .ok (.iload_n 1, 1) := dk_27 (dk_at dksX4_whyNot_0 1 rfl rfl)
theorem dX4_whyNot_2 : decode cX4_whyNot 2 = .ok (.iload_n 2, 1) := dk_28 (dk_at dksX4_whyNot_0 2 rfl rfl)
theorem dX4_whyNot_3 : decode cX4_whyNot 3 = .ok (.invokevirtual 258, 3) := dk_182 1 2 (dk_at dksX4_whyNot_0 3 rfl rfl)
theorem dX4_whyNot_6 : decode cX4_whyNot 6 = .ok (.ifCond .eq 12, 3) := dk_153 0 12 (dk_at dksX4_whyNot_0 6 rfl rfl)
theorem dX4_whyNot_9 : decode cX4_whyNot 9 = .ok (.aload_n 0, 1) := dk_42 (dk_at dksX4_whyNot_0 9 rfl rfl)
theorem dX4_whyNot_10 : decode cX4_whyNot 10 = .ok (.iload_n 1, 1) := dk_27 (dk_at dksX4_whyNot_0 10 rfl rfl)
theorem dX4_whyNot_11 : decode cX4_whyNot 11 = .ok (.iload_n 2, 1) := dk_28 (dk_at dksX4_whyNot_0 11 rfl rfl)
theorem dX4_whyNot_12 : decode cX4_whyNot 12 = .ok (.invokevirtual 262, 3) := dk_182 1 6 (dk_at dksX4_whyNot_0 12 rfl rfl)
theorem dX4_whyNot_15 : decode cX4_whyNot 15 = .ok (.goto 4, 3) := dk_167 0 4 (dk_at dksX4_whyNot_0 15 rfl rfl)
theorem dX4_whyNot_18 : decode cX4_whyNot 18 = .ok (.iconst (-1), 1) := dk_2 (dk_at dksX4_whyNot_0 18 rfl rfl)
theorem dX4_whyNot_19 : decode cX4_whyNot 19 = .ok (.ireturn, 1) := dk_172 (dk_at dksX4_whyNot_0 19 rfl rfl)
abbrev cX4_joinable : ByteArray := prog_20_method_124_code
def yX4_joinable : MethodName := ⟨RX4, "joinable", "(II)I"⟩
def dkwX4_joinable_2 : List UInt8 := [167, 0, 13, 29, 154, 0, 6, 21, 4, 172, 132, 3, 255, 132, 4, 1, 167, 255, 213, 16, 254, 172]
abbrev dktX4_joinable_2 : List UInt8 := dkwX4_joinable_2 ++ []
def dkwX4_joinable_1 : List UInt8 := [180, 0, 7, 8, 46, 162, 0, 38, 21, 4, 27, 159, 0, 26, 42, 27, 21, 4, 182, 1, 6, 153, 0, 6]
abbrev dktX4_joinable_1 : List UInt8 := dkwX4_joinable_1 ++ dktX4_joinable_2
def dkwX4_joinable_0 : List UInt8 := [42, 27, 182, 0, 240, 153, 0, 7, 28, 156, 0, 5, 2, 172, 28, 62, 3, 54, 4, 21, 4, 42]
abbrev dktX4_joinable_0 : List UInt8 := dkwX4_joinable_0 ++ dktX4_joinable_1
theorem dksX4_joinable_0 : cX4_joinable.data.toList.drop 0 = dktX4_joinable_0 := by decide +kernel
theorem dksX4_joinable_1 : cX4_joinable.data.toList.drop 22 = dktX4_joinable_1 := dk_seg dksX4_joinable_0 22 rfl rfl
theorem dksX4_joinable_2 : cX4_joinable.data.toList.drop 46 = dktX4_joinable_2 := dk_seg dksX4_joinable_1 24 rfl rfl
theorem dX4_joinable_0 : decode cX4_joinable 0 = .ok (.aload_n 0, 1) := dk_42 (dk_at dksX4_joinable_0 0 rfl rfl)
theorem dX4_joinable_1 : decode cX4_joinable 1 = .ok (.iload_n 1, 1) := dk_27 (dk_at dksX4_joinable_0 1 rfl rfl)
theorem dX4_joinable_2 : decode cX4_joinable 2 = .ok (.invokevirtual 240, 3) := dk_182 0 240 (dk_at dksX4_joinable_0 2 rfl rfl)
theorem dX4_joinable_5 : decode cX4_joinable 5 = .ok (.ifCond .eq 7, 3) := dk_153 0 7 (dk_at dksX4_joinable_0 5 rfl rfl)
theorem dX4_joinable_8 : decode cX4_joinable 8 = .ok (.iload_n 2, 1) := dk_28 (dk_at dksX4_joinable_0 8 rfl rfl)
theorem dX4_joinable_9 : decode cX4_joinable 9 = .ok (.ifCond .ge 5, 3) := dk_156 0 5 (dk_at dksX4_joinable_0 9 rfl rfl)
theorem dX4_joinable_12 : decode cX4_joinable 12 = .ok (.iconst (-1), 1) := dk_2 (dk_at dksX4_joinable_0 12 rfl rfl)
theorem dX4_joinable_13 : decode cX4_joinable 13 = .ok (.ireturn, 1) := dk_172 (dk_at dksX4_joinable_0 13 rfl rfl)
theorem dX4_joinable_14 : decode cX4_joinable 14 = .ok (.iload_n 2, 1) := dk_28 (dk_at dksX4_joinable_0 14 rfl rfl)
theorem dX4_joinable_15 : decode cX4_joinable 15 = .ok (.istore_n 3, 1) := dk_62 (dk_at dksX4_joinable_0 15 rfl rfl)
theorem dX4_joinable_16 : decode cX4_joinable 16 = .ok (.iconst 0, 1) := dk_3 (dk_at dksX4_joinable_0 16 rfl rfl)
theorem dX4_joinable_17 : decode cX4_joinable 17 = .ok (.istore 4, 2) := dk_54 4 (dk_at dksX4_joinable_0 17 rfl rfl)
theorem dX4_joinable_19 : decode cX4_joinable 19 = .ok (.iload 4, 2) := dk_21 4 (dk_at dksX4_joinable_0 19 rfl rfl)
theorem dX4_joinable_21 : decode cX4_joinable 21 = .ok (.aload_n 0, 1) := dk_42 (dk_at dksX4_joinable_0 21 rfl rfl)
theorem dX4_joinable_22 : decode cX4_joinable 22 = .ok (.getfield 7, 3) := dk_180 0 7 (dk_at dksX4_joinable_1 0 rfl rfl)
theorem dX4_joinable_25 : decode cX4_joinable 25 = .ok (.iconst 5, 1) := dk_8 (dk_at dksX4_joinable_1 3 rfl rfl)
theorem dX4_joinable_26 : decode cX4_joinable 26 = .ok (.iaload, 1) := dk_46 (dk_at dksX4_joinable_1 4 rfl rfl)
theorem dX4_joinable_27 : decode cX4_joinable 27 = .ok (.if_icmp .ge 38, 3) := dk_162 0 38 (dk_at dksX4_joinable_1 5 rfl rfl)
theorem dX4_joinable_30 : decode cX4_joinable 30 = .ok (.iload 4, 2) := dk_21 4 (dk_at dksX4_joinable_1 8 rfl rfl)
theorem dX4_joinable_32 : decode cX4_joinable 32 = .ok (.iload_n 1, 1) := dk_27 (dk_at dksX4_joinable_1 10 rfl rfl)
theorem dX4_joinable_33 : decode cX4_joinable 33 = .ok (.if_icmp .eq 26, 3) := dk_159 0 26 (dk_at dksX4_joinable_1 11 rfl rfl)
theorem dX4_joinable_36 : decode cX4_joinable 36 = .ok (.aload_n 0, 1) := dk_42 (dk_at dksX4_joinable_1 14 rfl rfl)
theorem dX4_joinable_37 : decode cX4_joinable 37 = .ok (.iload_n 1, 1) := dk_27 (dk_at dksX4_joinable_1 15 rfl rfl)
theorem dX4_joinable_38 : decode cX4_joinable 38 = .ok (.iload 4, 2) := dk_21 4 (dk_at dksX4_joinable_1 16 rfl rfl)
theorem dX4_joinable_40 : decode cX4_joinable 40 = .ok (.invokevirtual 262, 3) := dk_182 1 6 (dk_at dksX4_joinable_1 18 rfl rfl)
theorem dX4_joinable_43 : decode cX4_joinable 43 = .ok (.ifCond .eq 6, 3) := dk_153 0 6 (dk_at dksX4_joinable_1 21 rfl rfl)
theorem dX4_joinable_46 : decode cX4_joinable 46 = .ok (.goto 13, 3) := dk_167 0 13 (dk_at dksX4_joinable_2 0 rfl rfl)
theorem dX4_joinable_49 : decode cX4_joinable 49 = .ok (.iload_n 3, 1) := dk_29 (dk_at dksX4_joinable_2 3 rfl rfl)
theorem dX4_joinable_50 : decode cX4_joinable 50 = .ok (.ifCond .ne 6, 3) := dk_154 0 6 (dk_at dksX4_joinable_2 4 rfl rfl)
theorem dX4_joinable_53 : decode cX4_joinable 53 = .ok (.iload 4, 2) := dk_21 4 (dk_at dksX4_joinable_2 7 rfl rfl)
theorem dX4_joinable_55 : decode cX4_joinable 55 = .ok (.ireturn, 1) := dk_172 (dk_at dksX4_joinable_2 9 rfl rfl)
theorem dX4_joinable_56 : decode cX4_joinable 56 = .ok (.iinc 3 (-1), 3) := dk_132 3 255 (dk_at dksX4_joinable_2 10 rfl rfl)
theorem dX4_joinable_59 : decode cX4_joinable 59 = .ok (.iinc 4 1, 3) := dk_132 4 1 (dk_at dksX4_joinable_2 13 rfl rfl)
theorem dX4_joinable_62 : decode cX4_joinable 62 = .ok (.goto (-43), 3) := dk_167 255 213 (dk_at dksX4_joinable_2 16 rfl rfl)
theorem dX4_joinable_65 : decode cX4_joinable 65 = .ok (.bipush (-2), 2) := dk_16 254 (dk_at dksX4_joinable_2 19 rfl rfl)
theorem dX4_joinable_67 : decode cX4_joinable 67 = .ok (.ireturn, 1) := dk_172 (dk_at dksX4_joinable_2 21 rfl rfl)
abbrev cX4_ifSplit : ByteArray := prog_20_method_127_code
def yX4_ifSplit : MethodName := ⟨RX4, "ifSplit", "(IIII)I"⟩
def dkwX4_ifSplit_6 : List UInt8 := [156, 0, 7, 3, 167, 0, 5, 21, 6, 172]
abbrev dktX4_ifSplit_6 : List UInt8 := dkwX4_ifSplit_6 ++ []
def dkwX4_ifSplit_5 : List UInt8 := [180, 0, 7, 5, 46, 104, 42, 180, 0, 7, 27, 184, 1, 58, 100, 17, 78, 32, 96, 54, 6, 21, 6]
abbrev dktX4_ifSplit_5 : List UInt8 := dkwX4_ifSplit_5 ++ dktX4_ifSplit_6
def dkwX4_ifSplit_4 : List UInt8 := [21, 5, 42, 180, 0, 7, 27, 28, 4, 160, 0, 7, 5, 167, 0, 4, 6, 184, 0, 66, 46, 104, 42]
abbrev dktX4_ifSplit_4 : List UInt8 := dkwX4_ifSplit_4 ++ dktX4_ifSplit_5
def dkwX4_ifSplit_3 : List UInt8 := [42, 180, 0, 7, 27, 28, 4, 160, 0, 7, 6, 167, 0, 4, 5, 184, 0, 66, 46, 29, 100, 54, 5]
abbrev dktX4_ifSplit_3 : List UInt8 := dkwX4_ifSplit_3 ++ dktX4_ifSplit_4
def dkwX4_ifSplit_2 : List UInt8 := [21, 4, 154, 0, 7, 4, 167, 0, 4, 3, 182, 1, 90, 172, 21, 4, 5, 160, 0, 7, 29, 167, 0, 24]
abbrev dktX4_ifSplit_2 : List UInt8 := dkwX4_ifSplit_2 ++ dktX4_ifSplit_3
def dkwX4_ifSplit_1 : List UInt8 := [180, 0, 7, 27, 184, 0, 73, 154, 0, 6, 16, 252, 172, 21, 4, 5, 162, 0, 21, 42, 27, 28, 29]
abbrev dktX4_ifSplit_1 : List UInt8 := dkwX4_ifSplit_1 ++ dktX4_ifSplit_2
def dkwX4_ifSplit_0 : List UInt8 := [42, 27, 28, 29, 182, 0, 246, 153, 0, 13, 21, 4, 3, 6, 184, 0, 54, 154, 0, 5, 2, 172, 42]
abbrev dktX4_ifSplit_0 : List UInt8 := dkwX4_ifSplit_0 ++ dktX4_ifSplit_1
theorem dksX4_ifSplit_0 : cX4_ifSplit.data.toList.drop 0 = dktX4_ifSplit_0 := by decide +kernel
theorem dksX4_ifSplit_1 : cX4_ifSplit.data.toList.drop 23 = dktX4_ifSplit_1 := dk_seg dksX4_ifSplit_0 23 rfl rfl
theorem dksX4_ifSplit_2 : cX4_ifSplit.data.toList.drop 46 = dktX4_ifSplit_2 := dk_seg dksX4_ifSplit_1 23 rfl rfl
theorem dksX4_ifSplit_3 : cX4_ifSplit.data.toList.drop 70 = dktX4_ifSplit_3 := dk_seg dksX4_ifSplit_2 24 rfl rfl
theorem dksX4_ifSplit_4 : cX4_ifSplit.data.toList.drop 93 = dktX4_ifSplit_4 := dk_seg dksX4_ifSplit_3 23 rfl rfl
theorem dksX4_ifSplit_5 : cX4_ifSplit.data.toList.drop 116 = dktX4_ifSplit_5 := dk_seg dksX4_ifSplit_4 23 rfl rfl
theorem dksX4_ifSplit_6 : cX4_ifSplit.data.toList.drop 139 = dktX4_ifSplit_6 := dk_seg dksX4_ifSplit_5 23 rfl rfl
theorem dX4_ifSplit_0 : decode cX4_ifSplit 0 = .ok (.aload_n 0, 1) := dk_42 (dk_at dksX4_ifSplit_0 0 rfl rfl)
theorem dX4_ifSplit_1 : decode cX4_ifSplit 1 = .ok (.iload_n 1, 1) := dk_27 (dk_at dksX4_ifSplit_0 1 rfl rfl)
theorem dX4_ifSplit_2 : decode cX4_ifSplit 2 = .ok (.iload_n 2, 1) := dk_28 (dk_at dksX4_ifSplit_0 2 rfl rfl)
theorem dX4_ifSplit_3 : decode cX4_ifSplit 3 = .ok (.iload_n 3, 1) := dk_29 (dk_at dksX4_ifSplit_0 3 rfl rfl)
theorem dX4_ifSplit_4 : decode cX4_ifSplit 4 = .ok (.invokevirtual 246, 3) := dk_182 0 246 (dk_at dksX4_ifSplit_0 4 rfl rfl)
theorem dX4_ifSplit_7 : decode cX4_ifSplit 7 = .ok (.ifCond .eq 13, 3) := dk_153 0 13 (dk_at dksX4_ifSplit_0 7 rfl rfl)
theorem dX4_ifSplit_10 : decode cX4_ifSplit 10 = .ok (.iload 4, 2) := dk_21 4 (dk_at dksX4_ifSplit_0 10 rfl rfl)
theorem dX4_ifSplit_12 : decode cX4_ifSplit 12 = .ok (.iconst 0, 1) := dk_3 (dk_at dksX4_ifSplit_0 12 rfl rfl)
theorem dX4_ifSplit_13 : decode cX4_ifSplit 13 = .ok (.iconst 3, 1) := dk_6 (dk_at dksX4_ifSplit_0 13 rfl rfl)
theorem dX4_ifSplit_14 : decode cX4_ifSplit 14 = .ok (.invokestatic 54, 3) := dk_184 0 54 (dk_at dksX4_ifSplit_0 14 rfl rfl)
theorem dX4_ifSplit_17 : decode cX4_ifSplit 17 = .ok (.ifCond .ne 5, 3) := dk_154 0 5 (dk_at dksX4_ifSplit_0 17 rfl rfl)
theorem dX4_ifSplit_20 : decode cX4_ifSplit 20 = .ok (.iconst (-1), 1) := dk_2 (dk_at dksX4_ifSplit_0 20 rfl rfl)
theorem dX4_ifSplit_21 : decode cX4_ifSplit 21 = .ok (.ireturn, 1) := dk_172 (dk_at dksX4_ifSplit_0 21 rfl rfl)
theorem dX4_ifSplit_22 : decode cX4_ifSplit 22 = .ok (.aload_n 0, 1) := dk_42 (dk_at dksX4_ifSplit_0 22 rfl rfl)
theorem dX4_ifSplit_23 : decode cX4_ifSplit 23 = .ok (.getfield 7, 3) := dk_180 0 7 (dk_at dksX4_ifSplit_1 0 rfl rfl)
theorem dX4_ifSplit_26 : decode cX4_ifSplit 26 = .ok (.iload_n 1, 1) := dk_27 (dk_at dksX4_ifSplit_1 3 rfl rfl)
theorem dX4_ifSplit_27 : decode cX4_ifSplit 27 = .ok (.invokestatic 73, 3) := dk_184 0 73 (dk_at dksX4_ifSplit_1 4 rfl rfl)
theorem dX4_ifSplit_30 : decode cX4_ifSplit 30 = .ok (.ifCond .ne 6, 3) := dk_154 0 6 (dk_at dksX4_ifSplit_1 7 rfl rfl)
theorem dX4_ifSplit_33 : decode cX4_ifSplit 33 = .ok (.bipush (-4), 2) := dk_16 252 (dk_at dksX4_ifSplit_1 10 rfl rfl)
theorem dX4_ifSplit_35 : decode cX4_ifSplit 35 = .ok (.ireturn, 1) := dk_172 (dk_at dksX4_ifSplit_1 12 rfl rfl)
theorem dX4_ifSplit_36 : decode cX4_ifSplit 36 = .ok (.iload 4, 2) := dk_21 4 (dk_at dksX4_ifSplit_1 13 rfl rfl)
theorem dX4_ifSplit_38 : decode cX4_ifSplit 38 = .ok (.iconst 2, 1) := dk_5 (dk_at dksX4_ifSplit_1 15 rfl rfl)
theorem dX4_ifSplit_39 : decode cX4_ifSplit 39 = .ok (.if_icmp .ge 21, 3) := dk_162 0 21 (dk_at dksX4_ifSplit_1 16 rfl rfl)
theorem dX4_ifSplit_42 : decode cX4_ifSplit 42 = .ok (.aload_n 0, 1) := dk_42 (dk_at dksX4_ifSplit_1 19 rfl rfl)
theorem dX4_ifSplit_43 : decode cX4_ifSplit 43 = .ok (.iload_n 1, 1) := dk_27 (dk_at dksX4_ifSplit_1 20 rfl rfl)
theorem dX4_ifSplit_44 : decode cX4_ifSplit 44 = .ok (.iload_n 2, 1) := dk_28 (dk_at dksX4_ifSplit_1 21 rfl rfl)
theorem dX4_ifSplit_45 : decode cX4_ifSplit 45 = .ok (.iload_n 3, 1) := dk_29 (dk_at dksX4_ifSplit_1 22 rfl rfl)
theorem dX4_ifSplit_46 : decode cX4_ifSplit 46 = .ok (.iload 4, 2) := dk_21 4 (dk_at dksX4_ifSplit_2 0 rfl rfl)
theorem dX4_ifSplit_48 : decode cX4_ifSplit 48 = .ok (.ifCond .ne 7, 3) := dk_154 0 7 (dk_at dksX4_ifSplit_2 2 rfl rfl)
theorem dX4_ifSplit_51 : decode cX4_ifSplit 51 = .ok (.iconst 1, 1) := dk_4 (dk_at dksX4_ifSplit_2 5 rfl rfl)
theorem dX4_ifSplit_52 : decode cX4_ifSplit 52 = .ok (.goto 4, 3) := dk_167 0 4 (dk_at dksX4_ifSplit_2 6 rfl rfl)
theorem dX4_ifSplit_55 : decode cX4_ifSplit 55 = .ok (.iconst 0, 1) := dk_3 (dk_at dksX4_ifSplit_2 9 rfl rfl)
theorem dX4_ifSplit_56 : decode cX4_ifSplit 56 = .ok (.invokevirtual 346, 3) := dk_182 1 90 (dk_at dksX4_ifSplit_2 10 rfl rfl)
theorem dX4_ifSplit_59 : decode cX4_ifSplit 59 = .ok (.ireturn, 1) := dk_172 (dk_at dksX4_ifSplit_2 13 rfl rfl)
theorem dX4_ifSplit_60 : decode cX4_ifSplit 60 = .ok (.iload 4, 2) := dk_21 4 (dk_at dksX4_ifSplit_2 14 rfl rfl)
theorem dX4_ifSplit_62 : decode cX4_ifSplit 62 = .ok (.iconst 2, 1) := dk_5 (dk_at dksX4_ifSplit_2 16 rfl rfl)
theorem dX4_ifSplit_63 : decode cX4_ifSplit 63 = .ok (.if_icmp .ne 7, 3) := dk_160 0 7 (dk_at dksX4_ifSplit_2 17 rfl rfl)
theorem dX4_ifSplit_66 : decode cX4_ifSplit 66 = .ok (.iload_n 3, 1) := dk_29 (dk_at dksX4_ifSplit_2 20 rfl rfl)
theorem dX4_ifSplit_67 : decode cX4_ifSplit 67 = .ok (.goto 24, 3) := dk_167 0 24 (dk_at dksX4_ifSplit_2 21 rfl rfl)
theorem dX4_ifSplit_70 : decode cX4_ifSplit 70 = .ok (.aload_n 0, 1) := dk_42 (dk_at dksX4_ifSplit_3 0 rfl rfl)
theorem dX4_ifSplit_71 : decode cX4_ifSplit 71 = .ok (.getfield 7, 3) := dk_180 0 7 (dk_at dksX4_ifSplit_3 1 rfl rfl)
theorem dX4_ifSplit_74 : decode cX4_ifSplit 74 = .ok (.iload_n 1, 1) := dk_27 (dk_at dksX4_ifSplit_3 4 rfl rfl)
theorem dX4_ifSplit_75 : decode cX4_ifSplit 75 = .ok (.iload_n 2, 1) := dk_28 (dk_at dksX4_ifSplit_3 5 rfl rfl)
theorem dX4_ifSplit_76 : decode cX4_ifSplit 76 = .ok (.iconst 1, 1) := dk_4 (dk_at dksX4_ifSplit_3 6 rfl rfl)
theorem dX4_ifSplit_77 : decode cX4_ifSplit 77 = .ok (.if_icmp .ne 7, 3) := dk_160 0 7 (dk_at dksX4_ifSplit_3 7 rfl rfl)
theorem dX4_ifSplit_80 : decode cX4_ifSplit 80 = .ok (.iconst 3, 1) := dk_6 (dk_at dksX4_ifSplit_3 10 rfl rfl)
theorem dX4_ifSplit_81 : decode cX4_ifSplit 81 = .ok (.goto 4, 3) := dk_167 0 4 (dk_at dksX4_ifSplit_3 11 rfl rfl)
theorem dX4_ifSplit_84 : decode cX4_ifSplit 84 = .ok (.iconst 2, 1) := dk_5 (dk_at dksX4_ifSplit_3 14 rfl rfl)
theorem dX4_ifSplit_85 : decode cX4_ifSplit 85 = .ok (.invokestatic 66, 3) := dk_184 0 66 (dk_at dksX4_ifSplit_3 15 rfl rfl)
theorem dX4_ifSplit_88 : decode cX4_ifSplit 88 = .ok (.iaload, 1) := dk_46 (dk_at dksX4_ifSplit_3 18 rfl rfl)
theorem dX4_ifSplit_89 : decode cX4_ifSplit 89 = .ok (.iload_n 3, 1) := dk_29 (dk_at dksX4_ifSplit_3 19 rfl rfl)
theorem dX4_ifSplit_90 : decode cX4_ifSplit 90 = .ok (.isub, 1) := dk_100 (dk_at dksX4_ifSplit_3 20 rfl rfl)
theorem dX4_ifSplit_91 : decode cX4_ifSplit 91 = .ok (.istore 5, 2) := dk_54 5 (dk_at dksX4_ifSplit_3 21 rfl rfl)
theorem dX4_ifSplit_93 : decode cX4_ifSplit 93 = .ok (.iload 5, 2) := dk_21 5 (dk_at dksX4_ifSplit_4 0 rfl rfl)
theorem dX4_ifSplit_95 : decode cX4_ifSplit 95 = .ok (.aload_n 0, 1) := dk_42 (dk_at dksX4_ifSplit_4 2 rfl rfl)
theorem dX4_ifSplit_96 : decode cX4_ifSplit 96 = .ok (.getfield 7, 3) := dk_180 0 7 (dk_at dksX4_ifSplit_4 3 rfl rfl)
theorem dX4_ifSplit_99 : decode cX4_ifSplit 99 = .ok (.iload_n 1, 1) := dk_27 (dk_at dksX4_ifSplit_4 6 rfl rfl)
theorem dX4_ifSplit_100 : decode cX4_ifSplit 100 = .ok (.iload_n 2, 1) := dk_28 (dk_at dksX4_ifSplit_4 7 rfl rfl)
theorem dX4_ifSplit_101 : decode cX4_ifSplit 101 = .ok (.iconst 1, 1) := dk_4 (dk_at dksX4_ifSplit_4 8 rfl rfl)
theorem dX4_ifSplit_102 : decode cX4_ifSplit 102 = .ok (.if_icmp .ne 7, 3) := dk_160 0 7 (dk_at dksX4_ifSplit_4 9 rfl rfl)
theorem dX4_ifSplit_105 : decode cX4_ifSplit 105 = .ok (.iconst 2, 1) := dk_5 (dk_at dksX4_ifSplit_4 12 rfl rfl)
theorem dX4_ifSplit_106 : decode cX4_ifSplit 106 = .ok (.goto 4, 3) := dk_167 0 4 (dk_at dksX4_ifSplit_4 13 rfl rfl)
theorem dX4_ifSplit_109 : decode cX4_ifSplit 109 = .ok (.iconst 3, 1) := dk_6 (dk_at dksX4_ifSplit_4 16 rfl rfl)
theorem dX4_ifSplit_110 : decode cX4_ifSplit 110 = .ok (.invokestatic 66, 3) := dk_184 0 66 (dk_at dksX4_ifSplit_4 17 rfl rfl)
theorem dX4_ifSplit_113 : decode cX4_ifSplit 113 = .ok (.iaload, 1) := dk_46 (dk_at dksX4_ifSplit_4 20 rfl rfl)
theorem dX4_ifSplit_114 : decode cX4_ifSplit 114 = .ok (.imul, 1) := dk_104 (dk_at dksX4_ifSplit_4 21 rfl rfl)
theorem dX4_ifSplit_115 : decode cX4_ifSplit 115 = .ok (.aload_n 0, 1) := dk_42 (dk_at dksX4_ifSplit_4 22 rfl rfl)
theorem dX4_ifSplit_116 : decode cX4_ifSplit 116 = .ok (.getfield 7, 3) := dk_180 0 7 (dk_at dksX4_ifSplit_5 0 rfl rfl)
theorem dX4_ifSplit_119 : decode cX4_ifSplit 119 = .ok (.iconst 2, 1) := dk_5 (dk_at dksX4_ifSplit_5 3 rfl rfl)
theorem dX4_ifSplit_120 : decode cX4_ifSplit 120 = .ok (.iaload, 1) := dk_46 (dk_at dksX4_ifSplit_5 4 rfl rfl)
theorem dX4_ifSplit_121 : decode cX4_ifSplit 121 = .ok (.imul, 1) := dk_104 (dk_at dksX4_ifSplit_5 5 rfl rfl)
theorem dX4_ifSplit_122 : decode cX4_ifSplit 122 = .ok (.aload_n 0, 1) := dk_42 (dk_at dksX4_ifSplit_5 6 rfl rfl)
theorem dX4_ifSplit_123 : decode cX4_ifSplit 123 = .ok (.getfield 7, 3) := dk_180 0 7 (dk_at dksX4_ifSplit_5 7 rfl rfl)
theorem dX4_ifSplit_126 : decode cX4_ifSplit 126 = .ok (.iload_n 1, 1) := dk_27 (dk_at dksX4_ifSplit_5 10 rfl rfl)
theorem dX4_ifSplit_127 : decode cX4_ifSplit 127 = .ok (.invokestatic 314, 3) := dk_184 1 58 (dk_at dksX4_ifSplit_5 11 rfl rfl)
theorem dX4_ifSplit_130 : decode cX4_ifSplit 130 = .ok (.isub, 1) := dk_100 (dk_at dksX4_ifSplit_5 14 rfl rfl)
theorem dX4_ifSplit_131 : decode cX4_ifSplit 131 = .ok (.sipush 20000, 3) := dk_17 78 32 (dk_at dksX4_ifSplit_5 15 rfl rfl)
theorem dX4_ifSplit_134 : decode cX4_ifSplit 134 = .ok (.iadd, 1) := dk_96 (dk_at dksX4_ifSplit_5 18 rfl rfl)
theorem dX4_ifSplit_135 : decode cX4_ifSplit 135 = .ok (.istore 6, 2) := dk_54 6 (dk_at dksX4_ifSplit_5 19 rfl rfl)
theorem dX4_ifSplit_137 : decode cX4_ifSplit 137 = .ok (.iload 6, 2) := dk_21 6 (dk_at dksX4_ifSplit_5 21 rfl rfl)
theorem dX4_ifSplit_139 : decode cX4_ifSplit 139 = .ok (.ifCond .ge 7, 3) := dk_156 0 7 (dk_at dksX4_ifSplit_6 0 rfl rfl)
theorem dX4_ifSplit_142 : decode cX4_ifSplit 142 = .ok (.iconst 0, 1) := dk_3 (dk_at dksX4_ifSplit_6 3 rfl rfl)
theorem dX4_ifSplit_143 : decode cX4_ifSplit 143 = .ok (.goto 5, 3) := dk_167 0 5 (dk_at dksX4_ifSplit_6 4 rfl rfl)
theorem dX4_ifSplit_146 : decode cX4_ifSplit 146 = .ok (.iload 6, 2) := dk_21 6 (dk_at dksX4_ifSplit_6 7 rfl rfl)
theorem dX4_ifSplit_148 : decode cX4_ifSplit 148 = .ok (.ireturn, 1) := dk_172 (dk_at dksX4_ifSplit_6 9 rfl rfl)
abbrev cX4_burdensBehind : ByteArray := prog_20_method_126_code
def yX4_burdensBehind : MethodName := ⟨RX4, "burdensBehind", "(IIIZ)I"⟩
def dkwX4_burdensBehind_3 : List UInt8 := [182, 1, 86, 21, 4, 160, 0, 6, 132, 5, 1, 132, 6, 1, 167, 255, 176, 21, 5, 172]
abbrev dktX4_burdensBehind_3 : List UInt8 := dkwX4_burdensBehind_3 ++ []
def dkwX4_burdensBehind_2 : List UInt8 := [28, 29, 42, 180, 0, 7, 21, 6, 4, 184, 0, 101, 46, 42, 180, 0, 7, 21, 6, 5, 184, 0, 101, 46]
abbrev dktX4_burdensBehind_2 : List UInt8 := dkwX4_burdensBehind_2 ++ dktX4_burdensBehind_3
def dkwX4_burdensBehind_1 : List UInt8 := [27, 184, 0, 104, 154, 0, 6, 167, 0, 52, 42, 180, 0, 7, 21, 6, 184, 0, 108, 153, 0, 37, 42, 27]
abbrev dktX4_burdensBehind_1 : List UInt8 := dkwX4_burdensBehind_1 ++ dktX4_burdensBehind_2
def dkwX4_burdensBehind_0 : List UInt8 := [3, 54, 5, 3, 54, 6, 21, 6, 42, 180, 0, 7, 16, 7, 46, 162, 0, 74, 42, 180, 0, 7, 21, 6]
abbrev dktX4_burdensBehind_0 : List UInt8 := dkwX4_burdensBehind_0 ++ dktX4_burdensBehind_1
theorem dksX4_burdensBehind_0 : cX4_burdensBehind.data.toList.drop 0 = dktX4_burdensBehind_0 := by decide +kernel
theorem dksX4_burdensBehind_1 : cX4_burdensBehind.data.toList.drop 24 = dktX4_burdensBehind_1 := dk_seg dksX4_burdensBehind_0 24 rfl rfl
theorem dksX4_burdensBehind_2 : cX4_burdensBehind.data.toList.drop 48 = dktX4_burdensBehind_2 := dk_seg dksX4_burdensBehind_1 24 rfl rfl
theorem dksX4_burdensBehind_3 : cX4_burdensBehind.data.toList.drop 72 = dktX4_burdensBehind_3 := dk_seg dksX4_burdensBehind_2 24 rfl rfl
theorem dX4_burdensBehind_0 : decode cX4_burdensBehind 0 = .ok (.iconst 0, 1) := dk_3 (dk_at dksX4_burdensBehind_0 0 rfl rfl)
theorem dX4_burdensBehind_1 : decode cX4_burdensBehind 1 = .ok (.istore 5, 2) := dk_54 5 (dk_at dksX4_burdensBehind_0 1 rfl rfl)
theorem dX4_burdensBehind_3 : decode cX4_burdensBehind 3 = .ok (.iconst 0, 1) := dk_3 (dk_at dksX4_burdensBehind_0 3 rfl rfl)
theorem dX4_burdensBehind_4 : decode cX4_burdensBehind 4 = .ok (.istore 6, 2) := dk_54 6 (dk_at dksX4_burdensBehind_0 4 rfl rfl)
theorem dX4_burdensBehind_6 : decode cX4_burdensBehind 6 = .ok (.iload 6, 2) := dk_21 6 (dk_at dksX4_burdensBehind_0 6 rfl rfl)
theorem dX4_burdensBehind_8 : decode cX4_burdensBehind 8 = .ok (.aload_n 0, 1) := dk_42 (dk_at dksX4_burdensBehind_0 8 rfl rfl)
theorem dX4_burdensBehind_9 : decode cX4_burdensBehind 9 = .ok (.getfield 7, 3) := dk_180 0 7 (dk_at dksX4_burdensBehind_0 9 rfl rfl)
theorem dX4_burdensBehind_12 : decode cX4_burdensBehind 12 = .ok (.bipush 7, 2) := dk_16 7 (dk_at dksX4_burdensBehind_0 12 rfl rfl)
theorem dX4_burdensBehind_14 : decode cX4_burdensBehind 14 = .ok (.iaload, 1) := dk_46 (dk_at dksX4_burdensBehind_0 14 rfl rfl)
theorem dX4_burdensBehind_15 : decode cX4_burdensBehind 15 = .ok (.if_icmp .ge 74, 3) := dk_162 0 74 (dk_at dksX4_burdensBehind_0 15 rfl rfl)
theorem dX4_burdensBehind_18 : decode cX4_burdensBehind 18 = .ok (.aload_n 0, 1) := dk_42 (dk_at dksX4_burdensBehind_0 18 rfl rfl)
theorem dX4_burdensBehind_19 : decode cX4_burdensBehind 19 = .ok (.getfield 7, 3) := dk_180 0 7 (dk_at dksX4_burdensBehind_0 19 rfl rfl)
theorem dX4_burdensBehind_22 : decode cX4_burdensBehind 22 = .ok (.iload 6, 2) := dk_21 6 (dk_at dksX4_burdensBehind_0 22 rfl rfl)
theorem dX4_burdensBehind_24 : decode cX4_burdensBehind 24 = .ok (.iload_n 1, 1) := dk_27 (dk_at dksX4_burdensBehind_1 0 rfl rfl)
theorem dX4_burdensBehind_25 : decode cX4_burdensBehind 25 = .ok (.invokestatic 104, 3) := dk_184 0 104 (dk_at dksX4_burdensBehind_1 1 rfl rfl)
theorem dX4_burdensBehind_28 : decode cX4_burdensBehind 28 = .ok (.ifCond .ne 6, 3) := dk_154 0 6 (dk_at dksX4_burdensBehind_1 4 rfl rfl)
theorem dX4_burdensBehind_31 : decode cX4_burdensBehind 31 = .ok (.goto 52, 3) := dk_167 0 52 (dk_at dksX4_burdensBehind_1 7 rfl rfl)
theorem dX4_burdensBehind_34 : decode cX4_burdensBehind 34 = .ok (.aload_n 0, 1) := dk_42 (dk_at dksX4_burdensBehind_1 10 rfl rfl)
theorem dX4_burdensBehind_35 : decode cX4_burdensBehind 35 = .ok (.getfield 7, 3) := dk_180 0 7 (dk_at dksX4_burdensBehind_1 11 rfl rfl)
theorem dX4_burdensBehind_38 : decode cX4_burdensBehind 38 = .ok (.iload 6, 2) := dk_21 6 (dk_at dksX4_burdensBehind_1 14 rfl rfl)
theorem dX4_burdensBehind_40 : decode cX4_burdensBehind 40 = .ok (.invokestatic 108, 3) := dk_184 0 108 (dk_at dksX4_burdensBehind_1 16 rfl rfl)
theorem dX4_burdensBehind_43 : decode cX4_burdensBehind 43 = .ok (.ifCond .eq 37, 3) := dk_153 0 37 (dk_at dksX4_burdensBehind_1 19 rfl rfl)
theorem dX4_burdensBehind_46 : decode cX4_burdensBehind 46 = .ok (.aload_n 0, 1) := dk_42 (dk_at dksX4_burdensBehind_1 22 rfl rfl)
theorem dX4_burdensBehind_47 : decode cX4_burdensBehind 47 = .ok (.iload_n 1, 1) := dk_27 (dk_at dksX4_burdensBehind_1 23 rfl rfl)
theorem dX4_burdensBehind_48 : decode cX4_burdensBehind 48 = .ok (.iload_n 2, 1) := dk_28 (dk_at dksX4_burdensBehind_2 0 rfl rfl)
theorem dX4_burdensBehind_49 : decode cX4_burdensBehind 49 = .ok (.iload_n 3, 1) := dk_29 (dk_at dksX4_burdensBehind_2 1 rfl rfl)
theorem dX4_burdensBehind_50 : decode cX4_burdensBehind 50 = .ok (.aload_n 0, 1) := dk_42 (dk_at dksX4_burdensBehind_2 2 rfl rfl)
theorem dX4_burdensBehind_51 : decode cX4_burdensBehind 51 = .ok (.getfield 7, 3) := dk_180 0 7 (dk_at dksX4_burdensBehind_2 3 rfl rfl)
theorem dX4_burdensBehind_54 : decode cX4_burdensBehind 54 = .ok (.iload 6, 2) := dk_21 6 (dk_at dksX4_burdensBehind_2 6 rfl rfl)
theorem dX4_burdensBehind_56 : decode cX4_burdensBehind 56 = .ok (.iconst 1, 1) := dk_4 (dk_at dksX4_burdensBehind_2 8 rfl rfl)
theorem dX4_burdensBehind_57 : decode cX4_burdensBehind 57 = .ok (.invokestatic 101, 3) := dk_184 0 101 (dk_at dksX4_burdensBehind_2 9 rfl rfl)
theorem dX4_burdensBehind_60 : decode cX4_burdensBehind 60 = .ok (.iaload, 1) := dk_46 (dk_at dksX4_burdensBehind_2 12 rfl rfl)
theorem dX4_burdensBehind_61 : decode cX4_burdensBehind 61 = .ok (.aload_n 0, 1) := dk_42 (dk_at dksX4_burdensBehind_2 13 rfl rfl)
theorem dX4_burdensBehind_62 : decode cX4_burdensBehind 62 = .ok (.getfield 7, 3) := dk_180 0 7 (dk_at dksX4_burdensBehind_2 14 rfl rfl)
theorem dX4_burdensBehind_65 : decode cX4_burdensBehind 65 = .ok (.iload 6, 2) := dk_21 6 (dk_at dksX4_burdensBehind_2 17 rfl rfl)
theorem dX4_burdensBehind_67 : decode cX4_burdensBehind 67 = .ok (.iconst 2, 1) := dk_5 (dk_at dksX4_burdensBehind_2 19 rfl rfl)
theorem dX4_burdensBehind_68 : decode cX4_burdensBehind 68 = .ok (.invokestatic 101, 3) := dk_184 0 101 (dk_at dksX4_burdensBehind_2 20 rfl rfl)
theorem dX4_burdensBehind_71 : decode cX4_burdensBehind 71 = .ok (.iaload, 1) := dk_46 (dk_at dksX4_burdensBehind_2 23 rfl rfl)
theorem dX4_burdensBehind_72 : decode cX4_burdensBehind 72 = .ok (.invokevirtual 342, 3) := dk_182 1 86 (dk_at dksX4_burdensBehind_3 0 rfl rfl)
theorem dX4_burdensBehind_75 : decode cX4_burdensBehind 75 = .ok (.iload 4, 2) := dk_21 4 (dk_at dksX4_burdensBehind_3 3 rfl rfl)
theorem dX4_burdensBehind_77 : decode cX4_burdensBehind 77 = .ok (.if_icmp .ne 6, 3) := dk_160 0 6 (dk_at dksX4_burdensBehind_3 5 rfl rfl)
theorem dX4_burdensBehind_80 : decode cX4_burdensBehind 80 = .ok (.iinc 5 1, 3) := dk_132 5 1 (dk_at dksX4_burdensBehind_3 8 rfl rfl)
theorem dX4_burdensBehind_83 : decode cX4_burdensBehind 83 = .ok (.iinc 6 1, 3) := dk_132 6 1 (dk_at dksX4_burdensBehind_3 11 rfl rfl)
theorem dX4_burdensBehind_86 : decode cX4_burdensBehind 86 = .ok (.goto (-80), 3) := dk_167 255 176 (dk_at dksX4_burdensBehind_3 14 rfl rfl)
theorem dX4_burdensBehind_89 : decode cX4_burdensBehind 89 = .ok (.iload 5, 2) := dk_21 5 (dk_at dksX4_burdensBehind_3 17 rfl rfl)
theorem dX4_burdensBehind_91 : decode cX4_burdensBehind 91 = .ok (.ireturn, 1) := dk_172 (dk_at dksX4_burdensBehind_3 19 rfl rfl)
abbrev cX4_isInFirst : ByteArray := prog_20_method_125_code
def yX4_isInFirst : MethodName := ⟨RX4, "isInFirst", "(IIIII)Z"⟩
def dkwX4_isInFirst_2 : List UInt8 := [4, 167, 0, 4, 3, 172]
abbrev dktX4_isInFirst_2 : List UInt8 := dkwX4_isInFirst_2 ++ []
def dkwX4_isInFirst_1 : List UInt8 := [167, 0, 29, 3, 167, 0, 25, 21, 4, 42, 180, 0, 7, 27, 3, 184, 0, 66, 46, 29, 96, 162, 0, 7]
abbrev dktX4_isInFirst_1 : List UInt8 := dkwX4_isInFirst_1 ++ dktX4_isInFirst_2
def dkwX4_isInFirst_0 : List UInt8 := [28, 4, 160, 0, 28, 21, 5, 42, 180, 0, 7, 27, 4, 184, 0, 66, 46, 29, 96, 162, 0, 7, 4]
abbrev dktX4_isInFirst_0 : List UInt8 := dkwX4_isInFirst_0 ++ dktX4_isInFirst_1
theorem dksX4_isInFirst_0 : cX4_isInFirst.data.toList.drop 0 = dktX4_isInFirst_0 := by decide +kernel
theorem dksX4_isInFirst_1 : cX4_isInFirst.data.toList.drop 23 = dktX4_isInFirst_1 := dk_seg dksX4_isInFirst_0 23 rfl rfl
theorem dksX4_isInFirst_2 : cX4_isInFirst.data.toList.drop 47 = dktX4_isInFirst_2 := dk_seg dksX4_isInFirst_1 24 rfl rfl
theorem dX4_isInFirst_0 : decode cX4_isInFirst 0 = .ok (.iload_n 2, 1) := dk_28 (dk_at dksX4_isInFirst_0 0 rfl rfl)
theorem dX4_isInFirst_1 : decode cX4_isInFirst 1 = .ok (.iconst 1, 1) := dk_4 (dk_at dksX4_isInFirst_0 1 rfl rfl)
theorem dX4_isInFirst_2 : decode cX4_isInFirst 2 = .ok (.if_icmp .ne 28, 3) := dk_160 0 28 (dk_at dksX4_isInFirst_0 2 rfl rfl)
theorem dX4_isInFirst_5 : decode cX4_isInFirst 5 = .ok (.iload 5, 2) := dk_21 5 (dk_at dksX4_isInFirst_0 5 rfl rfl)
theorem dX4_isInFirst_7 : decode cX4_isInFirst 7 = .ok (.aload_n 0, 1) := dk_42 (dk_at dksX4_isInFirst_0 7 rfl rfl)
theorem dX4_isInFirst_8 : decode cX4_isInFirst 8 = .ok (.getfield 7, 3) := dk_180 0 7 (dk_at dksX4_isInFirst_0 8 rfl rfl)
theorem dX4_isInFirst_11 : decode cX4_isInFirst 11 = .ok (.iload_n 1, 1) := dk_27 (dk_at dksX4_isInFirst_0 11 rfl rfl)
theorem dX4_isInFirst_12 : decode cX4_isInFirst 12 = .ok (.iconst 1, 1) := dk_4 (dk_at dksX4_isInFirst_0 12 rfl rfl)
theorem dX4_isInFirst_13 : decode cX4_isInFirst 13 = .ok (.invokestatic 66, 3) := dk_184 0 66 (dk_at dksX4_isInFirst_0 13 rfl rfl)
theorem dX4_isInFirst_16 : decode cX4_isInFirst 16 = .ok (.iaload, 1) := dk_46 (dk_at dksX4_isInFirst_0 16 rfl rfl)
theorem dX4_isInFirst_17 : decode cX4_isInFirst 17 = .ok (.iload_n 3, 1) := dk_29 (dk_at dksX4_isInFirst_0 17 rfl rfl)
theorem dX4_isInFirst_18 : decode cX4_isInFirst 18 = .ok (.iadd, 1) := dk_96 (dk_at dksX4_isInFirst_0 18 rfl rfl)
theorem dX4_isInFirst_19 : decode cX4_isInFirst 19 = .ok (.if_icmp .ge 7, 3) := dk_162 0 7 (dk_at dksX4_isInFirst_0 19 rfl rfl)
theorem dX4_isInFirst_22 : decode cX4_isInFirst 22 = .ok (.iconst 1, 1) := dk_4 (dk_at dksX4_isInFirst_0 22 rfl rfl)
theorem dX4_isInFirst_23 : decode cX4_isInFirst 23 = .ok (.goto 29, 3) := dk_167 0 29 (dk_at dksX4_isInFirst_1 0 rfl rfl)
theorem dX4_isInFirst_26 : decode cX4_isInFirst 26 = .ok (.iconst 0, 1) := dk_3 (dk_at dksX4_isInFirst_1 3 rfl rfl)
theorem dX4_isInFirst_27 : decode cX4_isInFirst 27 = .ok (.goto 25, 3) := dk_167 0 25 (dk_at dksX4_isInFirst_1 4 rfl rfl)
theorem dX4_isInFirst_30 : decode cX4_isInFirst 30 = .ok (.iload 4, 2) := dk_21 4 (dk_at dksX4_isInFirst_1 7 rfl rfl)
theorem dX4_isInFirst_32 : decode cX4_isInFirst 32 = .ok (.aload_n 0, 1) := dk_42 (dk_at dksX4_isInFirst_1 9 rfl rfl)
theorem dX4_isInFirst_33 : decode cX4_isInFirst 33 = .ok (.getfield 7, 3) := dk_180 0 7 (dk_at dksX4_isInFirst_1 10 rfl rfl)
theorem dX4_isInFirst_36 : decode cX4_isInFirst 36 = .ok (.iload_n 1, 1) := dk_27 (dk_at dksX4_isInFirst_1 13 rfl rfl)
theorem dX4_isInFirst_37 : decode cX4_isInFirst 37 = .ok (.iconst 0, 1) := dk_3 (dk_at dksX4_isInFirst_1 14 rfl rfl)
theorem dX4_isInFirst_38 : decode cX4_isInFirst 38 = .ok (.invokestatic 66, 3) := dk_184 0 66 (dk_at dksX4_isInFirst_1 15 rfl rfl)
theorem dX4_isInFirst_41 : decode cX4_isInFirst 41 = .ok (.iaload, 1) := dk_46 (dk_at dksX4_isInFirst_1 18 rfl rfl)
theorem dX4_isInFirst_42 : decode cX4_isInFirst 42 = .ok (.iload_n 3, 1) := dk_29 (dk_at dksX4_isInFirst_1 19 rfl rfl)
theorem dX4_isInFirst_43 : decode cX4_isInFirst 43 = .ok (.iadd, 1) := dk_96 (dk_at dksX4_isInFirst_1 20 rfl rfl)
theorem dX4_isInFirst_44 : decode cX4_isInFirst 44 = .ok (.if_icmp .ge 7, 3) := dk_162 0 7 (dk_at dksX4_isInFirst_1 21 rfl rfl)
theorem dX4_isInFirst_47 : decode cX4_isInFirst 47 = .ok (.iconst 1, 1) := dk_4 (dk_at dksX4_isInFirst_2 0 rfl rfl)
theorem dX4_isInFirst_48 : decode cX4_isInFirst 48 = .ok (.goto 4, 3) := dk_167 0 4 (dk_at dksX4_isInFirst_2 1 rfl rfl)
theorem dX4_isInFirst_51 : decode cX4_isInFirst 51 = .ok (.iconst 0, 1) := dk_3 (dk_at dksX4_isInFirst_2 4 rfl rfl)
theorem dX4_isInFirst_52 : decode cX4_isInFirst 52 = .ok (.ireturn, 1) := dk_172 (dk_at dksX4_isInFirst_2 5 rfl rfl)
abbrev cX4_ifFreed : ByteArray := prog_20_method_128_code
def yX4_ifFreed : MethodName := ⟨RX4, "ifFreed", "(II)I"⟩
def dkwX4_ifFreed_2 : List UInt8 := [180, 0, 7, 27, 28, 184, 0, 120, 172]
abbrev dktX4_ifFreed_2 : List UInt8 := dkwX4_ifFreed_2 ++ []
def dkwX4_ifFreed_1 : List UInt8 := [184, 0, 108, 154, 0, 15, 42, 180, 0, 7, 27, 28, 184, 0, 104, 154, 0, 8, 16, 254, 167, 0, 12, 42]
abbrev dktX4_ifFreed_1 : List UInt8 := dkwX4_ifFreed_1 ++ dktX4_ifFreed_2
def dkwX4_ifFreed_0 : List UInt8 := [42, 27, 182, 1, 18, 153, 0, 11, 42, 28, 182, 0, 240, 154, 0, 5, 2, 172, 42, 180, 0, 7, 27]
abbrev dktX4_ifFreed_0 : List UInt8 := dkwX4_ifFreed_0 ++ dktX4_ifFreed_1
theorem dksX4_ifFreed_0 : cX4_ifFreed.data.toList.drop 0 = dktX4_ifFreed_0 := by decide +kernel
theorem dksX4_ifFreed_1 : cX4_ifFreed.data.toList.drop 23 = dktX4_ifFreed_1 := dk_seg dksX4_ifFreed_0 23 rfl rfl
theorem dksX4_ifFreed_2 : cX4_ifFreed.data.toList.drop 47 = dktX4_ifFreed_2 := dk_seg dksX4_ifFreed_1 24 rfl rfl
theorem dX4_ifFreed_0 : decode cX4_ifFreed 0 = .ok (.aload_n 0, 1) := dk_42 (dk_at dksX4_ifFreed_0 0 rfl rfl)
theorem dX4_ifFreed_1 : decode cX4_ifFreed 1 = .ok (.iload_n 1, 1) := dk_27 (dk_at dksX4_ifFreed_0 1 rfl rfl)
theorem dX4_ifFreed_2 : decode cX4_ifFreed 2 = .ok (.invokevirtual 274, 3) := dk_182 1 18 (dk_at dksX4_ifFreed_0 2 rfl rfl)
theorem dX4_ifFreed_5 : decode cX4_ifFreed 5 = .ok (.ifCond .eq 11, 3) := dk_153 0 11 (dk_at dksX4_ifFreed_0 5 rfl rfl)
theorem dX4_ifFreed_8 : decode cX4_ifFreed 8 = .ok (.aload_n 0, 1) := dk_42 (dk_at dksX4_ifFreed_0 8 rfl rfl)
theorem dX4_ifFreed_9 : decode cX4_ifFreed 9 = .ok (.iload_n 2, 1) := dk_28 (dk_at dksX4_ifFreed_0 9 rfl rfl)
theorem dX4_ifFreed_10 : decode cX4_ifFreed 10 = .ok (.invokevirtual 240, 3) := dk_182 0 240 (dk_at dksX4_ifFreed_0 10 rfl rfl)
theorem dX4_ifFreed_13 : decode cX4_ifFreed 13 = .ok (.ifCond .ne 5, 3) := dk_154 0 5 (dk_at dksX4_ifFreed_0 13 rfl rfl)
theorem dX4_ifFreed_16 : decode cX4_ifFreed 16 = .ok (.iconst (-1), 1) := dk_2 (dk_at dksX4_ifFreed_0 16 rfl rfl)
theorem dX4_ifFreed_17 : decode cX4_ifFreed 17 = .ok (.ireturn, 1) := dk_172 (dk_at dksX4_ifFreed_0 17 rfl rfl)
theorem dX4_ifFreed_18 : decode cX4_ifFreed 18 = .ok (.aload_n 0, 1) := dk_42 (dk_at dksX4_ifFreed_0 18 rfl rfl)
theorem dX4_ifFreed_19 : decode cX4_ifFreed 19 = .ok (.getfield 7, 3) := dk_180 0 7 (dk_at dksX4_ifFreed_0 19 rfl rfl)
theorem dX4_ifFreed_22 : decode cX4_ifFreed 22 = .ok (.iload_n 1, 1) := dk_27 (dk_at dksX4_ifFreed_0 22 rfl rfl)
theorem dX4_ifFreed_23 : decode cX4_ifFreed 23 = .ok (.invokestatic 108, 3) := dk_184 0 108 (dk_at dksX4_ifFreed_1 0 rfl rfl)
theorem dX4_ifFreed_26 : decode cX4_ifFreed 26 = .ok (.ifCond .ne 15, 3) := dk_154 0 15 (dk_at dksX4_ifFreed_1 3 rfl rfl)
theorem dX4_ifFreed_29 : decode cX4_ifFreed 29 = .ok (.aload_n 0, 1) := dk_42 (dk_at dksX4_ifFreed_1 6 rfl rfl)
theorem dX4_ifFreed_30 : decode cX4_ifFreed 30 = .ok (.getfield 7, 3) := dk_180 0 7 (dk_at dksX4_ifFreed_1 7 rfl rfl)
theorem dX4_ifFreed_33 : decode cX4_ifFreed 33 = .ok (.iload_n 1, 1) := dk_27 (dk_at dksX4_ifFreed_1 10 rfl rfl)
theorem dX4_ifFreed_34 : decode cX4_ifFreed 34 = .ok (.iload_n 2, 1) := dk_28 (dk_at dksX4_ifFreed_1 11 rfl rfl)
theorem dX4_ifFreed_35 : decode cX4_ifFreed 35 = .ok (.invokestatic 104, 3) := dk_184 0 104 (dk_at dksX4_ifFreed_1 12 rfl rfl)
theorem dX4_ifFreed_38 : decode cX4_ifFreed 38 = .ok (.ifCond .ne 8, 3) := dk_154 0 8 (dk_at dksX4_ifFreed_1 15 rfl rfl)
theorem dX4_ifFreed_41 : decode cX4_ifFreed 41 = .ok (.bipush (-2), 2) := dk_16 254 (dk_at dksX4_ifFreed_1 18 rfl rfl)
theorem dX4_ifFreed_43 : decode cX4_ifFreed 43 = .ok (.goto 12, 3) := dk_167 0 12 (dk_at dksX4_ifFreed_1 20 rfl rfl)
theorem dX4_ifFreed_46 : decode cX4_ifFreed 46 = .ok (.aload_n 0, 1) := dk_42 (dk_at dksX4_ifFreed_1 23 rfl rfl)
theorem dX4_ifFreed_47 : decode cX4_ifFreed 47 = .ok (.getfield 7, 3) := dk_180 0 7 (dk_at dksX4_ifFreed_2 0 rfl rfl)
theorem dX4_ifFreed_50 : decode cX4_ifFreed 50 = .ok (.iload_n 1, 1) := dk_27 (dk_at dksX4_ifFreed_2 3 rfl rfl)
theorem dX4_ifFreed_51 : decode cX4_ifFreed 51 = .ok (.iload_n 2, 1) := dk_28 (dk_at dksX4_ifFreed_2 4 rfl rfl)
theorem dX4_ifFreed_52 : decode cX4_ifFreed 52 = .ok (.invokestatic 120, 3) := dk_184 0 120 (dk_at dksX4_ifFreed_2 5 rfl rfl)
theorem dX4_ifFreed_55 : decode cX4_ifFreed 55 = .ok (.ireturn, 1) := dk_172 (dk_at dksX4_ifFreed_2 8 rfl rfl)
abbrev cX4_ifSold : ByteArray := prog_20_method_129_code
def yX4_ifSold : MethodName := ⟨RX4, "ifSold", "(III)I"⟩
def dkwX4_ifSold_4 : List UInt8 := [3, 167, 0, 17, 21, 4, 21, 5, 162, 0, 8, 21, 4, 167, 0, 5, 21, 5, 172]
abbrev dktX4_ifSold_4 : List UInt8 := dkwX4_ifSold_4 ++ []
def dkwX4_ifSold_3 : List UInt8 := [46, 184, 0, 111, 100, 54, 4, 42, 180, 0, 7, 29, 5, 184, 0, 101, 46, 54, 5, 21, 4, 156, 0, 7]
abbrev dktX4_ifSold_3 : List UInt8 := dkwX4_ifSold_3 ++ dktX4_ifSold_4
def dkwX4_ifSold_2 : List UInt8 := [184, 0, 104, 154, 0, 6, 16, 254, 172, 28, 42, 180, 0, 7, 27, 42, 180, 0, 7, 29, 6, 184, 0, 101]
abbrev dktX4_ifSold_2 : List UInt8 := dkwX4_ifSold_2 ++ dktX4_ifSold_3
def dkwX4_ifSold_1 : List UInt8 := [154, 0, 5, 2, 172, 42, 180, 0, 7, 29, 184, 0, 108, 154, 0, 15, 42, 180, 0, 7, 29, 27]
abbrev dktX4_ifSold_1 : List UInt8 := dkwX4_ifSold_1 ++ dktX4_ifSold_2
def dkwX4_ifSold_0 : List UInt8 := [42, 27, 182, 0, 240, 153, 0, 22, 28, 3, 19, 1, 94, 184, 0, 54, 153, 0, 11, 42, 29, 182, 1, 18]
abbrev dktX4_ifSold_0 : List UInt8 := dkwX4_ifSold_0 ++ dktX4_ifSold_1
theorem dksX4_ifSold_0 : cX4_ifSold.data.toList.drop 0 = dktX4_ifSold_0 := by decide +kernel
theorem dksX4_ifSold_1 : cX4_ifSold.data.toList.drop 24 = dktX4_ifSold_1 := dk_seg dksX4_ifSold_0 24 rfl rfl
theorem dksX4_ifSold_2 : cX4_ifSold.data.toList.drop 46 = dktX4_ifSold_2 := dk_seg dksX4_ifSold_1 22 rfl rfl
theorem dksX4_ifSold_3 : cX4_ifSold.data.toList.drop 70 = dktX4_ifSold_3 := dk_seg dksX4_ifSold_2 24 rfl rfl
theorem dksX4_ifSold_4 : cX4_ifSold.data.toList.drop 94 = dktX4_ifSold_4 := dk_seg dksX4_ifSold_3 24 rfl rfl
theorem dX4_ifSold_0 : decode cX4_ifSold 0 = .ok (.aload_n 0, 1) := dk_42 (dk_at dksX4_ifSold_0 0 rfl rfl)
theorem dX4_ifSold_1 : decode cX4_ifSold 1 = .ok (.iload_n 1, 1) := dk_27 (dk_at dksX4_ifSold_0 1 rfl rfl)
theorem dX4_ifSold_2 : decode cX4_ifSold 2 = .ok (.invokevirtual 240, 3) := dk_182 0 240 (dk_at dksX4_ifSold_0 2 rfl rfl)
theorem dX4_ifSold_5 : decode cX4_ifSold 5 = .ok (.ifCond .eq 22, 3) := dk_153 0 22 (dk_at dksX4_ifSold_0 5 rfl rfl)
theorem dX4_ifSold_8 : decode cX4_ifSold 8 = .ok (.iload_n 2, 1) := dk_28 (dk_at dksX4_ifSold_0 8 rfl rfl)
theorem dX4_ifSold_9 : decode cX4_ifSold 9 = .ok (.iconst 0, 1) := dk_3 (dk_at dksX4_ifSold_0 9 rfl rfl)
theorem dX4_ifSold_10 : decode cX4_ifSold 10 = .ok (.ldc_w 350, 3) := dk_19 1 94 (dk_at dksX4_ifSold_0 10 rfl rfl)
theorem dX4_ifSold_13 : decode cX4_ifSold 13 = .ok (.invokestatic 54, 3) := dk_184 0 54 (dk_at dksX4_ifSold_0 13 rfl rfl)
theorem dX4_ifSold_16 : decode cX4_ifSold 16 = .ok (.ifCond .eq 11, 3) := dk_153 0 11 (dk_at dksX4_ifSold_0 16 rfl rfl)
theorem dX4_ifSold_19 : decode cX4_ifSold 19 = .ok (.aload_n 0, 1) := dk_42 (dk_at dksX4_ifSold_0 19 rfl rfl)
theorem dX4_ifSold_20 : decode cX4_ifSold 20 = .ok (.iload_n 3, 1) := dk_29 (dk_at dksX4_ifSold_0 20 rfl rfl)
theorem dX4_ifSold_21 : decode cX4_ifSold 21 = .ok (.invokevirtual 274, 3) := dk_182 1 18 (dk_at dksX4_ifSold_0 21 rfl rfl)
theorem dX4_ifSold_24 : decode cX4_ifSold 24 = .ok (.ifCond .ne 5, 3) := dk_154 0 5 (dk_at dksX4_ifSold_1 0 rfl rfl)
theorem dX4_ifSold_27 : decode cX4_ifSold 27 = .ok (.iconst (-1), 1) := dk_2 (dk_at dksX4_ifSold_1 3 rfl rfl)
theorem dX4_ifSold_28 : decode cX4_ifSold 28 = .ok (.ireturn, 1) := dk_172 (dk_at dksX4_ifSold_1 4 rfl rfl)
theorem dX4_ifSold_29 : decode cX4_ifSold 29 = .ok (.aload_n 0, 1) := dk_42 (dk_at dksX4_ifSold_1 5 rfl rfl)
theorem dX4_ifSold_30 : decode cX4_ifSold 30 = .ok (.getfield 7, 3) := dk_180 0 7 (dk_at dksX4_ifSold_1 6 rfl rfl)
theorem dX4_ifSold_33 : decode cX4_ifSold 33 = .ok (.iload_n 3, 1) := dk_29 (dk_at dksX4_ifSold_1 9 rfl rfl)
theorem dX4_ifSold_34 : decode cX4_ifSold 34 = .ok (.invokestatic 108, 3) := dk_184 0 108 (dk_at dksX4_ifSold_1 10 rfl rfl)
theorem dX4_ifSold_37 : decode cX4_ifSold 37 = .ok (.ifCond .ne 15, 3) := dk_154 0 15 (dk_at dksX4_ifSold_1 13 rfl rfl)
theorem dX4_ifSold_40 : decode cX4_ifSold 40 = .ok (.aload_n 0, 1) := dk_42 (dk_at dksX4_ifSold_1 16 rfl rfl)
theorem dX4_ifSold_41 : decode cX4_ifSold 41 = .ok (.getfield 7, 3) := dk_180 0 7 (dk_at dksX4_ifSold_1 17 rfl rfl)
theorem dX4_ifSold_44 : decode cX4_ifSold 44 = .ok (.iload_n 3, 1) := dk_29 (dk_at dksX4_ifSold_1 20 rfl rfl)
theorem dX4_ifSold_45 : decode cX4_ifSold 45 = .ok (.iload_n 1, 1) := dk_27 (dk_at dksX4_ifSold_1 21 rfl rfl)
theorem dX4_ifSold_46 : decode cX4_ifSold 46 = .ok (.invokestatic 104, 3) := dk_184 0 104 (dk_at dksX4_ifSold_2 0 rfl rfl)
theorem dX4_ifSold_49 : decode cX4_ifSold 49 = .ok (.ifCond .ne 6, 3) := dk_154 0 6 (dk_at dksX4_ifSold_2 3 rfl rfl)
theorem dX4_ifSold_52 : decode cX4_ifSold 52 = .ok (.bipush (-2), 2) := dk_16 254 (dk_at dksX4_ifSold_2 6 rfl rfl)
theorem dX4_ifSold_54 : decode cX4_ifSold 54 = .ok (.ireturn, 1) := dk_172 (dk_at dksX4_ifSold_2 8 rfl rfl)
theorem dX4_ifSold_55 : decode cX4_ifSold 55 = .ok (.iload_n 2, 1) := dk_28 (dk_at dksX4_ifSold_2 9 rfl rfl)
theorem dX4_ifSold_56 : decode cX4_ifSold 56 = .ok (.aload_n 0, 1) := dk_42 (dk_at dksX4_ifSold_2 10 rfl rfl)
theorem dX4_ifSold_57 : decode cX4_ifSold 57 = .ok (.getfield 7, 3) := dk_180 0 7 (dk_at dksX4_ifSold_2 11 rfl rfl)
theorem dX4_ifSold_60 : decode cX4_ifSold 60 = .ok (.iload_n 1, 1) := dk_27 (dk_at dksX4_ifSold_2 14 rfl rfl)
theorem dX4_ifSold_61 : decode cX4_ifSold 61 = .ok (.aload_n 0, 1) := dk_42 (dk_at dksX4_ifSold_2 15 rfl rfl)
theorem dX4_ifSold_62 : decode cX4_ifSold 62 = .ok (.getfield 7, 3) := dk_180 0 7 (dk_at dksX4_ifSold_2 16 rfl rfl)
theorem dX4_ifSold_65 : decode cX4_ifSold 65 = .ok (.iload_n 3, 1) := dk_29 (dk_at dksX4_ifSold_2 19 rfl rfl)
theorem dX4_ifSold_66 : decode cX4_ifSold 66 = .ok (.iconst 3, 1) := dk_6 (dk_at dksX4_ifSold_2 20 rfl rfl)
theorem dX4_ifSold_67 : decode cX4_ifSold 67 = .ok (.invokestatic 101, 3) := dk_184 0 101 (dk_at dksX4_ifSold_2 21 rfl rfl)
theorem dX4_ifSold_70 : decode cX4_ifSold 70 = .ok (.iaload, 1) := dk_46 (dk_at dksX4_ifSold_3 0 rfl rfl)
theorem dX4_ifSold_71 : decode cX4_ifSold 71 = .ok (.invokestatic 111, 3) := dk_184 0 111 (dk_at dksX4_ifSold_3 1 rfl rfl)
theorem dX4_ifSold_74 : decode cX4_ifSold 74 = .ok (.isub, 1) := dk_100 (dk_at dksX4_ifSold_3 4 rfl rfl)
theorem dX4_ifSold_75 : decode cX4_ifSold 75 = .ok (.istore 4, 2) := dk_54 4 (dk_at dksX4_ifSold_3 5 rfl rfl)
theorem dX4_ifSold_77 : decode cX4_ifSold 77 = .ok (.aload_n 0, 1) := dk_42 (dk_at dksX4_ifSold_3 7 rfl rfl)
theorem dX4_ifSold_78 : decode cX4_ifSold 78 = .ok (.getfield 7, 3) := dk_180 0 7 (dk_at dksX4_ifSold_3 8 rfl rfl)
theorem dX4_ifSold_81 : decode cX4_ifSold 81 = .ok (.iload_n 3, 1) := dk_29 (dk_at dksX4_ifSold_3 11 rfl rfl)
theorem dX4_ifSold_82 : decode cX4_ifSold 82 = .ok (.iconst 2, 1) := dk_5 (dk_at dksX4_ifSold_3 12 rfl rfl)
theorem dX4_ifSold_83 : decode cX4_ifSold 83 = .ok (.invokestatic 101, 3) := dk_184 0 101 (dk_at dksX4_ifSold_3 13 rfl rfl)
theorem dX4_ifSold_86 : decode cX4_ifSold 86 = .ok (.iaload, 1) := dk_46 (dk_at dksX4_ifSold_3 16 rfl rfl)
theorem dX4_ifSold_87 : decode cX4_ifSold 87 = .ok (.istore 5, 2) := dk_54 5 (dk_at dksX4_ifSold_3 17 rfl rfl)
theorem dX4_ifSold_89 : decode cX4_ifSold 89 = .ok (.iload 4, 2) := dk_21 4 (dk_at dksX4_ifSold_3 19 rfl rfl)
theorem dX4_ifSold_91 : decode cX4_ifSold 91 = .ok (.ifCond .ge 7, 3) := dk_156 0 7 (dk_at dksX4_ifSold_3 21 rfl rfl)
theorem dX4_ifSold_94 : decode cX4_ifSold 94 = .ok (.iconst 0, 1) := dk_3 (dk_at dksX4_ifSold_4 0 rfl rfl)
theorem dX4_ifSold_95 : decode cX4_ifSold 95 = .ok (.goto 17, 3) := dk_167 0 17 (dk_at dksX4_ifSold_4 1 rfl rfl)
theorem dX4_ifSold_98 : decode cX4_ifSold 98 = .ok (.iload 4, 2) := dk_21 4 (dk_at dksX4_ifSold_4 4 rfl rfl)
theorem dX4_ifSold_100 : decode cX4_ifSold 100 = .ok (.iload 5, 2) := dk_21 5 (dk_at dksX4_ifSold_4 6 rfl rfl)
theorem dX4_ifSold_102 : decode cX4_ifSold 102 = .ok (.if_icmp .ge 8, 3) := dk_162 0 8 (dk_at dksX4_ifSold_4 8 rfl rfl)
theorem dX4_ifSold_105 : decode cX4_ifSold 105 = .ok (.iload 4, 2) := dk_21 4 (dk_at dksX4_ifSold_4 11 rfl rfl)
theorem dX4_ifSold_107 : decode cX4_ifSold 107 = .ok (.goto 5, 3) := dk_167 0 5 (dk_at dksX4_ifSold_4 13 rfl rfl)
theorem dX4_ifSold_110 : decode cX4_ifSold 110 = .ok (.iload 5, 2) := dk_21 5 (dk_at dksX4_ifSold_4 16 rfl rfl)
theorem dX4_ifSold_112 : decode cX4_ifSold 112 = .ok (.ireturn, 1) := dk_172 (dk_at dksX4_ifSold_4 18 rfl rfl)
abbrev cX4_leastPrice : ByteArray := prog_20_method_130_code
def yX4_leastPrice : MethodName := ⟨RX4, "leastPrice", "()I"⟩
def dkwX4_leastPrice_1 : List UInt8 := [184, 1, 48, 154, 0, 5, 27, 172, 132, 1, 1, 167, 255, 228, 16, 254, 172]
abbrev dktX4_leastPrice_1 : List UInt8 := dkwX4_leastPrice_1 ++ []
def dkwX4_leastPrice_0 : List UInt8 := [42, 182, 1, 95, 4, 60, 27, 16, 99, 163, 0, 28, 42, 180, 0, 16, 5, 27, 79, 42, 180, 0, 16]
abbrev dktX4_leastPrice_0 : List UInt8 := dkwX4_leastPrice_0 ++ dktX4_leastPrice_1
theorem dksX4_leastPrice_0 : cX4_leastPrice.data.toList.drop 0 = dktX4_leastPrice_0 := by decide +kernel
theorem dksX4_leastPrice_1 : cX4_leastPrice.data.toList.drop 23 = dktX4_leastPrice_1 := dk_seg dksX4_leastPrice_0 23 rfl rfl
theorem dX4_leastPrice_0 : decode cX4_leastPrice 0 = .ok (.aload_n 0, 1) := dk_42 (dk_at dksX4_leastPrice_0 0 rfl rfl)
theorem dX4_leastPrice_1 : decode cX4_leastPrice 1 = .ok (.invokevirtual 351, 3) := dk_182 1 95 (dk_at dksX4_leastPrice_0 1 rfl rfl)
theorem dX4_leastPrice_4 : decode cX4_leastPrice 4 = .ok (.iconst 1, 1) := dk_4 (dk_at dksX4_leastPrice_0 4 rfl rfl)
theorem dX4_leastPrice_5 : decode cX4_leastPrice 5 = .ok (.istore_n 1, 1) := dk_60 (dk_at dksX4_leastPrice_0 5 rfl rfl)
theorem dX4_leastPrice_6 : decode cX4_leastPrice 6 = .ok (.iload_n 1, 1) := dk_27 (dk_at dksX4_leastPrice_0 6 rfl rfl)
theorem dX4_leastPrice_7 : decode cX4_leastPrice 7 = .ok (.bipush 99, 2) := dk_16 99 (dk_at dksX4_leastPrice_0 7 rfl rfl)
theorem dX4_leastPrice_9 : decode cX4_leastPrice 9 = .ok (.if_icmp .gt 28, 3) := dk_163 0 28 (dk_at dksX4_leastPrice_0 9 rfl rfl)
theorem dX4_leastPrice_12 : decode cX4_leastPrice 12 = .ok (.aload_n 0, 1) := dk_42 (dk_at dksX4_leastPrice_0 12 rfl rfl)
theorem dX4_leastPrice_13 : decode cX4_leastPrice 13 = .ok (.getfield 16, 3) := dk_180 0 16 (dk_at dksX4_leastPrice_0 13 rfl rfl)
theorem dX4_leastPrice_16 : decode cX4_leastPrice 16 = .ok (.iconst 2, 1) := dk_5 (dk_at dksX4_leastPrice_0 16 rfl rfl)
theorem dX4_leastPrice_17 : decode cX4_leastPrice 17 = .ok (.iload_n 1, 1) := dk_27 (dk_at dksX4_leastPrice_0 17 rfl rfl)
theorem dX4_leastPrice_18 : decode cX4_leastPrice 18 = .ok (.iastore, 1) := dk_79 (dk_at dksX4_leastPrice_0 18 rfl rfl)
theorem dX4_leastPrice_19 : decode cX4_leastPrice 19 = .ok (.aload_n 0, 1) := dk_42 (dk_at dksX4_leastPrice_0 19 rfl rfl)
theorem dX4_leastPrice_20 : decode cX4_leastPrice 20 = .ok (.getfield 16, 3) := dk_180 0 16 (dk_at dksX4_leastPrice_0 20 rfl rfl)
theorem dX4_leastPrice_23 : decode cX4_leastPrice 23 = .ok (.invokestatic 304, 3) := dk_184 1 48 (dk_at dksX4_leastPrice_1 0 rfl rfl)
theorem dX4_leastPrice_26 : decode cX4_leastPrice 26 = .ok (.ifCond .ne 5, 3) := dk_154 0 5 (dk_at dksX4_leastPrice_1 3 rfl rfl)
theorem dX4_leastPrice_29 : decode cX4_leastPrice 29 = .ok (.iload_n 1, 1) := dk_27 (dk_at dksX4_leastPrice_1 6 rfl rfl)
theorem dX4_leastPrice_30 : decode cX4_leastPrice 30 = .ok (.ireturn, 1) := dk_172 (dk_at dksX4_leastPrice_1 7 rfl rfl)
theorem dX4_leastPrice_31 : decode cX4_leastPrice 31 = .ok (.iinc 1 1, 3) := dk_132 1 1 (dk_at dksX4_leastPrice_1 8 rfl rfl)
theorem dX4_leastPrice_34 : decode cX4_leastPrice 34 = .ok (.goto (-28), 3) := dk_167 255 228 (dk_at dksX4_leastPrice_1 11 rfl rfl)
theorem dX4_leastPrice_37 : decode cX4_leastPrice 37 = .ok (.bipush (-2), 2) := dk_16 254 (dk_at dksX4_leastPrice_1 14 rfl rfl)
theorem dX4_leastPrice_39 : decode cX4_leastPrice 39 = .ok (.ireturn, 1) := dk_172 (dk_at dksX4_leastPrice_1 16 rfl rfl)
abbrev cX4_takesSpare : ByteArray := prog_20_method_5_code
def yX4_takesSpare : MethodName := ⟨RX4, "takesSpare", "()V"⟩
def dkwX4_takesSpare_0 : List UInt8 := [42, 180, 0, 7, 3, 42, 180, 0, 16, 3, 184, 0, 50, 177]
abbrev dktX4_takesSpare_0 : List UInt8 := dkwX4_takesSpare_0 ++ []
theorem dksX4_takesSpare_0 : cX4_takesSpare.data.toList.drop 0 = dktX4_takesSpare_0 := by decide +kernel
theorem dX4_takesSpare_0 : decode cX4_takesSpare 0 = .ok (.aload_n 0, 1) := dk_42 (dk_at dksX4_takesSpare_0 0 rfl rfl)
theorem dX4_takesSpare_1 : decode cX4_takesSpare 1 = .ok (.getfield 7, 3) := dk_180 0 7 (dk_at dksX4_takesSpare_0 1 rfl rfl)
theorem dX4_takesSpare_4 : decode cX4_takesSpare 4 = .ok (.iconst 0, 1) := dk_3 (dk_at dksX4_takesSpare_0 4 rfl rfl)
theorem dX4_takesSpare_5 : decode cX4_takesSpare 5 = .ok (.aload_n 0, 1) := dk_42 (dk_at dksX4_takesSpare_0 5 rfl rfl)
theorem dX4_takesSpare_6 : decode cX4_takesSpare 6 = .ok (.getfield 16, 3) := dk_180 0 16 (dk_at dksX4_takesSpare_0 6 rfl rfl)
theorem dX4_takesSpare_9 : decode cX4_takesSpare 9 = .ok (.iconst 0, 1) := dk_3 (dk_at dksX4_takesSpare_0 9 rfl rfl)
theorem dX4_takesSpare_10 : decode cX4_takesSpare 10 = .ok (.invokestatic 50, 3) := dk_184 0 50 (dk_at dksX4_takesSpare_0 10 rfl rfl)
theorem dX4_takesSpare_13 : decode cX4_takesSpare 13 = .ok (.return_, 1) := dk_177 (dk_at dksX4_takesSpare_0 13 rfl rfl)
abbrev cX4_evenest : ByteArray := prog_20_method_131_code
def yX4_evenest : MethodName := ⟨RX4, "evenest", "(I)I"⟩
def dkwX4_evenest_6 : List UInt8 := [132, 7, 1, 167, 255, 199, 132, 4, 1, 167, 255, 140, 28, 172]
abbrev dktX4_evenest_6 : List UInt8 := dkwX4_evenest_6 ++ []
def dkwX4_evenest_5 : List UInt8 := [155, 0, 12, 21, 8, 29, 161, 0, 6, 167, 0, 15, 16, 100, 21, 4, 104, 21, 7, 96, 61, 21, 8, 62]
abbrev dktX4_evenest_5 : List UInt8 := dkwX4_evenest_5 ++ dktX4_evenest_6
def dkwX4_evenest_4 : List UInt8 := [5, 21, 7, 104, 21, 5, 100, 21, 6, 104, 54, 8, 21, 8, 156, 0, 8, 21, 8, 116, 54, 8, 28]
abbrev dktX4_evenest_4 : List UInt8 := dkwX4_evenest_4 ++ dktX4_evenest_5
def dkwX4_evenest_3 : List UInt8 := [160, 0, 7, 5, 167, 0, 4, 6, 184, 0, 66, 46, 54, 6, 4, 54, 7, 21, 7, 21, 5, 162, 0, 56]
abbrev dktX4_evenest_3 : List UInt8 := dkwX4_evenest_3 ++ dktX4_evenest_4
def dkwX4_evenest_2 : List UInt8 := [160, 0, 7, 6, 167, 0, 4, 5, 184, 0, 66, 46, 54, 5, 42, 180, 0, 7, 27, 21, 4, 4]
abbrev dktX4_evenest_2 : List UInt8 := dkwX4_evenest_2 ++ dktX4_evenest_3
def dkwX4_evenest_1 : List UInt8 := [16, 254, 61, 3, 62, 3, 54, 4, 21, 4, 5, 162, 0, 116, 42, 180, 0, 7, 27, 21, 4, 4]
abbrev dktX4_evenest_1 : List UInt8 := dkwX4_evenest_1 ++ dktX4_evenest_2
def dkwX4_evenest_0 : List UInt8 := [42, 27, 182, 0, 240, 154, 0, 5, 2, 172, 42, 180, 0, 7, 27, 184, 0, 73, 154, 0, 6, 16, 252, 172]
abbrev dktX4_evenest_0 : List UInt8 := dkwX4_evenest_0 ++ dktX4_evenest_1
theorem dksX4_evenest_0 : cX4_evenest.data.toList.drop 0 = dktX4_evenest_0 := by decide +kernel
theorem dksX4_evenest_1 : cX4_evenest.data.toList.drop 24 = dktX4_evenest_1 := dk_seg dksX4_evenest_0 24 rfl rfl
theorem dksX4_evenest_2 : cX4_evenest.data.toList.drop 46 = dktX4_evenest_2 := dk_seg dksX4_evenest_1 22 rfl rfl
theorem dksX4_evenest_3 : cX4_evenest.data.toList.drop 68 = dktX4_evenest_3 := dk_seg dksX4_evenest_2 22 rfl rfl
theorem dksX4_evenest_4 : cX4_evenest.data.toList.drop 92 = dktX4_evenest_4 := dk_seg dksX4_evenest_3 24 rfl rfl
theorem dksX4_evenest_5 : cX4_evenest.data.toList.drop 115 = dktX4_evenest_5 := dk_seg dksX4_evenest_4 23 rfl rfl
theorem dksX4_evenest_6 : cX4_evenest.data.toList.drop 139 = dktX4_evenest_6 := dk_seg dksX4_evenest_5 24 rfl rfl
theorem dX4_evenest_0 : decode cX4_evenest 0 = .ok (.aload_n 0, 1) := dk_42 (dk_at dksX4_evenest_0 0 rfl rfl)
theorem dX4_evenest_1 : decode cX4_evenest 1 = .ok (.iload_n 1, 1) := dk_27 (dk_at dksX4_evenest_0 1 rfl rfl)
theorem dX4_evenest_2 : decode cX4_evenest 2 = .ok (.invokevirtual 240, 3) := dk_182 0 240 (dk_at dksX4_evenest_0 2 rfl rfl)
theorem dX4_evenest_5 : decode cX4_evenest 5 = .ok (.ifCond .ne 5, 3) := dk_154 0 5 (dk_at dksX4_evenest_0 5 rfl rfl)
theorem dX4_evenest_8 : decode cX4_evenest 8 = .ok (.iconst (-1), 1) := dk_2 (dk_at dksX4_evenest_0 8 rfl rfl)
theorem dX4_evenest_9 : decode cX4_evenest 9 = .ok (.ireturn, 1) := dk_172 (dk_at dksX4_evenest_0 9 rfl rfl)
theorem dX4_evenest_10 : decode cX4_evenest 10 = .ok (.aload_n 0, 1) := dk_42 (dk_at dksX4_evenest_0 10 rfl rfl)
theorem dX4_evenest_11 : decode cX4_evenest 11 = .ok (.getfield 7, 3) := dk_180 0 7 (dk_at dksX4_evenest_0 11 rfl rfl)
theorem dX4_evenest_14 : decode cX4_evenest 14 = .ok (.iload_n 1, 1) := dk_27 (dk_at dksX4_evenest_0 14 rfl rfl)
theorem dX4_evenest_15 : decode cX4_evenest 15 = .ok (.invokestatic 73, 3) := dk_184 0 73 (dk_at dksX4_evenest_0 15 rfl rfl)
theorem dX4_evenest_18 : decode cX4_evenest 18 = .ok (.ifCond .ne 6, 3) := dk_154 0 6 (dk_at dksX4_evenest_0 18 rfl rfl)
theorem dX4_evenest_21 : decode cX4_evenest 21 = .ok (.bipush (-4), 2) := dk_16 252 (dk_at dksX4_evenest_0 21 rfl rfl)
theorem dX4_evenest_23 : decode cX4_evenest 23 = .ok (.ireturn, 1) := dk_172 (dk_at dksX4_evenest_0 23 rfl rfl)
theorem dX4_evenest_24 : decode cX4_evenest 24 = .ok (.bipush (-2), 2) := dk_16 254 (dk_at dksX4_evenest_1 0 rfl rfl)
theorem dX4_evenest_26 : decode cX4_evenest 26 = .ok (.istore_n 2, 1) := dk_61 (dk_at dksX4_evenest_1 2 rfl rfl)
theorem dX4_evenest_27 : decode cX4_evenest 27 = .ok (.iconst 0, 1) := dk_3 (dk_at dksX4_evenest_1 3 rfl rfl)
theorem dX4_evenest_28 : decode cX4_evenest 28 = .ok (.istore_n 3, 1) := dk_62 (dk_at dksX4_evenest_1 4 rfl rfl)
theorem dX4_evenest_29 : decode cX4_evenest 29 = .ok (.iconst 0, 1) := dk_3 (dk_at dksX4_evenest_1 5 rfl rfl)
theorem dX4_evenest_30 : decode cX4_evenest 30 = .ok (.istore 4, 2) := dk_54 4 (dk_at dksX4_evenest_1 6 rfl rfl)
theorem dX4_evenest_32 : decode cX4_evenest 32 = .ok (.iload 4, 2) := dk_21 4 (dk_at dksX4_evenest_1 8 rfl rfl)
theorem dX4_evenest_34 : decode cX4_evenest 34 = .ok (.iconst 2, 1) := dk_5 (dk_at dksX4_evenest_1 10 rfl rfl)
theorem dX4_evenest_35 : decode cX4_evenest 35 = .ok (.if_icmp .ge 116, 3) := dk_162 0 116 (dk_at dksX4_evenest_1 11 rfl rfl)
theorem dX4_evenest_38 : decode cX4_evenest 38 = .ok (.aload_n 0, 1) := dk_42 (dk_at dksX4_evenest_1 14 rfl rfl)
theorem dX4_evenest_39 : decode cX4_evenest 39 = .ok (.getfield 7, 3) := dk_180 0 7 (dk_at dksX4_evenest_1 15 rfl rfl)
theorem dX4_evenest_42 : decode cX4_evenest 42 = .ok (.iload_n 1, 1) := dk_27 (dk_at dksX4_evenest_1 18 rfl rfl)
theorem dX4_evenest_43 : decode cX4_evenest 43 = .ok (.iload 4, 2) := dk_21 4 (dk_at dksX4_evenest_1 19 rfl rfl)
theorem dX4_evenest_45 : decode cX4_evenest 45 = .ok (.iconst 1, 1) := dk_4 (dk_at dksX4_evenest_1 21 rfl rfl)
theorem dX4_evenest_46 : decode cX4_evenest 46 = .ok (.if_icmp .ne 7, 3) := dk_160 0 7 (dk_at dksX4_evenest_2 0 rfl rfl)
theorem dX4_evenest_49 : decode cX4_evenest 49 = .ok (.iconst 3, 1) := dk_6 (dk_at dksX4_evenest_2 3 rfl rfl)
theorem dX4_evenest_50 : decode cX4_evenest 50 = .ok (.goto 4, 3) := dk_167 0 4 (dk_at dksX4_evenest_2 4 rfl rfl)
theorem dX4_evenest_53 : decode cX4_evenest 53 = .ok (.iconst 2, 1) := dk_5 (dk_at dksX4_evenest_2 7 rfl rfl)
theorem dX4_evenest_54 : decode cX4_evenest 54 = .ok (.invokestatic 66, 3) := dk_184 0 66 (dk_at dksX4_evenest_2 8 rfl rfl)
theorem dX4_evenest_57 : decode cX4_evenest 57 = .ok (.iaload, 1) := dk_46 (dk_at dksX4_evenest_2 11 rfl rfl)
theorem dX4_evenest_58 : decode cX4_evenest 58 = .ok (.istore 5, 2) := dk_54 5 (dk_at dksX4_evenest_2 12 rfl rfl)
theorem dX4_evenest_60 : decode cX4_evenest 60 = .ok (.aload_n 0, 1) := dk_42 (dk_at dksX4_evenest_2 14 rfl rfl)
theorem dX4_evenest_61 : decode cX4_evenest 61 = .ok (.getfield 7, 3) := dk_180 0 7 (dk_at dksX4_evenest_2 15 rfl rfl)
theorem dX4_evenest_64 : decode cX4_evenest 64 = .ok (.iload_n 1, 1) := dk_27 (dk_at dksX4_evenest_2 18 rfl rfl)
theorem dX4_evenest_65 : decode cX4_evenest 65 = .ok (.iload 4, 2) := dk_21 4 (dk_at dksX4_evenest_2 19 rfl rfl)
theorem dX4_evenest_67 : decode cX4_evenest 67 = .ok (.iconst 1, 1) := dk_4 (dk_at dksX4_evenest_2 21 rfl rfl)
theorem dX4_evenest_68 : decode cX4_evenest 68 = .ok (.if_icmp .ne 7, 3) := dk_160 0 7 (dk_at dksX4_evenest_3 0 rfl rfl)
theorem dX4_evenest_71 : decode cX4_evenest 71 = .ok (.iconst 2, 1) := dk_5 (dk_at dksX4_evenest_3 3 rfl rfl)
theorem dX4_evenest_72 : decode cX4_evenest 72 = .ok (.goto 4, 3) := dk_167 0 4 (dk_at dksX4_evenest_3 4 rfl rfl)
theorem dX4_evenest_75 : decode cX4_evenest 75 = .ok (.iconst 3, 1) := dk_6 (dk_at dksX4_evenest_3 7 rfl rfl)
theorem dX4_evenest_76 : decode cX4_evenest 76 = .ok (.invokestatic 66, 3) := dk_184 0 66 (dk_at dksX4_evenest_3 8 rfl rfl)
theorem dX4_evenest_79 : decode cX4_evenest 79 = .ok (.iaload, 1) := dk_46 (dk_at dksX4_evenest_3 11 rfl rfl)
theorem dX4_evenest_80 : decode cX4_evenest 80 = .ok (.istore 6, 2) := dk_54 6 (dk_at dksX4_evenest_3 12 rfl rfl)
theorem dX4_evenest_82 : decode cX4_evenest 82 = .ok (.iconst 1, 1) := dk_4 (dk_at dksX4_evenest_3 14 rfl rfl)
theorem dX4_evenest_83 : decode cX4_evenest 83 = .ok (.istore 7, 2) := dk_54 7 (dk_at dksX4_evenest_3 15 rfl rfl)
theorem dX4_evenest_85 : decode cX4_evenest 85 = .ok (.iload 7, 2) := dk_21 7 (dk_at dksX4_evenest_3 17 rfl rfl)
theorem dX4_evenest_87 : decode cX4_evenest 87 = .ok (.iload 5, 2) := dk_21 5 (dk_at dksX4_evenest_3 19 rfl rfl)
theorem dX4_evenest_89 : decode cX4_evenest 89 = .ok (.if_icmp .ge 56, 3) := dk_162 0 56 (dk_at dksX4_evenest_3 21 rfl rfl)
theorem dX4_evenest_92 : decode cX4_evenest 92 = .ok (.iconst 2, 1) := dk_5 (dk_at dksX4_evenest_4 0 rfl rfl)
theorem dX4_evenest_93 : decode cX4_evenest 93 = .ok (.iload 7, 2) := dk_21 7 (dk_at dksX4_evenest_4 1 rfl rfl)
theorem dX4_evenest_95 : decode cX4_evenest 95 = .ok (.imul, 1) := dk_104 (dk_at dksX4_evenest_4 3 rfl rfl)
theorem dX4_evenest_96 : decode cX4_evenest 96 = .ok (.iload 5, 2) := dk_21 5 (dk_at dksX4_evenest_4 4 rfl rfl)
theorem dX4_evenest_98 : decode cX4_evenest 98 = .ok (.isub, 1) := dk_100 (dk_at dksX4_evenest_4 6 rfl rfl)
theorem dX4_evenest_99 : decode cX4_evenest 99 = .ok (.iload 6, 2) := dk_21 6 (dk_at dksX4_evenest_4 7 rfl rfl)
theorem dX4_evenest_101 : decode cX4_evenest 101 = .ok (.imul, 1) := dk_104 (dk_at dksX4_evenest_4 9 rfl rfl)
theorem dX4_evenest_102 : decode cX4_evenest 102 = .ok (.istore 8, 2) := dk_54 8 (dk_at dksX4_evenest_4 10 rfl rfl)
theorem dX4_evenest_104 : decode cX4_evenest 104 = .ok (.iload 8, 2) := dk_21 8 (dk_at dksX4_evenest_4 12 rfl rfl)
theorem dX4_evenest_106 : decode cX4_evenest 106 = .ok (.ifCond .ge 8, 3) := dk_156 0 8 (dk_at dksX4_evenest_4 14 rfl rfl)
theorem dX4_evenest_109 : decode cX4_evenest 109 = .ok (.iload 8, 2) := dk_21 8 (dk_at dksX4_evenest_4 17 rfl rfl)
theorem dX4_evenest_111 : decode cX4_evenest 111 = .ok (.ineg, 1) := dk_116 (dk_at dksX4_evenest_4 19 rfl rfl)
theorem dX4_evenest_112 : decode cX4_evenest 112 = .ok (.istore 8, 2) := dk_54 8 (dk_at dksX4_evenest_4 20 rfl rfl)
theorem dX4_evenest_114 : decode cX4_evenest 114 = .ok (.iload_n 2, 1) := dk_28 (dk_at dksX4_evenest_4 22 rfl rfl)
theorem dX4_evenest_115 : decode cX4_evenest 115 = .ok (.ifCond .lt 12, 3) := dk_155 0 12 (dk_at dksX4_evenest_5 0 rfl rfl)
theorem dX4_evenest_118 : decode cX4_evenest 118 = .ok (.iload 8, 2) := dk_21 8 (dk_at dksX4_evenest_5 3 rfl rfl)
theorem dX4_evenest_120 : decode cX4_evenest 120 = .ok (.iload_n 3, 1) := dk_29 (dk_at dksX4_evenest_5 5 rfl rfl)
theorem dX4_evenest_121 : decode cX4_evenest 121 = .ok (.if_icmp .lt 6, 3) := dk_161 0 6 (dk_at dksX4_evenest_5 6 rfl rfl)
theorem dX4_evenest_124 : decode cX4_evenest 124 = .ok (.goto 15, 3) := dk_167 0 15 (dk_at dksX4_evenest_5 9 rfl rfl)
theorem dX4_evenest_127 : decode cX4_evenest 127 = .ok (.bipush 100, 2) := dk_16 100 (dk_at dksX4_evenest_5 12 rfl rfl)
theorem dX4_evenest_129 : decode cX4_evenest 129 = .ok (.iload 4, 2) := dk_21 4 (dk_at dksX4_evenest_5 14 rfl rfl)
theorem dX4_evenest_131 : decode cX4_evenest 131 = .ok (.imul, 1) := dk_104 (dk_at dksX4_evenest_5 16 rfl rfl)
theorem dX4_evenest_132 : decode cX4_evenest 132 = .ok (.iload 7, 2) := dk_21 7 (dk_at dksX4_evenest_5 17 rfl rfl)
theorem dX4_evenest_134 : decode cX4_evenest 134 = .ok (.iadd, 1) := dk_96 (dk_at dksX4_evenest_5 19 rfl rfl)
theorem dX4_evenest_135 : decode cX4_evenest 135 = .ok (.istore_n 2, 1) := dk_61 (dk_at dksX4_evenest_5 20 rfl rfl)
theorem dX4_evenest_136 : decode cX4_evenest 136 = .ok (.iload 8, 2) := dk_21 8 (dk_at dksX4_evenest_5 21 rfl rfl)
theorem dX4_evenest_138 : decode cX4_evenest 138 = .ok (.istore_n 3, 1) := dk_62 (dk_at dksX4_evenest_5 23 rfl rfl)
theorem dX4_evenest_139 : decode cX4_evenest 139 = .ok (.iinc 7 1, 3) := dk_132 7 1 (dk_at dksX4_evenest_6 0 rfl rfl)
theorem dX4_evenest_142 : decode cX4_evenest 142 = .ok (.goto (-57), 3) := dk_167 255 199 (dk_at dksX4_evenest_6 3 rfl rfl)
theorem dX4_evenest_145 : decode cX4_evenest 145 = .ok (.iinc 4 1, 3) := dk_132 4 1 (dk_at dksX4_evenest_6 6 rfl rfl)
theorem dX4_evenest_148 : decode cX4_evenest 148 = .ok (.goto (-116), 3) := dk_167 255 140 (dk_at dksX4_evenest_6 9 rfl rfl)
theorem dX4_evenest_151 : decode cX4_evenest 151 = .ok (.iload_n 2, 1) := dk_28 (dk_at dksX4_evenest_6 12 rfl rfl)
theorem dX4_evenest_152 : decode cX4_evenest 152 = .ok (.ireturn, 1) := dk_172 (dk_at dksX4_evenest_6 13 rfl rfl)
abbrev cX4_log : ByteArray := prog_20_method_132_code
def yX4_log : MethodName := ⟨RX4, "log", "(II)I"⟩
def dkwX4_log_1 : List UInt8 := [162, 0, 20, 42, 180, 0, 7, 17, 4, 31, 6, 27, 104, 96, 28, 96, 46, 167, 0, 5, 16, 254, 172]
abbrev dktX4_log_1 : List UInt8 := dkwX4_log_1 ++ []
def dkwX4_log_0 : List UInt8 := [27, 155, 0, 12, 28, 3, 5, 184, 0, 54, 154, 0, 5, 2, 172, 27, 42, 180, 0, 7, 17, 4, 30, 46]
abbrev dktX4_log_0 : List UInt8 := dkwX4_log_0 ++ dktX4_log_1
theorem dksX4_log_0 : cX4_log.data.toList.drop 0 = dktX4_log_0 := by decide +kernel
theorem dksX4_log_1 : cX4_log.data.toList.drop 24 = dktX4_log_1 := dk_seg dksX4_log_0 24 rfl rfl
theorem dX4_log_0 : decode cX4_log 0 = .ok (.iload_n 1, 1) := dk_27 (dk_at dksX4_log_0 0 rfl rfl)
theorem dX4_log_1 : decode cX4_log 1 = .ok (.ifCond .lt 12, 3) := dk_155 0 12 (dk_at dksX4_log_0 1 rfl rfl)
theorem dX4_log_4 : decode cX4_log 4 = .ok (.iload_n 2, 1) := dk_28 (dk_at dksX4_log_0 4 rfl rfl)
theorem dX4_log_5 : decode cX4_log 5 = .ok (.iconst 0, 1) := dk_3 (dk_at dksX4_log_0 5 rfl rfl)
theorem dX4_log_6 : decode cX4_log 6 = .ok (.iconst 2, 1) := dk_5 (dk_at dksX4_log_0 6 rfl rfl)
theorem dX4_log_7 : decode cX4_log 7 = .ok (.invokestatic 54, 3) := dk_184 0 54 (dk_at dksX4_log_0 7 rfl rfl)
theorem dX4_log_10 : decode cX4_log 10 = .ok (.ifCond .ne 5, 3) := dk_154 0 5 (dk_at dksX4_log_0 10 rfl rfl)
theorem dX4_log_13 : decode cX4_log 13 = .ok (.iconst (-1), 1) := dk_2 (dk_at dksX4_log_0 13 rfl rfl)
theorem dX4_log_14 : decode cX4_log 14 = .ok (.ireturn, 1) := dk_172 (dk_at dksX4_log_0 14 rfl rfl)
theorem dX4_log_15 : decode cX4_log 15 = .ok (.iload_n 1, 1) := dk_27 (dk_at dksX4_log_0 15 rfl rfl)
theorem dX4_log_16 : decode cX4_log 16 = .ok (.aload_n 0, 1) := dk_42 (dk_at dksX4_log_0 16 rfl rfl)
theorem dX4_log_17 : decode cX4_log 17 = .ok (.getfield 7, 3) := dk_180 0 7 (dk_at dksX4_log_0 17 rfl rfl)
theorem dX4_log_20 : decode cX4_log 20 = .ok (.sipush 1054, 3) := dk_17 4 30 (dk_at dksX4_log_0 20 rfl rfl)
theorem dX4_log_23 : decode cX4_log 23 = .ok (.iaload, 1) := dk_46 (dk_at dksX4_log_0 23 rfl rfl)
theorem dX4_log_24 : decode cX4_log 24 = .ok (.if_icmp .ge 20, 3) := dk_162 0 20 (dk_at dksX4_log_1 0 rfl rfl)
theorem dX4_log_27 : decode cX4_log 27 = .ok (.aload_n 0, 1) := dk_42 (dk_at dksX4_log_1 3 rfl rfl)
theorem dX4_log_28 : decode cX4_log 28 = .ok (.getfield 7, 3) := dk_180 0 7 (dk_at dksX4_log_1 4 rfl rfl)
theorem dX4_log_31 : decode cX4_log 31 = .ok (.sipush 1055, 3) := dk_17 4 31 (dk_at dksX4_log_1 7 rfl rfl)
theorem dX4_log_34 : decode cX4_log 34 = .ok (.iconst 3, 1) := dk_6 (dk_at dksX4_log_1 10 rfl rfl)
theorem dX4_log_35 : decode cX4_log 35 = .ok (.iload_n 1, 1) := dk_27 (dk_at dksX4_log_1 11 rfl rfl)
theorem dX4_log_36 : decode cX4_log 36 = .ok (.imul, 1) := dk_104 (dk_at dksX4_log_1 12 rfl rfl)
theorem dX4_log_37 : decode cX4_log 37 = .ok (.iadd, 1) := dk_96 (dk_at dksX4_log_1 13 rfl rfl)
theorem dX4_log_38 : decode cX4_log 38 = .ok (.iload_n 2, 1) := dk_28 (dk_at dksX4_log_1 14 rfl rfl)
theorem dX4_log_39 : decode cX4_log 39 = .ok (.iadd, 1) := dk_96 (dk_at dksX4_log_1 15 rfl rfl)
theorem dX4_log_40 : decode cX4_log 40 = .ok (.iaload, 1) := dk_46 (dk_at dksX4_log_1 16 rfl rfl)
theorem dX4_log_41 : decode cX4_log 41 = .ok (.goto 5, 3) := dk_167 0 5 (dk_at dksX4_log_1 17 rfl rfl)
theorem dX4_log_44 : decode cX4_log 44 = .ok (.bipush (-2), 2) := dk_16 254 (dk_at dksX4_log_1 20 rfl rfl)
theorem dX4_log_46 : decode cX4_log 46 = .ok (.ireturn, 1) := dk_172 (dk_at dksX4_log_1 22 rfl rfl)
abbrev cX4_loaded : ByteArray := prog_20_method_133_code
def yX4_loaded : MethodName := ⟨RX4, "loaded", "(I)F"⟩
def dkwX4_loaded_1 : List UInt8 := [184, 0, 114, 134, 110, 167, 0, 6, 19, 1, 98, 174]
abbrev dktX4_loaded_1 : List UInt8 := dkwX4_loaded_1 ++ []
def dkwX4_loaded_0 : List UInt8 := [42, 27, 182, 0, 240, 153, 0, 25, 42, 180, 0, 7, 27, 184, 1, 58, 134, 42, 180, 0, 7, 27]
abbrev dktX4_loaded_0 : List UInt8 := dkwX4_loaded_0 ++ dktX4_loaded_1
theorem dksX4_loaded_0 : cX4_loaded.data.toList.drop 0 = dktX4_loaded_0 := by decide +kernel
theorem dksX4_loaded_1 : cX4_loaded.data.toList.drop 22 = dktX4_loaded_1 := dk_seg dksX4_loaded_0 22 rfl rfl
theorem dX4_loaded_0 : decode cX4_loaded 0 = .ok (.aload_n 0, 1) := dk_42 (dk_at dksX4_loaded_0 0 rfl rfl)
theorem dX4_loaded_1 : decode cX4_loaded 1 = .ok (.iload_n 1, 1) := dk_27 (dk_at dksX4_loaded_0 1 rfl rfl)
theorem dX4_loaded_2 : decode cX4_loaded 2 = .ok (.invokevirtual 240, 3) := dk_182 0 240 (dk_at dksX4_loaded_0 2 rfl rfl)
theorem dX4_loaded_5 : decode cX4_loaded 5 = .ok (.ifCond .eq 25, 3) := dk_153 0 25 (dk_at dksX4_loaded_0 5 rfl rfl)
theorem dX4_loaded_8 : decode cX4_loaded 8 = .ok (.aload_n 0, 1) := dk_42 (dk_at dksX4_loaded_0 8 rfl rfl)
theorem dX4_loaded_9 : decode cX4_loaded 9 = .ok (.getfield 7, 3) := dk_180 0 7 (dk_at dksX4_loaded_0 9 rfl rfl)
theorem dX4_loaded_12 : decode cX4_loaded 12 = .ok (.iload_n 1, 1) := dk_27 (dk_at dksX4_loaded_0 12 rfl rfl)
theorem dX4_loaded_13 : decode cX4_loaded 13 = .ok (.invokestatic 314, 3) := dk_184 1 58 (dk_at dksX4_loaded_0 13 rfl rfl)
theorem dX4_loaded_16 : decode cX4_loaded 16 = .ok (.i2f, 1) := dk_134 (dk_at dksX4_loaded_0 16 rfl rfl)
theorem dX4_loaded_17 : decode cX4_loaded 17 = .ok (.aload_n 0, 1) := dk_42 (dk_at dksX4_loaded_0 17 rfl rfl)
theorem dX4_loaded_18 : decode cX4_loaded 18 = .ok (.getfield 7, 3) := dk_180 0 7 (dk_at dksX4_loaded_0 18 rfl rfl)
theorem dX4_loaded_21 : decode cX4_loaded 21 = .ok (.iload_n 1, 1) := dk_27 (dk_at dksX4_loaded_0 21 rfl rfl)
theorem dX4_loaded_22 : decode cX4_loaded 22 = .ok (.invokestatic 114, 3) := dk_184 0 114 (dk_at dksX4_loaded_1 0 rfl rfl)
theorem dX4_loaded_25 : decode cX4_loaded 25 = .ok (.i2f, 1) := dk_134 (dk_at dksX4_loaded_1 3 rfl rfl)
theorem dX4_loaded_26 : decode cX4_loaded 26 = .ok (.fdiv, 1) := dk_110 (dk_at dksX4_loaded_1 4 rfl rfl)
theorem dX4_loaded_27 : decode cX4_loaded 27 = .ok (.goto 6, 3) := dk_167 0 6 (dk_at dksX4_loaded_1 5 rfl rfl)
theorem dX4_loaded_30 : decode cX4_loaded 30 = .ok (.ldc_w 354, 3) := dk_19 1 98 (dk_at dksX4_loaded_1 8 rfl rfl)
theorem dX4_loaded_33 : decode cX4_loaded 33 = .ok (.freturn, 1) := dk_174 (dk_at dksX4_loaded_1 11 rfl rfl)
abbrev cX4_meanArea : ByteArray := prog_20_method_134_code
def yX4_meanArea : MethodName := ⟨RX4, "meanArea", "()D"⟩
def dkwX4_meanArea_0 : List UInt8 := [42, 180, 0, 7, 3, 46, 42, 180, 0, 7, 4, 46, 104, 135, 42, 182, 1, 39, 135, 111, 175]
abbrev dktX4_meanArea_0 : List UInt8 := dkwX4_meanArea_0 ++ []
theorem dksX4_meanArea_0 : cX4_meanArea.data.toList.drop 0 = dktX4_meanArea_0 := by decide +kernel
theorem dX4_meanArea_0 : decode cX4_meanArea 0 = .ok (.aload_n 0, 1) := dk_42 (dk_at dksX4_meanArea_0 0 rfl rfl)
theorem dX4_meanArea_1 : decode cX4_meanArea 1 = .ok (.getfield 7, 3) := dk_180 0 7 (dk_at dksX4_meanArea_0 1 rfl rfl)
theorem dX4_meanArea_4 : decode cX4_meanArea 4 = .ok (.iconst 0, 1) := dk_3 (dk_at dksX4_meanArea_0 4 rfl rfl)
theorem dX4_meanArea_5 : decode cX4_meanArea 5 = .ok (.iaload, 1) := dk_46 (dk_at dksX4_meanArea_0 5 rfl rfl)
theorem dX4_meanArea_6 : decode cX4_meanArea 6 = .ok (.aload_n 0, 1) := dk_42 (dk_at dksX4_meanArea_0 6 rfl rfl)
theorem dX4_meanArea_7 : decode cX4_meanArea 7 = .ok (.getfield 7, 3) := dk_180 0 7 (dk_at dksX4_meanArea_0 7 rfl rfl)
theorem dX4_meanArea_10 : decode cX4_meanArea 10 = .ok (.iconst 1, 1) := dk_4 (dk_at dksX4_meanArea_0 10 rfl rfl)
theorem dX4_meanArea_11 : decode cX4_meanArea 11 = .ok (.iaload, 1) := dk_46 (dk_at dksX4_meanArea_0 11 rfl rfl)
theorem dX4_meanArea_12 : decode cX4_meanArea 12 = .ok (.imul, 1) := dk_104 (dk_at dksX4_meanArea_0 12 rfl rfl)
theorem dX4_meanArea_13 : decode cX4_meanArea 13 = .ok (.i2d, 1) := dk_135 (dk_at dksX4_meanArea_0 13 rfl rfl)
theorem dX4_meanArea_14 : decode cX4_meanArea 14 = .ok (.aload_n 0, 1) := dk_42 (dk_at dksX4_meanArea_0 14 rfl rfl)
theorem dX4_meanArea_15 : decode cX4_meanArea 15 = .ok (.invokevirtual 295, 3) := dk_182 1 39 (dk_at dksX4_meanArea_0 15 rfl rfl)
theorem dX4_meanArea_18 : decode cX4_meanArea 18 = .ok (.i2d, 1) := dk_135 (dk_at dksX4_meanArea_0 18 rfl rfl)
theorem dX4_meanArea_19 : decode cX4_meanArea 19 = .ok (.ddiv, 1) := dk_111 (dk_at dksX4_meanArea_0 19 rfl rfl)
theorem dX4_meanArea_20 : decode cX4_meanArea 20 = .ok (.dreturn, 1) := dk_175 (dk_at dksX4_meanArea_0 20 rfl rfl)
abbrev cX4_mapLength : ByteArray := prog_20_method_139_code
def yX4_mapLength : MethodName := ⟨RX4, "mapLength", "()I"⟩
def dkwX4_mapLength_0 : List UInt8 := [42, 182, 1, 109, 42, 180, 1, 99, 172]
abbrev dktX4_mapLength_0 : List UInt8 := dkwX4_mapLength_0 ++ []
theorem dksX4_mapLength_0 : cX4_mapLength.data.toList.drop 0 = dktX4_mapLength_0 := by decide +kernel
theorem dX4_mapLength_0 : decode cX4_mapLength 0 = .ok (.aload_n 0, 1) := dk_42 (dk_at dksX4_mapLength_0 0 rfl rfl)
theorem dX4_mapLength_1 : decode cX4_mapLength 1 = .ok (.invokevirtual 365, 3) := dk_182 1 109 (dk_at dksX4_mapLength_0 1 rfl rfl)
theorem dX4_mapLength_4 : decode cX4_mapLength 4 = .ok (.aload_n 0, 1) := dk_42 (dk_at dksX4_mapLength_0 4 rfl rfl)
theorem dX4_mapLength_5 : decode cX4_mapLength 5 = .ok (.getfield 355, 3) := dk_180 1 99 (dk_at dksX4_mapLength_0 5 rfl rfl)
theorem dX4_mapLength_8 : decode cX4_mapLength 8 = .ok (.ireturn, 1) := dk_172 (dk_at dksX4_mapLength_0 8 rfl rfl)
abbrev cX4_layMap : ByteArray := prog_20_method_138_code
def yX4_layMap : MethodName := ⟨RX4, "layMap", "()V"⟩
def dkwX4_layMap_2 : List UInt8 := [167, 255, 227, 42, 16, 10, 182, 1, 105, 132, 1, 1, 167, 255, 203, 177]
abbrev dktX4_layMap_2 : List UInt8 := dkwX4_layMap_2 ++ []
def dkwX4_layMap_1 : List UInt8 := [3, 46, 162, 0, 25, 42, 42, 180, 0, 7, 28, 27, 184, 1, 15, 184, 1, 102, 182, 1, 105, 132, 2, 1]
abbrev dktX4_layMap_1 : List UInt8 := dkwX4_layMap_1 ++ dktX4_layMap_2
def dkwX4_layMap_0 : List UInt8 := [42, 3, 181, 1, 99, 3, 60, 27, 42, 180, 0, 7, 4, 46, 162, 0, 49, 3, 61, 28, 42, 180, 0, 7]
abbrev dktX4_layMap_0 : List UInt8 := dkwX4_layMap_0 ++ dktX4_layMap_1
theorem dksX4_layMap_0 : cX4_layMap.data.toList.drop 0 = dktX4_layMap_0 := by decide +kernel
theorem dksX4_layMap_1 : cX4_layMap.data.toList.drop 24 = dktX4_layMap_1 := dk_seg dksX4_layMap_0 24 rfl rfl
theorem dksX4_layMap_2 : cX4_layMap.data.toList.drop 48 = dktX4_layMap_2 := dk_seg dksX4_layMap_1 24 rfl rfl
theorem dX4_layMap_0 : decode cX4_layMap 0 = .ok (.aload_n 0, 1) := dk_42 (dk_at dksX4_layMap_0 0 rfl rfl)
theorem dX4_layMap_1 : decode cX4_layMap 1 = .ok (.iconst 0, 1) := dk_3 (dk_at dksX4_layMap_0 1 rfl rfl)
theorem dX4_layMap_2 : decode cX4_layMap 2 = .ok (.putfield 355, 3) := dk_181 1 99 (dk_at dksX4_layMap_0 2 rfl rfl)
theorem dX4_layMap_5 : decode cX4_layMap 5 = .ok (.iconst 0, 1) := dk_3 (dk_at dksX4_layMap_0 5 rfl rfl)
theorem dX4_layMap_6 : decode cX4_layMap 6 = .ok (.istore_n 1, 1) := dk_60 (dk_at dksX4_layMap_0 6 rfl rfl)
theorem dX4_layMap_7 : decode cX4_layMap 7 = .ok (.iload_n 1, 1) := dk_27 (dk_at dksX4_layMap_0 7 rfl rfl)
theorem dX4_layMap_8 : decode cX4_layMap 8 = .ok (.aload_n 0, 1) := dk_42 (dk_at dksX4_layMap_0 8 rfl rfl)
theorem dX4_layMap_9 : decode cX4_layMap 9 = .ok (.getfield 7, 3) := dk_180 0 7 (dk_at dksX4_layMap_0 9 rfl rfl)
theorem dX4_layMap_12 : decode cX4_layMap 12 = .ok (.iconst 1, 1) := dk_4 (dk_at dksX4_layMap_0 12 rfl rfl)
theorem dX4_layMap_13 : decode cX4_layMap 13 = .ok (.iaload, 1) := dk_46 (dk_at dksX4_layMap_0 13 rfl rfl)
theorem dX4_layMap_14 : decode cX4_layMap 14 = .ok (.if_icmp .ge 49, 3) := dk_162 0 49 (dk_at dksX4_layMap_0 14 rfl rfl)
theorem dX4_layMap_17 : decode cX4_layMap 17 = .ok (.iconst 0, 1) := dk_3 (dk_at dksX4_layMap_0 17 rfl rfl)
theorem dX4_layMap_18 : decode cX4_layMap 18 = .ok (.istore_n 2, 1) := dk_61 (dk_at dksX4_layMap_0 18 rfl rfl)
theorem dX4_layMap_19 : decode cX4_layMap 19 = .ok (.iload_n 2, 1) := dk_28 (dk_at dksX4_layMap_0 19 rfl rfl)
theorem dX4_layMap_20 : decode cX4_layMap 20 = .ok (.aload_n 0, 1) := dk_42 (dk_at dksX4_layMap_0 20 rfl rfl)
theorem dX4_layMap_21 : decode cX4_layMap 21 = .ok (.getfield 7, 3) := dk_180 0 7 (dk_at dksX4_layMap_0 21 rfl rfl)
theorem dX4_layMap_24 : decode cX4_layMap 24 = .ok (.iconst 0, 1) := dk_3 (dk_at dksX4_layMap_1 0 rfl rfl)
theorem dX4_layMap_25 : decode cX4_layMap 25 = .ok (.iaload, 1) := dk_46 (dk_at dksX4_layMap_1 1 rfl rfl)
theorem dX4_layMap_26 : decode cX4_layMap 26 = .ok (.if_icmp .ge 25, 3) := dk_162 0 25 (dk_at dksX4_layMap_1 2 rfl rfl)
theorem dX4_layMap_29 : decode cX4_layMap 29 = .ok (.aload_n 0, 1) := dk_42 (dk_at dksX4_layMap_1 5 rfl rfl)
theorem dX4_layMap_30 : decode cX4_layMap 30 = .ok (.aload_n 0, 1) := dk_42 (dk_at dksX4_layMap_1 6 rfl rfl)
theorem dX4_layMap_31 : decode cX4_layMap 31 = .ok (.getfield 7, 3) := dk_180 0 7 (dk_at dksX4_layMap_1 7 rfl rfl)
theorem dX4_layMap_34 : decode cX4_layMap 34 = .ok (.iload_n 2, 1) := dk_28 (dk_at dksX4_layMap_1 10 rfl rfl)
theorem dX4_layMap_35 : decode cX4_layMap 35 = .ok (.iload_n 1, 1) := dk_27 (dk_at dksX4_layMap_1 11 rfl rfl)
theorem dX4_layMap_36 : decode cX4_layMap 36 = .ok (.invokestatic 271, 3) := dk_184 1 15 (dk_at dksX4_layMap_1 12 rfl rfl)
theorem dX4_layMap_39 : decode cX4_layMap 39 = .ok (.invokestatic 358, 3) := dk_184 1 102 (dk_at dksX4_layMap_1 15 rfl rfl)
theorem dX4_layMap_42 : decode cX4_layMap 42 = .ok (.invokevirtual 361, 3) := dk_182 1 105 (dk_at dksX4_layMap_1 18 rfl rfl)
theorem dX4_layMap_45 : decode cX4_layMap 45 = .ok (.iinc 2 1, 3) := dk_132 2 1 (dk_at dksX4_layMap_1 21 rfl rfl)
theorem dX4_layMap_48 : decode cX4_layMap 48 = .ok (.goto (-29), 3) := dk_167 255 227 (dk_at dksX4_layMap_2 0 rfl rfl)
theorem dX4_layMap_51 : decode cX4_layMap 51 = .ok (.aload_n 0, 1) := dk_42 (dk_at dksX4_layMap_2 3 rfl rfl)
theorem dX4_layMap_52 : decode cX4_layMap 52 = .ok (.bipush 10, 2) := dk_16 10 (dk_at dksX4_layMap_2 4 rfl rfl)
theorem dX4_layMap_54 : decode cX4_layMap 54 = .ok (.invokevirtual 361, 3) := dk_182 1 105 (dk_at dksX4_layMap_2 6 rfl rfl)
theorem dX4_layMap_57 : decode cX4_layMap 57 = .ok (.iinc 1 1, 3) := dk_132 1 1 (dk_at dksX4_layMap_2 9 rfl rfl)
theorem dX4_layMap_60 : decode cX4_layMap 60 = .ok (.goto (-53), 3) := dk_167 255 203 (dk_at dksX4_layMap_2 12 rfl rfl)
theorem dX4_layMap_63 : decode cX4_layMap 63 = .ok (.return_, 1) := dk_177 (dk_at dksX4_layMap_2 15 rfl rfl)
abbrev cX4_signOf : ByteArray := prog_20_method_137_code
def yX4_signOf : MethodName := ⟨RX4, "signOf", "(I)I"⟩
def dkwX4_signOf_1 : List UInt8 := [167, 0, 7, 16, 29, 26, 96, 172]
abbrev dktX4_signOf_1 : List UInt8 := dkwX4_signOf_1 ++ []
def dkwX4_signOf_0 : List UInt8 := [26, 16, 10, 162, 0, 10, 16, 48, 26, 96, 167, 0, 20, 26, 16, 36, 162, 0, 10, 16, 87, 26, 96]
abbrev dktX4_signOf_0 : List UInt8 := dkwX4_signOf_0 ++ dktX4_signOf_1
theorem dksX4_signOf_0 : cX4_signOf.data.toList.drop 0 = dktX4_signOf_0 := by decide +kernel
theorem dksX4_signOf_1 : cX4_signOf.data.toList.drop 23 = dktX4_signOf_1 := dk_seg dksX4_signOf_0 23 rfl rfl
theorem dX4_signOf_0 : decode cX4_signOf 0 = .ok (.iload_n 0, 1) := dk_26 (dk_at dksX4_signOf_0 0 rfl rfl)
theorem dX4_signOf_1 : decode cX4_signOf 1 = .ok (.bipush 10, 2) := dk_16 10 (dk_at dksX4_signOf_0 1 rfl rfl)
theorem dX4_signOf_3 : decode cX4_signOf 3 = .ok (.if_icmp .ge 10, 3) := dk_162 0 10 (dk_at dksX4_signOf_0 3 rfl rfl)
theorem dX4_signOf_6 : decode cX4_signOf 6 = .ok (.bipush 48, 2) := dk_16 48 (dk_at dksX4_signOf_0 6 rfl rfl)
theorem dX4_signOf_8 : decode cX4_signOf 8 = .ok (.iload_n 0, 1) := dk_26 (dk_at dksX4_signOf_0 8 rfl rfl)
theorem dX4_signOf_9 : decode cX4_signOf 9 = .ok (.iadd, 1) := dk_96 (dk_at dksX4_signOf_0 9 rfl rfl)
theorem dX4_signOf_10 : decode cX4_signOf 10 = .ok (.goto 20, 3) := dk_167 0 20 (dk_at dksX4_signOf_0 10 rfl rfl)
theorem dX4_signOf_13 : decode cX4_signOf 13 = .ok (.iload_n 0, 1) := dk_26 (dk_at dksX4_signOf_0 13 rfl rfl)
theorem dX4_signOf_14 : decode cX4_signOf 14 = .ok (.bipush 36, 2) := dk_16 36 (dk_at dksX4_signOf_0 14 rfl rfl)
theorem dX4_signOf_16 : decode cX4_signOf 16 = .ok (.if_icmp .ge 10, 3) := dk_162 0 10 (dk_at dksX4_signOf_0 16 rfl rfl)
theorem dX4_signOf_19 : decode cX4_signOf 19 = .ok (.bipush 87, 2) := dk_16 87 (dk_at dksX4_signOf_0 19 rfl rfl)
theorem dX4_signOf_21 : decode cX4_signOf 21 = .ok (.iload_n 0, 1) := dk_26 (dk_at dksX4_signOf_0 21 rfl rfl)
theorem dX4_signOf_22 : decode cX4_signOf 22 = .ok (.iadd, 1) := dk_96 (dk_at dksX4_signOf_0 22 rfl rfl)
theorem dX4_signOf_23 : decode cX4_signOf 23 = .ok (.goto 7, 3) := dk_167 0 7 (dk_at dksX4_signOf_1 0 rfl rfl)
theorem dX4_signOf_26 : decode cX4_signOf 26 = .ok (.bipush 29, 2) := dk_16 29 (dk_at dksX4_signOf_1 3 rfl rfl)
theorem dX4_signOf_28 : decode cX4_signOf 28 = .ok (.iload_n 0, 1) := dk_26 (dk_at dksX4_signOf_1 5 rfl rfl)
theorem dX4_signOf_29 : decode cX4_signOf 29 = .ok (.iadd, 1) := dk_96 (dk_at dksX4_signOf_1 6 rfl rfl)
theorem dX4_signOf_30 : decode cX4_signOf 30 = .ok (.ireturn, 1) := dk_172 (dk_at dksX4_signOf_1 7 rfl rfl)
abbrev cX4_puts : ByteArray := prog_20_method_135_code
def yX4_puts : MethodName := ⟨RX4, "puts", "(I)V"⟩
def dkwX4_puts_0 : List UInt8 := [42, 180, 0, 39, 42, 180, 1, 99, 27, 79, 42, 89, 180, 1, 99, 4, 96, 181, 1, 99, 177]
abbrev dktX4_puts_0 : List UInt8 := dkwX4_puts_0 ++ []
theorem dksX4_puts_0 : cX4_puts.data.toList.drop 0 = dktX4_puts_0 := by decide +kernel
theorem dX4_puts_0 : decode cX4_puts 0 = .ok (.aload_n 0, 1) := dk_42 (dk_at dksX4_puts_0 0 rfl rfl)
theorem dX4_puts_1 : decode cX4_puts 1 = .ok (.getfield 39, 3) := dk_180 0 39 (dk_at dksX4_puts_0 1 rfl rfl)
theorem dX4_puts_4 : decode cX4_puts 4 = .ok (.aload_n 0, 1) := dk_42 (dk_at dksX4_puts_0 4 rfl rfl)
theorem dX4_puts_5 : decode cX4_puts 5 = .ok (.getfield 355, 3) := dk_180 1 99 (dk_at dksX4_puts_0 5 rfl rfl)
theorem dX4_puts_8 : decode cX4_puts 8 = .ok (.iload_n 1, 1) := dk_27 (dk_at dksX4_puts_0 8 rfl rfl)
theorem dX4_puts_9 : decode cX4_puts 9 = .ok (.iastore, 1) := dk_79 (dk_at dksX4_puts_0 9 rfl rfl)
theorem dX4_puts_10 : decode cX4_puts 10 = .ok (.aload_n 0, 1) := dk_42 (dk_at dksX4_puts_0 10 rfl rfl)
theorem dX4_puts_11 : decode cX4_puts 11 = .ok (.dup, 1) := dk_89 (dk_at dksX4_puts_0 11 rfl rfl)
theorem dX4_puts_12 : decode cX4_puts 12 = .ok (.getfield 355, 3) := dk_180 1 99 (dk_at dksX4_puts_0 12 rfl rfl)
theorem dX4_puts_15 : decode cX4_puts 15 = .ok (.iconst 1, 1) := dk_4 (dk_at dksX4_puts_0 15 rfl rfl)
theorem dX4_puts_16 : decode cX4_puts 16 = .ok (.iadd, 1) := dk_96 (dk_at dksX4_puts_0 16 rfl rfl)
theorem dX4_puts_17 : decode cX4_puts 17 = .ok (.putfield 355, 3) := dk_181 1 99 (dk_at dksX4_puts_0 17 rfl rfl)
theorem dX4_puts_20 : decode cX4_puts 20 = .ok (.return_, 1) := dk_177 (dk_at dksX4_puts_0 20 rfl rfl)
abbrev cX4_mapByte : ByteArray := prog_20_method_140_code
def yX4_mapByte : MethodName := ⟨RX4, "mapByte", "(I)I"⟩
def dkwX4_mapByte_0 : List UInt8 := [27, 156, 0, 5, 2, 172, 42, 182, 1, 109, 42, 27, 182, 1, 112, 172]
abbrev dktX4_mapByte_0 : List UInt8 := dkwX4_mapByte_0 ++ []
theorem dksX4_mapByte_0 : cX4_mapByte.data.toList.drop 0 = dktX4_mapByte_0 := by decide +kernel
theorem dX4_mapByte_0 : decode cX4_mapByte 0 = .ok (.iload_n 1, 1) := dk_27 (dk_at dksX4_mapByte_0 0 rfl rfl)
theorem dX4_mapByte_1 : decode cX4_mapByte 1 = .ok (.ifCond .ge 5, 3) := dk_156 0 5 (dk_at dksX4_mapByte_0 1 rfl rfl)
theorem dX4_mapByte_4 : decode cX4_mapByte 4 = .ok (.iconst (-1), 1) := dk_2 (dk_at dksX4_mapByte_0 4 rfl rfl)
theorem dX4_mapByte_5 : decode cX4_mapByte 5 = .ok (.ireturn, 1) := dk_172 (dk_at dksX4_mapByte_0 5 rfl rfl)
theorem dX4_mapByte_6 : decode cX4_mapByte 6 = .ok (.aload_n 0, 1) := dk_42 (dk_at dksX4_mapByte_0 6 rfl rfl)
theorem dX4_mapByte_7 : decode cX4_mapByte 7 = .ok (.invokevirtual 365, 3) := dk_182 1 109 (dk_at dksX4_mapByte_0 7 rfl rfl)
theorem dX4_mapByte_10 : decode cX4_mapByte 10 = .ok (.aload_n 0, 1) := dk_42 (dk_at dksX4_mapByte_0 10 rfl rfl)
theorem dX4_mapByte_11 : decode cX4_mapByte 11 = .ok (.iload_n 1, 1) := dk_27 (dk_at dksX4_mapByte_0 11 rfl rfl)
theorem dX4_mapByte_12 : decode cX4_mapByte 12 = .ok (.invokevirtual 368, 3) := dk_182 1 112 (dk_at dksX4_mapByte_0 12 rfl rfl)
theorem dX4_mapByte_15 : decode cX4_mapByte 15 = .ok (.ireturn, 1) := dk_172 (dk_at dksX4_mapByte_0 15 rfl rfl)
abbrev cX4_writtenAt : ByteArray := prog_20_method_136_code
def yX4_writtenAt : MethodName := ⟨RX4, "writtenAt", "(I)I"⟩
def dkwX4_writtenAt_0 : List UInt8 := [27, 42, 180, 1, 99, 162, 0, 12, 42, 180, 0, 39, 27, 46, 167, 0, 5, 16, 254, 172]
abbrev dktX4_writtenAt_0 : List UInt8 := dkwX4_writtenAt_0 ++ []
theorem dksX4_writtenAt_0 : cX4_writtenAt.data.toList.drop 0 = dktX4_writtenAt_0 := by decide +kernel
theorem dX4_writtenAt_0 : decode cX4_writtenAt 0 = .ok (.iload_n 1, 1) := dk_27 (dk_at dksX4_writtenAt_0 0 rfl rfl)
theorem dX4_writtenAt_1 : decode cX4_writtenAt 1 = .ok (.aload_n 0, 1) := dk_42 (dk_at dksX4_writtenAt_0 1 rfl rfl)
theorem dX4_writtenAt_2 : decode cX4_writtenAt 2 = .ok (.getfield 355, 3) := dk_180 1 99 (dk_at dksX4_writtenAt_0 2 rfl rfl)
theorem dX4_writtenAt_5 : decode cX4_writtenAt 5 = .ok (.if_icmp .ge 12, 3) := dk_162 0 12 (dk_at dksX4_writtenAt_0 5 rfl rfl)
theorem dX4_writtenAt_8 : decode cX4_writtenAt 8 = .ok (.aload_n 0, 1) := dk_42 (dk_at dksX4_writtenAt_0 8 rfl rfl)
theorem dX4_writtenAt_9 : decode cX4_writtenAt 9 = .ok (.getfield 39, 3) := dk_180 0 39 (dk_at dksX4_writtenAt_0 9 rfl rfl)
theorem dX4_writtenAt_12 : decode cX4_writtenAt 12 = .ok (.iload_n 1, 1) := dk_27 (dk_at dksX4_writtenAt_0 12 rfl rfl)
theorem dX4_writtenAt_13 : decode cX4_writtenAt 13 = .ok (.iaload, 1) := dk_46 (dk_at dksX4_writtenAt_0 13 rfl rfl)
theorem dX4_writtenAt_14 : decode cX4_writtenAt 14 = .ok (.goto 5, 3) := dk_167 0 5 (dk_at dksX4_writtenAt_0 14 rfl rfl)
theorem dX4_writtenAt_17 : decode cX4_writtenAt 17 = .ok (.bipush (-2), 2) := dk_16 254 (dk_at dksX4_writtenAt_0 17 rfl rfl)
theorem dX4_writtenAt_19 : decode cX4_writtenAt 19 = .ok (.ireturn, 1) := dk_172 (dk_at dksX4_writtenAt_0 19 rfl rfl)
abbrev cX4_extractLength : ByteArray := prog_20_method_145_code
def yX4_extractLength : MethodName := ⟨RX4, "extractLength", "(I)I"⟩
def dkwX4_extractLength_0 : List UInt8 := [42, 27, 182, 0, 240, 154, 0, 5, 2, 172, 42, 27, 182, 1, 124, 42, 180, 1, 99, 172]
abbrev dktX4_extractLength_0 : List UInt8 := dkwX4_extractLength_0 ++ []
theorem dksX4_extractLength_0 : cX4_extractLength.data.toList.drop 0 = dktX4_extractLength_0 := by decide +kernel
theorem dX4_extractLength_0 : decode cX4_extractLength 0 = .ok (.aload_n 0, 1) := dk_42 (dk_at dksX4_extractLength_0 0 rfl rfl)
theorem dX4_extractLength_1 : decode cX4_extractLength 1 = .ok (.iload_n 1, 1) := dk_27 (dk_at dksX4_extractLength_0 1 rfl rfl)
theorem dX4_extractLength_2 : decode cX4_extractLength 2 = .ok (.invokevirtual 240, 3) := dk_182 0 240 (dk_at dksX4_extractLength_0 2 rfl rfl)
theorem dX4_extractLength_5 : decode cX4_extractLength 5 = .ok (.ifCond .ne 5, 3) := dk_154 0 5 (dk_at dksX4_extractLength_0 5 rfl rfl)
theorem dX4_extractLength_8 : decode cX4_extractLength 8 = .ok (.iconst (-1), 1) := dk_2 (dk_at dksX4_extractLength_0 8 rfl rfl)
theorem dX4_extractLength_9 : decode cX4_extractLength 9 = .ok (.ireturn, 1) := dk_172 (dk_at dksX4_extractLength_0 9 rfl rfl)
theorem dX4_extractLength_10 : decode cX4_extractLength 10 = .ok (.aload_n 0, 1) := dk_42 (dk_at dksX4_extractLength_0 10 rfl rfl)
theorem dX4_extractLength_11 : decode cX4_extractLength 11 = .ok (.iload_n 1, 1) := dk_27 (dk_at dksX4_extractLength_0 11 rfl rfl)
theorem dX4_extractLength_12 : decode cX4_extractLength 12 = .ok (.invokevirtual 380, 3) := dk_182 1 124 (dk_at dksX4_extractLength_0 12 rfl rfl)
theorem dX4_extractLength_15 : decode cX4_extractLength 15 = .ok (.aload_n 0, 1) := dk_42 (dk_at dksX4_extractLength_0 15 rfl rfl)
theorem dX4_extractLength_16 : decode cX4_extractLength 16 = .ok (.getfield 355, 3) := dk_180 1 99 (dk_at dksX4_extractLength_0 16 rfl rfl)
theorem dX4_extractLength_19 : decode cX4_extractLength 19 = .ok (.ireturn, 1) := dk_172 (dk_at dksX4_extractLength_0 19 rfl rfl)
abbrev cX4_layExtract : ByteArray := prog_20_method_143_code
def yX4_layExtract : MethodName := ⟨RX4, "layExtract", "(I)V"⟩
def dkwX4_layExtract_4 : List UInt8 := [132, 2, 1, 167, 255, 238, 177]
abbrev dktX4_layExtract_4 : List UInt8 := dkwX4_layExtract_4 ++ []
def dkwX4_layExtract_3 : List UInt8 := [61, 42, 27, 182, 1, 55, 62, 28, 29, 162, 0, 19, 42, 42, 27, 28, 182, 1, 83, 182, 1, 121]
abbrev dktX4_layExtract_3 : List UInt8 := dkwX4_layExtract_3 ++ dktX4_layExtract_4
def dkwX4_layExtract_2 : List UInt8 := [180, 0, 7, 27, 28, 184, 0, 92, 182, 1, 118, 42, 16, 10, 182, 1, 105, 132, 2, 1, 167, 255, 198, 3]
abbrev dktX4_layExtract_2 : List UInt8 := dkwX4_layExtract_2 ++ dktX4_layExtract_3
def dkwX4_layExtract_1 : List UInt8 := [184, 0, 92, 154, 0, 6, 167, 0, 33, 42, 28, 182, 1, 115, 42, 16, 32, 182, 1, 105, 42, 42]
abbrev dktX4_layExtract_1 : List UInt8 := dkwX4_layExtract_1 ++ dktX4_layExtract_2
def dkwX4_layExtract_0 : List UInt8 := [42, 3, 181, 1, 99, 3, 61, 28, 42, 180, 0, 7, 7, 46, 162, 0, 54, 42, 180, 0, 7, 27, 28]
abbrev dktX4_layExtract_0 : List UInt8 := dkwX4_layExtract_0 ++ dktX4_layExtract_1
theorem dksX4_layExtract_0 : cX4_layExtract.data.toList.drop 0 = dktX4_layExtract_0 := by decide +kernel
theorem dksX4_layExtract_1 : cX4_layExtract.data.toList.drop 23 = dktX4_layExtract_1 := dk_seg dksX4_layExtract_0 23 rfl rfl
theorem dksX4_layExtract_2 : cX4_layExtract.data.toList.drop 45 = dktX4_layExtract_2 := dk_seg dksX4_layExtract_1 22 rfl rfl
theorem dksX4_layExtract_3 : cX4_layExtract.data.toList.drop 69 = dktX4_layExtract_3 := dk_seg dksX4_layExtract_2 24 rfl rfl
theorem dksX4_layExtract_4 : cX4_layExtract.data.toList.drop 91 = dktX4_layExtract_4 := dk_seg dksX4_layExtract_3 22 rfl rfl
theorem dX4_layExtract_0 : decode cX4_layExtract 0 = .ok (.aload_n 0, 1) := dk_42 (dk_at dksX4_layExtract_0 0 rfl rfl)
theorem dX4_layExtract_1 : decode cX4_layExtract 1 = .ok (.iconst 0, 1) := dk_3 (dk_at dksX4_layExtract_0 1 rfl rfl)
theorem dX4_layExtract_2 : decode cX4_layExtract 2 = .ok (.putfield 355, 3) := dk_181 1 99 (dk_at dksX4_layExtract_0 2 rfl rfl)
theorem dX4_layExtract_5 : decode cX4_layExtract 5 = .ok (.iconst 0, 1) := dk_3 (dk_at dksX4_layExtract_0 5 rfl rfl)
theorem dX4_layExtract_6 : decode cX4_layExtract 6 = .ok (.istore_n 2, 1) := dk_61 (dk_at dksX4_layExtract_0 6 rfl rfl)
theorem dX4_layExtract_7 : decode cX4_layExtract 7 = .ok (.iload_n 2, 1) := dk_28 (dk_at dksX4_layExtract_0 7 rfl rfl)
theorem dX4_layExtract_8 : decode cX4_layExtract 8 = .ok (.aload_n 0, 1) := dk_42 (dk_at dksX4_layExtract_0 8 rfl rfl)
theorem dX4_layExtract_9 : decode cX4_layExtract 9 = .ok (.getfield 7, 3) := dk_180 0 7 (dk_at dksX4_layExtract_0 9 rfl rfl)
theorem dX4_layExtract_12 : decode cX4_layExtract 12 = .ok (.iconst 4, 1) := dk_7 (dk_at dksX4_layExtract_0 12 rfl rfl)
theorem dX4_layExtract_13 : decode cX4_layExtract 13 = .ok (.iaload, 1) := dk_46 (dk_at dksX4_layExtract_0 13 rfl rfl)
theorem dX4_layExtract_14 : decode cX4_layExtract 14 = .ok (.if_icmp .ge 54, 3) := dk_162 0 54 (dk_at dksX4_layExtract_0 14 rfl rfl)
theorem dX4_layExtract_17 : decode cX4_layExtract 17 = .ok (.aload_n 0, 1) := dk_42 (dk_at dksX4_layExtract_0 17 rfl rfl)
theorem dX4_layExtract_18 : decode cX4_layExtract 18 = .ok (.getfield 7, 3) := dk_180 0 7 (dk_at dksX4_layExtract_0 18 rfl rfl)
theorem dX4_layExtract_21 : decode cX4_layExtract 21 = .ok (.iload_n 1, 1) := dk_27 (dk_at dksX4_layExtract_0 21 rfl rfl)
theorem dX4_layExtract_22 : decode cX4_layExtract 22 = .ok (.iload_n 2, 1) := dk_28 (dk_at dksX4_layExtract_0 22 rfl rfl)
theorem dX4_layExtract_23 : decode cX4_layExtract 23 = .ok (.invokestatic 92, 3) := dk_184 0 92 (dk_at dksX4_layExtract_1 0 rfl rfl)
theorem dX4_layExtract_26 : decode cX4_layExtract 26 = .ok (.ifCond .ne 6, 3) := dk_154 0 6 (dk_at dksX4_layExtract_1 3 rfl rfl)
theorem dX4_layExtract_29 : decode cX4_layExtract 29 = .ok (.goto 33, 3) := dk_167 0 33 (dk_at dksX4_layExtract_1 6 rfl rfl)
theorem dX4_layExtract_32 : decode cX4_layExtract 32 = .ok (.aload_n 0, 1) := dk_42 (dk_at dksX4_layExtract_1 9 rfl rfl)
theorem dX4_layExtract_33 : decode cX4_layExtract 33 = .ok (.iload_n 2, 1) := dk_28 (dk_at dksX4_layExtract_1 10 rfl rfl)
theorem dX4_layExtract_34 : decode cX4_layExtract 34 = .ok (.invokevirtual 371, 3) := dk_182 1 115 (dk_at dksX4_layExtract_1 11 rfl rfl)
theorem dX4_layExtract_37 : decode cX4_layExtract 37 = .ok (.aload_n 0, 1) := dk_42 (dk_at dksX4_layExtract_1 14 rfl rfl)
theorem dX4_layExtract_38 : decode cX4_layExtract 38 = .ok (.bipush 32, 2) := dk_16 32 (dk_at dksX4_layExtract_1 15 rfl rfl)
theorem dX4_layExtract_40 : decode cX4_layExtract 40 = .ok (.invokevirtual 361, 3) := dk_182 1 105 (dk_at dksX4_layExtract_1 17 rfl rfl)
theorem dX4_layExtract_43 : decode cX4_layExtract 43 = .ok (.aload_n 0, 1) := dk_42 (dk_at dksX4_layExtract_1 20 rfl rfl)
theorem dX4_layExtract_44 : decode cX4_layExtract 44 = .ok (.aload_n 0, 1) := dk_42 (dk_at dksX4_layExtract_1 21 rfl rfl)
theorem dX4_layExtract_45 : decode cX4_layExtract 45 = .ok (.getfield 7, 3) := dk_180 0 7 (dk_at dksX4_layExtract_2 0 rfl rfl)
theorem dX4_layExtract_48 : decode cX4_layExtract 48 = .ok (.iload_n 1, 1) := dk_27 (dk_at dksX4_layExtract_2 3 rfl rfl)
theorem dX4_layExtract_49 : decode cX4_layExtract 49 = .ok (.iload_n 2, 1) := dk_28 (dk_at dksX4_layExtract_2 4 rfl rfl)
theorem dX4_layExtract_50 : decode cX4_layExtract 50 = .ok (.invokestatic 92, 3) := dk_184 0 92 (dk_at dksX4_layExtract_2 5 rfl rfl)
theorem dX4_layExtract_53 : decode cX4_layExtract 53 = .ok (.invokevirtual 374, 3) := dk_182 1 118 (dk_at dksX4_layExtract_2 8 rfl rfl)
theorem dX4_layExtract_56 : decode cX4_layExtract 56 = .ok (.aload_n 0, 1) := dk_42 (dk_at dksX4_layExtract_2 11 rfl rfl)
theorem dX4_layExtract_57 : decode cX4_layExtract 57 = .ok (.bipush 10, 2) := dk_16 10 (dk_at dksX4_layExtract_2 12 rfl rfl)
theorem dX4_layExtract_59 : decode cX4_layExtract 59 = .ok (.invokevirtual 361, 3) := dk_182 1 105 (dk_at dksX4_layExtract_2 14 rfl rfl)
theorem dX4_layExtract_62 : decode cX4_layExtract 62 = .ok (.iinc 2 1, 3) := dk_132 2 1 (dk_at dksX4_layExtract_2 17 rfl rfl)
theorem dX4_layExtract_65 : decode cX4_layExtract 65 = .ok (.goto (-58), 3) := dk_167 255 198 (dk_at dksX4_layExtract_2 20 rfl rfl)
theorem dX4_layExtract_68 : decode cX4_layExtract 68 = .ok (.iconst 0, 1) := dk_3 (dk_at dksX4_layExtract_2 23 rfl rfl)
theorem dX4_layExtract_69 : decode cX4_layExtract 69 = .ok (.istore_n 2, 1) := dk_61 (dk_at dksX4_layExtract_3 0 rfl rfl)
theorem dX4_layExtract_70 : decode cX4_layExtract 70 = .ok (.aload_n 0, 1) := dk_42 (dk_at dksX4_layExtract_3 1 rfl rfl)
theorem dX4_layExtract_71 : decode cX4_layExtract 71 = .ok (.iload_n 1, 1) := dk_27 (dk_at dksX4_layExtract_3 2 rfl rfl)
theorem dX4_layExtract_72 : decode cX4_layExtract 72 = .ok (.invokevirtual 311, 3) := dk_182 1 55 (dk_at dksX4_layExtract_3 3 rfl rfl)
theorem dX4_layExtract_75 : decode cX4_layExtract 75 = .ok (.istore_n 3, 1) := dk_62 (dk_at dksX4_layExtract_3 6 rfl rfl)
theorem dX4_layExtract_76 : decode cX4_layExtract 76 = .ok (.iload_n 2, 1) := dk_28 (dk_at dksX4_layExtract_3 7 rfl rfl)
theorem dX4_layExtract_77 : decode cX4_layExtract 77 = .ok (.iload_n 3, 1) := dk_29 (dk_at dksX4_layExtract_3 8 rfl rfl)
theorem dX4_layExtract_78 : decode cX4_layExtract 78 = .ok (.if_icmp .ge 19, 3) := dk_162 0 19 (dk_at dksX4_layExtract_3 9 rfl rfl)
theorem dX4_layExtract_81 : decode cX4_layExtract 81 = .ok (.aload_n 0, 1) := dk_42 (dk_at dksX4_layExtract_3 12 rfl rfl)
theorem dX4_layExtract_82 : decode cX4_layExtract 82 = .ok (.aload_n 0, 1) := dk_42 (dk_at dksX4_layExtract_3 13 rfl rfl)
theorem dX4_layExtract_83 : decode cX4_layExtract 83 = .ok (.iload_n 1, 1) := dk_27 (dk_at dksX4_layExtract_3 14 rfl rfl)
theorem dX4_layExtract_84 : decode cX4_layExtract 84 = .ok (.iload_n 2, 1) := dk_28 (dk_at dksX4_layExtract_3 15 rfl rfl)
theorem dX4_layExtract_85 : decode cX4_layExtract 85 = .ok (.invokevirtual 339, 3) := dk_182 1 83 (dk_at dksX4_layExtract_3 16 rfl rfl)
theorem dX4_layExtract_88 : decode cX4_layExtract 88 = .ok (.invokevirtual 377, 3) := dk_182 1 121 (dk_at dksX4_layExtract_3 19 rfl rfl)
theorem dX4_layExtract_91 : decode cX4_layExtract 91 = .ok (.iinc 2 1, 3) := dk_132 2 1 (dk_at dksX4_layExtract_4 0 rfl rfl)
theorem dX4_layExtract_94 : decode cX4_layExtract 94 = .ok (.goto (-18), 3) := dk_167 255 238 (dk_at dksX4_layExtract_4 3 rfl rfl)
theorem dX4_layExtract_97 : decode cX4_layExtract 97 = .ok (.return_, 1) := dk_177 (dk_at dksX4_layExtract_4 6 rfl rfl)
abbrev cX4_putsName : ByteArray := prog_20_method_141_code
def yX4_putsName : MethodName := ⟨RX4, "putsName", "(I)V"⟩
def dkwX4_putsName_1 : List UInt8 := [180, 0, 7, 16, 8, 27, 96, 46, 28, 184, 1, 74, 96, 182, 1, 105, 132, 2, 1, 167, 255, 217, 177]
abbrev dktX4_putsName_1 : List UInt8 := dkwX4_putsName_1 ++ []
def dkwX4_putsName_0 : List UInt8 := [3, 61, 28, 42, 180, 0, 7, 16, 8, 27, 96, 46, 184, 1, 71, 162, 0, 29, 42, 16, 96, 42]
abbrev dktX4_putsName_0 : List UInt8 := dkwX4_putsName_0 ++ dktX4_putsName_1
theorem dksX4_putsName_0 : cX4_putsName.data.toList.drop 0 = dktX4_putsName_0 := by decide +kernel
theorem dksX4_putsName_1 : cX4_putsName.data.toList.drop 22 = dktX4_putsName_1 := dk_seg dksX4_putsName_0 22 rfl rfl
theorem dX4_putsName_0 : decode cX4_putsName 0 = .ok (.iconst 0, 1) := dk_3 (dk_at dksX4_putsName_0 0 rfl rfl)
theorem dX4_putsName_1 : decode cX4_putsName 1 = .ok (.istore_n 2, 1) := dk_61 (dk_at dksX4_putsName_0 1 rfl rfl)
theorem dX4_putsName_2 : decode cX4_putsName 2 = .ok (.iload_n 2, 1) := dk_28 (dk_at dksX4_putsName_0 2 rfl rfl)
theorem dX4_putsName_3 : decode cX4_putsName 3 = .ok (.aload_n 0, 1) := dk_42 (dk_at dksX4_putsName_0 3 rfl rfl)
theorem dX4_putsName_4 : decode cX4_putsName 4 = .ok (.getfield 7, 3) := dk_180 0 7 (dk_at dksX4_putsName_0 4 rfl rfl)
theorem dX4_putsName_7 : decode cX4_putsName 7 = .ok (.bipush 8, 2) := dk_16 8 (dk_at dksX4_putsName_0 7 rfl rfl)
theorem dX4_putsName_9 : decode cX4_putsName 9 = .ok (.iload_n 1, 1) := dk_27 (dk_at dksX4_putsName_0 9 rfl rfl)
theorem dX4_putsName_10 : decode cX4_putsName 10 = .ok (.iadd, 1) := dk_96 (dk_at dksX4_putsName_0 10 rfl rfl)
theorem dX4_putsName_11 : decode cX4_putsName 11 = .ok (.iaload, 1) := dk_46 (dk_at dksX4_putsName_0 11 rfl rfl)
theorem dX4_putsName_12 : decode cX4_putsName 12 = .ok (.invokestatic 327, 3) := dk_184 1 71 (dk_at dksX4_putsName_0 12 rfl rfl)
theorem dX4_putsName_15 : decode cX4_putsName 15 = .ok (.if_icmp .ge 29, 3) := dk_162 0 29 (dk_at dksX4_putsName_0 15 rfl rfl)
theorem dX4_putsName_18 : decode cX4_putsName 18 = .ok (.aload_n 0, 1) := dk_42 (dk_at dksX4_putsName_0 18 rfl rfl)
theorem dX4_putsName_19 : decode cX4_putsName 19 = .ok (.bipush 96, 2) := dk_16 96 (dk_at dksX4_putsName_0 19 rfl rfl)
theorem dX4_putsName_21 : decode cX4_putsName 21 = .ok (.aload_n 0, 1) := dk_42 (dk_at dksX4_putsName_0 21 rfl rfl)
theorem dX4_putsName_22 : decode cX4_putsName 22 = .ok (.getfield 7, 3) := dk_180 0 7 (dk_at dksX4_putsName_1 0 rfl rfl)
theorem dX4_putsName_25 : decode cX4_putsName 25 = .ok (.bipush 8, 2) := dk_16 8 (dk_at dksX4_putsName_1 3 rfl rfl)
theorem dX4_putsName_27 : decode cX4_putsName 27 = .ok (.iload_n 1, 1) := dk_27 (dk_at dksX4_putsName_1 5 rfl rfl)
theorem dX4_putsName_28 : decode cX4_putsName 28 = .ok (.iadd, 1) := dk_96 (dk_at dksX4_putsName_1 6 rfl rfl)
theorem dX4_putsName_29 : decode cX4_putsName 29 = .ok (.iaload, 1) := dk_46 (dk_at dksX4_putsName_1 7 rfl rfl)
theorem dX4_putsName_30 : decode cX4_putsName 30 = .ok (.iload_n 2, 1) := dk_28 (dk_at dksX4_putsName_1 8 rfl rfl)
theorem dX4_putsName_31 : decode cX4_putsName 31 = .ok (.invokestatic 330, 3) := dk_184 1 74 (dk_at dksX4_putsName_1 9 rfl rfl)
theorem dX4_putsName_34 : decode cX4_putsName 34 = .ok (.iadd, 1) := dk_96 (dk_at dksX4_putsName_1 12 rfl rfl)
theorem dX4_putsName_35 : decode cX4_putsName 35 = .ok (.invokevirtual 361, 3) := dk_182 1 105 (dk_at dksX4_putsName_1 13 rfl rfl)
theorem dX4_putsName_38 : decode cX4_putsName 38 = .ok (.iinc 2 1, 3) := dk_132 2 1 (dk_at dksX4_putsName_1 16 rfl rfl)
theorem dX4_putsName_41 : decode cX4_putsName 41 = .ok (.goto (-39), 3) := dk_167 255 217 (dk_at dksX4_putsName_1 19 rfl rfl)
theorem dX4_putsName_44 : decode cX4_putsName 44 = .ok (.return_, 1) := dk_177 (dk_at dksX4_putsName_1 22 rfl rfl)
abbrev cX4_putsNumber : ByteArray := prog_20_method_142_code
def yX4_putsNumber : MethodName := ⟨RX4, "putsNumber", "(I)V"⟩
def dkwX4_putsNumber_1 : List UInt8 := [16, 48, 27, 28, 108, 16, 10, 112, 96, 182, 1, 105, 28, 16, 10, 108, 61, 167, 255, 234, 177]
abbrev dktX4_putsNumber_1 : List UInt8 := dkwX4_putsNumber_1 ++ []
def dkwX4_putsNumber_0 : List UInt8 := [4, 61, 28, 27, 16, 10, 108, 163, 0, 11, 28, 16, 10, 104, 61, 167, 255, 243, 28, 158, 0, 24, 42]
abbrev dktX4_putsNumber_0 : List UInt8 := dkwX4_putsNumber_0 ++ dktX4_putsNumber_1
theorem dksX4_putsNumber_0 : cX4_putsNumber.data.toList.drop 0 = dktX4_putsNumber_0 := by decide +kernel
theorem dksX4_putsNumber_1 : cX4_putsNumber.data.toList.drop 23 = dktX4_putsNumber_1 := dk_seg dksX4_putsNumber_0 23 rfl rfl
theorem dX4_putsNumber_0 : decode cX4_putsNumber 0 = .ok (.iconst 1, 1) := dk_4 (dk_at dksX4_putsNumber_0 0 rfl rfl)
theorem dX4_putsNumber_1 : decode cX4_putsNumber 1 = .ok (.istore_n 2, 1) := dk_61 (dk_at dksX4_putsNumber_0 1 rfl rfl)
theorem dX4_putsNumber_2 : decode cX4_putsNumber 2 = .ok (.iload_n 2, 1) := dk_28 (dk_at dksX4_putsNumber_0 2 rfl rfl)
theorem dX4_putsNumber_3 : decode cX4_putsNumber 3 = .ok (.iload_n 1, 1) := dk_27 (dk_at dksX4_putsNumber_0 3 rfl rfl)
theorem dX4_putsNumber_4 : decode cX4_putsNumber 4 = .ok (.bipush 10, 2) := dk_16 10 (dk_at dksX4_putsNumber_0 4 rfl rfl)
theorem dX4_putsNumber_6 : decode cX4_putsNumber 6 = .ok (.idiv, 1) := dk_108 (dk_at dksX4_putsNumber_0 6 rfl rfl)
theorem dX4_putsNumber_7 : decode cX4_putsNumber 7 = .ok (.if_icmp .gt 11, 3) := dk_163 0 11 (dk_at dksX4_putsNumber_0 7 rfl rfl)
theorem dX4_putsNumber_10 : decode cX4_putsNumber 10 = .ok (.iload_n 2, 1) := dk_28 (dk_at dksX4_putsNumber_0 10 rfl rfl)
theorem dX4_putsNumber_11 : decode cX4_putsNumber 11 = .ok (.bipush 10, 2) := dk_16 10 (dk_at dksX4_putsNumber_0 11 rfl rfl)
theorem dX4_putsNumber_13 : decode cX4_putsNumber 13 = .ok (.imul, 1) := dk_104 (dk_at dksX4_putsNumber_0 13 rfl rfl)
theorem dX4_putsNumber_14 : decode cX4_putsNumber 14 = .ok (.istore_n 2, 1) := dk_61 (dk_at dksX4_putsNumber_0 14 rfl rfl)
theorem dX4_putsNumber_15 : decode cX4_putsNumber 15 = .ok (.goto (-13), 3) := dk_167 255 243 (dk_at dksX4_putsNumber_0 15 rfl rfl)
theorem dX4_putsNumber_18 : decode cX4_putsNumber 18 = .ok (.iload_n 2, 1) := dk_28 (dk_at dksX4_putsNumber_0 18 rfl rfl)
theorem dX4_putsNumber_19 : decode cX4_putsNumber 19 = .ok (.ifCond .le 24, 3) := dk_158 0 24 (dk_at dksX4_putsNumber_0 19 rfl rfl)
theorem dX4_putsNumber_22 : decode cX4_putsNumber 22 = .ok (.aload_n 0, 1) := dk_42 (dk_at dksX4_putsNumber_0 22 rfl rfl)
theorem dX4_putsNumber_23 : decode cX4_putsNumber 23 = .ok (.bipush 48, 2) := dk_16 48 (dk_at dksX4_putsNumber_1 0 rfl rfl)
theorem dX4_putsNumber_25 : decode cX4_putsNumber 25 = .ok (.iload_n 1, 1) := dk_27 (dk_at dksX4_putsNumber_1 2 rfl rfl)
theorem dX4_putsNumber_26 : decode cX4_putsNumber 26 = .ok (.iload_n 2, 1) := dk_28 (dk_at dksX4_putsNumber_1 3 rfl rfl)
theorem dX4_putsNumber_27 : decode cX4_putsNumber 27 = .ok (.idiv, 1) := dk_108 (dk_at dksX4_putsNumber_1 4 rfl rfl)
theorem dX4_putsNumber_28 : decode cX4_putsNumber 28 = .ok (.bipush 10, 2) := dk_16 10 (dk_at dksX4_putsNumber_1 5 rfl rfl)
theorem dX4_putsNumber_30 : decode cX4_putsNumber 30 = .ok (.irem, 1) := dk_112 (dk_at dksX4_putsNumber_1 7 rfl rfl)
theorem dX4_putsNumber_31 : decode cX4_putsNumber 31 = .ok (.iadd, 1) := dk_96 (dk_at dksX4_putsNumber_1 8 rfl rfl)
theorem dX4_putsNumber_32 : decode cX4_putsNumber 32 = .ok (.invokevirtual 361, 3) := dk_182 1 105 (dk_at dksX4_putsNumber_1 9 rfl rfl)
theorem dX4_putsNumber_35 : decode cX4_putsNumber 35 = .ok (.iload_n 2, 1) := dk_28 (dk_at dksX4_putsNumber_1 12 rfl rfl)
theorem dX4_putsNumber_36 : decode cX4_putsNumber 36 = .ok (.bipush 10, 2) := dk_16 10 (dk_at dksX4_putsNumber_1 13 rfl rfl)
theorem dX4_putsNumber_38 : decode cX4_putsNumber 38 = .ok (.idiv, 1) := dk_108 (dk_at dksX4_putsNumber_1 15 rfl rfl)
theorem dX4_putsNumber_39 : decode cX4_putsNumber 39 = .ok (.istore_n 2, 1) := dk_61 (dk_at dksX4_putsNumber_1 16 rfl rfl)
theorem dX4_putsNumber_40 : decode cX4_putsNumber 40 = .ok (.goto (-22), 3) := dk_167 255 234 (dk_at dksX4_putsNumber_1 17 rfl rfl)
theorem dX4_putsNumber_43 : decode cX4_putsNumber 43 = .ok (.return_, 1) := dk_177 (dk_at dksX4_putsNumber_1 20 rfl rfl)
abbrev cX4_putsBurden : ByteArray := prog_20_method_144_code
def yX4_putsBurden : MethodName := ⟨RX4, "putsBurden", "(I)V"⟩
def dkwX4_putsBurden_5 : List UInt8 := [182, 1, 105, 177]
abbrev dktX4_putsBurden_5 : List UInt8 := dkwX4_putsBurden_5 ++ []
def dkwX4_putsBurden_4 : List UInt8 := [46, 182, 1, 118, 167, 0, 17, 42, 42, 180, 0, 7, 27, 4, 184, 0, 101, 46, 182, 1, 115, 42, 16, 10]
abbrev dktX4_putsBurden_4 : List UInt8 := dkwX4_putsBurden_4 ++ dktX4_putsBurden_5
def dkwX4_putsBurden_3 : List UInt8 := [182, 1, 105, 42, 180, 0, 7, 27, 184, 0, 108, 153, 0, 20, 42, 42, 180, 0, 7, 27, 5, 184, 0, 101]
abbrev dktX4_putsBurden_3 : List UInt8 := dkwX4_putsBurden_3 ++ dktX4_putsBurden_4
def dkwX4_putsBurden_2 : List UInt8 := [182, 1, 118, 42, 42, 180, 0, 7, 27, 184, 0, 108, 153, 0, 8, 16, 44, 167, 0, 5, 16, 32]
abbrev dktX4_putsBurden_2 : List UInt8 := dkwX4_putsBurden_2 ++ dktX4_putsBurden_3
def dkwX4_putsBurden_1 : List UInt8 := [180, 0, 7, 27, 42, 180, 0, 7, 27, 184, 0, 108, 153, 0, 7, 4, 167, 0, 4, 5, 184, 0, 101, 46]
abbrev dktX4_putsBurden_1 : List UInt8 := dkwX4_putsBurden_1 ++ dktX4_putsBurden_2
def dkwX4_putsBurden_0 : List UInt8 := [42, 42, 180, 0, 7, 27, 184, 0, 108, 153, 0, 8, 16, 61, 167, 0, 5, 16, 36, 182, 1, 105, 42, 42]
abbrev dktX4_putsBurden_0 : List UInt8 := dkwX4_putsBurden_0 ++ dktX4_putsBurden_1
theorem dksX4_putsBurden_0 : cX4_putsBurden.data.toList.drop 0 = dktX4_putsBurden_0 := by decide +kernel
theorem dksX4_putsBurden_1 : cX4_putsBurden.data.toList.drop 24 = dktX4_putsBurden_1 := dk_seg dksX4_putsBurden_0 24 rfl rfl
theorem dksX4_putsBurden_2 : cX4_putsBurden.data.toList.drop 48 = dktX4_putsBurden_2 := dk_seg dksX4_putsBurden_1 24 rfl rfl
theorem dksX4_putsBurden_3 : cX4_putsBurden.data.toList.drop 70 = dktX4_putsBurden_3 := dk_seg dksX4_putsBurden_2 22 rfl rfl
theorem dksX4_putsBurden_4 : cX4_putsBurden.data.toList.drop 94 = dktX4_putsBurden_4 := dk_seg dksX4_putsBurden_3 24 rfl rfl
theorem dksX4_putsBurden_5 : cX4_putsBurden.data.toList.drop 118 = dktX4_putsBurden_5 := dk_seg dksX4_putsBurden_4 24 rfl rfl
theorem dX4_putsBurden_0 : decode cX4_putsBurden 0 = .ok (.aload_n 0, 1) := dk_42 (dk_at dksX4_putsBurden_0 0 rfl rfl)
theorem dX4_putsBurden_1 : decode cX4_putsBurden 1 = .ok (.aload_n 0, 1) := dk_42 (dk_at dksX4_putsBurden_0 1 rfl rfl)
theorem dX4_putsBurden_2 : decode cX4_putsBurden 2 = .ok (.getfield 7, 3) := dk_180 0 7 (dk_at dksX4_putsBurden_0 2 rfl rfl)
theorem dX4_putsBurden_5 : decode cX4_putsBurden 5 = .ok (.iload_n 1, 1) := dk_27 (dk_at dksX4_putsBurden_0 5 rfl rfl)
theorem dX4_putsBurden_6 : decode cX4_putsBurden 6 = .ok (.invokestatic 108, 3) := dk_184 0 108 (dk_at dksX4_putsBurden_0 6 rfl rfl)
theorem dX4_putsBurden_9 : decode cX4_putsBurden 9 = .ok (.ifCond .eq 8, 3) := dk_153 0 8 (dk_at dksX4_putsBurden_0 9 rfl rfl)
theorem dX4_putsBurden_12 : decode cX4_putsBurden 12 = .ok (.bipush 61, 2) := dk_16 61 (dk_at dksX4_putsBurden_0 12 rfl rfl)
theorem dX4_putsBurden_14 : decode cX4_putsBurden 14 = .ok (.goto 5, 3) := dk_167 0 5 (dk_at dksX4_putsBurden_0 14 rfl rfl)
theorem dX4_putsBurden_17 : decode cX4_putsBurden 17 = .ok (.bipush 36, 2) := dk_16 36 (dk_at dksX4_putsBurden_0 17 rfl rfl)
theorem dX4_putsBurden_19 : decode cX4_putsBurden 19 = .ok (.invokevirtual 361, 3) := dk_182 1 105 (dk_at dksX4_putsBurden_0 19 rfl rfl)
theorem dX4_putsBurden_22 : decode cX4_putsBurden 22 = .ok (.aload_n 0, 1) := dk_42 (dk_at dksX4_putsBurden_0 22 rfl rfl)
theorem dX4_putsBurden_23 : decode cX4_putsBurden 23 = .ok (.aload_n 0, 1) := dk_42 (dk_at dksX4_putsBurden_0 23 rfl rfl)
theorem dX4_putsBurden_24 : decode cX4_putsBurden 24 = .ok (.getfield 7, 3) := dk_180 0 7 (dk_at dksX4_putsBurden_1 0 rfl rfl)
theorem dX4_putsBurden_27 : decode cX4_putsBurden 27 = .ok (.iload_n 1, 1) := dk_27 (dk_at dksX4_putsBurden_1 3 rfl rfl)
theorem dX4_putsBurden_28 : decode cX4_putsBurden 28 = .ok (.aload_n 0, 1) := dk_42 (dk_at dksX4_putsBurden_1 4 rfl rfl)
theorem dX4_putsBurden_29 : decode cX4_putsBurden 29 = .ok (.getfield 7, 3) := dk_180 0 7 (dk_at dksX4_putsBurden_1 5 rfl rfl)
theorem dX4_putsBurden_32 : decode cX4_putsBurden 32 = .ok (.iload_n 1, 1) := dk_27 (dk_at dksX4_putsBurden_1 8 rfl rfl)
theorem dX4_putsBurden_33 : decode cX4_putsBurden 33 = .ok (.invokestatic 108, 3) := dk_184 0 108 (dk_at dksX4_putsBurden_1 9 rfl rfl)
theorem dX4_putsBurden_36 : decode cX4_putsBurden 36 = .ok (.ifCond .eq 7, 3) := dk_153 0 7 (dk_at dksX4_putsBurden_1 12 rfl rfl)
theorem dX4_putsBurden_39 : decode cX4_putsBurden 39 = .ok (.iconst 1, 1) := dk_4 (dk_at dksX4_putsBurden_1 15 rfl rfl)
theorem dX4_putsBurden_40 : decode cX4_putsBurden 40 = .ok (.goto 4, 3) := dk_167 0 4 (dk_at dksX4_putsBurden_1 16 rfl rfl)
theorem dX4_putsBurden_43 : decode cX4_putsBurden 43 = .ok (.iconst 2, 1) := dk_5 (dk_at dksX4_putsBurden_1 19 rfl rfl)
theorem dX4_putsBurden_44 : decode cX4_putsBurden 44 = .ok (.invokestatic 101, 3) := dk_184 0 101 (dk_at dksX4_putsBurden_1 20 rfl rfl)
theorem dX4_putsBurden_47 : decode cX4_putsBurden 47 = .ok (.iaload, 1) := dk_46 (dk_at dksX4_putsBurden_1 23 rfl rfl)
theorem dX4_putsBurden_48 : decode cX4_putsBurden 48 = .ok (.invokevirtual 374, 3) := dk_182 1 118 (dk_at dksX4_putsBurden_2 0 rfl rfl)
theorem dX4_putsBurden_51 : decode cX4_putsBurden 51 = .ok (.aload_n 0, 1) := dk_42 (dk_at dksX4_putsBurden_2 3 rfl rfl)
theorem dX4_putsBurden_52 : decode cX4_putsBurden 52 = .ok (.aload_n 0, 1) := dk_42 (dk_at dksX4_putsBurden_2 4 rfl rfl)
theorem dX4_putsBurden_53 : decode cX4_putsBurden 53 = .ok (.getfield 7, 3) := dk_180 0 7 (dk_at dksX4_putsBurden_2 5 rfl rfl)
theorem dX4_putsBurden_56 : decode cX4_putsBurden 56 = .ok (.iload_n 1, 1) := dk_27 (dk_at dksX4_putsBurden_2 8 rfl rfl)
theorem dX4_putsBurden_57 : decode cX4_putsBurden 57 = .ok (.invokestatic 108, 3) := dk_184 0 108 (dk_at dksX4_putsBurden_2 9 rfl rfl)
theorem dX4_putsBurden_60 : decode cX4_putsBurden 60 = .ok (.ifCond .eq 8, 3) := dk_153 0 8 (dk_at dksX4_putsBurden_2 12 rfl rfl)
theorem dX4_putsBurden_63 : decode cX4_putsBurden 63 = .ok (.bipush 44, 2) := dk_16 44 (dk_at dksX4_putsBurden_2 15 rfl rfl)
theorem dX4_putsBurden_65 : decode cX4_putsBurden 65 = .ok (.goto 5, 3) := dk_167 0 5 (dk_at dksX4_putsBurden_2 17 rfl rfl)
theorem dX4_putsBurden_68 : decode cX4_putsBurden 68 = .ok (.bipush 32, 2) := dk_16 32 (dk_at dksX4_putsBurden_2 20 rfl rfl)
theorem dX4_putsBurden_70 : decode cX4_putsBurden 70 = .ok (.invokevirtual 361, 3) := dk_182 1 105 (dk_at dksX4_putsBurden_3 0 rfl rfl)
theorem dX4_putsBurden_73 : decode cX4_putsBurden 73 = .ok (.aload_n 0, 1) := dk_42 (dk_at dksX4_putsBurden_3 3 rfl rfl)
theorem dX4_putsBurden_74 : decode cX4_putsBurden 74 = .ok (.getfield 7, 3) := dk_180 0 7 (dk_at dksX4_putsBurden_3 4 rfl rfl)
theorem dX4_putsBurden_77 : decode cX4_putsBurden 77 = .ok (.iload_n 1, 1) := dk_27 (dk_at dksX4_putsBurden_3 7 rfl rfl)
theorem dX4_putsBurden_78 : decode cX4_putsBurden 78 = .ok (.invokestatic 108, 3) := dk_184 0 108 (dk_at dksX4_putsBurden_3 8 rfl rfl)
theorem dX4_putsBurden_81 : decode cX4_putsBurden 81 = .ok (.ifCond .eq 20, 3) := dk_153 0 20 (dk_at dksX4_putsBurden_3 11 rfl rfl)
theorem dX4_putsBurden_84 : decode cX4_putsBurden 84 = .ok (.aload_n 0, 1) := dk_42 (dk_at dksX4_putsBurden_3 14 rfl rfl)
theorem dX4_putsBurden_85 : decode cX4_putsBurden 85 = .ok (.aload_n 0, 1) := dk_42 (dk_at dksX4_putsBurden_3 15 rfl rfl)
theorem dX4_putsBurden_86 : decode cX4_putsBurden 86 = .ok (.getfield 7, 3) := dk_180 0 7 (dk_at dksX4_putsBurden_3 16 rfl rfl)
theorem dX4_putsBurden_89 : decode cX4_putsBurden 89 = .ok (.iload_n 1, 1) := dk_27 (dk_at dksX4_putsBurden_3 19 rfl rfl)
theorem dX4_putsBurden_90 : decode cX4_putsBurden 90 = .ok (.iconst 2, 1) := dk_5 (dk_at dksX4_putsBurden_3 20 rfl rfl)
theorem dX4_putsBurden_91 : decode cX4_putsBurden 91 = .ok (.invokestatic 101, 3) := dk_184 0 101 (dk_at dksX4_putsBurden_3 21 rfl rfl)
theorem dX4_putsBurden_94 : decode cX4_putsBurden 94 = .ok (.iaload, 1) := dk_46 (dk_at dksX4_putsBurden_4 0 rfl rfl)
theorem dX4_putsBurden_95 : decode cX4_putsBurden 95 = .ok (.invokevirtual 374, 3) := dk_182 1 118 (dk_at dksX4_putsBurden_4 1 rfl rfl)
theorem dX4_putsBurden_98 : decode cX4_putsBurden 98 = .ok (.goto 17, 3) := dk_167 0 17 (dk_at dksX4_putsBurden_4 4 rfl rfl)
theorem dX4_putsBurden_101 : decode cX4_putsBurden 101 = .ok (.aload_n 0, 1) := dk_42 (dk_at dksX4_putsBurden_4 7 rfl rfl)
theorem dX4_putsBurden_102 : decode cX4_putsBurden 102 = .ok (.aload_n 0, 1) := dk_42 (dk_at dksX4_putsBurden_4 8 rfl rfl)
theorem dX4_putsBurden_103 : decode cX4_putsBurden 103 = .ok (.getfield 7, 3) := dk_180 0 7 (dk_at dksX4_putsBurden_4 9 rfl rfl)
theorem dX4_putsBurden_106 : decode cX4_putsBurden 106 = .ok (.iload_n 1, 1) := dk_27 (dk_at dksX4_putsBurden_4 12 rfl rfl)
theorem dX4_putsBurden_107 : decode cX4_putsBurden 107 = .ok (.iconst 1, 1) := dk_4 (dk_at dksX4_putsBurden_4 13 rfl rfl)
theorem dX4_putsBurden_108 : decode cX4_putsBurden 108 = .ok (.invokestatic 101, 3) := dk_184 0 101 (dk_at dksX4_putsBurden_4 14 rfl rfl)
theorem dX4_putsBurden_111 : decode cX4_putsBurden 111 = .ok (.iaload, 1) := dk_46 (dk_at dksX4_putsBurden_4 17 rfl rfl)
theorem dX4_putsBurden_112 : decode cX4_putsBurden 112 = .ok (.invokevirtual 371, 3) := dk_182 1 115 (dk_at dksX4_putsBurden_4 18 rfl rfl)
theorem dX4_putsBurden_115 : decode cX4_putsBurden 115 = .ok (.aload_n 0, 1) := dk_42 (dk_at dksX4_putsBurden_4 21 rfl rfl)
theorem dX4_putsBurden_116 : decode cX4_putsBurden 116 = .ok (.bipush 10, 2) := dk_16 10 (dk_at dksX4_putsBurden_4 22 rfl rfl)
theorem dX4_putsBurden_118 : decode cX4_putsBurden 118 = .ok (.invokevirtual 361, 3) := dk_182 1 105 (dk_at dksX4_putsBurden_5 0 rfl rfl)
theorem dX4_putsBurden_121 : decode cX4_putsBurden 121 = .ok (.return_, 1) := dk_177 (dk_at dksX4_putsBurden_5 3 rfl rfl)
abbrev cX4_extractByte : ByteArray := prog_20_method_146_code
def yX4_extractByte : MethodName := ⟨RX4, "extractByte", "(II)I"⟩
def dkwX4_extractByte_1 : List UInt8 := [172]
abbrev dktX4_extractByte_1 : List UInt8 := dkwX4_extractByte_1 ++ []
def dkwX4_extractByte_0 : List UInt8 := [42, 27, 182, 0, 240, 153, 0, 7, 28, 156, 0, 5, 2, 172, 42, 27, 182, 1, 124, 42, 28, 182, 1, 112]
abbrev dktX4_extractByte_0 : List UInt8 := dkwX4_extractByte_0 ++ dktX4_extractByte_1
theorem dksX4_extractByte_0 : cX4_extractByte.data.toList.drop 0 = dktX4_extractByte_0 := by decide +kernel
theorem dksX4_extractByte_1 : cX4_extractByte.data.toList.drop 24 = dktX4_extractByte_1 := dk_seg dksX4_extractByte_0 24 rfl rfl
theorem dX4_extractByte_0 : decode cX4_extractByte 0 = .ok (.aload_n 0, 1) := dk_42 (dk_at dksX4_extractByte_0 0 rfl rfl)
theorem dX4_extractByte_1 : decode cX4_extractByte 1 = .ok (.iload_n 1, 1) := dk_27 (dk_at dksX4_extractByte_0 1 rfl rfl)
theorem dX4_extractByte_2 : decode cX4_extractByte 2 = .ok (.invokevirtual 240, 3) := dk_182 0 240 (dk_at dksX4_extractByte_0 2 rfl rfl)
theorem dX4_extractByte_5 : decode cX4_extractByte 5 = .ok (.ifCond .eq 7, 3) := dk_153 0 7 (dk_at dksX4_extractByte_0 5 rfl rfl)
theorem dX4_extractByte_8 : decode cX4_extractByte 8 = .ok (.iload_n 2, 1) := dk_28 (dk_at dksX4_extractByte_0 8 rfl rfl)
theorem dX4_extractByte_9 : decode cX4_extractByte 9 = .ok (.ifCond .ge 5, 3) := dk_156 0 5 (dk_at dksX4_extractByte_0 9 rfl rfl)
theorem dX4_extractByte_12 : decode cX4_extractByte 12 = .ok (.iconst (-1), 1) := dk_2 (dk_at dksX4_extractByte_0 12 rfl rfl)
theorem dX4_extractByte_13 : decode cX4_extractByte 13 = .ok (.ireturn, 1) := dk_172 (dk_at dksX4_extractByte_0 13 rfl rfl)
theorem dX4_extractByte_14 : decode cX4_extractByte 14 = .ok (.aload_n 0, 1) := dk_42 (dk_at dksX4_extractByte_0 14 rfl rfl)
theorem dX4_extractByte_15 : decode cX4_extractByte 15 = .ok (.iload_n 1, 1) := dk_27 (dk_at dksX4_extractByte_0 15 rfl rfl)
theorem dX4_extractByte_16 : decode cX4_extractByte 16 = .ok (.invokevirtual 380, 3) := dk_182 1 124 (dk_at dksX4_extractByte_0 16 rfl rfl)
theorem dX4_extractByte_19 : decode cX4_extractByte 19 = .ok (.aload_n 0, 1) := dk_42 (dk_at dksX4_extractByte_0 19 rfl rfl)
theorem dX4_extractByte_20 : decode cX4_extractByte 20 = .ok (.iload_n 2, 1) := dk_28 (dk_at dksX4_extractByte_0 20 rfl rfl)
theorem dX4_extractByte_21 : decode cX4_extractByte 21 = .ok (.invokevirtual 368, 3) := dk_182 1 112 (dk_at dksX4_extractByte_0 21 rfl rfl)
theorem dX4_extractByte_24 : decode cX4_extractByte 24 = .ok (.ireturn, 1) := dk_172 (dk_at dksX4_extractByte_1 0 rfl rfl)
theorem q114 : (Jvm.Cond.initialized "LandFolioModel") ∈ lw_all := lw_g (lw_at lw_m1 13 rfl) rfl
theorem q273 : (Jvm.Cond.selects "LandFolioModel" ({ cls := "java/lang/Object", name := "getClass", desc := "()Ljava/lang/Class;" } : Jvm.MethodName) ({ cls := "java/lang/Object", name := "getClass", desc := "()Ljava/lang/Class;" } : Jvm.MethodName)) ∈ lw_all := lw_g (lw_at lw_m1 172 rfl) rfl
theorem q1156 : (Jvm.Cond.selects "LandFolioModel" ({ cls := "java/lang/Object", name := "equals", desc := "(Ljava/lang/Object;)Z" } : Jvm.MethodName) ({ cls := "java/lang/Object", name := "equals", desc := "(Ljava/lang/Object;)Z" } : Jvm.MethodName)) ∈ lw_all := lw_g (lw_at lw_m5 95 rfl) rfl
theorem q1989 : (Jvm.Cond.instantiable "LandFolioModel" (19 : Nat)) ∈ lw_all := lw_g (lw_at lw_m8 208 rfl) rfl
theorem q1991 : (Jvm.Cond.instanceMethod ({ cls := "LandFolioModel", name := "<init>", desc := "()V" } : Jvm.MethodName)) ∈ lw_all := lw_g (lw_at lw_m8 210 rfl) rfl
theorem q1992 : (Jvm.Cond.code ({ cls := "LandFolioModel", name := "<init>", desc := "()V" } : Jvm.MethodName) prog_20_method_1_code (1 : Nat) (Option.none : Option Jvm.ClassFile.FieldType)) ∈ lw_all := lw_g (lw_at lw_m8 211 rfl) rfl
theorem q1993 : (Jvm.Cond.methodLink "LandFolioModel" (1 : Nat) ({ cls := "java/lang/Object", name := "<init>", desc := "()V" } : Jvm.MethodName)) ∈ lw_all := lw_g (lw_at lw_m8 212 rfl) rfl
theorem q1994 : (Jvm.Cond.methodLink "LandFolioModel" (42 : Nat) ({ cls := "LandFolioModel", name := "begins", desc := "([IIII)V" } : Jvm.MethodName)) ∈ lw_all := lw_g (lw_at lw_m8 213 rfl) rfl
theorem q1995 : (Jvm.Cond.static ({ cls := "LandFolioModel", name := "begins", desc := "([IIII)V" } : Jvm.MethodName)) ∈ lw_all := lw_g (lw_at lw_m8 214 rfl) rfl
theorem q1996 : (Jvm.Cond.code ({ cls := "LandFolioModel", name := "begins", desc := "([IIII)V" } : Jvm.MethodName) prog_20_method_13_code (5 : Nat) (Option.none : Option Jvm.ClassFile.FieldType)) ∈ lw_all := lw_g (lw_at lw_m8 215 rfl) rfl
theorem q1997 : (Jvm.Cond.methodLink "LandFolioModel" (58 : Nat) ({ cls := "LandFolioModel", name := "comes", desc := "([IIIIIII)I" } : Jvm.MethodName)) ∈ lw_all := lw_g (lw_at lw_m8 216 rfl) rfl
theorem q1998 : (Jvm.Cond.static ({ cls := "LandFolioModel", name := "comes", desc := "([IIIIIII)I" } : Jvm.MethodName)) ∈ lw_all := lw_g (lw_at lw_m8 217 rfl) rfl
theorem q1999 : (Jvm.Cond.code ({ cls := "LandFolioModel", name := "comes", desc := "([IIIIIII)I" } : Jvm.MethodName) prog_20_method_14_code (8 : Nat) (Option.some Jvm.ClassFile.FieldType.int)) ∈ lw_all := lw_g (lw_at lw_m8 218 rfl) rfl
theorem q2000 : (Jvm.Cond.methodLink "LandFolioModel" (66 : Nat) ({ cls := "LandFolioModel", name := "partAt", desc := "(II)I" } : Jvm.MethodName)) ∈ lw_all := lw_g (lw_at lw_m8 219 rfl) rfl
theorem q2001 : (Jvm.Cond.static ({ cls := "LandFolioModel", name := "partAt", desc := "(II)I" } : Jvm.MethodName)) ∈ lw_all := lw_g (lw_at lw_m8 220 rfl) rfl
theorem q2002 : (Jvm.Cond.code ({ cls := "LandFolioModel", name := "partAt", desc := "(II)I" } : Jvm.MethodName) prog_20_method_6_code (2 : Nat) (Option.some Jvm.ClassFile.FieldType.int)) ∈ lw_all := lw_g (lw_at lw_m8 221 rfl) rfl
theorem q2003 : (Jvm.Cond.methodLink "LandFolioModel" (62 : Nat) ({ cls := "LandFolioModel", name := "deedAt", desc := "(II)I" } : Jvm.MethodName)) ∈ lw_all := lw_g (lw_at lw_m8 222 rfl) rfl
theorem q2004 : (Jvm.Cond.static ({ cls := "LandFolioModel", name := "deedAt", desc := "(II)I" } : Jvm.MethodName)) ∈ lw_all := lw_g (lw_at lw_m8 223 rfl) rfl
theorem q2005 : (Jvm.Cond.code ({ cls := "LandFolioModel", name := "deedAt", desc := "(II)I" } : Jvm.MethodName) prog_20_method_7_code (2 : Nat) (Option.some Jvm.ClassFile.FieldType.int)) ∈ lw_all := lw_g (lw_at lw_m8 224 rfl) rfl
theorem q2006 : (Jvm.Cond.constant "LandFolioModel" (46 : Nat) (1960187 : Int32)) ∈ lw_all := lw_g (lw_at lw_m8 225 rfl) rfl
theorem q2007 : (Jvm.Cond.fieldLink "LandFolioModel" (7 : Nat) "LandFolioModel" "now" "[I") ∈ lw_all := lw_g (lw_at lw_m8 226 rfl) rfl
theorem q2008 : (Jvm.Cond.fieldLink "LandFolioModel" (13 : Nat) "LandFolioModel" "draft" "[I") ∈ lw_all := lw_g (lw_at lw_m8 227 rfl) rfl
theorem q2009 : (Jvm.Cond.fieldLink "LandFolioModel" (16 : Nat) "LandFolioModel" "spare" "[I") ∈ lw_all := lw_g (lw_at lw_m8 228 rfl) rfl
theorem q2010 : (Jvm.Cond.fieldLink "LandFolioModel" (19 : Nat) "LandFolioModel" "earlier" "[I") ∈ lw_all := lw_g (lw_at lw_m8 229 rfl) rfl
theorem q2011 : (Jvm.Cond.fieldLink "LandFolioModel" (22 : Nat) "LandFolioModel" "slots" "[I") ∈ lw_all := lw_g (lw_at lw_m8 230 rfl) rfl
theorem q2012 : (Jvm.Cond.fieldLink "LandFolioModel" (25 : Nat) "LandFolioModel" "isKept" "[Z") ∈ lw_all := lw_g (lw_at lw_m8 231 rfl) rfl
theorem q2013 : (Jvm.Cond.fieldLink "LandFolioModel" (224 : Nat) "LandFolioModel" "undos" "I") ∈ lw_all := lw_g (lw_at lw_m8 232 rfl) rfl
theorem q2014 : (Jvm.Cond.fieldLink "LandFolioModel" (29 : Nat) "LandFolioModel" "tape" "[I") ∈ lw_all := lw_g (lw_at lw_m8 233 rfl) rfl
theorem q2015 : (Jvm.Cond.fieldLink "LandFolioModel" (134 : Nat) "LandFolioModel" "length" "I") ∈ lw_all := lw_g (lw_at lw_m8 234 rfl) rfl
theorem q2016 : (Jvm.Cond.fieldLink "LandFolioModel" (32 : Nat) "LandFolioModel" "error" "I") ∈ lw_all := lw_g (lw_at lw_m8 235 rfl) rfl
theorem q2017 : (Jvm.Cond.fieldLink "LandFolioModel" (137 : Nat) "LandFolioModel" "place" "I") ∈ lw_all := lw_g (lw_at lw_m8 236 rfl) rfl
theorem q2018 : (Jvm.Cond.fieldLink "LandFolioModel" (140 : Nat) "LandFolioModel" "begin" "I") ∈ lw_all := lw_g (lw_at lw_m8 237 rfl) rfl
theorem q2019 : (Jvm.Cond.fieldLink "LandFolioModel" (146 : Nat) "LandFolioModel" "kind" "I") ∈ lw_all := lw_g (lw_at lw_m8 238 rfl) rfl
theorem q2020 : (Jvm.Cond.fieldLink "LandFolioModel" (143 : Nat) "LandFolioModel" "value" "I") ∈ lw_all := lw_g (lw_at lw_m8 239 rfl) rfl
theorem q2021 : (Jvm.Cond.fieldLink "LandFolioModel" (163 : Nat) "LandFolioModel" "fails" "Z") ∈ lw_all := lw_g (lw_at lw_m9 0 rfl) rfl
theorem q2022 : (Jvm.Cond.fieldLink "LandFolioModel" (36 : Nat) "LandFolioModel" "far" "[I") ∈ lw_all := lw_g (lw_at lw_m9 1 rfl) rfl
theorem q2023 : (Jvm.Cond.fieldLink "LandFolioModel" (39 : Nat) "LandFolioModel" "out" "[I") ∈ lw_all := lw_g (lw_at lw_m9 2 rfl) rfl
theorem q2024 : (Jvm.Cond.fieldLink "LandFolioModel" (355 : Nat) "LandFolioModel" "written" "I") ∈ lw_all := lw_g (lw_at lw_m9 3 rfl) rfl
theorem q2025 : (Jvm.Cond.laysFinal "LandFolioModel" "LandFolioModel" "now" "[I") ∈ lw_all := lw_g (lw_at lw_m9 4 rfl) rfl
theorem q2026 : (Jvm.Cond.soleField "LandFolioModel" "now") ∈ lw_all := lw_g (lw_at lw_m9 5 rfl) rfl
theorem q2027 : (Jvm.Cond.laysFinal "LandFolioModel" "LandFolioModel" "draft" "[I") ∈ lw_all := lw_g (lw_at lw_m9 6 rfl) rfl
theorem q2028 : (Jvm.Cond.soleField "LandFolioModel" "draft") ∈ lw_all := lw_g (lw_at lw_m9 7 rfl) rfl
theorem q2029 : (Jvm.Cond.laysFinal "LandFolioModel" "LandFolioModel" "spare" "[I") ∈ lw_all := lw_g (lw_at lw_m9 8 rfl) rfl
theorem q2030 : (Jvm.Cond.soleField "LandFolioModel" "spare") ∈ lw_all := lw_g (lw_at lw_m9 9 rfl) rfl
theorem q2031 : (Jvm.Cond.laysFinal "LandFolioModel" "LandFolioModel" "earlier" "[I") ∈ lw_all := lw_g (lw_at lw_m9 10 rfl) rfl
theorem q2032 : (Jvm.Cond.soleField "LandFolioModel" "earlier") ∈ lw_all := lw_g (lw_at lw_m9 11 rfl) rfl
theorem q2033 : (Jvm.Cond.laysFinal "LandFolioModel" "LandFolioModel" "slots" "[I") ∈ lw_all := lw_g (lw_at lw_m9 12 rfl) rfl
theorem q2034 : (Jvm.Cond.soleField "LandFolioModel" "slots") ∈ lw_all := lw_g (lw_at lw_m9 13 rfl) rfl
theorem q2035 : (Jvm.Cond.laysFinal "LandFolioModel" "LandFolioModel" "isKept" "[Z") ∈ lw_all := lw_g (lw_at lw_m9 14 rfl) rfl
theorem q2036 : (Jvm.Cond.soleField "LandFolioModel" "isKept") ∈ lw_all := lw_g (lw_at lw_m9 15 rfl) rfl
theorem q2037 : (Jvm.Cond.lays "LandFolioModel" "LandFolioModel" "undos" "I") ∈ lw_all := lw_g (lw_at lw_m9 16 rfl) rfl
theorem q2038 : (Jvm.Cond.soleField "LandFolioModel" "undos") ∈ lw_all := lw_g (lw_at lw_m9 17 rfl) rfl
theorem q2039 : (Jvm.Cond.laysFinal "LandFolioModel" "LandFolioModel" "tape" "[I") ∈ lw_all := lw_g (lw_at lw_m9 18 rfl) rfl
theorem q2040 : (Jvm.Cond.soleField "LandFolioModel" "tape") ∈ lw_all := lw_g (lw_at lw_m9 19 rfl) rfl
theorem q2041 : (Jvm.Cond.lays "LandFolioModel" "LandFolioModel" "length" "I") ∈ lw_all := lw_g (lw_at lw_m9 20 rfl) rfl
theorem q2042 : (Jvm.Cond.soleField "LandFolioModel" "length") ∈ lw_all := lw_g (lw_at lw_m9 21 rfl) rfl
theorem q2043 : (Jvm.Cond.lays "LandFolioModel" "LandFolioModel" "error" "I") ∈ lw_all := lw_g (lw_at lw_m9 22 rfl) rfl
theorem q2044 : (Jvm.Cond.soleField "LandFolioModel" "error") ∈ lw_all := lw_g (lw_at lw_m9 23 rfl) rfl
theorem q2045 : (Jvm.Cond.lays "LandFolioModel" "LandFolioModel" "thrown" "I") ∈ lw_all := lw_g (lw_at lw_m9 24 rfl) rfl
theorem q2046 : (Jvm.Cond.soleField "LandFolioModel" "thrown") ∈ lw_all := lw_g (lw_at lw_m9 25 rfl) rfl
theorem q2047 : (Jvm.Cond.lays "LandFolioModel" "LandFolioModel" "place" "I") ∈ lw_all := lw_g (lw_at lw_m9 26 rfl) rfl
theorem q2048 : (Jvm.Cond.soleField "LandFolioModel" "place") ∈ lw_all := lw_g (lw_at lw_m9 27 rfl) rfl
theorem q2049 : (Jvm.Cond.lays "LandFolioModel" "LandFolioModel" "begin" "I") ∈ lw_all := lw_g (lw_at lw_m9 28 rfl) rfl
theorem q2050 : (Jvm.Cond.soleField "LandFolioModel" "begin") ∈ lw_all := lw_g (lw_at lw_m9 29 rfl) rfl
theorem q2051 : (Jvm.Cond.lays "LandFolioModel" "LandFolioModel" "kind" "I") ∈ lw_all := lw_g (lw_at lw_m9 30 rfl) rfl
theorem q2052 : (Jvm.Cond.soleField "LandFolioModel" "kind") ∈ lw_all := lw_g (lw_at lw_m9 31 rfl) rfl
theorem q2053 : (Jvm.Cond.lays "LandFolioModel" "LandFolioModel" "value" "I") ∈ lw_all := lw_g (lw_at lw_m9 32 rfl) rfl
theorem q2054 : (Jvm.Cond.soleField "LandFolioModel" "value") ∈ lw_all := lw_g (lw_at lw_m9 33 rfl) rfl
theorem q2055 : (Jvm.Cond.lays "LandFolioModel" "LandFolioModel" "fails" "Z") ∈ lw_all := lw_g (lw_at lw_m9 34 rfl) rfl
theorem q2056 : (Jvm.Cond.soleField "LandFolioModel" "fails") ∈ lw_all := lw_g (lw_at lw_m9 35 rfl) rfl
theorem q2057 : (Jvm.Cond.laysFinal "LandFolioModel" "LandFolioModel" "far" "[I") ∈ lw_all := lw_g (lw_at lw_m9 36 rfl) rfl
theorem q2058 : (Jvm.Cond.soleField "LandFolioModel" "far") ∈ lw_all := lw_g (lw_at lw_m9 37 rfl) rfl
theorem q2059 : (Jvm.Cond.laysFinal "LandFolioModel" "LandFolioModel" "out" "[I") ∈ lw_all := lw_g (lw_at lw_m9 38 rfl) rfl
theorem q2060 : (Jvm.Cond.soleField "LandFolioModel" "out") ∈ lw_all := lw_g (lw_at lw_m9 39 rfl) rfl
theorem q2061 : (Jvm.Cond.lays "LandFolioModel" "LandFolioModel" "written" "I") ∈ lw_all := lw_g (lw_at lw_m9 40 rfl) rfl
theorem q2062 : (Jvm.Cond.soleField "LandFolioModel" "written") ∈ lw_all := lw_g (lw_at lw_m9 41 rfl) rfl
theorem q2063 : (Jvm.Cond.superclass "LandFolioModel" "java/lang/Object") ∈ lw_all := lw_g (lw_at lw_m9 42 rfl) rfl
theorem q2066 : (Jvm.Cond.instanceMethod ({ cls := "LandFolioModel", name := "append", desc := "(IIIII)I" } : Jvm.MethodName)) ∈ lw_all := lw_g (lw_at lw_m9 45 rfl) rfl
theorem q2067 : (Jvm.Cond.selects "LandFolioModel" ({ cls := "LandFolioModel", name := "append", desc := "(IIIII)I" } : Jvm.MethodName) ({ cls := "LandFolioModel", name := "append", desc := "(IIIII)I" } : Jvm.MethodName)) ∈ lw_all := lw_g (lw_at lw_m9 46 rfl) rfl
theorem q2068 : (Jvm.Cond.code ({ cls := "LandFolioModel", name := "append", desc := "(IIIII)I" } : Jvm.MethodName) prog_20_method_48_code (8 : Nat) (Option.some Jvm.ClassFile.FieldType.int)) ∈ lw_all := lw_g (lw_at lw_m9 47 rfl) rfl
theorem q2070 : (Jvm.Cond.instanceMethod ({ cls := "LandFolioModel", name := "truncate", desc := "(I)I" } : Jvm.MethodName)) ∈ lw_all := lw_g (lw_at lw_m9 49 rfl) rfl
theorem q2071 : (Jvm.Cond.selects "LandFolioModel" ({ cls := "LandFolioModel", name := "truncate", desc := "(I)I" } : Jvm.MethodName) ({ cls := "LandFolioModel", name := "truncate", desc := "(I)I" } : Jvm.MethodName)) ∈ lw_all := lw_g (lw_at lw_m9 50 rfl) rfl
theorem q2072 : (Jvm.Cond.code ({ cls := "LandFolioModel", name := "truncate", desc := "(I)I" } : Jvm.MethodName) prog_20_method_49_code (2 : Nat) (Option.some Jvm.ClassFile.FieldType.int)) ∈ lw_all := lw_g (lw_at lw_m9 51 rfl) rfl
theorem q2074 : (Jvm.Cond.instanceMethod ({ cls := "LandFolioModel", name := "errorPosition", desc := "()I" } : Jvm.MethodName)) ∈ lw_all := lw_g (lw_at lw_m9 53 rfl) rfl
theorem q2075 : (Jvm.Cond.selects "LandFolioModel" ({ cls := "LandFolioModel", name := "errorPosition", desc := "()I" } : Jvm.MethodName) ({ cls := "LandFolioModel", name := "errorPosition", desc := "()I" } : Jvm.MethodName)) ∈ lw_all := lw_g (lw_at lw_m9 54 rfl) rfl
theorem q2076 : (Jvm.Cond.code ({ cls := "LandFolioModel", name := "errorPosition", desc := "()I" } : Jvm.MethodName) prog_20_method_50_code (1 : Nat) (Option.some Jvm.ClassFile.FieldType.int)) ∈ lw_all := lw_g (lw_at lw_m9 55 rfl) rfl
theorem q2078 : (Jvm.Cond.instanceMethod ({ cls := "LandFolioModel", name := "load", desc := "()I" } : Jvm.MethodName)) ∈ lw_all := lw_g (lw_at lw_m9 57 rfl) rfl
theorem q2079 : (Jvm.Cond.selects "LandFolioModel" ({ cls := "LandFolioModel", name := "load", desc := "()I" } : Jvm.MethodName) ({ cls := "LandFolioModel", name := "load", desc := "()I" } : Jvm.MethodName)) ∈ lw_all := lw_g (lw_at lw_m9 58 rfl) rfl
theorem q2080 : (Jvm.Cond.code ({ cls := "LandFolioModel", name := "load", desc := "()I" } : Jvm.MethodName) prog_20_method_66_code (5 : Nat) (Option.some Jvm.ClassFile.FieldType.int)) ∈ lw_all := lw_g (lw_at lw_m9 59 rfl) rfl
theorem q2081 : (Jvm.Cond.methodLink "LandFolioModel" (167 : Nat) ({ cls := "LandFolioModel", name := "next", desc := "()V" } : Jvm.MethodName)) ∈ lw_all := lw_g (lw_at lw_m9 60 rfl) rfl
theorem q2082 : (Jvm.Cond.privateMethod ({ cls := "LandFolioModel", name := "next", desc := "()V" } : Jvm.MethodName)) ∈ lw_tbl := lw_at lw_m9 61 rfl
theorem q2083 : (Jvm.Cond.instanceMethod ({ cls := "LandFolioModel", name := "next", desc := "()V" } : Jvm.MethodName)) ∈ lw_all := lw_g (lw_at lw_m9 62 rfl) rfl
theorem q2084 : (Jvm.Cond.code ({ cls := "LandFolioModel", name := "next", desc := "()V" } : Jvm.MethodName) prog_20_method_53_code (1 : Nat) (Option.none : Option Jvm.ClassFile.FieldType)) ∈ lw_all := lw_g (lw_at lw_m9 63 rfl) rfl
theorem q2085 : (Jvm.Cond.methodLink "LandFolioModel" (149 : Nat) ({ cls := "LandFolioModel", name := "isSmall", desc := "(I)Z" } : Jvm.MethodName)) ∈ lw_all := lw_g (lw_at lw_m9 64 rfl) rfl
theorem q2086 : (Jvm.Cond.privateMethod ({ cls := "LandFolioModel", name := "isSmall", desc := "(I)Z" } : Jvm.MethodName)) ∈ lw_tbl := lw_at lw_m9 65 rfl
theorem q2087 : (Jvm.Cond.instanceMethod ({ cls := "LandFolioModel", name := "isSmall", desc := "(I)Z" } : Jvm.MethodName)) ∈ lw_all := lw_g (lw_at lw_m9 66 rfl) rfl
theorem q2088 : (Jvm.Cond.code ({ cls := "LandFolioModel", name := "isSmall", desc := "(I)Z" } : Jvm.MethodName) prog_20_method_51_code (2 : Nat) (Option.some Jvm.ClassFile.FieldType.boolean)) ∈ lw_all := lw_g (lw_at lw_m9 67 rfl) rfl
theorem q2089 : (Jvm.Cond.methodLink "LandFolioModel" (153 : Nat) ({ cls := "LandFolioModel", name := "isDigit", desc := "(I)Z" } : Jvm.MethodName)) ∈ lw_all := lw_g (lw_at lw_m9 68 rfl) rfl
theorem q2090 : (Jvm.Cond.privateMethod ({ cls := "LandFolioModel", name := "isDigit", desc := "(I)Z" } : Jvm.MethodName)) ∈ lw_tbl := lw_at lw_m9 69 rfl
theorem q2091 : (Jvm.Cond.instanceMethod ({ cls := "LandFolioModel", name := "isDigit", desc := "(I)Z" } : Jvm.MethodName)) ∈ lw_all := lw_g (lw_at lw_m9 70 rfl) rfl
theorem q2092 : (Jvm.Cond.code ({ cls := "LandFolioModel", name := "isDigit", desc := "(I)Z" } : Jvm.MethodName) prog_20_method_52_code (2 : Nat) (Option.some Jvm.ClassFile.FieldType.boolean)) ∈ lw_all := lw_g (lw_at lw_m9 71 rfl) rfl
theorem q2093 : (Jvm.Cond.constant "LandFolioModel" (156 : Nat) (237307 : Int32)) ∈ lw_all := lw_g (lw_at lw_m9 72 rfl) rfl
theorem q2094 : (Jvm.Cond.methodLink "LandFolioModel" (180 : Nat) ({ cls := "LandFolioModel", name := "is", desc := "(I)Z" } : Jvm.MethodName)) ∈ lw_all := lw_g (lw_at lw_m9 73 rfl) rfl
theorem q2095 : (Jvm.Cond.privateMethod ({ cls := "LandFolioModel", name := "is", desc := "(I)Z" } : Jvm.MethodName)) ∈ lw_tbl := lw_at lw_m9 74 rfl
theorem q2096 : (Jvm.Cond.instanceMethod ({ cls := "LandFolioModel", name := "is", desc := "(I)Z" } : Jvm.MethodName)) ∈ lw_all := lw_g (lw_at lw_m9 75 rfl) rfl
theorem q2097 : (Jvm.Cond.code ({ cls := "LandFolioModel", name := "is", desc := "(I)Z" } : Jvm.MethodName) prog_20_method_54_code (2 : Nat) (Option.some Jvm.ClassFile.FieldType.boolean)) ∈ lw_all := lw_g (lw_at lw_m9 76 rfl) rfl
theorem q2098 : (Jvm.Cond.methodLink "LandFolioModel" (170 : Nat) ({ cls := "LandFolioModel", name := "takes", desc := "(Z)Z" } : Jvm.MethodName)) ∈ lw_all := lw_g (lw_at lw_m9 77 rfl) rfl
theorem q2099 : (Jvm.Cond.privateMethod ({ cls := "LandFolioModel", name := "takes", desc := "(Z)Z" } : Jvm.MethodName)) ∈ lw_tbl := lw_at lw_m9 78 rfl
theorem q2100 : (Jvm.Cond.instanceMethod ({ cls := "LandFolioModel", name := "takes", desc := "(Z)Z" } : Jvm.MethodName)) ∈ lw_all := lw_g (lw_at lw_m9 79 rfl) rfl
theorem q2101 : (Jvm.Cond.code ({ cls := "LandFolioModel", name := "takes", desc := "(Z)Z" } : Jvm.MethodName) prog_20_method_56_code (2 : Nat) (Option.some Jvm.ClassFile.FieldType.boolean)) ∈ lw_all := lw_g (lw_at lw_m9 80 rfl) rfl
theorem q2102 : (Jvm.Cond.methodLink "LandFolioModel" (187 : Nat) ({ cls := "LandFolioModel", name := "takesNumber", desc := "(II)I" } : Jvm.MethodName)) ∈ lw_all := lw_g (lw_at lw_m9 81 rfl) rfl
theorem q2103 : (Jvm.Cond.privateMethod ({ cls := "LandFolioModel", name := "takesNumber", desc := "(II)I" } : Jvm.MethodName)) ∈ lw_tbl := lw_at lw_m9 82 rfl
theorem q2104 : (Jvm.Cond.instanceMethod ({ cls := "LandFolioModel", name := "takesNumber", desc := "(II)I" } : Jvm.MethodName)) ∈ lw_all := lw_g (lw_at lw_m9 83 rfl) rfl
theorem q2105 : (Jvm.Cond.code ({ cls := "LandFolioModel", name := "takesNumber", desc := "(II)I" } : Jvm.MethodName) prog_20_method_57_code (4 : Nat) (Option.some Jvm.ClassFile.FieldType.int)) ∈ lw_all := lw_g (lw_at lw_m9 84 rfl) rfl
theorem q2106 : (Jvm.Cond.methodLink "LandFolioModel" (54 : Nat) ({ cls := "LandFolioModel", name := "in", desc := "(III)Z" } : Jvm.MethodName)) ∈ lw_all := lw_g (lw_at lw_m9 85 rfl) rfl
theorem q2107 : (Jvm.Cond.static ({ cls := "LandFolioModel", name := "in", desc := "(III)Z" } : Jvm.MethodName)) ∈ lw_all := lw_g (lw_at lw_m9 86 rfl) rfl
theorem q2108 : (Jvm.Cond.code ({ cls := "LandFolioModel", name := "in", desc := "(III)Z" } : Jvm.MethodName) prog_20_method_3_code (3 : Nat) (Option.some Jvm.ClassFile.FieldType.boolean)) ∈ lw_all := lw_g (lw_at lw_m9 87 rfl) rfl
theorem q2109 : (Jvm.Cond.constant "LandFolioModel" (157 : Nat) (8863997 : Int32)) ∈ lw_all := lw_g (lw_at lw_m9 88 rfl) rfl
theorem q2110 : (Jvm.Cond.methodLink "LandFolioModel" (209 : Nat) ({ cls := "LandFolioModel", name := "readOwner", desc := "()V" } : Jvm.MethodName)) ∈ lw_all := lw_g (lw_at lw_m9 89 rfl) rfl
theorem q2111 : (Jvm.Cond.privateMethod ({ cls := "LandFolioModel", name := "readOwner", desc := "()V" } : Jvm.MethodName)) ∈ lw_tbl := lw_at lw_m9 90 rfl
theorem q2112 : (Jvm.Cond.instanceMethod ({ cls := "LandFolioModel", name := "readOwner", desc := "()V" } : Jvm.MethodName)) ∈ lw_all := lw_g (lw_at lw_m9 91 rfl) rfl
theorem q2113 : (Jvm.Cond.code ({ cls := "LandFolioModel", name := "readOwner", desc := "()V" } : Jvm.MethodName) prog_20_method_61_code (2 : Nat) (Option.none : Option Jvm.ClassFile.FieldType)) ∈ lw_all := lw_g (lw_at lw_m9 92 rfl) rfl
theorem q2114 : (Jvm.Cond.constant "LandFolioModel" (158 : Nat) (8434683 : Int32)) ∈ lw_all := lw_g (lw_at lw_m9 93 rfl) rfl
theorem q2115 : (Jvm.Cond.methodLink "LandFolioModel" (174 : Nat) ({ cls := "LandFolioModel", name := "isKeyword", desc := "(I)Z" } : Jvm.MethodName)) ∈ lw_all := lw_g (lw_at lw_m9 94 rfl) rfl
theorem q2116 : (Jvm.Cond.static ({ cls := "LandFolioModel", name := "isKeyword", desc := "(I)Z" } : Jvm.MethodName)) ∈ lw_all := lw_g (lw_at lw_m9 95 rfl) rfl
theorem q2117 : (Jvm.Cond.code ({ cls := "LandFolioModel", name := "isKeyword", desc := "(I)Z" } : Jvm.MethodName) prog_20_method_55_code (1 : Nat) (Option.some Jvm.ClassFile.FieldType.boolean)) ∈ lw_all := lw_g (lw_at lw_m9 96 rfl) rfl
theorem q2118 : (Jvm.Cond.constant "LandFolioModel" (159 : Nat) (10421318 : Int32)) ∈ lw_all := lw_g (lw_at lw_m9 97 rfl) rfl
theorem q2119 : (Jvm.Cond.constant "LandFolioModel" (160 : Nat) (144941 : Int32)) ∈ lw_all := lw_g (lw_at lw_m9 98 rfl) rfl
theorem q2120 : (Jvm.Cond.constant "LandFolioModel" (161 : Nat) (82451 : Int32)) ∈ lw_all := lw_g (lw_at lw_m9 99 rfl) rfl
theorem q2121 : (Jvm.Cond.constant "LandFolioModel" (162 : Nat) (316205 : Int32)) ∈ lw_all := lw_g (lw_at lw_m9 100 rfl) rfl
theorem q2122 : (Jvm.Cond.methodLink "LandFolioModel" (177 : Nat) ({ cls := "LandFolioModel", name := "named", desc := "([II)I" } : Jvm.MethodName)) ∈ lw_all := lw_g (lw_at lw_m9 101 rfl) rfl
theorem q2123 : (Jvm.Cond.static ({ cls := "LandFolioModel", name := "named", desc := "([II)I" } : Jvm.MethodName)) ∈ lw_all := lw_g (lw_at lw_m9 102 rfl) rfl
theorem q2124 : (Jvm.Cond.code ({ cls := "LandFolioModel", name := "named", desc := "([II)I" } : Jvm.MethodName) prog_20_method_58_code (3 : Nat) (Option.some Jvm.ClassFile.FieldType.int)) ∈ lw_all := lw_g (lw_at lw_m9 103 rfl) rfl
theorem q2125 : (Jvm.Cond.methodLink "LandFolioModel" (212 : Nat) ({ cls := "LandFolioModel", name := "readSplit", desc := "()V" } : Jvm.MethodName)) ∈ lw_all := lw_g (lw_at lw_m9 104 rfl) rfl
theorem q2126 : (Jvm.Cond.privateMethod ({ cls := "LandFolioModel", name := "readSplit", desc := "()V" } : Jvm.MethodName)) ∈ lw_tbl := lw_at lw_m9 105 rfl
theorem q2127 : (Jvm.Cond.instanceMethod ({ cls := "LandFolioModel", name := "readSplit", desc := "()V" } : Jvm.MethodName)) ∈ lw_all := lw_g (lw_at lw_m9 106 rfl) rfl
theorem q2128 : (Jvm.Cond.code ({ cls := "LandFolioModel", name := "readSplit", desc := "()V" } : Jvm.MethodName) prog_20_method_62_code (4 : Nat) (Option.none : Option Jvm.ClassFile.FieldType)) ∈ lw_all := lw_g (lw_at lw_m9 107 rfl) rfl
theorem q2129 : (Jvm.Cond.methodLink "LandFolioModel" (183 : Nat) ({ cls := "LandFolioModel", name := "takesParcel", desc := "()I" } : Jvm.MethodName)) ∈ lw_all := lw_g (lw_at lw_m9 108 rfl) rfl
theorem q2130 : (Jvm.Cond.privateMethod ({ cls := "LandFolioModel", name := "takesParcel", desc := "()I" } : Jvm.MethodName)) ∈ lw_tbl := lw_at lw_m9 109 rfl
theorem q2131 : (Jvm.Cond.instanceMethod ({ cls := "LandFolioModel", name := "takesParcel", desc := "()I" } : Jvm.MethodName)) ∈ lw_all := lw_g (lw_at lw_m9 110 rfl) rfl
theorem q2132 : (Jvm.Cond.code ({ cls := "LandFolioModel", name := "takesParcel", desc := "()I" } : Jvm.MethodName) prog_20_method_59_code (2 : Nat) (Option.some Jvm.ClassFile.FieldType.int)) ∈ lw_all := lw_g (lw_at lw_m9 111 rfl) rfl
theorem q2133 : (Jvm.Cond.methodLink "LandFolioModel" (73 : Nat) ({ cls := "LandFolioModel", name := "isLive", desc := "([II)Z" } : Jvm.MethodName)) ∈ lw_all := lw_g (lw_at lw_m9 112 rfl) rfl
theorem q2134 : (Jvm.Cond.static ({ cls := "LandFolioModel", name := "isLive", desc := "([II)Z" } : Jvm.MethodName)) ∈ lw_all := lw_g (lw_at lw_m9 113 rfl) rfl
theorem q2135 : (Jvm.Cond.code ({ cls := "LandFolioModel", name := "isLive", desc := "([II)Z" } : Jvm.MethodName) prog_20_method_16_code (2 : Nat) (Option.some Jvm.ClassFile.FieldType.boolean)) ∈ lw_all := lw_g (lw_at lw_m9 114 rfl) rfl
theorem q2136 : (Jvm.Cond.methodLink "LandFolioModel" (190 : Nat) ({ cls := "LandFolioModel", name := "splits", desc := "([IIII)I" } : Jvm.MethodName)) ∈ lw_all := lw_g (lw_at lw_m9 115 rfl) rfl
theorem q2137 : (Jvm.Cond.static ({ cls := "LandFolioModel", name := "splits", desc := "([IIII)I" } : Jvm.MethodName)) ∈ lw_all := lw_g (lw_at lw_m9 116 rfl) rfl
theorem q2138 : (Jvm.Cond.code ({ cls := "LandFolioModel", name := "splits", desc := "([IIII)I" } : Jvm.MethodName) prog_20_method_46_code (12 : Nat) (Option.some Jvm.ClassFile.FieldType.int)) ∈ lw_all := lw_g (lw_at lw_m9 117 rfl) rfl
theorem q2139 : (Jvm.Cond.methodLink "LandFolioModel" (127 : Nat) ({ cls := "LandFolioModel", name := "goesOut", desc := "([II)V" } : Jvm.MethodName)) ∈ lw_all := lw_g (lw_at lw_m9 118 rfl) rfl
theorem q2140 : (Jvm.Cond.static ({ cls := "LandFolioModel", name := "goesOut", desc := "([II)V" } : Jvm.MethodName)) ∈ lw_all := lw_g (lw_at lw_m9 119 rfl) rfl
theorem q2141 : (Jvm.Cond.code ({ cls := "LandFolioModel", name := "goesOut", desc := "([II)V" } : Jvm.MethodName) prog_20_method_15_code (2 : Nat) (Option.none : Option Jvm.ClassFile.FieldType)) ∈ lw_all := lw_g (lw_at lw_m9 120 rfl) rfl
theorem q2142 : (Jvm.Cond.methodLink "LandFolioModel" (98 : Nat) ({ cls := "LandFolioModel", name := "addDeed", desc := "([III)I" } : Jvm.MethodName)) ∈ lw_all := lw_g (lw_at lw_m9 121 rfl) rfl
theorem q2143 : (Jvm.Cond.static ({ cls := "LandFolioModel", name := "addDeed", desc := "([III)I" } : Jvm.MethodName)) ∈ lw_all := lw_g (lw_at lw_m9 122 rfl) rfl
theorem q2144 : (Jvm.Cond.code ({ cls := "LandFolioModel", name := "addDeed", desc := "([III)I" } : Jvm.MethodName) prog_20_method_29_code (6 : Nat) (Option.some Jvm.ClassFile.FieldType.int)) ∈ lw_all := lw_g (lw_at lw_m9 123 rfl) rfl
theorem q2145 : (Jvm.Cond.methodLink "LandFolioModel" (89 : Nat) ({ cls := "LandFolioModel", name := "deedOn", desc := "([III)I" } : Jvm.MethodName)) ∈ lw_all := lw_g (lw_at lw_m9 124 rfl) rfl
theorem q2146 : (Jvm.Cond.static ({ cls := "LandFolioModel", name := "deedOn", desc := "([III)I" } : Jvm.MethodName)) ∈ lw_all := lw_g (lw_at lw_m9 125 rfl) rfl
theorem q2147 : (Jvm.Cond.code ({ cls := "LandFolioModel", name := "deedOn", desc := "([III)I" } : Jvm.MethodName) prog_20_method_26_code (4 : Nat) (Option.some Jvm.ClassFile.FieldType.int)) ∈ lw_all := lw_g (lw_at lw_m9 126 rfl) rfl
theorem q2148 : (Jvm.Cond.methodLink "LandFolioModel" (104 : Nat) ({ cls := "LandFolioModel", name := "liesOn", desc := "([III)Z" } : Jvm.MethodName)) ∈ lw_all := lw_g (lw_at lw_m9 127 rfl) rfl
theorem q2149 : (Jvm.Cond.static ({ cls := "LandFolioModel", name := "liesOn", desc := "([III)Z" } : Jvm.MethodName)) ∈ lw_all := lw_g (lw_at lw_m9 128 rfl) rfl
theorem q2150 : (Jvm.Cond.code ({ cls := "LandFolioModel", name := "liesOn", desc := "([III)Z" } : Jvm.MethodName) prog_20_method_32_code (3 : Nat) (Option.some Jvm.ClassFile.FieldType.boolean)) ∈ lw_all := lw_g (lw_at lw_m9 129 rfl) rfl
theorem q2151 : (Jvm.Cond.methodLink "LandFolioModel" (101 : Nat) ({ cls := "LandFolioModel", name := "burdenAt", desc := "(II)I" } : Jvm.MethodName)) ∈ lw_all := lw_g (lw_at lw_m9 130 rfl) rfl
theorem q2152 : (Jvm.Cond.static ({ cls := "LandFolioModel", name := "burdenAt", desc := "(II)I" } : Jvm.MethodName)) ∈ lw_all := lw_g (lw_at lw_m9 131 rfl) rfl
theorem q2153 : (Jvm.Cond.code ({ cls := "LandFolioModel", name := "burdenAt", desc := "(II)I" } : Jvm.MethodName) prog_20_method_8_code (2 : Nat) (Option.some Jvm.ClassFile.FieldType.int)) ∈ lw_all := lw_g (lw_at lw_m9 132 rfl) rfl
theorem q2154 : (Jvm.Cond.methodLink "LandFolioModel" (131 : Nat) ({ cls := "LandFolioModel", name := "takesOff", desc := "([III)V" } : Jvm.MethodName)) ∈ lw_all := lw_g (lw_at lw_m9 133 rfl) rfl
theorem q2155 : (Jvm.Cond.static ({ cls := "LandFolioModel", name := "takesOff", desc := "([III)V" } : Jvm.MethodName)) ∈ lw_all := lw_g (lw_at lw_m9 134 rfl) rfl
theorem q2156 : (Jvm.Cond.code ({ cls := "LandFolioModel", name := "takesOff", desc := "([III)V" } : Jvm.MethodName) prog_20_method_34_code (3 : Nat) (Option.none : Option Jvm.ClassFile.FieldType)) ∈ lw_all := lw_g (lw_at lw_m9 135 rfl) rfl
theorem q2157 : (Jvm.Cond.methodLink "LandFolioModel" (77 : Nat) ({ cls := "LandFolioModel", name := "hasSquare", desc := "([IIII)Z" } : Jvm.MethodName)) ∈ lw_all := lw_g (lw_at lw_m9 136 rfl) rfl
theorem q2158 : (Jvm.Cond.static ({ cls := "LandFolioModel", name := "hasSquare", desc := "([IIII)Z" } : Jvm.MethodName)) ∈ lw_all := lw_g (lw_at lw_m9 137 rfl) rfl
theorem q2159 : (Jvm.Cond.code ({ cls := "LandFolioModel", name := "hasSquare", desc := "([IIII)Z" } : Jvm.MethodName) prog_20_method_20_code (4 : Nat) (Option.some Jvm.ClassFile.FieldType.boolean)) ∈ lw_all := lw_g (lw_at lw_m9 138 rfl) rfl
theorem q2160 : (Jvm.Cond.methodLink "LandFolioModel" (108 : Nat) ({ cls := "LandFolioModel", name := "isPath", desc := "([II)Z" } : Jvm.MethodName)) ∈ lw_all := lw_g (lw_at lw_m9 139 rfl) rfl
theorem q2161 : (Jvm.Cond.static ({ cls := "LandFolioModel", name := "isPath", desc := "([II)Z" } : Jvm.MethodName)) ∈ lw_all := lw_g (lw_at lw_m9 140 rfl) rfl
theorem q2162 : (Jvm.Cond.code ({ cls := "LandFolioModel", name := "isPath", desc := "([II)Z" } : Jvm.MethodName) prog_20_method_35_code (2 : Nat) (Option.some Jvm.ClassFile.FieldType.boolean)) ∈ lw_all := lw_g (lw_at lw_m9 141 rfl) rfl
theorem q2163 : (Jvm.Cond.methodLink "LandFolioModel" (123 : Nat) ({ cls := "LandFolioModel", name := "lays", desc := "([III)V" } : Jvm.MethodName)) ∈ lw_all := lw_g (lw_at lw_m9 142 rfl) rfl
theorem q2164 : (Jvm.Cond.static ({ cls := "LandFolioModel", name := "lays", desc := "([III)V" } : Jvm.MethodName)) ∈ lw_all := lw_g (lw_at lw_m9 143 rfl) rfl
theorem q2165 : (Jvm.Cond.code ({ cls := "LandFolioModel", name := "lays", desc := "([III)V" } : Jvm.MethodName) prog_20_method_33_code (3 : Nat) (Option.none : Option Jvm.ClassFile.FieldType)) ∈ lw_all := lw_g (lw_at lw_m9 144 rfl) rfl
theorem q2166 : (Jvm.Cond.methodLink "LandFolioModel" (215 : Nat) ({ cls := "LandFolioModel", name := "readGive", desc := "()V" } : Jvm.MethodName)) ∈ lw_all := lw_g (lw_at lw_m9 145 rfl) rfl
theorem q2167 : (Jvm.Cond.privateMethod ({ cls := "LandFolioModel", name := "readGive", desc := "()V" } : Jvm.MethodName)) ∈ lw_tbl := lw_at lw_m9 146 rfl
theorem q2168 : (Jvm.Cond.instanceMethod ({ cls := "LandFolioModel", name := "readGive", desc := "()V" } : Jvm.MethodName)) ∈ lw_all := lw_g (lw_at lw_m9 147 rfl) rfl
theorem q2169 : (Jvm.Cond.code ({ cls := "LandFolioModel", name := "readGive", desc := "()V" } : Jvm.MethodName) prog_20_method_63_code (5 : Nat) (Option.none : Option Jvm.ClassFile.FieldType)) ∈ lw_all := lw_g (lw_at lw_m9 148 rfl) rfl
theorem q2170 : (Jvm.Cond.methodLink "LandFolioModel" (194 : Nat) ({ cls := "LandFolioModel", name := "takesOwner", desc := "(I)I" } : Jvm.MethodName)) ∈ lw_all := lw_g (lw_at lw_m9 149 rfl) rfl
theorem q2171 : (Jvm.Cond.privateMethod ({ cls := "LandFolioModel", name := "takesOwner", desc := "(I)I" } : Jvm.MethodName)) ∈ lw_tbl := lw_at lw_m9 150 rfl
theorem q2172 : (Jvm.Cond.instanceMethod ({ cls := "LandFolioModel", name := "takesOwner", desc := "(I)I" } : Jvm.MethodName)) ∈ lw_all := lw_g (lw_at lw_m9 151 rfl) rfl
theorem q2173 : (Jvm.Cond.code ({ cls := "LandFolioModel", name := "takesOwner", desc := "(I)I" } : Jvm.MethodName) prog_20_method_60_code (3 : Nat) (Option.some Jvm.ClassFile.FieldType.int)) ∈ lw_all := lw_g (lw_at lw_m9 152 rfl) rfl
theorem q2174 : (Jvm.Cond.methodLink "LandFolioModel" (92 : Nat) ({ cls := "LandFolioModel", name := "shareOf", desc := "([III)I" } : Jvm.MethodName)) ∈ lw_all := lw_g (lw_at lw_m9 153 rfl) rfl
theorem q2175 : (Jvm.Cond.static ({ cls := "LandFolioModel", name := "shareOf", desc := "([III)I" } : Jvm.MethodName)) ∈ lw_all := lw_g (lw_at lw_m9 154 rfl) rfl
theorem q2176 : (Jvm.Cond.code ({ cls := "LandFolioModel", name := "shareOf", desc := "([III)I" } : Jvm.MethodName) prog_20_method_27_code (3 : Nat) (Option.some Jvm.ClassFile.FieldType.int)) ∈ lw_all := lw_g (lw_at lw_m9 155 rfl) rfl
theorem q2177 : (Jvm.Cond.methodLink "LandFolioModel" (198 : Nat) ({ cls := "LandFolioModel", name := "gives", desc := "([IIIII)V" } : Jvm.MethodName)) ∈ lw_all := lw_g (lw_at lw_m9 156 rfl) rfl
theorem q2178 : (Jvm.Cond.static ({ cls := "LandFolioModel", name := "gives", desc := "([IIIII)V" } : Jvm.MethodName)) ∈ lw_all := lw_g (lw_at lw_m9 157 rfl) rfl
theorem q2179 : (Jvm.Cond.code ({ cls := "LandFolioModel", name := "gives", desc := "([IIIII)V" } : Jvm.MethodName) prog_20_method_31_code (6 : Nat) (Option.none : Option Jvm.ClassFile.FieldType)) ∈ lw_all := lw_g (lw_at lw_m9 158 rfl) rfl
theorem q2180 : (Jvm.Cond.methodLink "LandFolioModel" (95 : Nat) ({ cls := "LandFolioModel", name := "deedToday", desc := "([II)I" } : Jvm.MethodName)) ∈ lw_all := lw_g (lw_at lw_m9 159 rfl) rfl
theorem q2181 : (Jvm.Cond.static ({ cls := "LandFolioModel", name := "deedToday", desc := "([II)I" } : Jvm.MethodName)) ∈ lw_all := lw_g (lw_at lw_m9 160 rfl) rfl
theorem q2182 : (Jvm.Cond.code ({ cls := "LandFolioModel", name := "deedToday", desc := "([II)I" } : Jvm.MethodName) prog_20_method_30_code (3 : Nat) (Option.some Jvm.ClassFile.FieldType.int)) ∈ lw_all := lw_g (lw_at lw_m9 161 rfl) rfl
theorem q2183 : (Jvm.Cond.methodLink "LandFolioModel" (218 : Nat) ({ cls := "LandFolioModel", name := "readDebt", desc := "()V" } : Jvm.MethodName)) ∈ lw_all := lw_g (lw_at lw_m9 162 rfl) rfl
theorem q2184 : (Jvm.Cond.privateMethod ({ cls := "LandFolioModel", name := "readDebt", desc := "()V" } : Jvm.MethodName)) ∈ lw_tbl := lw_at lw_m9 163 rfl
theorem q2185 : (Jvm.Cond.instanceMethod ({ cls := "LandFolioModel", name := "readDebt", desc := "()V" } : Jvm.MethodName)) ∈ lw_all := lw_g (lw_at lw_m9 164 rfl) rfl
theorem q2186 : (Jvm.Cond.code ({ cls := "LandFolioModel", name := "readDebt", desc := "()V" } : Jvm.MethodName) prog_20_method_64_code (4 : Nat) (Option.none : Option Jvm.ClassFile.FieldType)) ∈ lw_all := lw_g (lw_at lw_m9 165 rfl) rfl
theorem q2187 : (Jvm.Cond.methodLink "LandFolioModel" (202 : Nat) ({ cls := "LandFolioModel", name := "burdenComes", desc := "([IIIII)I" } : Jvm.MethodName)) ∈ lw_all := lw_g (lw_at lw_m9 166 rfl) rfl
theorem q2188 : (Jvm.Cond.static ({ cls := "LandFolioModel", name := "burdenComes", desc := "([IIIII)I" } : Jvm.MethodName)) ∈ lw_all := lw_g (lw_at lw_m9 167 rfl) rfl
theorem q2189 : (Jvm.Cond.code ({ cls := "LandFolioModel", name := "burdenComes", desc := "([IIIII)I" } : Jvm.MethodName) prog_20_method_43_code (7 : Nat) (Option.some Jvm.ClassFile.FieldType.int)) ∈ lw_all := lw_g (lw_at lw_m9 168 rfl) rfl
theorem q2190 : (Jvm.Cond.methodLink "LandFolioModel" (221 : Nat) ({ cls := "LandFolioModel", name := "readPath", desc := "()V" } : Jvm.MethodName)) ∈ lw_all := lw_g (lw_at lw_m9 169 rfl) rfl
theorem q2191 : (Jvm.Cond.privateMethod ({ cls := "LandFolioModel", name := "readPath", desc := "()V" } : Jvm.MethodName)) ∈ lw_tbl := lw_at lw_m9 170 rfl
theorem q2192 : (Jvm.Cond.instanceMethod ({ cls := "LandFolioModel", name := "readPath", desc := "()V" } : Jvm.MethodName)) ∈ lw_all := lw_g (lw_at lw_m9 171 rfl) rfl
theorem q2193 : (Jvm.Cond.code ({ cls := "LandFolioModel", name := "readPath", desc := "()V" } : Jvm.MethodName) prog_20_method_65_code (4 : Nat) (Option.none : Option Jvm.ClassFile.FieldType)) ∈ lw_all := lw_g (lw_at lw_m9 172 rfl) rfl
theorem q2194 : (Jvm.Cond.methodLink "LandFolioModel" (206 : Nat) ({ cls := "LandFolioModel", name := "hasPath", desc := "([III)Z" } : Jvm.MethodName)) ∈ lw_all := lw_g (lw_at lw_m9 173 rfl) rfl
theorem q2195 : (Jvm.Cond.static ({ cls := "LandFolioModel", name := "hasPath", desc := "([III)Z" } : Jvm.MethodName)) ∈ lw_all := lw_g (lw_at lw_m9 174 rfl) rfl
theorem q2196 : (Jvm.Cond.code ({ cls := "LandFolioModel", name := "hasPath", desc := "([III)Z" } : Jvm.MethodName) prog_20_method_44_code (4 : Nat) (Option.some Jvm.ClassFile.FieldType.boolean)) ∈ lw_all := lw_g (lw_at lw_m9 175 rfl) rfl
theorem q2197 : (Jvm.Cond.methodLink "LandFolioModel" (117 : Nat) ({ cls := "LandFolioModel", name := "isEnded", desc := "([II)Z" } : Jvm.MethodName)) ∈ lw_all := lw_g (lw_at lw_m9 176 rfl) rfl
theorem q2198 : (Jvm.Cond.static ({ cls := "LandFolioModel", name := "isEnded", desc := "([II)Z" } : Jvm.MethodName)) ∈ lw_all := lw_g (lw_at lw_m9 177 rfl) rfl
theorem q2199 : (Jvm.Cond.code ({ cls := "LandFolioModel", name := "isEnded", desc := "([II)Z" } : Jvm.MethodName) prog_20_method_36_code (2 : Nat) (Option.some Jvm.ClassFile.FieldType.boolean)) ∈ lw_all := lw_g (lw_at lw_m9 178 rfl) rfl
theorem q2200 : (Jvm.Cond.methodLink "LandFolioModel" (50 : Nat) ({ cls := "LandFolioModel", name := "layRow", desc := "([II[II)V" } : Jvm.MethodName)) ∈ lw_all := lw_g (lw_at lw_m9 179 rfl) rfl
theorem q2201 : (Jvm.Cond.static ({ cls := "LandFolioModel", name := "layRow", desc := "([II[II)V" } : Jvm.MethodName)) ∈ lw_all := lw_g (lw_at lw_m9 180 rfl) rfl
theorem q2202 : (Jvm.Cond.code ({ cls := "LandFolioModel", name := "layRow", desc := "([II[II)V" } : Jvm.MethodName) prog_20_method_4_code (5 : Nat) (Option.none : Option Jvm.ClassFile.FieldType)) ∈ lw_all := lw_g (lw_at lw_m9 181 rfl) rfl
theorem q2204 : (Jvm.Cond.instanceMethod ({ cls := "LandFolioModel", name := "owner", desc := "()I" } : Jvm.MethodName)) ∈ lw_all := lw_g (lw_at lw_m9 183 rfl) rfl
theorem q2205 : (Jvm.Cond.selects "LandFolioModel" ({ cls := "LandFolioModel", name := "owner", desc := "()I" } : Jvm.MethodName) ({ cls := "LandFolioModel", name := "owner", desc := "()I" } : Jvm.MethodName)) ∈ lw_all := lw_g (lw_at lw_m9 184 rfl) rfl
theorem q2206 : (Jvm.Cond.code ({ cls := "LandFolioModel", name := "owner", desc := "()I" } : Jvm.MethodName) prog_20_method_70_code (2 : Nat) (Option.some Jvm.ClassFile.FieldType.int)) ∈ lw_all := lw_g (lw_at lw_m9 185 rfl) rfl
theorem q2207 : (Jvm.Cond.methodLink "LandFolioModel" (227 : Nat) ({ cls := "LandFolioModel", name := "newName", desc := "()I" } : Jvm.MethodName)) ∈ lw_all := lw_g (lw_at lw_m9 186 rfl) rfl
theorem q2208 : (Jvm.Cond.privateMethod ({ cls := "LandFolioModel", name := "newName", desc := "()I" } : Jvm.MethodName)) ∈ lw_tbl := lw_at lw_m9 187 rfl
theorem q2209 : (Jvm.Cond.instanceMethod ({ cls := "LandFolioModel", name := "newName", desc := "()I" } : Jvm.MethodName)) ∈ lw_all := lw_g (lw_at lw_m9 188 rfl) rfl
theorem q2210 : (Jvm.Cond.code ({ cls := "LandFolioModel", name := "newName", desc := "()I" } : Jvm.MethodName) prog_20_method_69_code (4 : Nat) (Option.some Jvm.ClassFile.FieldType.int)) ∈ lw_all := lw_g (lw_at lw_m9 189 rfl) rfl
theorem q2211 : (Jvm.Cond.methodLink "LandFolioModel" (230 : Nat) ({ cls := "LandFolioModel", name := "keepForUndo", desc := "()V" } : Jvm.MethodName)) ∈ lw_all := lw_g (lw_at lw_m9 190 rfl) rfl
theorem q2212 : (Jvm.Cond.privateMethod ({ cls := "LandFolioModel", name := "keepForUndo", desc := "()V" } : Jvm.MethodName)) ∈ lw_tbl := lw_at lw_m9 191 rfl
theorem q2213 : (Jvm.Cond.instanceMethod ({ cls := "LandFolioModel", name := "keepForUndo", desc := "()V" } : Jvm.MethodName)) ∈ lw_all := lw_g (lw_at lw_m9 192 rfl) rfl
theorem q2214 : (Jvm.Cond.code ({ cls := "LandFolioModel", name := "keepForUndo", desc := "()V" } : Jvm.MethodName) prog_20_method_68_code (2 : Nat) (Option.none : Option Jvm.ClassFile.FieldType)) ∈ lw_all := lw_g (lw_at lw_m9 193 rfl) rfl
theorem q2215 : (Jvm.Cond.methodLink "LandFolioModel" (233 : Nat) ({ cls := "LandFolioModel", name := "tells", desc := "(III)V" } : Jvm.MethodName)) ∈ lw_all := lw_g (lw_at lw_m9 194 rfl) rfl
theorem q2216 : (Jvm.Cond.privateMethod ({ cls := "LandFolioModel", name := "tells", desc := "(III)V" } : Jvm.MethodName)) ∈ lw_tbl := lw_at lw_m9 195 rfl
theorem q2217 : (Jvm.Cond.instanceMethod ({ cls := "LandFolioModel", name := "tells", desc := "(III)V" } : Jvm.MethodName)) ∈ lw_all := lw_g (lw_at lw_m9 196 rfl) rfl
theorem q2218 : (Jvm.Cond.code ({ cls := "LandFolioModel", name := "tells", desc := "(III)V" } : Jvm.MethodName) prog_20_method_67_code (5 : Nat) (Option.none : Option Jvm.ClassFile.FieldType)) ∈ lw_all := lw_g (lw_at lw_m9 197 rfl) rfl
theorem q2220 : (Jvm.Cond.instanceMethod ({ cls := "LandFolioModel", name := "rename", desc := "(I)I" } : Jvm.MethodName)) ∈ lw_all := lw_g (lw_at lw_m9 199 rfl) rfl
theorem q2221 : (Jvm.Cond.selects "LandFolioModel" ({ cls := "LandFolioModel", name := "rename", desc := "(I)I" } : Jvm.MethodName) ({ cls := "LandFolioModel", name := "rename", desc := "(I)I" } : Jvm.MethodName)) ∈ lw_all := lw_g (lw_at lw_m9 200 rfl) rfl
theorem q2222 : (Jvm.Cond.code ({ cls := "LandFolioModel", name := "rename", desc := "(I)I" } : Jvm.MethodName) prog_20_method_71_code (4 : Nat) (Option.some Jvm.ClassFile.FieldType.int)) ∈ lw_all := lw_g (lw_at lw_m9 201 rfl) rfl
theorem q2223 : (Jvm.Cond.methodLink "LandFolioModel" (237 : Nat) ({ cls := "LandFolioModel", name := "isOwner", desc := "(I)Z" } : Jvm.MethodName)) ∈ lw_all := lw_g (lw_at lw_m9 202 rfl) rfl
theorem q2224 : (Jvm.Cond.privateMethod ({ cls := "LandFolioModel", name := "isOwner", desc := "(I)Z" } : Jvm.MethodName)) ∈ lw_tbl := lw_at lw_m9 203 rfl
theorem q2225 : (Jvm.Cond.instanceMethod ({ cls := "LandFolioModel", name := "isOwner", desc := "(I)Z" } : Jvm.MethodName)) ∈ lw_all := lw_g (lw_at lw_m9 204 rfl) rfl
theorem q2226 : (Jvm.Cond.code ({ cls := "LandFolioModel", name := "isOwner", desc := "(I)Z" } : Jvm.MethodName) prog_20_method_9_code (2 : Nat) (Option.some Jvm.ClassFile.FieldType.boolean)) ∈ lw_all := lw_g (lw_at lw_m9 205 rfl) rfl
theorem q2228 : (Jvm.Cond.instanceMethod ({ cls := "LandFolioModel", name := "split", desc := "(III)I" } : Jvm.MethodName)) ∈ lw_all := lw_g (lw_at lw_m9 207 rfl) rfl
theorem q2229 : (Jvm.Cond.selects "LandFolioModel" ({ cls := "LandFolioModel", name := "split", desc := "(III)I" } : Jvm.MethodName) ({ cls := "LandFolioModel", name := "split", desc := "(III)I" } : Jvm.MethodName)) ∈ lw_all := lw_g (lw_at lw_m9 208 rfl) rfl
theorem q2230 : (Jvm.Cond.code ({ cls := "LandFolioModel", name := "split", desc := "(III)I" } : Jvm.MethodName) prog_20_method_74_code (5 : Nat) (Option.some Jvm.ClassFile.FieldType.int)) ∈ lw_all := lw_g (lw_at lw_m9 209 rfl) rfl
theorem q2231 : (Jvm.Cond.methodLink "LandFolioModel" (246 : Nat) ({ cls := "LandFolioModel", name := "isLine", desc := "(III)Z" } : Jvm.MethodName)) ∈ lw_all := lw_g (lw_at lw_m9 210 rfl) rfl
theorem q2232 : (Jvm.Cond.privateMethod ({ cls := "LandFolioModel", name := "isLine", desc := "(III)Z" } : Jvm.MethodName)) ∈ lw_tbl := lw_at lw_m9 211 rfl
theorem q2233 : (Jvm.Cond.instanceMethod ({ cls := "LandFolioModel", name := "isLine", desc := "(III)Z" } : Jvm.MethodName)) ∈ lw_all := lw_g (lw_at lw_m9 212 rfl) rfl
theorem q2234 : (Jvm.Cond.code ({ cls := "LandFolioModel", name := "isLine", desc := "(III)Z" } : Jvm.MethodName) prog_20_method_72_code (4 : Nat) (Option.some Jvm.ClassFile.FieldType.boolean)) ∈ lw_all := lw_g (lw_at lw_m9 213 rfl) rfl
theorem q2235 : (Jvm.Cond.methodLink "LandFolioModel" (240 : Nat) ({ cls := "LandFolioModel", name := "isParcel", desc := "(I)Z" } : Jvm.MethodName)) ∈ lw_all := lw_g (lw_at lw_m9 214 rfl) rfl
theorem q2236 : (Jvm.Cond.privateMethod ({ cls := "LandFolioModel", name := "isParcel", desc := "(I)Z" } : Jvm.MethodName)) ∈ lw_tbl := lw_at lw_m9 215 rfl
theorem q2237 : (Jvm.Cond.instanceMethod ({ cls := "LandFolioModel", name := "isParcel", desc := "(I)Z" } : Jvm.MethodName)) ∈ lw_all := lw_g (lw_at lw_m9 216 rfl) rfl
theorem q2238 : (Jvm.Cond.code ({ cls := "LandFolioModel", name := "isParcel", desc := "(I)Z" } : Jvm.MethodName) prog_20_method_10_code (2 : Nat) (Option.some Jvm.ClassFile.FieldType.boolean)) ∈ lw_all := lw_g (lw_at lw_m9 217 rfl) rfl
theorem q2239 : (Jvm.Cond.methodLink "LandFolioModel" (249 : Nat) ({ cls := "LandFolioModel", name := "isFixed", desc := "(I)Z" } : Jvm.MethodName)) ∈ lw_all := lw_g (lw_at lw_m9 218 rfl) rfl
theorem q2240 : (Jvm.Cond.privateMethod ({ cls := "LandFolioModel", name := "isFixed", desc := "(I)Z" } : Jvm.MethodName)) ∈ lw_tbl := lw_at lw_m9 219 rfl
theorem q2241 : (Jvm.Cond.instanceMethod ({ cls := "LandFolioModel", name := "isFixed", desc := "(I)Z" } : Jvm.MethodName)) ∈ lw_all := lw_g (lw_at lw_m9 220 rfl) rfl
theorem q2242 : (Jvm.Cond.code ({ cls := "LandFolioModel", name := "isFixed", desc := "(I)Z" } : Jvm.MethodName) prog_20_method_73_code (2 : Nat) (Option.some Jvm.ClassFile.FieldType.boolean)) ∈ lw_all := lw_g (lw_at lw_m9 221 rfl) rfl
theorem q2243 : (Jvm.Cond.methodLink "LandFolioModel" (243 : Nat) ({ cls := "LandFolioModel", name := "isBarred", desc := "([II)Z" } : Jvm.MethodName)) ∈ lw_all := lw_g (lw_at lw_m9 222 rfl) rfl
theorem q2244 : (Jvm.Cond.static ({ cls := "LandFolioModel", name := "isBarred", desc := "([II)Z" } : Jvm.MethodName)) ∈ lw_all := lw_g (lw_at lw_m9 223 rfl) rfl
theorem q2245 : (Jvm.Cond.code ({ cls := "LandFolioModel", name := "isBarred", desc := "([II)Z" } : Jvm.MethodName) prog_20_method_17_code (2 : Nat) (Option.some Jvm.ClassFile.FieldType.boolean)) ∈ lw_all := lw_g (lw_at lw_m9 224 rfl) rfl
theorem q2247 : (Jvm.Cond.instanceMethod ({ cls := "LandFolioModel", name := "join", desc := "(II)I" } : Jvm.MethodName)) ∈ lw_all := lw_g (lw_at lw_m9 226 rfl) rfl
theorem q2248 : (Jvm.Cond.selects "LandFolioModel" ({ cls := "LandFolioModel", name := "join", desc := "(II)I" } : Jvm.MethodName) ({ cls := "LandFolioModel", name := "join", desc := "(II)I" } : Jvm.MethodName)) ∈ lw_all := lw_g (lw_at lw_m9 227 rfl) rfl
theorem q2249 : (Jvm.Cond.code ({ cls := "LandFolioModel", name := "join", desc := "(II)I" } : Jvm.MethodName) prog_20_method_77_code (4 : Nat) (Option.some Jvm.ClassFile.FieldType.int)) ∈ lw_all := lw_g (lw_at lw_m9 228 rfl) rfl
theorem q2250 : (Jvm.Cond.methodLink "LandFolioModel" (258 : Nat) ({ cls := "LandFolioModel", name := "areTwo", desc := "(II)Z" } : Jvm.MethodName)) ∈ lw_all := lw_g (lw_at lw_m9 229 rfl) rfl
theorem q2251 : (Jvm.Cond.privateMethod ({ cls := "LandFolioModel", name := "areTwo", desc := "(II)Z" } : Jvm.MethodName)) ∈ lw_tbl := lw_at lw_m9 230 rfl
theorem q2252 : (Jvm.Cond.instanceMethod ({ cls := "LandFolioModel", name := "areTwo", desc := "(II)Z" } : Jvm.MethodName)) ∈ lw_all := lw_g (lw_at lw_m9 231 rfl) rfl
theorem q2253 : (Jvm.Cond.code ({ cls := "LandFolioModel", name := "areTwo", desc := "(II)Z" } : Jvm.MethodName) prog_20_method_76_code (3 : Nat) (Option.some Jvm.ClassFile.FieldType.boolean)) ∈ lw_all := lw_g (lw_at lw_m9 232 rfl) rfl
theorem q2254 : (Jvm.Cond.methodLink "LandFolioModel" (262 : Nat) ({ cls := "LandFolioModel", name := "reason", desc := "(II)I" } : Jvm.MethodName)) ∈ lw_all := lw_g (lw_at lw_m9 233 rfl) rfl
theorem q2255 : (Jvm.Cond.privateMethod ({ cls := "LandFolioModel", name := "reason", desc := "(II)I" } : Jvm.MethodName)) ∈ lw_tbl := lw_at lw_m9 234 rfl
theorem q2256 : (Jvm.Cond.instanceMethod ({ cls := "LandFolioModel", name := "reason", desc := "(II)I" } : Jvm.MethodName)) ∈ lw_all := lw_g (lw_at lw_m9 235 rfl) rfl
theorem q2257 : (Jvm.Cond.code ({ cls := "LandFolioModel", name := "reason", desc := "(II)I" } : Jvm.MethodName) prog_20_method_75_code (3 : Nat) (Option.some Jvm.ClassFile.FieldType.int)) ∈ lw_all := lw_g (lw_at lw_m9 236 rfl) rfl
theorem q2258 : (Jvm.Cond.methodLink "LandFolioModel" (252 : Nat) ({ cls := "LandFolioModel", name := "areOblong", desc := "([III)Z" } : Jvm.MethodName)) ∈ lw_all := lw_g (lw_at lw_m9 237 rfl) rfl
theorem q2259 : (Jvm.Cond.static ({ cls := "LandFolioModel", name := "areOblong", desc := "([III)Z" } : Jvm.MethodName)) ∈ lw_all := lw_g (lw_at lw_m9 238 rfl) rfl
theorem q2260 : (Jvm.Cond.code ({ cls := "LandFolioModel", name := "areOblong", desc := "([III)Z" } : Jvm.MethodName) prog_20_method_25_code (5 : Nat) (Option.some Jvm.ClassFile.FieldType.boolean)) ∈ lw_all := lw_g (lw_at lw_m9 239 rfl) rfl
theorem q2261 : (Jvm.Cond.methodLink "LandFolioModel" (85 : Nat) ({ cls := "LandFolioModel", name := "edgeOf", desc := "([III)I" } : Jvm.MethodName)) ∈ lw_all := lw_g (lw_at lw_m10 0 rfl) rfl
theorem q2262 : (Jvm.Cond.static ({ cls := "LandFolioModel", name := "edgeOf", desc := "([III)I" } : Jvm.MethodName)) ∈ lw_all := lw_g (lw_at lw_m10 1 rfl) rfl
theorem q2263 : (Jvm.Cond.code ({ cls := "LandFolioModel", name := "edgeOf", desc := "([III)I" } : Jvm.MethodName) prog_20_method_23_code (5 : Nat) (Option.some Jvm.ClassFile.FieldType.int)) ∈ lw_all := lw_g (lw_at lw_m10 2 rfl) rfl
theorem q2264 : (Jvm.Cond.methodLink "LandFolioModel" (81 : Nat) ({ cls := "LandFolioModel", name := "common", desc := "(IIII)I" } : Jvm.MethodName)) ∈ lw_all := lw_g (lw_at lw_m10 3 rfl) rfl
theorem q2265 : (Jvm.Cond.static ({ cls := "LandFolioModel", name := "common", desc := "(IIII)I" } : Jvm.MethodName)) ∈ lw_all := lw_g (lw_at lw_m10 4 rfl) rfl
theorem q2266 : (Jvm.Cond.code ({ cls := "LandFolioModel", name := "common", desc := "(IIII)I" } : Jvm.MethodName) prog_20_method_22_code (6 : Nat) (Option.some Jvm.ClassFile.FieldType.int)) ∈ lw_all := lw_g (lw_at lw_m10 5 rfl) rfl
theorem q2267 : (Jvm.Cond.methodLink "LandFolioModel" (255 : Nat) ({ cls := "LandFolioModel", name := "areSame", desc := "([III)Z" } : Jvm.MethodName)) ∈ lw_all := lw_g (lw_at lw_m10 6 rfl) rfl
theorem q2268 : (Jvm.Cond.static ({ cls := "LandFolioModel", name := "areSame", desc := "([III)Z" } : Jvm.MethodName)) ∈ lw_all := lw_g (lw_at lw_m10 7 rfl) rfl
theorem q2269 : (Jvm.Cond.code ({ cls := "LandFolioModel", name := "areSame", desc := "([III)Z" } : Jvm.MethodName) prog_20_method_28_code (4 : Nat) (Option.some Jvm.ClassFile.FieldType.boolean)) ∈ lw_all := lw_g (lw_at lw_m10 8 rfl) rfl
theorem q2270 : (Jvm.Cond.methodLink "LandFolioModel" (265 : Nat) ({ cls := "LandFolioModel", name := "joins", desc := "([III)I" } : Jvm.MethodName)) ∈ lw_all := lw_g (lw_at lw_m10 9 rfl) rfl
theorem q2271 : (Jvm.Cond.static ({ cls := "LandFolioModel", name := "joins", desc := "([III)I" } : Jvm.MethodName)) ∈ lw_all := lw_g (lw_at lw_m10 10 rfl) rfl
theorem q2272 : (Jvm.Cond.code ({ cls := "LandFolioModel", name := "joins", desc := "([III)I" } : Jvm.MethodName) prog_20_method_47_code (10 : Nat) (Option.some Jvm.ClassFile.FieldType.int)) ∈ lw_all := lw_g (lw_at lw_m10 11 rfl) rfl
theorem q2274 : (Jvm.Cond.instanceMethod ({ cls := "LandFolioModel", name := "give", desc := "(IIII)I" } : Jvm.MethodName)) ∈ lw_all := lw_g (lw_at lw_m10 13 rfl) rfl
theorem q2275 : (Jvm.Cond.selects "LandFolioModel" ({ cls := "LandFolioModel", name := "give", desc := "(IIII)I" } : Jvm.MethodName) ({ cls := "LandFolioModel", name := "give", desc := "(IIII)I" } : Jvm.MethodName)) ∈ lw_all := lw_g (lw_at lw_m10 14 rfl) rfl
theorem q2276 : (Jvm.Cond.code ({ cls := "LandFolioModel", name := "give", desc := "(IIII)I" } : Jvm.MethodName) prog_20_method_78_code (5 : Nat) (Option.some Jvm.ClassFile.FieldType.int)) ∈ lw_all := lw_g (lw_at lw_m10 15 rfl) rfl
theorem q2278 : (Jvm.Cond.instanceMethod ({ cls := "LandFolioModel", name := "debt", desc := "(III)I" } : Jvm.MethodName)) ∈ lw_all := lw_g (lw_at lw_m10 17 rfl) rfl
theorem q2279 : (Jvm.Cond.selects "LandFolioModel" ({ cls := "LandFolioModel", name := "debt", desc := "(III)I" } : Jvm.MethodName) ({ cls := "LandFolioModel", name := "debt", desc := "(III)I" } : Jvm.MethodName)) ∈ lw_all := lw_g (lw_at lw_m10 18 rfl) rfl
theorem q2280 : (Jvm.Cond.code ({ cls := "LandFolioModel", name := "debt", desc := "(III)I" } : Jvm.MethodName) prog_20_method_79_code (5 : Nat) (Option.some Jvm.ClassFile.FieldType.int)) ∈ lw_all := lw_g (lw_at lw_m10 19 rfl) rfl
theorem q2282 : (Jvm.Cond.instanceMethod ({ cls := "LandFolioModel", name := "path", desc := "(II)I" } : Jvm.MethodName)) ∈ lw_all := lw_g (lw_at lw_m10 21 rfl) rfl
theorem q2283 : (Jvm.Cond.selects "LandFolioModel" ({ cls := "LandFolioModel", name := "path", desc := "(II)I" } : Jvm.MethodName) ({ cls := "LandFolioModel", name := "path", desc := "(II)I" } : Jvm.MethodName)) ∈ lw_all := lw_g (lw_at lw_m10 22 rfl) rfl
theorem q2284 : (Jvm.Cond.code ({ cls := "LandFolioModel", name := "path", desc := "(II)I" } : Jvm.MethodName) prog_20_method_80_code (5 : Nat) (Option.some Jvm.ClassFile.FieldType.int)) ∈ lw_all := lw_g (lw_at lw_m10 23 rfl) rfl
theorem q2285 : (Jvm.Cond.methodLink "LandFolioModel" (268 : Nat) ({ cls := "LandFolioModel", name := "isSquare", desc := "(II)Z" } : Jvm.MethodName)) ∈ lw_all := lw_g (lw_at lw_m10 24 rfl) rfl
theorem q2286 : (Jvm.Cond.privateMethod ({ cls := "LandFolioModel", name := "isSquare", desc := "(II)Z" } : Jvm.MethodName)) ∈ lw_tbl := lw_at lw_m10 25 rfl
theorem q2287 : (Jvm.Cond.instanceMethod ({ cls := "LandFolioModel", name := "isSquare", desc := "(II)Z" } : Jvm.MethodName)) ∈ lw_all := lw_g (lw_at lw_m10 26 rfl) rfl
theorem q2288 : (Jvm.Cond.code ({ cls := "LandFolioModel", name := "isSquare", desc := "(II)Z" } : Jvm.MethodName) prog_20_method_12_code (3 : Nat) (Option.some Jvm.ClassFile.FieldType.boolean)) ∈ lw_all := lw_g (lw_at lw_m10 27 rfl) rfl
theorem q2289 : (Jvm.Cond.methodLink "LandFolioModel" (271 : Nat) ({ cls := "LandFolioModel", name := "liveAt", desc := "([III)I" } : Jvm.MethodName)) ∈ lw_all := lw_g (lw_at lw_m10 28 rfl) rfl
theorem q2290 : (Jvm.Cond.static ({ cls := "LandFolioModel", name := "liveAt", desc := "([III)I" } : Jvm.MethodName)) ∈ lw_all := lw_g (lw_at lw_m10 29 rfl) rfl
theorem q2291 : (Jvm.Cond.code ({ cls := "LandFolioModel", name := "liveAt", desc := "([III)I" } : Jvm.MethodName) prog_20_method_21_code (4 : Nat) (Option.some Jvm.ClassFile.FieldType.int)) ∈ lw_all := lw_g (lw_at lw_m10 30 rfl) rfl
theorem q2293 : (Jvm.Cond.instanceMethod ({ cls := "LandFolioModel", name := "pay", desc := "(II)I" } : Jvm.MethodName)) ∈ lw_all := lw_g (lw_at lw_m10 32 rfl) rfl
theorem q2294 : (Jvm.Cond.selects "LandFolioModel" ({ cls := "LandFolioModel", name := "pay", desc := "(II)I" } : Jvm.MethodName) ({ cls := "LandFolioModel", name := "pay", desc := "(II)I" } : Jvm.MethodName)) ∈ lw_all := lw_g (lw_at lw_m10 33 rfl) rfl
theorem q2295 : (Jvm.Cond.code ({ cls := "LandFolioModel", name := "pay", desc := "(II)I" } : Jvm.MethodName) prog_20_method_81_code (4 : Nat) (Option.some Jvm.ClassFile.FieldType.int)) ∈ lw_all := lw_g (lw_at lw_m10 34 rfl) rfl
theorem q2296 : (Jvm.Cond.methodLink "LandFolioModel" (274 : Nat) ({ cls := "LandFolioModel", name := "isBurden", desc := "(I)Z" } : Jvm.MethodName)) ∈ lw_all := lw_g (lw_at lw_m10 35 rfl) rfl
theorem q2297 : (Jvm.Cond.privateMethod ({ cls := "LandFolioModel", name := "isBurden", desc := "(I)Z" } : Jvm.MethodName)) ∈ lw_tbl := lw_at lw_m10 36 rfl
theorem q2298 : (Jvm.Cond.instanceMethod ({ cls := "LandFolioModel", name := "isBurden", desc := "(I)Z" } : Jvm.MethodName)) ∈ lw_all := lw_g (lw_at lw_m10 37 rfl) rfl
theorem q2299 : (Jvm.Cond.code ({ cls := "LandFolioModel", name := "isBurden", desc := "(I)Z" } : Jvm.MethodName) prog_20_method_11_code (2 : Nat) (Option.some Jvm.ClassFile.FieldType.boolean)) ∈ lw_all := lw_g (lw_at lw_m10 38 rfl) rfl
theorem q2300 : (Jvm.Cond.methodLink "LandFolioModel" (277 : Nat) ({ cls := "LandFolioModel", name := "isOver", desc := "([II)V" } : Jvm.MethodName)) ∈ lw_all := lw_g (lw_at lw_m10 39 rfl) rfl
theorem q2301 : (Jvm.Cond.static ({ cls := "LandFolioModel", name := "isOver", desc := "([II)V" } : Jvm.MethodName)) ∈ lw_all := lw_g (lw_at lw_m10 40 rfl) rfl
theorem q2302 : (Jvm.Cond.code ({ cls := "LandFolioModel", name := "isOver", desc := "([II)V" } : Jvm.MethodName) prog_20_method_45_code (2 : Nat) (Option.none : Option Jvm.ClassFile.FieldType)) ∈ lw_all := lw_g (lw_at lw_m10 41 rfl) rfl
theorem q2304 : (Jvm.Cond.instanceMethod ({ cls := "LandFolioModel", name := "free", desc := "(II)I" } : Jvm.MethodName)) ∈ lw_all := lw_g (lw_at lw_m10 43 rfl) rfl
theorem q2305 : (Jvm.Cond.selects "LandFolioModel" ({ cls := "LandFolioModel", name := "free", desc := "(II)I" } : Jvm.MethodName) ({ cls := "LandFolioModel", name := "free", desc := "(II)I" } : Jvm.MethodName)) ∈ lw_all := lw_g (lw_at lw_m10 44 rfl) rfl
theorem q2306 : (Jvm.Cond.code ({ cls := "LandFolioModel", name := "free", desc := "(II)I" } : Jvm.MethodName) prog_20_method_82_code (3 : Nat) (Option.some Jvm.ClassFile.FieldType.int)) ∈ lw_all := lw_g (lw_at lw_m10 45 rfl) rfl
theorem q2307 : (Jvm.Cond.methodLink "LandFolioModel" (280 : Nat) ({ cls := "LandFolioModel", name := "liesMany", desc := "([II)I" } : Jvm.MethodName)) ∈ lw_all := lw_g (lw_at lw_m10 46 rfl) rfl
theorem q2308 : (Jvm.Cond.static ({ cls := "LandFolioModel", name := "liesMany", desc := "([II)I" } : Jvm.MethodName)) ∈ lw_all := lw_g (lw_at lw_m10 47 rfl) rfl
theorem q2309 : (Jvm.Cond.code ({ cls := "LandFolioModel", name := "liesMany", desc := "([II)I" } : Jvm.MethodName) prog_20_method_37_code (4 : Nat) (Option.some Jvm.ClassFile.FieldType.int)) ∈ lw_all := lw_g (lw_at lw_m10 48 rfl) rfl
theorem q2310 : (Jvm.Cond.methodLink "LandFolioModel" (120 : Nat) ({ cls := "LandFolioModel", name := "coverOf", desc := "([III)I" } : Jvm.MethodName)) ∈ lw_all := lw_g (lw_at lw_m10 49 rfl) rfl
theorem q2311 : (Jvm.Cond.static ({ cls := "LandFolioModel", name := "coverOf", desc := "([III)I" } : Jvm.MethodName)) ∈ lw_all := lw_g (lw_at lw_m10 50 rfl) rfl
theorem q2312 : (Jvm.Cond.code ({ cls := "LandFolioModel", name := "coverOf", desc := "([III)I" } : Jvm.MethodName) prog_20_method_41_code (6 : Nat) (Option.some Jvm.ClassFile.FieldType.int)) ∈ lw_all := lw_g (lw_at lw_m10 51 rfl) rfl
theorem q2313 : (Jvm.Cond.methodLink "LandFolioModel" (114 : Nat) ({ cls := "LandFolioModel", name := "worth", desc := "([II)I" } : Jvm.MethodName)) ∈ lw_all := lw_g (lw_at lw_m10 52 rfl) rfl
theorem q2314 : (Jvm.Cond.static ({ cls := "LandFolioModel", name := "worth", desc := "([II)I" } : Jvm.MethodName)) ∈ lw_all := lw_g (lw_at lw_m10 53 rfl) rfl
theorem q2315 : (Jvm.Cond.code ({ cls := "LandFolioModel", name := "worth", desc := "([II)I" } : Jvm.MethodName) prog_20_method_19_code (2 : Nat) (Option.some Jvm.ClassFile.FieldType.int)) ∈ lw_all := lw_g (lw_at lw_m10 54 rfl) rfl
theorem q2316 : (Jvm.Cond.methodLink "LandFolioModel" (69 : Nat) ({ cls := "LandFolioModel", name := "area", desc := "([II)I" } : Jvm.MethodName)) ∈ lw_all := lw_g (lw_at lw_m10 55 rfl) rfl
theorem q2317 : (Jvm.Cond.static ({ cls := "LandFolioModel", name := "area", desc := "([II)I" } : Jvm.MethodName)) ∈ lw_all := lw_g (lw_at lw_m10 56 rfl) rfl
theorem q2318 : (Jvm.Cond.code ({ cls := "LandFolioModel", name := "area", desc := "([II)I" } : Jvm.MethodName) prog_20_method_18_code (2 : Nat) (Option.some Jvm.ClassFile.FieldType.int)) ∈ lw_all := lw_g (lw_at lw_m10 57 rfl) rfl
theorem q2319 : (Jvm.Cond.methodLink "LandFolioModel" (111 : Nat) ({ cls := "LandFolioModel", name := "loadAhead", desc := "([III)I" } : Jvm.MethodName)) ∈ lw_all := lw_g (lw_at lw_m10 58 rfl) rfl
theorem q2320 : (Jvm.Cond.static ({ cls := "LandFolioModel", name := "loadAhead", desc := "([III)I" } : Jvm.MethodName)) ∈ lw_all := lw_g (lw_at lw_m10 59 rfl) rfl
theorem q2321 : (Jvm.Cond.code ({ cls := "LandFolioModel", name := "loadAhead", desc := "([III)I" } : Jvm.MethodName) prog_20_method_39_code (5 : Nat) (Option.some Jvm.ClassFile.FieldType.int)) ∈ lw_all := lw_g (lw_at lw_m10 60 rfl) rfl
theorem q2323 : (Jvm.Cond.instanceMethod ({ cls := "LandFolioModel", name := "cede", desc := "(II)I" } : Jvm.MethodName)) ∈ lw_all := lw_g (lw_at lw_m10 62 rfl) rfl
theorem q2324 : (Jvm.Cond.selects "LandFolioModel" ({ cls := "LandFolioModel", name := "cede", desc := "(II)I" } : Jvm.MethodName) ({ cls := "LandFolioModel", name := "cede", desc := "(II)I" } : Jvm.MethodName)) ∈ lw_all := lw_g (lw_at lw_m10 63 rfl) rfl
theorem q2325 : (Jvm.Cond.code ({ cls := "LandFolioModel", name := "cede", desc := "(II)I" } : Jvm.MethodName) prog_20_method_84_code (5 : Nat) (Option.some Jvm.ClassFile.FieldType.int)) ∈ lw_all := lw_g (lw_at lw_m10 64 rfl) rfl
theorem q2326 : (Jvm.Cond.methodLink "LandFolioModel" (283 : Nat) ({ cls := "LandFolioModel", name := "lieTogether", desc := "(II)Z" } : Jvm.MethodName)) ∈ lw_all := lw_g (lw_at lw_m10 65 rfl) rfl
theorem q2327 : (Jvm.Cond.privateMethod ({ cls := "LandFolioModel", name := "lieTogether", desc := "(II)Z" } : Jvm.MethodName)) ∈ lw_tbl := lw_at lw_m10 66 rfl
theorem q2328 : (Jvm.Cond.instanceMethod ({ cls := "LandFolioModel", name := "lieTogether", desc := "(II)Z" } : Jvm.MethodName)) ∈ lw_all := lw_g (lw_at lw_m10 67 rfl) rfl
theorem q2329 : (Jvm.Cond.code ({ cls := "LandFolioModel", name := "lieTogether", desc := "(II)Z" } : Jvm.MethodName) prog_20_method_83_code (4 : Nat) (Option.some Jvm.ClassFile.FieldType.boolean)) ∈ lw_all := lw_g (lw_at lw_m10 68 rfl) rfl
theorem q2331 : (Jvm.Cond.instanceMethod ({ cls := "LandFolioModel", name := "bar", desc := "(II)I" } : Jvm.MethodName)) ∈ lw_all := lw_g (lw_at lw_m10 70 rfl) rfl
theorem q2332 : (Jvm.Cond.selects "LandFolioModel" ({ cls := "LandFolioModel", name := "bar", desc := "(II)I" } : Jvm.MethodName) ({ cls := "LandFolioModel", name := "bar", desc := "(II)I" } : Jvm.MethodName)) ∈ lw_all := lw_g (lw_at lw_m10 71 rfl) rfl
theorem q2333 : (Jvm.Cond.code ({ cls := "LandFolioModel", name := "bar", desc := "(II)I" } : Jvm.MethodName) prog_20_method_86_code (3 : Nat) (Option.some Jvm.ClassFile.FieldType.int)) ∈ lw_all := lw_g (lw_at lw_m10 72 rfl) rfl
theorem q2334 : (Jvm.Cond.methodLink "LandFolioModel" (286 : Nat) ({ cls := "LandFolioModel", name := "barredMany", desc := "()I" } : Jvm.MethodName)) ∈ lw_all := lw_g (lw_at lw_m10 73 rfl) rfl
theorem q2335 : (Jvm.Cond.privateMethod ({ cls := "LandFolioModel", name := "barredMany", desc := "()I" } : Jvm.MethodName)) ∈ lw_tbl := lw_at lw_m10 74 rfl
theorem q2336 : (Jvm.Cond.instanceMethod ({ cls := "LandFolioModel", name := "barredMany", desc := "()I" } : Jvm.MethodName)) ∈ lw_all := lw_g (lw_at lw_m10 75 rfl) rfl
theorem q2337 : (Jvm.Cond.code ({ cls := "LandFolioModel", name := "barredMany", desc := "()I" } : Jvm.MethodName) prog_20_method_85_code (3 : Nat) (Option.some Jvm.ClassFile.FieldType.int)) ∈ lw_all := lw_g (lw_at lw_m10 76 rfl) rfl
theorem q2339 : (Jvm.Cond.instanceMethod ({ cls := "LandFolioModel", name := "days", desc := "(I)I" } : Jvm.MethodName)) ∈ lw_all := lw_g (lw_at lw_m10 78 rfl) rfl
theorem q2340 : (Jvm.Cond.selects "LandFolioModel" ({ cls := "LandFolioModel", name := "days", desc := "(I)I" } : Jvm.MethodName) ({ cls := "LandFolioModel", name := "days", desc := "(I)I" } : Jvm.MethodName)) ∈ lw_all := lw_g (lw_at lw_m10 79 rfl) rfl
theorem q2341 : (Jvm.Cond.code ({ cls := "LandFolioModel", name := "days", desc := "(I)I" } : Jvm.MethodName) prog_20_method_87_code (2 : Nat) (Option.some Jvm.ClassFile.FieldType.int)) ∈ lw_all := lw_g (lw_at lw_m10 80 rfl) rfl
theorem q2343 : (Jvm.Cond.instanceMethod ({ cls := "LandFolioModel", name := "price", desc := "(I)I" } : Jvm.MethodName)) ∈ lw_all := lw_g (lw_at lw_m10 82 rfl) rfl
theorem q2344 : (Jvm.Cond.selects "LandFolioModel" ({ cls := "LandFolioModel", name := "price", desc := "(I)I" } : Jvm.MethodName) ({ cls := "LandFolioModel", name := "price", desc := "(I)I" } : Jvm.MethodName)) ∈ lw_all := lw_g (lw_at lw_m10 83 rfl) rfl
theorem q2345 : (Jvm.Cond.code ({ cls := "LandFolioModel", name := "price", desc := "(I)I" } : Jvm.MethodName) prog_20_method_88_code (3 : Nat) (Option.some Jvm.ClassFile.FieldType.int)) ∈ lw_all := lw_g (lw_at lw_m10 84 rfl) rfl
theorem q2347 : (Jvm.Cond.instanceMethod ({ cls := "LandFolioModel", name := "keep", desc := "(I)I" } : Jvm.MethodName)) ∈ lw_all := lw_g (lw_at lw_m10 86 rfl) rfl
theorem q2348 : (Jvm.Cond.selects "LandFolioModel" ({ cls := "LandFolioModel", name := "keep", desc := "(I)I" } : Jvm.MethodName) ({ cls := "LandFolioModel", name := "keep", desc := "(I)I" } : Jvm.MethodName)) ∈ lw_all := lw_g (lw_at lw_m10 87 rfl) rfl
theorem q2349 : (Jvm.Cond.code ({ cls := "LandFolioModel", name := "keep", desc := "(I)I" } : Jvm.MethodName) prog_20_method_89_code (2 : Nat) (Option.some Jvm.ClassFile.FieldType.int)) ∈ lw_all := lw_g (lw_at lw_m10 88 rfl) rfl
theorem q2351 : (Jvm.Cond.instanceMethod ({ cls := "LandFolioModel", name := "restore", desc := "(I)I" } : Jvm.MethodName)) ∈ lw_all := lw_g (lw_at lw_m10 90 rfl) rfl
theorem q2352 : (Jvm.Cond.selects "LandFolioModel" ({ cls := "LandFolioModel", name := "restore", desc := "(I)I" } : Jvm.MethodName) ({ cls := "LandFolioModel", name := "restore", desc := "(I)I" } : Jvm.MethodName)) ∈ lw_all := lw_g (lw_at lw_m10 91 rfl) rfl
theorem q2353 : (Jvm.Cond.code ({ cls := "LandFolioModel", name := "restore", desc := "(I)I" } : Jvm.MethodName) prog_20_method_90_code (2 : Nat) (Option.some Jvm.ClassFile.FieldType.int)) ∈ lw_all := lw_g (lw_at lw_m10 92 rfl) rfl
theorem q2355 : (Jvm.Cond.instanceMethod ({ cls := "LandFolioModel", name := "undo", desc := "()I" } : Jvm.MethodName)) ∈ lw_all := lw_g (lw_at lw_m10 94 rfl) rfl
theorem q2356 : (Jvm.Cond.selects "LandFolioModel" ({ cls := "LandFolioModel", name := "undo", desc := "()I" } : Jvm.MethodName) ({ cls := "LandFolioModel", name := "undo", desc := "()I" } : Jvm.MethodName)) ∈ lw_all := lw_g (lw_at lw_m10 95 rfl) rfl
theorem q2357 : (Jvm.Cond.code ({ cls := "LandFolioModel", name := "undo", desc := "()I" } : Jvm.MethodName) prog_20_method_91_code (1 : Nat) (Option.some Jvm.ClassFile.FieldType.int)) ∈ lw_all := lw_g (lw_at lw_m10 96 rfl) rfl
theorem q2359 : (Jvm.Cond.instanceMethod ({ cls := "LandFolioModel", name := "value", desc := "(I)I" } : Jvm.MethodName)) ∈ lw_all := lw_g (lw_at lw_m10 98 rfl) rfl
theorem q2360 : (Jvm.Cond.selects "LandFolioModel" ({ cls := "LandFolioModel", name := "value", desc := "(I)I" } : Jvm.MethodName) ({ cls := "LandFolioModel", name := "value", desc := "(I)I" } : Jvm.MethodName)) ∈ lw_all := lw_g (lw_at lw_m10 99 rfl) rfl
theorem q2361 : (Jvm.Cond.code ({ cls := "LandFolioModel", name := "value", desc := "(I)I" } : Jvm.MethodName) prog_20_method_97_code (2 : Nat) (Option.some Jvm.ClassFile.FieldType.int)) ∈ lw_all := lw_g (lw_at lw_m10 100 rfl) rfl
theorem q2362 : (Jvm.Cond.methodLink "LandFolioModel" (295 : Nat) ({ cls := "LandFolioModel", name := "liveMany", desc := "()I" } : Jvm.MethodName)) ∈ lw_all := lw_g (lw_at lw_m10 101 rfl) rfl
theorem q2363 : (Jvm.Cond.privateMethod ({ cls := "LandFolioModel", name := "liveMany", desc := "()I" } : Jvm.MethodName)) ∈ lw_tbl := lw_at lw_m10 102 rfl
theorem q2364 : (Jvm.Cond.instanceMethod ({ cls := "LandFolioModel", name := "liveMany", desc := "()I" } : Jvm.MethodName)) ∈ lw_all := lw_g (lw_at lw_m10 103 rfl) rfl
theorem q2365 : (Jvm.Cond.code ({ cls := "LandFolioModel", name := "liveMany", desc := "()I" } : Jvm.MethodName) prog_20_method_92_code (3 : Nat) (Option.some Jvm.ClassFile.FieldType.int)) ∈ lw_all := lw_g (lw_at lw_m10 104 rfl) rfl
theorem q2366 : (Jvm.Cond.methodLink "LandFolioModel" (298 : Nat) ({ cls := "LandFolioModel", name := "openBurdens", desc := "()I" } : Jvm.MethodName)) ∈ lw_all := lw_g (lw_at lw_m10 105 rfl) rfl
theorem q2367 : (Jvm.Cond.privateMethod ({ cls := "LandFolioModel", name := "openBurdens", desc := "()I" } : Jvm.MethodName)) ∈ lw_tbl := lw_at lw_m10 106 rfl
theorem q2368 : (Jvm.Cond.instanceMethod ({ cls := "LandFolioModel", name := "openBurdens", desc := "()I" } : Jvm.MethodName)) ∈ lw_all := lw_g (lw_at lw_m10 107 rfl) rfl
theorem q2369 : (Jvm.Cond.code ({ cls := "LandFolioModel", name := "openBurdens", desc := "()I" } : Jvm.MethodName) prog_20_method_93_code (3 : Nat) (Option.some Jvm.ClassFile.FieldType.int)) ∈ lw_all := lw_g (lw_at lw_m10 108 rfl) rfl
theorem q2370 : (Jvm.Cond.methodLink "LandFolioModel" (301 : Nat) ({ cls := "LandFolioModel", name := "amounts", desc := "(I)I" } : Jvm.MethodName)) ∈ lw_all := lw_g (lw_at lw_m10 109 rfl) rfl
theorem q2371 : (Jvm.Cond.privateMethod ({ cls := "LandFolioModel", name := "amounts", desc := "(I)I" } : Jvm.MethodName)) ∈ lw_tbl := lw_at lw_m10 110 rfl
theorem q2372 : (Jvm.Cond.instanceMethod ({ cls := "LandFolioModel", name := "amounts", desc := "(I)I" } : Jvm.MethodName)) ∈ lw_all := lw_g (lw_at lw_m10 111 rfl) rfl
theorem q2373 : (Jvm.Cond.code ({ cls := "LandFolioModel", name := "amounts", desc := "(I)I" } : Jvm.MethodName) prog_20_method_94_code (4 : Nat) (Option.some Jvm.ClassFile.FieldType.int)) ∈ lw_all := lw_g (lw_at lw_m10 112 rfl) rfl
theorem q2374 : (Jvm.Cond.methodLink "LandFolioModel" (304 : Nat) yX4_unsf) ∈ lw_all := lw_g (lw_at lw_m10 113 rfl) rfl
theorem q2375 : (Jvm.Cond.static yX4_unsf) ∈ lw_all := lw_g (lw_at lw_m10 114 rfl) rfl
theorem q2376 : (Jvm.Cond.code yX4_unsf prog_20_method_42_code (3 : Nat) (Option.some Jvm.ClassFile.FieldType.int)) ∈ lw_all := lw_g (lw_at lw_m10 115 rfl) rfl
theorem q2377 : (Jvm.Cond.methodLink "LandFolioModel" (308 : Nat) ({ cls := "LandFolioModel", name := "neighbourPairs", desc := "()I" } : Jvm.MethodName)) ∈ lw_all := lw_g (lw_at lw_m10 116 rfl) rfl
theorem q2378 : (Jvm.Cond.privateMethod ({ cls := "LandFolioModel", name := "neighbourPairs", desc := "()I" } : Jvm.MethodName)) ∈ lw_tbl := lw_at lw_m10 117 rfl
theorem q2379 : (Jvm.Cond.instanceMethod ({ cls := "LandFolioModel", name := "neighbourPairs", desc := "()I" } : Jvm.MethodName)) ∈ lw_all := lw_g (lw_at lw_m10 118 rfl) rfl
theorem q2380 : (Jvm.Cond.code ({ cls := "LandFolioModel", name := "neighbourPairs", desc := "()I" } : Jvm.MethodName) prog_20_method_96_code (3 : Nat) (Option.some Jvm.ClassFile.FieldType.int)) ∈ lw_all := lw_g (lw_at lw_m10 119 rfl) rfl
theorem q2381 : (Jvm.Cond.methodLink "LandFolioModel" (292 : Nat) ({ cls := "LandFolioModel", name := "neighbours", desc := "(I)I" } : Jvm.MethodName)) ∈ lw_all := lw_g (lw_at lw_m10 120 rfl) rfl
theorem q2382 : (Jvm.Cond.privateMethod ({ cls := "LandFolioModel", name := "neighbours", desc := "(I)I" } : Jvm.MethodName)) ∈ lw_tbl := lw_at lw_m10 121 rfl
theorem q2383 : (Jvm.Cond.instanceMethod ({ cls := "LandFolioModel", name := "neighbours", desc := "(I)I" } : Jvm.MethodName)) ∈ lw_all := lw_g (lw_at lw_m10 122 rfl) rfl
theorem q2384 : (Jvm.Cond.code ({ cls := "LandFolioModel", name := "neighbours", desc := "(I)I" } : Jvm.MethodName) prog_20_method_95_code (4 : Nat) (Option.some Jvm.ClassFile.FieldType.int)) ∈ lw_all := lw_g (lw_at lw_m10 123 rfl) rfl
theorem q2385 : (Jvm.Cond.methodLink "LandFolioModel" (289 : Nat) ({ cls := "LandFolioModel", name := "areNeighbours", desc := "([III)Z" } : Jvm.MethodName)) ∈ lw_all := lw_g (lw_at lw_m10 124 rfl) rfl
theorem q2386 : (Jvm.Cond.static ({ cls := "LandFolioModel", name := "areNeighbours", desc := "([III)Z" } : Jvm.MethodName)) ∈ lw_all := lw_g (lw_at lw_m10 125 rfl) rfl
theorem q2387 : (Jvm.Cond.code ({ cls := "LandFolioModel", name := "areNeighbours", desc := "([III)Z" } : Jvm.MethodName) prog_20_method_24_code (3 : Nat) (Option.some Jvm.ClassFile.FieldType.boolean)) ∈ lw_all := lw_g (lw_at lw_m10 126 rfl) rfl
theorem q2389 : (Jvm.Cond.instanceMethod ({ cls := "LandFolioModel", name := "parcel", desc := "(II)I" } : Jvm.MethodName)) ∈ lw_all := lw_g (lw_at lw_m10 128 rfl) rfl
theorem q2390 : (Jvm.Cond.selects "LandFolioModel" ({ cls := "LandFolioModel", name := "parcel", desc := "(II)I" } : Jvm.MethodName) ({ cls := "LandFolioModel", name := "parcel", desc := "(II)I" } : Jvm.MethodName)) ∈ lw_all := lw_g (lw_at lw_m10 129 rfl) rfl
theorem q2391 : (Jvm.Cond.code ({ cls := "LandFolioModel", name := "parcel", desc := "(II)I" } : Jvm.MethodName) prog_20_method_100_code (3 : Nat) (Option.some Jvm.ClassFile.FieldType.int)) ∈ lw_all := lw_g (lw_at lw_m10 130 rfl) rfl
theorem q2392 : (Jvm.Cond.methodLink "LandFolioModel" (311 : Nat) ({ cls := "LandFolioModel", name := "burdensOn", desc := "(I)I" } : Jvm.MethodName)) ∈ lw_all := lw_g (lw_at lw_m10 131 rfl) rfl
theorem q2393 : (Jvm.Cond.privateMethod ({ cls := "LandFolioModel", name := "burdensOn", desc := "(I)I" } : Jvm.MethodName)) ∈ lw_tbl := lw_at lw_m10 132 rfl
theorem q2394 : (Jvm.Cond.instanceMethod ({ cls := "LandFolioModel", name := "burdensOn", desc := "(I)I" } : Jvm.MethodName)) ∈ lw_all := lw_g (lw_at lw_m10 133 rfl) rfl
theorem q2395 : (Jvm.Cond.code ({ cls := "LandFolioModel", name := "burdensOn", desc := "(I)I" } : Jvm.MethodName) prog_20_method_98_code (4 : Nat) (Option.some Jvm.ClassFile.FieldType.int)) ∈ lw_all := lw_g (lw_at lw_m10 134 rfl) rfl
theorem q2396 : (Jvm.Cond.methodLink "LandFolioModel" (314 : Nat) ({ cls := "LandFolioModel", name := "load0", desc := "([II)I" } : Jvm.MethodName)) ∈ lw_all := lw_g (lw_at lw_m10 135 rfl) rfl
theorem q2397 : (Jvm.Cond.static ({ cls := "LandFolioModel", name := "load0", desc := "([II)I" } : Jvm.MethodName)) ∈ lw_all := lw_g (lw_at lw_m10 136 rfl) rfl
theorem q2398 : (Jvm.Cond.code ({ cls := "LandFolioModel", name := "load0", desc := "([II)I" } : Jvm.MethodName) prog_20_method_40_code (2 : Nat) (Option.some Jvm.ClassFile.FieldType.int)) ∈ lw_all := lw_g (lw_at lw_m10 137 rfl) rfl
theorem q2399 : (Jvm.Cond.methodLink "LandFolioModel" (317 : Nat) ({ cls := "LandFolioModel", name := "sharers", desc := "(I)I" } : Jvm.MethodName)) ∈ lw_all := lw_g (lw_at lw_m10 138 rfl) rfl
theorem q2400 : (Jvm.Cond.privateMethod ({ cls := "LandFolioModel", name := "sharers", desc := "(I)I" } : Jvm.MethodName)) ∈ lw_tbl := lw_at lw_m10 139 rfl
theorem q2401 : (Jvm.Cond.instanceMethod ({ cls := "LandFolioModel", name := "sharers", desc := "(I)I" } : Jvm.MethodName)) ∈ lw_all := lw_g (lw_at lw_m10 140 rfl) rfl
theorem q2402 : (Jvm.Cond.code ({ cls := "LandFolioModel", name := "sharers", desc := "(I)I" } : Jvm.MethodName) prog_20_method_99_code (4 : Nat) (Option.some Jvm.ClassFile.FieldType.int)) ∈ lw_all := lw_g (lw_at lw_m10 141 rfl) rfl
theorem q2404 : (Jvm.Cond.instanceMethod ({ cls := "LandFolioModel", name := "parent", desc := "(II)I" } : Jvm.MethodName)) ∈ lw_all := lw_g (lw_at lw_m10 143 rfl) rfl
theorem q2405 : (Jvm.Cond.selects "LandFolioModel" ({ cls := "LandFolioModel", name := "parent", desc := "(II)I" } : Jvm.MethodName) ({ cls := "LandFolioModel", name := "parent", desc := "(II)I" } : Jvm.MethodName)) ∈ lw_all := lw_g (lw_at lw_m10 144 rfl) rfl
theorem q2406 : (Jvm.Cond.code ({ cls := "LandFolioModel", name := "parent", desc := "(II)I" } : Jvm.MethodName) prog_20_method_101_code (3 : Nat) (Option.some Jvm.ClassFile.FieldType.int)) ∈ lw_all := lw_g (lw_at lw_m10 145 rfl) rfl
theorem q2408 : (Jvm.Cond.instanceMethod ({ cls := "LandFolioModel", name := "child", desc := "(II)I" } : Jvm.MethodName)) ∈ lw_all := lw_g (lw_at lw_m10 147 rfl) rfl
theorem q2409 : (Jvm.Cond.selects "LandFolioModel" ({ cls := "LandFolioModel", name := "child", desc := "(II)I" } : Jvm.MethodName) ({ cls := "LandFolioModel", name := "child", desc := "(II)I" } : Jvm.MethodName)) ∈ lw_all := lw_g (lw_at lw_m10 148 rfl) rfl
theorem q2410 : (Jvm.Cond.code ({ cls := "LandFolioModel", name := "child", desc := "(II)I" } : Jvm.MethodName) prog_20_method_103_code (5 : Nat) (Option.some Jvm.ClassFile.FieldType.int)) ∈ lw_all := lw_g (lw_at lw_m10 149 rfl) rfl
theorem q2411 : (Jvm.Cond.methodLink "LandFolioModel" (320 : Nat) ({ cls := "LandFolioModel", name := "isMadeOf", desc := "(II)Z" } : Jvm.MethodName)) ∈ lw_all := lw_g (lw_at lw_m10 150 rfl) rfl
theorem q2412 : (Jvm.Cond.privateMethod ({ cls := "LandFolioModel", name := "isMadeOf", desc := "(II)Z" } : Jvm.MethodName)) ∈ lw_tbl := lw_at lw_m10 151 rfl
theorem q2413 : (Jvm.Cond.instanceMethod ({ cls := "LandFolioModel", name := "isMadeOf", desc := "(II)Z" } : Jvm.MethodName)) ∈ lw_all := lw_g (lw_at lw_m10 152 rfl) rfl
theorem q2414 : (Jvm.Cond.code ({ cls := "LandFolioModel", name := "isMadeOf", desc := "(II)Z" } : Jvm.MethodName) prog_20_method_102_code (3 : Nat) (Option.some Jvm.ClassFile.FieldType.boolean)) ∈ lw_all := lw_g (lw_at lw_m10 153 rfl) rfl
theorem q2416 : (Jvm.Cond.instanceMethod ({ cls := "LandFolioModel", name := "steps", desc := "(II)I" } : Jvm.MethodName)) ∈ lw_all := lw_g (lw_at lw_m10 155 rfl) rfl
theorem q2417 : (Jvm.Cond.selects "LandFolioModel" ({ cls := "LandFolioModel", name := "steps", desc := "(II)I" } : Jvm.MethodName) ({ cls := "LandFolioModel", name := "steps", desc := "(II)I" } : Jvm.MethodName)) ∈ lw_all := lw_g (lw_at lw_m10 156 rfl) rfl
theorem q2418 : (Jvm.Cond.code ({ cls := "LandFolioModel", name := "steps", desc := "(II)I" } : Jvm.MethodName) prog_20_method_105_code (4 : Nat) (Option.some Jvm.ClassFile.FieldType.int)) ∈ lw_all := lw_g (lw_at lw_m10 157 rfl) rfl
theorem q2419 : (Jvm.Cond.methodLink "LandFolioModel" (323 : Nat) ({ cls := "LandFolioModel", name := "comesTo", desc := "(II)V" } : Jvm.MethodName)) ∈ lw_all := lw_g (lw_at lw_m10 158 rfl) rfl
theorem q2420 : (Jvm.Cond.privateMethod ({ cls := "LandFolioModel", name := "comesTo", desc := "(II)V" } : Jvm.MethodName)) ∈ lw_tbl := lw_at lw_m10 159 rfl
theorem q2421 : (Jvm.Cond.instanceMethod ({ cls := "LandFolioModel", name := "comesTo", desc := "(II)V" } : Jvm.MethodName)) ∈ lw_all := lw_g (lw_at lw_m10 160 rfl) rfl
theorem q2422 : (Jvm.Cond.code ({ cls := "LandFolioModel", name := "comesTo", desc := "(II)V" } : Jvm.MethodName) prog_20_method_104_code (3 : Nat) (Option.none : Option Jvm.ClassFile.FieldType)) ∈ lw_all := lw_g (lw_at lw_m10 161 rfl) rfl
theorem q2424 : (Jvm.Cond.instanceMethod ({ cls := "LandFolioModel", name := "share", desc := "(II)I" } : Jvm.MethodName)) ∈ lw_all := lw_g (lw_at lw_m10 163 rfl) rfl
theorem q2425 : (Jvm.Cond.selects "LandFolioModel" ({ cls := "LandFolioModel", name := "share", desc := "(II)I" } : Jvm.MethodName) ({ cls := "LandFolioModel", name := "share", desc := "(II)I" } : Jvm.MethodName)) ∈ lw_all := lw_g (lw_at lw_m10 164 rfl) rfl
theorem q2426 : (Jvm.Cond.code ({ cls := "LandFolioModel", name := "share", desc := "(II)I" } : Jvm.MethodName) prog_20_method_106_code (3 : Nat) (Option.some Jvm.ClassFile.FieldType.int)) ∈ lw_all := lw_g (lw_at lw_m10 165 rfl) rfl
theorem q2428 : (Jvm.Cond.instanceMethod ({ cls := "LandFolioModel", name := "shareOn", desc := "(III)I" } : Jvm.MethodName)) ∈ lw_all := lw_g (lw_at lw_m10 167 rfl) rfl
theorem q2429 : (Jvm.Cond.selects "LandFolioModel" ({ cls := "LandFolioModel", name := "shareOn", desc := "(III)I" } : Jvm.MethodName) ({ cls := "LandFolioModel", name := "shareOn", desc := "(III)I" } : Jvm.MethodName)) ∈ lw_all := lw_g (lw_at lw_m10 168 rfl) rfl
theorem q2430 : (Jvm.Cond.code ({ cls := "LandFolioModel", name := "shareOn", desc := "(III)I" } : Jvm.MethodName) prog_20_method_107_code (5 : Nat) (Option.some Jvm.ClassFile.FieldType.int)) ∈ lw_all := lw_g (lw_at lw_m10 169 rfl) rfl
theorem q2432 : (Jvm.Cond.instanceMethod ({ cls := "LandFolioModel", name := "at", desc := "(II)I" } : Jvm.MethodName)) ∈ lw_all := lw_g (lw_at lw_m10 171 rfl) rfl
theorem q2433 : (Jvm.Cond.selects "LandFolioModel" ({ cls := "LandFolioModel", name := "at", desc := "(II)I" } : Jvm.MethodName) ({ cls := "LandFolioModel", name := "at", desc := "(II)I" } : Jvm.MethodName)) ∈ lw_all := lw_g (lw_at lw_m10 172 rfl) rfl
theorem q2434 : (Jvm.Cond.code ({ cls := "LandFolioModel", name := "at", desc := "(II)I" } : Jvm.MethodName) prog_20_method_108_code (3 : Nat) (Option.some Jvm.ClassFile.FieldType.int)) ∈ lw_all := lw_g (lw_at lw_m10 173 rfl) rfl
theorem q2436 : (Jvm.Cond.instanceMethod ({ cls := "LandFolioModel", name := "atDay", desc := "(III)I" } : Jvm.MethodName)) ∈ lw_all := lw_g (lw_at lw_m10 175 rfl) rfl
theorem q2437 : (Jvm.Cond.selects "LandFolioModel" ({ cls := "LandFolioModel", name := "atDay", desc := "(III)I" } : Jvm.MethodName) ({ cls := "LandFolioModel", name := "atDay", desc := "(III)I" } : Jvm.MethodName)) ∈ lw_all := lw_g (lw_at lw_m10 176 rfl) rfl
theorem q2438 : (Jvm.Cond.code ({ cls := "LandFolioModel", name := "atDay", desc := "(III)I" } : Jvm.MethodName) prog_20_method_109_code (5 : Nat) (Option.some Jvm.ClassFile.FieldType.int)) ∈ lw_all := lw_g (lw_at lw_m10 177 rfl) rfl
theorem q2440 : (Jvm.Cond.instanceMethod ({ cls := "LandFolioModel", name := "neighbour", desc := "(II)I" } : Jvm.MethodName)) ∈ lw_all := lw_g (lw_at lw_m10 179 rfl) rfl
theorem q2441 : (Jvm.Cond.selects "LandFolioModel" ({ cls := "LandFolioModel", name := "neighbour", desc := "(II)I" } : Jvm.MethodName) ({ cls := "LandFolioModel", name := "neighbour", desc := "(II)I" } : Jvm.MethodName)) ∈ lw_all := lw_g (lw_at lw_m10 180 rfl) rfl
theorem q2442 : (Jvm.Cond.code ({ cls := "LandFolioModel", name := "neighbour", desc := "(II)I" } : Jvm.MethodName) prog_20_method_110_code (5 : Nat) (Option.some Jvm.ClassFile.FieldType.int)) ∈ lw_all := lw_g (lw_at lw_m10 181 rfl) rfl
theorem q2444 : (Jvm.Cond.instanceMethod ({ cls := "LandFolioModel", name := "edge", desc := "(II)I" } : Jvm.MethodName)) ∈ lw_all := lw_g (lw_at lw_m10 183 rfl) rfl
theorem q2445 : (Jvm.Cond.selects "LandFolioModel" ({ cls := "LandFolioModel", name := "edge", desc := "(II)I" } : Jvm.MethodName) ({ cls := "LandFolioModel", name := "edge", desc := "(II)I" } : Jvm.MethodName)) ∈ lw_all := lw_g (lw_at lw_m10 184 rfl) rfl
theorem q2446 : (Jvm.Cond.code ({ cls := "LandFolioModel", name := "edge", desc := "(II)I" } : Jvm.MethodName) prog_20_method_111_code (3 : Nat) (Option.some Jvm.ClassFile.FieldType.int)) ∈ lw_all := lw_g (lw_at lw_m10 185 rfl) rfl
theorem q2448 : (Jvm.Cond.instanceMethod ({ cls := "LandFolioModel", name := "letter", desc := "(II)I" } : Jvm.MethodName)) ∈ lw_all := lw_g (lw_at lw_m10 187 rfl) rfl
theorem q2449 : (Jvm.Cond.selects "LandFolioModel" ({ cls := "LandFolioModel", name := "letter", desc := "(II)I" } : Jvm.MethodName) ({ cls := "LandFolioModel", name := "letter", desc := "(II)I" } : Jvm.MethodName)) ∈ lw_all := lw_g (lw_at lw_m10 188 rfl) rfl
theorem q2450 : (Jvm.Cond.code ({ cls := "LandFolioModel", name := "letter", desc := "(II)I" } : Jvm.MethodName) prog_20_method_114_code (3 : Nat) (Option.some Jvm.ClassFile.FieldType.int)) ∈ lw_all := lw_g (lw_at lw_m10 189 rfl) rfl
theorem q2451 : (Jvm.Cond.methodLink "LandFolioModel" (327 : Nat) ({ cls := "LandFolioModel", name := "nameSize", desc := "(I)I" } : Jvm.MethodName)) ∈ lw_all := lw_g (lw_at lw_m10 190 rfl) rfl
theorem q2452 : (Jvm.Cond.static ({ cls := "LandFolioModel", name := "nameSize", desc := "(I)I" } : Jvm.MethodName)) ∈ lw_all := lw_g (lw_at lw_m10 191 rfl) rfl
theorem q2453 : (Jvm.Cond.code ({ cls := "LandFolioModel", name := "nameSize", desc := "(I)I" } : Jvm.MethodName) prog_20_method_112_code (3 : Nat) (Option.some Jvm.ClassFile.FieldType.int)) ∈ lw_all := lw_g (lw_at lw_m10 192 rfl) rfl
theorem q2454 : (Jvm.Cond.methodLink "LandFolioModel" (330 : Nat) ({ cls := "LandFolioModel", name := "letterOf", desc := "(II)I" } : Jvm.MethodName)) ∈ lw_all := lw_g (lw_at lw_m10 193 rfl) rfl
theorem q2455 : (Jvm.Cond.static ({ cls := "LandFolioModel", name := "letterOf", desc := "(II)I" } : Jvm.MethodName)) ∈ lw_all := lw_g (lw_at lw_m10 194 rfl) rfl
theorem q2456 : (Jvm.Cond.code ({ cls := "LandFolioModel", name := "letterOf", desc := "(II)I" } : Jvm.MethodName) prog_20_method_113_code (4 : Nat) (Option.some Jvm.ClassFile.FieldType.int)) ∈ lw_all := lw_g (lw_at lw_m10 195 rfl) rfl
theorem q2458 : (Jvm.Cond.instanceMethod ({ cls := "LandFolioModel", name := "owned", desc := "(II)I" } : Jvm.MethodName)) ∈ lw_all := lw_g (lw_at lw_m10 197 rfl) rfl
theorem q2459 : (Jvm.Cond.selects "LandFolioModel" ({ cls := "LandFolioModel", name := "owned", desc := "(II)I" } : Jvm.MethodName) ({ cls := "LandFolioModel", name := "owned", desc := "(II)I" } : Jvm.MethodName)) ∈ lw_all := lw_g (lw_at lw_m10 198 rfl) rfl
theorem q2460 : (Jvm.Cond.code ({ cls := "LandFolioModel", name := "owned", desc := "(II)I" } : Jvm.MethodName) prog_20_method_116_code (3 : Nat) (Option.some Jvm.ClassFile.FieldType.int)) ∈ lw_all := lw_g (lw_at lw_m10 199 rfl) rfl
theorem q2461 : (Jvm.Cond.methodLink "LandFolioModel" (333 : Nat) ({ cls := "LandFolioModel", name := "ownedOf", desc := "(II)I" } : Jvm.MethodName)) ∈ lw_all := lw_g (lw_at lw_m10 200 rfl) rfl
theorem q2462 : (Jvm.Cond.privateMethod ({ cls := "LandFolioModel", name := "ownedOf", desc := "(II)I" } : Jvm.MethodName)) ∈ lw_tbl := lw_at lw_m10 201 rfl
theorem q2463 : (Jvm.Cond.instanceMethod ({ cls := "LandFolioModel", name := "ownedOf", desc := "(II)I" } : Jvm.MethodName)) ∈ lw_all := lw_g (lw_at lw_m10 202 rfl) rfl
theorem q2464 : (Jvm.Cond.code ({ cls := "LandFolioModel", name := "ownedOf", desc := "(II)I" } : Jvm.MethodName) prog_20_method_115_code (6 : Nat) (Option.some Jvm.ClassFile.FieldType.int)) ∈ lw_all := lw_g (lw_at lw_m10 203 rfl) rfl
theorem q2466 : (Jvm.Cond.instanceMethod ({ cls := "LandFolioModel", name := "richest", desc := "()I" } : Jvm.MethodName)) ∈ lw_all := lw_g (lw_at lw_m10 205 rfl) rfl
theorem q2467 : (Jvm.Cond.selects "LandFolioModel" ({ cls := "LandFolioModel", name := "richest", desc := "()I" } : Jvm.MethodName) ({ cls := "LandFolioModel", name := "richest", desc := "()I" } : Jvm.MethodName)) ∈ lw_all := lw_g (lw_at lw_m10 206 rfl) rfl
theorem q2468 : (Jvm.Cond.code ({ cls := "LandFolioModel", name := "richest", desc := "()I" } : Jvm.MethodName) prog_20_method_117_code (3 : Nat) (Option.some Jvm.ClassFile.FieldType.int)) ∈ lw_all := lw_g (lw_at lw_m10 207 rfl) rfl
theorem q2470 : (Jvm.Cond.instanceMethod ({ cls := "LandFolioModel", name := "burden", desc := "(II)I" } : Jvm.MethodName)) ∈ lw_all := lw_g (lw_at lw_m10 209 rfl) rfl
theorem q2471 : (Jvm.Cond.selects "LandFolioModel" ({ cls := "LandFolioModel", name := "burden", desc := "(II)I" } : Jvm.MethodName) ({ cls := "LandFolioModel", name := "burden", desc := "(II)I" } : Jvm.MethodName)) ∈ lw_all := lw_g (lw_at lw_m10 210 rfl) rfl
theorem q2472 : (Jvm.Cond.code ({ cls := "LandFolioModel", name := "burden", desc := "(II)I" } : Jvm.MethodName) prog_20_method_118_code (3 : Nat) (Option.some Jvm.ClassFile.FieldType.int)) ∈ lw_all := lw_g (lw_at lw_m10 211 rfl) rfl
theorem q2474 : (Jvm.Cond.instanceMethod ({ cls := "LandFolioModel", name := "burdenOf", desc := "(II)I" } : Jvm.MethodName)) ∈ lw_all := lw_g (lw_at lw_m10 213 rfl) rfl
theorem q2475 : (Jvm.Cond.selects "LandFolioModel" ({ cls := "LandFolioModel", name := "burdenOf", desc := "(II)I" } : Jvm.MethodName) ({ cls := "LandFolioModel", name := "burdenOf", desc := "(II)I" } : Jvm.MethodName)) ∈ lw_all := lw_g (lw_at lw_m10 214 rfl) rfl
theorem q2476 : (Jvm.Cond.code ({ cls := "LandFolioModel", name := "burdenOf", desc := "(II)I" } : Jvm.MethodName) prog_20_method_120_code (3 : Nat) (Option.some Jvm.ClassFile.FieldType.int)) ∈ lw_all := lw_g (lw_at lw_m10 215 rfl) rfl
theorem q2477 : (Jvm.Cond.methodLink "LandFolioModel" (339 : Nat) ({ cls := "LandFolioModel", name := "ranked", desc := "(II)I" } : Jvm.MethodName)) ∈ lw_all := lw_g (lw_at lw_m10 216 rfl) rfl
theorem q2478 : (Jvm.Cond.privateMethod ({ cls := "LandFolioModel", name := "ranked", desc := "(II)I" } : Jvm.MethodName)) ∈ lw_tbl := lw_at lw_m10 217 rfl
theorem q2479 : (Jvm.Cond.instanceMethod ({ cls := "LandFolioModel", name := "ranked", desc := "(II)I" } : Jvm.MethodName)) ∈ lw_all := lw_g (lw_at lw_m10 218 rfl) rfl
theorem q2480 : (Jvm.Cond.code ({ cls := "LandFolioModel", name := "ranked", desc := "(II)I" } : Jvm.MethodName) prog_20_method_119_code (4 : Nat) (Option.some Jvm.ClassFile.FieldType.int)) ∈ lw_all := lw_g (lw_at lw_m10 219 rfl) rfl
theorem q2481 : (Jvm.Cond.methodLink "LandFolioModel" (336 : Nat) ({ cls := "LandFolioModel", name := "rankOf", desc := "([III)I" } : Jvm.MethodName)) ∈ lw_all := lw_g (lw_at lw_m10 220 rfl) rfl
theorem q2482 : (Jvm.Cond.static ({ cls := "LandFolioModel", name := "rankOf", desc := "([III)I" } : Jvm.MethodName)) ∈ lw_all := lw_g (lw_at lw_m10 221 rfl) rfl
theorem q2483 : (Jvm.Cond.code ({ cls := "LandFolioModel", name := "rankOf", desc := "([III)I" } : Jvm.MethodName) prog_20_method_38_code (5 : Nat) (Option.some Jvm.ClassFile.FieldType.int)) ∈ lw_all := lw_g (lw_at lw_m10 222 rfl) rfl
theorem q2485 : (Jvm.Cond.instanceMethod ({ cls := "LandFolioModel", name := "lies", desc := "(II)I" } : Jvm.MethodName)) ∈ lw_all := lw_g (lw_at lw_m10 224 rfl) rfl
theorem q2486 : (Jvm.Cond.selects "LandFolioModel" ({ cls := "LandFolioModel", name := "lies", desc := "(II)I" } : Jvm.MethodName) ({ cls := "LandFolioModel", name := "lies", desc := "(II)I" } : Jvm.MethodName)) ∈ lw_all := lw_g (lw_at lw_m10 225 rfl) rfl
theorem q2487 : (Jvm.Cond.code ({ cls := "LandFolioModel", name := "lies", desc := "(II)I" } : Jvm.MethodName) prog_20_method_121_code (5 : Nat) (Option.some Jvm.ClassFile.FieldType.int)) ∈ lw_all := lw_g (lw_at lw_m10 226 rfl) rfl
theorem q2489 : (Jvm.Cond.instanceMethod ({ cls := "LandFolioModel", name := "rank", desc := "(II)I" } : Jvm.MethodName)) ∈ lw_all := lw_g (lw_at lw_m10 228 rfl) rfl
theorem q2490 : (Jvm.Cond.selects "LandFolioModel" ({ cls := "LandFolioModel", name := "rank", desc := "(II)I" } : Jvm.MethodName) ({ cls := "LandFolioModel", name := "rank", desc := "(II)I" } : Jvm.MethodName)) ∈ lw_all := lw_g (lw_at lw_m10 229 rfl) rfl
theorem q2491 : (Jvm.Cond.code ({ cls := "LandFolioModel", name := "rank", desc := "(II)I" } : Jvm.MethodName) prog_20_method_122_code (3 : Nat) (Option.some Jvm.ClassFile.FieldType.int)) ∈ lw_all := lw_g (lw_at lw_m10 230 rfl) rfl
theorem q2493 : (Jvm.Cond.instanceMethod ({ cls := "LandFolioModel", name := "whyNot", desc := "(II)I" } : Jvm.MethodName)) ∈ lw_all := lw_g (lw_at lw_m10 232 rfl) rfl
theorem q2494 : (Jvm.Cond.selects "LandFolioModel" ({ cls := "LandFolioModel", name := "whyNot", desc := "(II)I" } : Jvm.MethodName) ({ cls := "LandFolioModel", name := "whyNot", desc := "(II)I" } : Jvm.MethodName)) ∈ lw_all := lw_g (lw_at lw_m10 233 rfl) rfl
theorem q2495 : (Jvm.Cond.code ({ cls := "LandFolioModel", name := "whyNot", desc := "(II)I" } : Jvm.MethodName) prog_20_method_123_code (3 : Nat) (Option.some Jvm.ClassFile.FieldType.int)) ∈ lw_all := lw_g (lw_at lw_m10 234 rfl) rfl
theorem q2497 : (Jvm.Cond.instanceMethod ({ cls := "LandFolioModel", name := "joinable", desc := "(II)I" } : Jvm.MethodName)) ∈ lw_all := lw_g (lw_at lw_m10 236 rfl) rfl
theorem q2498 : (Jvm.Cond.selects "LandFolioModel" ({ cls := "LandFolioModel", name := "joinable", desc := "(II)I" } : Jvm.MethodName) ({ cls := "LandFolioModel", name := "joinable", desc := "(II)I" } : Jvm.MethodName)) ∈ lw_all := lw_g (lw_at lw_m10 237 rfl) rfl
theorem q2499 : (Jvm.Cond.code ({ cls := "LandFolioModel", name := "joinable", desc := "(II)I" } : Jvm.MethodName) prog_20_method_124_code (5 : Nat) (Option.some Jvm.ClassFile.FieldType.int)) ∈ lw_all := lw_g (lw_at lw_m10 238 rfl) rfl
theorem q2501 : (Jvm.Cond.instanceMethod ({ cls := "LandFolioModel", name := "ifSplit", desc := "(IIII)I" } : Jvm.MethodName)) ∈ lw_all := lw_g (lw_at lw_m11 0 rfl) rfl
theorem q2502 : (Jvm.Cond.selects "LandFolioModel" ({ cls := "LandFolioModel", name := "ifSplit", desc := "(IIII)I" } : Jvm.MethodName) ({ cls := "LandFolioModel", name := "ifSplit", desc := "(IIII)I" } : Jvm.MethodName)) ∈ lw_all := lw_g (lw_at lw_m11 1 rfl) rfl
theorem q2503 : (Jvm.Cond.code ({ cls := "LandFolioModel", name := "ifSplit", desc := "(IIII)I" } : Jvm.MethodName) prog_20_method_127_code (7 : Nat) (Option.some Jvm.ClassFile.FieldType.int)) ∈ lw_all := lw_g (lw_at lw_m11 2 rfl) rfl
theorem q2504 : (Jvm.Cond.methodLink "LandFolioModel" (346 : Nat) ({ cls := "LandFolioModel", name := "burdensBehind", desc := "(IIIZ)I" } : Jvm.MethodName)) ∈ lw_all := lw_g (lw_at lw_m11 3 rfl) rfl
theorem q2505 : (Jvm.Cond.privateMethod ({ cls := "LandFolioModel", name := "burdensBehind", desc := "(IIIZ)I" } : Jvm.MethodName)) ∈ lw_tbl := lw_at lw_m11 4 rfl
theorem q2506 : (Jvm.Cond.instanceMethod ({ cls := "LandFolioModel", name := "burdensBehind", desc := "(IIIZ)I" } : Jvm.MethodName)) ∈ lw_all := lw_g (lw_at lw_m11 5 rfl) rfl
theorem q2507 : (Jvm.Cond.code ({ cls := "LandFolioModel", name := "burdensBehind", desc := "(IIIZ)I" } : Jvm.MethodName) prog_20_method_126_code (7 : Nat) (Option.some Jvm.ClassFile.FieldType.int)) ∈ lw_all := lw_g (lw_at lw_m11 6 rfl) rfl
theorem q2508 : (Jvm.Cond.methodLink "LandFolioModel" (342 : Nat) ({ cls := "LandFolioModel", name := "isInFirst", desc := "(IIIII)Z" } : Jvm.MethodName)) ∈ lw_all := lw_g (lw_at lw_m11 7 rfl) rfl
theorem q2509 : (Jvm.Cond.privateMethod ({ cls := "LandFolioModel", name := "isInFirst", desc := "(IIIII)Z" } : Jvm.MethodName)) ∈ lw_tbl := lw_at lw_m11 8 rfl
theorem q2510 : (Jvm.Cond.instanceMethod ({ cls := "LandFolioModel", name := "isInFirst", desc := "(IIIII)Z" } : Jvm.MethodName)) ∈ lw_all := lw_g (lw_at lw_m11 9 rfl) rfl
theorem q2511 : (Jvm.Cond.code ({ cls := "LandFolioModel", name := "isInFirst", desc := "(IIIII)Z" } : Jvm.MethodName) prog_20_method_125_code (6 : Nat) (Option.some Jvm.ClassFile.FieldType.boolean)) ∈ lw_all := lw_g (lw_at lw_m11 10 rfl) rfl
theorem q2513 : (Jvm.Cond.instanceMethod ({ cls := "LandFolioModel", name := "ifFreed", desc := "(II)I" } : Jvm.MethodName)) ∈ lw_all := lw_g (lw_at lw_m11 12 rfl) rfl
theorem q2514 : (Jvm.Cond.selects "LandFolioModel" ({ cls := "LandFolioModel", name := "ifFreed", desc := "(II)I" } : Jvm.MethodName) ({ cls := "LandFolioModel", name := "ifFreed", desc := "(II)I" } : Jvm.MethodName)) ∈ lw_all := lw_g (lw_at lw_m11 13 rfl) rfl
theorem q2515 : (Jvm.Cond.code ({ cls := "LandFolioModel", name := "ifFreed", desc := "(II)I" } : Jvm.MethodName) prog_20_method_128_code (3 : Nat) (Option.some Jvm.ClassFile.FieldType.int)) ∈ lw_all := lw_g (lw_at lw_m11 14 rfl) rfl
theorem q2517 : (Jvm.Cond.instanceMethod ({ cls := "LandFolioModel", name := "ifSold", desc := "(III)I" } : Jvm.MethodName)) ∈ lw_all := lw_g (lw_at lw_m11 16 rfl) rfl
theorem q2518 : (Jvm.Cond.selects "LandFolioModel" ({ cls := "LandFolioModel", name := "ifSold", desc := "(III)I" } : Jvm.MethodName) ({ cls := "LandFolioModel", name := "ifSold", desc := "(III)I" } : Jvm.MethodName)) ∈ lw_all := lw_g (lw_at lw_m11 17 rfl) rfl
theorem q2519 : (Jvm.Cond.code ({ cls := "LandFolioModel", name := "ifSold", desc := "(III)I" } : Jvm.MethodName) prog_20_method_129_code (6 : Nat) (Option.some Jvm.ClassFile.FieldType.int)) ∈ lw_all := lw_g (lw_at lw_m11 18 rfl) rfl
theorem q2520 : (Jvm.Cond.constant "LandFolioModel" (350 : Nat) (99999 : Int32)) ∈ lw_all := lw_g (lw_at lw_m11 19 rfl) rfl
theorem q2522 : (Jvm.Cond.instanceMethod ({ cls := "LandFolioModel", name := "leastPrice", desc := "()I" } : Jvm.MethodName)) ∈ lw_all := lw_g (lw_at lw_m11 21 rfl) rfl
theorem q2523 : (Jvm.Cond.selects "LandFolioModel" ({ cls := "LandFolioModel", name := "leastPrice", desc := "()I" } : Jvm.MethodName) ({ cls := "LandFolioModel", name := "leastPrice", desc := "()I" } : Jvm.MethodName)) ∈ lw_all := lw_g (lw_at lw_m11 22 rfl) rfl
theorem q2524 : (Jvm.Cond.code ({ cls := "LandFolioModel", name := "leastPrice", desc := "()I" } : Jvm.MethodName) prog_20_method_130_code (2 : Nat) (Option.some Jvm.ClassFile.FieldType.int)) ∈ lw_all := lw_g (lw_at lw_m11 23 rfl) rfl
theorem q2525 : (Jvm.Cond.methodLink "LandFolioModel" (351 : Nat) ({ cls := "LandFolioModel", name := "takesSpare", desc := "()V" } : Jvm.MethodName)) ∈ lw_all := lw_g (lw_at lw_m11 24 rfl) rfl
theorem q2526 : (Jvm.Cond.privateMethod ({ cls := "LandFolioModel", name := "takesSpare", desc := "()V" } : Jvm.MethodName)) ∈ lw_tbl := lw_at lw_m11 25 rfl
theorem q2527 : (Jvm.Cond.instanceMethod ({ cls := "LandFolioModel", name := "takesSpare", desc := "()V" } : Jvm.MethodName)) ∈ lw_all := lw_g (lw_at lw_m11 26 rfl) rfl
theorem q2528 : (Jvm.Cond.code ({ cls := "LandFolioModel", name := "takesSpare", desc := "()V" } : Jvm.MethodName) prog_20_method_5_code (1 : Nat) (Option.none : Option Jvm.ClassFile.FieldType)) ∈ lw_all := lw_g (lw_at lw_m11 27 rfl) rfl
theorem q2530 : (Jvm.Cond.instanceMethod ({ cls := "LandFolioModel", name := "evenest", desc := "(I)I" } : Jvm.MethodName)) ∈ lw_all := lw_g (lw_at lw_m11 29 rfl) rfl
theorem q2531 : (Jvm.Cond.selects "LandFolioModel" ({ cls := "LandFolioModel", name := "evenest", desc := "(I)I" } : Jvm.MethodName) ({ cls := "LandFolioModel", name := "evenest", desc := "(I)I" } : Jvm.MethodName)) ∈ lw_all := lw_g (lw_at lw_m11 30 rfl) rfl
theorem q2532 : (Jvm.Cond.code ({ cls := "LandFolioModel", name := "evenest", desc := "(I)I" } : Jvm.MethodName) prog_20_method_131_code (9 : Nat) (Option.some Jvm.ClassFile.FieldType.int)) ∈ lw_all := lw_g (lw_at lw_m11 31 rfl) rfl
theorem q2534 : (Jvm.Cond.instanceMethod ({ cls := "LandFolioModel", name := "log", desc := "(II)I" } : Jvm.MethodName)) ∈ lw_all := lw_g (lw_at lw_m11 33 rfl) rfl
theorem q2535 : (Jvm.Cond.selects "LandFolioModel" ({ cls := "LandFolioModel", name := "log", desc := "(II)I" } : Jvm.MethodName) ({ cls := "LandFolioModel", name := "log", desc := "(II)I" } : Jvm.MethodName)) ∈ lw_all := lw_g (lw_at lw_m11 34 rfl) rfl
theorem q2536 : (Jvm.Cond.code ({ cls := "LandFolioModel", name := "log", desc := "(II)I" } : Jvm.MethodName) prog_20_method_132_code (3 : Nat) (Option.some Jvm.ClassFile.FieldType.int)) ∈ lw_all := lw_g (lw_at lw_m11 35 rfl) rfl
theorem q2538 : (Jvm.Cond.instanceMethod ({ cls := "LandFolioModel", name := "loaded", desc := "(I)F" } : Jvm.MethodName)) ∈ lw_all := lw_g (lw_at lw_m11 37 rfl) rfl
theorem q2539 : (Jvm.Cond.selects "LandFolioModel" ({ cls := "LandFolioModel", name := "loaded", desc := "(I)F" } : Jvm.MethodName) ({ cls := "LandFolioModel", name := "loaded", desc := "(I)F" } : Jvm.MethodName)) ∈ lw_all := lw_g (lw_at lw_m11 38 rfl) rfl
theorem q2540 : (Jvm.Cond.code ({ cls := "LandFolioModel", name := "loaded", desc := "(I)F" } : Jvm.MethodName) prog_20_method_133_code (2 : Nat) (Option.some Jvm.ClassFile.FieldType.float)) ∈ lw_all := lw_g (lw_at lw_m11 39 rfl) rfl
theorem q2541 : (Jvm.Cond.constantFloat "LandFolioModel" (354 : Nat) (3212836864 : UInt32)) ∈ lw_all := lw_g (lw_at lw_m11 40 rfl) rfl
theorem q2543 : (Jvm.Cond.instanceMethod ({ cls := "LandFolioModel", name := "meanArea", desc := "()D" } : Jvm.MethodName)) ∈ lw_all := lw_g (lw_at lw_m11 42 rfl) rfl
theorem q2544 : (Jvm.Cond.selects "LandFolioModel" ({ cls := "LandFolioModel", name := "meanArea", desc := "()D" } : Jvm.MethodName) ({ cls := "LandFolioModel", name := "meanArea", desc := "()D" } : Jvm.MethodName)) ∈ lw_all := lw_g (lw_at lw_m11 43 rfl) rfl
theorem q2545 : (Jvm.Cond.code ({ cls := "LandFolioModel", name := "meanArea", desc := "()D" } : Jvm.MethodName) prog_20_method_134_code (1 : Nat) (Option.some Jvm.ClassFile.FieldType.double)) ∈ lw_all := lw_g (lw_at lw_m11 44 rfl) rfl
theorem q2547 : (Jvm.Cond.instanceMethod ({ cls := "LandFolioModel", name := "mapLength", desc := "()I" } : Jvm.MethodName)) ∈ lw_all := lw_g (lw_at lw_m11 46 rfl) rfl
theorem q2548 : (Jvm.Cond.selects "LandFolioModel" ({ cls := "LandFolioModel", name := "mapLength", desc := "()I" } : Jvm.MethodName) ({ cls := "LandFolioModel", name := "mapLength", desc := "()I" } : Jvm.MethodName)) ∈ lw_all := lw_g (lw_at lw_m11 47 rfl) rfl
theorem q2549 : (Jvm.Cond.code ({ cls := "LandFolioModel", name := "mapLength", desc := "()I" } : Jvm.MethodName) prog_20_method_139_code (1 : Nat) (Option.some Jvm.ClassFile.FieldType.int)) ∈ lw_all := lw_g (lw_at lw_m11 48 rfl) rfl
theorem q2550 : (Jvm.Cond.methodLink "LandFolioModel" (365 : Nat) ({ cls := "LandFolioModel", name := "layMap", desc := "()V" } : Jvm.MethodName)) ∈ lw_all := lw_g (lw_at lw_m11 49 rfl) rfl
theorem q2551 : (Jvm.Cond.privateMethod ({ cls := "LandFolioModel", name := "layMap", desc := "()V" } : Jvm.MethodName)) ∈ lw_tbl := lw_at lw_m11 50 rfl
theorem q2552 : (Jvm.Cond.instanceMethod ({ cls := "LandFolioModel", name := "layMap", desc := "()V" } : Jvm.MethodName)) ∈ lw_all := lw_g (lw_at lw_m11 51 rfl) rfl
theorem q2553 : (Jvm.Cond.code ({ cls := "LandFolioModel", name := "layMap", desc := "()V" } : Jvm.MethodName) prog_20_method_138_code (3 : Nat) (Option.none : Option Jvm.ClassFile.FieldType)) ∈ lw_all := lw_g (lw_at lw_m11 52 rfl) rfl
theorem q2554 : (Jvm.Cond.methodLink "LandFolioModel" (358 : Nat) ({ cls := "LandFolioModel", name := "signOf", desc := "(I)I" } : Jvm.MethodName)) ∈ lw_all := lw_g (lw_at lw_m11 53 rfl) rfl
theorem q2555 : (Jvm.Cond.static ({ cls := "LandFolioModel", name := "signOf", desc := "(I)I" } : Jvm.MethodName)) ∈ lw_all := lw_g (lw_at lw_m11 54 rfl) rfl
theorem q2556 : (Jvm.Cond.code ({ cls := "LandFolioModel", name := "signOf", desc := "(I)I" } : Jvm.MethodName) prog_20_method_137_code (1 : Nat) (Option.some Jvm.ClassFile.FieldType.int)) ∈ lw_all := lw_g (lw_at lw_m11 55 rfl) rfl
theorem q2557 : (Jvm.Cond.methodLink "LandFolioModel" (361 : Nat) ({ cls := "LandFolioModel", name := "puts", desc := "(I)V" } : Jvm.MethodName)) ∈ lw_all := lw_g (lw_at lw_m11 56 rfl) rfl
theorem q2558 : (Jvm.Cond.privateMethod ({ cls := "LandFolioModel", name := "puts", desc := "(I)V" } : Jvm.MethodName)) ∈ lw_tbl := lw_at lw_m11 57 rfl
theorem q2559 : (Jvm.Cond.instanceMethod ({ cls := "LandFolioModel", name := "puts", desc := "(I)V" } : Jvm.MethodName)) ∈ lw_all := lw_g (lw_at lw_m11 58 rfl) rfl
theorem q2560 : (Jvm.Cond.code ({ cls := "LandFolioModel", name := "puts", desc := "(I)V" } : Jvm.MethodName) prog_20_method_135_code (2 : Nat) (Option.none : Option Jvm.ClassFile.FieldType)) ∈ lw_all := lw_g (lw_at lw_m11 59 rfl) rfl
theorem q2562 : (Jvm.Cond.instanceMethod ({ cls := "LandFolioModel", name := "mapByte", desc := "(I)I" } : Jvm.MethodName)) ∈ lw_all := lw_g (lw_at lw_m11 61 rfl) rfl
theorem q2563 : (Jvm.Cond.selects "LandFolioModel" ({ cls := "LandFolioModel", name := "mapByte", desc := "(I)I" } : Jvm.MethodName) ({ cls := "LandFolioModel", name := "mapByte", desc := "(I)I" } : Jvm.MethodName)) ∈ lw_all := lw_g (lw_at lw_m11 62 rfl) rfl
theorem q2564 : (Jvm.Cond.code ({ cls := "LandFolioModel", name := "mapByte", desc := "(I)I" } : Jvm.MethodName) prog_20_method_140_code (2 : Nat) (Option.some Jvm.ClassFile.FieldType.int)) ∈ lw_all := lw_g (lw_at lw_m11 63 rfl) rfl
theorem q2565 : (Jvm.Cond.methodLink "LandFolioModel" (368 : Nat) ({ cls := "LandFolioModel", name := "writtenAt", desc := "(I)I" } : Jvm.MethodName)) ∈ lw_all := lw_g (lw_at lw_m11 64 rfl) rfl
theorem q2566 : (Jvm.Cond.privateMethod ({ cls := "LandFolioModel", name := "writtenAt", desc := "(I)I" } : Jvm.MethodName)) ∈ lw_tbl := lw_at lw_m11 65 rfl
theorem q2567 : (Jvm.Cond.instanceMethod ({ cls := "LandFolioModel", name := "writtenAt", desc := "(I)I" } : Jvm.MethodName)) ∈ lw_all := lw_g (lw_at lw_m11 66 rfl) rfl
theorem q2568 : (Jvm.Cond.code ({ cls := "LandFolioModel", name := "writtenAt", desc := "(I)I" } : Jvm.MethodName) prog_20_method_136_code (2 : Nat) (Option.some Jvm.ClassFile.FieldType.int)) ∈ lw_all := lw_g (lw_at lw_m11 67 rfl) rfl
theorem q2570 : (Jvm.Cond.instanceMethod ({ cls := "LandFolioModel", name := "extractLength", desc := "(I)I" } : Jvm.MethodName)) ∈ lw_all := lw_g (lw_at lw_m11 69 rfl) rfl
theorem q2571 : (Jvm.Cond.selects "LandFolioModel" ({ cls := "LandFolioModel", name := "extractLength", desc := "(I)I" } : Jvm.MethodName) ({ cls := "LandFolioModel", name := "extractLength", desc := "(I)I" } : Jvm.MethodName)) ∈ lw_all := lw_g (lw_at lw_m11 70 rfl) rfl
theorem q2572 : (Jvm.Cond.code ({ cls := "LandFolioModel", name := "extractLength", desc := "(I)I" } : Jvm.MethodName) prog_20_method_145_code (2 : Nat) (Option.some Jvm.ClassFile.FieldType.int)) ∈ lw_all := lw_g (lw_at lw_m11 71 rfl) rfl
theorem q2573 : (Jvm.Cond.methodLink "LandFolioModel" (380 : Nat) ({ cls := "LandFolioModel", name := "layExtract", desc := "(I)V" } : Jvm.MethodName)) ∈ lw_all := lw_g (lw_at lw_m11 72 rfl) rfl
theorem q2574 : (Jvm.Cond.privateMethod ({ cls := "LandFolioModel", name := "layExtract", desc := "(I)V" } : Jvm.MethodName)) ∈ lw_tbl := lw_at lw_m11 73 rfl
theorem q2575 : (Jvm.Cond.instanceMethod ({ cls := "LandFolioModel", name := "layExtract", desc := "(I)V" } : Jvm.MethodName)) ∈ lw_all := lw_g (lw_at lw_m11 74 rfl) rfl
theorem q2576 : (Jvm.Cond.code ({ cls := "LandFolioModel", name := "layExtract", desc := "(I)V" } : Jvm.MethodName) prog_20_method_143_code (4 : Nat) (Option.none : Option Jvm.ClassFile.FieldType)) ∈ lw_all := lw_g (lw_at lw_m11 75 rfl) rfl
theorem q2577 : (Jvm.Cond.methodLink "LandFolioModel" (371 : Nat) ({ cls := "LandFolioModel", name := "putsName", desc := "(I)V" } : Jvm.MethodName)) ∈ lw_all := lw_g (lw_at lw_m11 76 rfl) rfl
theorem q2578 : (Jvm.Cond.privateMethod ({ cls := "LandFolioModel", name := "putsName", desc := "(I)V" } : Jvm.MethodName)) ∈ lw_tbl := lw_at lw_m11 77 rfl
theorem q2579 : (Jvm.Cond.instanceMethod ({ cls := "LandFolioModel", name := "putsName", desc := "(I)V" } : Jvm.MethodName)) ∈ lw_all := lw_g (lw_at lw_m11 78 rfl) rfl
theorem q2580 : (Jvm.Cond.code ({ cls := "LandFolioModel", name := "putsName", desc := "(I)V" } : Jvm.MethodName) prog_20_method_141_code (3 : Nat) (Option.none : Option Jvm.ClassFile.FieldType)) ∈ lw_all := lw_g (lw_at lw_m11 79 rfl) rfl
theorem q2581 : (Jvm.Cond.methodLink "LandFolioModel" (374 : Nat) ({ cls := "LandFolioModel", name := "putsNumber", desc := "(I)V" } : Jvm.MethodName)) ∈ lw_all := lw_g (lw_at lw_m11 80 rfl) rfl
theorem q2582 : (Jvm.Cond.privateMethod ({ cls := "LandFolioModel", name := "putsNumber", desc := "(I)V" } : Jvm.MethodName)) ∈ lw_tbl := lw_at lw_m11 81 rfl
theorem q2583 : (Jvm.Cond.instanceMethod ({ cls := "LandFolioModel", name := "putsNumber", desc := "(I)V" } : Jvm.MethodName)) ∈ lw_all := lw_g (lw_at lw_m11 82 rfl) rfl
theorem q2584 : (Jvm.Cond.code ({ cls := "LandFolioModel", name := "putsNumber", desc := "(I)V" } : Jvm.MethodName) prog_20_method_142_code (3 : Nat) (Option.none : Option Jvm.ClassFile.FieldType)) ∈ lw_all := lw_g (lw_at lw_m11 83 rfl) rfl
theorem q2585 : (Jvm.Cond.methodLink "LandFolioModel" (377 : Nat) ({ cls := "LandFolioModel", name := "putsBurden", desc := "(I)V" } : Jvm.MethodName)) ∈ lw_all := lw_g (lw_at lw_m11 84 rfl) rfl
theorem q2586 : (Jvm.Cond.privateMethod ({ cls := "LandFolioModel", name := "putsBurden", desc := "(I)V" } : Jvm.MethodName)) ∈ lw_tbl := lw_at lw_m11 85 rfl
theorem q2587 : (Jvm.Cond.instanceMethod ({ cls := "LandFolioModel", name := "putsBurden", desc := "(I)V" } : Jvm.MethodName)) ∈ lw_all := lw_g (lw_at lw_m11 86 rfl) rfl
theorem q2588 : (Jvm.Cond.code ({ cls := "LandFolioModel", name := "putsBurden", desc := "(I)V" } : Jvm.MethodName) prog_20_method_144_code (2 : Nat) (Option.none : Option Jvm.ClassFile.FieldType)) ∈ lw_all := lw_g (lw_at lw_m11 87 rfl) rfl
theorem q2590 : (Jvm.Cond.instanceMethod ({ cls := "LandFolioModel", name := "extractByte", desc := "(II)I" } : Jvm.MethodName)) ∈ lw_all := lw_g (lw_at lw_m11 89 rfl) rfl
theorem q2591 : (Jvm.Cond.selects "LandFolioModel" ({ cls := "LandFolioModel", name := "extractByte", desc := "(II)I" } : Jvm.MethodName) ({ cls := "LandFolioModel", name := "extractByte", desc := "(II)I" } : Jvm.MethodName)) ∈ lw_all := lw_g (lw_at lw_m11 90 rfl) rfl
theorem q2592 : (Jvm.Cond.code ({ cls := "LandFolioModel", name := "extractByte", desc := "(II)I" } : Jvm.MethodName) prog_20_method_146_code (3 : Nat) (Option.some Jvm.ClassFile.FieldType.int)) ∈ lw_all := lw_g (lw_at lw_m11 91 rfl) rfl
theorem q2625 : (Jvm.Cond.castable "LandFolioModel" "java/lang/Object") ∈ lw_tbl := lw_at lw_m11 124 rfl
theorem in_X4 : ∀ w ∈ wsX40, w ∈ lw_all := lw_in wsX40 [2025, 2027, 2029, 2031, 2033, 2035, 2037, 2039, 2041, 2043, 2045, 2047, 2049, 2051, 2053, 2055, 2057, 2059, 2061] (by decide +kernel) (by decide +kernel)
